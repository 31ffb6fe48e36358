/-! walks (printed): Plugboard, Plugboard.Board, PlugboardLaw, PlugboardModel -/
set_option maxRecDepth 100000
abbrev cX1_winner : ByteArray := prog_1_method_77_code
def yX1_winner : MethodName := ⟨RX1, "winner", "(I)I"⟩
def dkwX1_winner_4 : List UInt8 := [167, 0, 4, 3, 184, 0, 117, 45, 180, 1, 8, 172]
abbrev dktX1_winner_4 : List UInt8 := dkwX1_winner_4 ++ []
def dkwX1_winner_3 : List UInt8 := [167, 0, 4, 45, 78, 21, 4, 21, 7, 184, 1, 179, 54, 4, 167, 255, 203, 45, 198, 0, 7, 4]
abbrev dktX1_winner_3 : List UInt8 := dkwX1_winner_3 ++ dktX1_winner_4
def dkwX1_winner_2 : List UInt8 := [192, 0, 124, 58, 6, 44, 25, 6, 184, 1, 175, 54, 7, 21, 7, 21, 4, 164, 0, 8, 25, 6]
abbrev dktX1_winner_2 : List UInt8 := dkwX1_winner_2 ++ dktX1_winner_3
def dkwX1_winner_1 : List UInt8 := [185, 0, 173, 1, 0, 58, 5, 25, 5, 185, 0, 179, 1, 0, 153, 0, 49, 25, 5, 185, 0, 185, 1, 0]
abbrev dktX1_winner_1 : List UInt8 := dkwX1_winner_1 ++ dktX1_winner_2
def dkwX1_winner_0 : List UInt8 := [42, 27, 182, 0, 199, 77, 44, 184, 1, 60, 184, 0, 232, 1, 78, 3, 54, 4, 44, 182, 0, 169]
abbrev dktX1_winner_0 : List UInt8 := dkwX1_winner_0 ++ dktX1_winner_1
theorem dksX1_winner_0 : cX1_winner.data.toList.drop 0 = dktX1_winner_0 := by decide +kernel
theorem dksX1_winner_1 : cX1_winner.data.toList.drop 22 = dktX1_winner_1 := dk_seg dksX1_winner_0 22 rfl rfl
theorem dksX1_winner_2 : cX1_winner.data.toList.drop 46 = dktX1_winner_2 := dk_seg dksX1_winner_1 24 rfl rfl
theorem dksX1_winner_3 : cX1_winner.data.toList.drop 68 = dktX1_winner_3 := dk_seg dksX1_winner_2 22 rfl rfl
theorem dksX1_winner_4 : cX1_winner.data.toList.drop 90 = dktX1_winner_4 := dk_seg dksX1_winner_3 22 rfl rfl
theorem dX1_winner_0 : decode cX1_winner 0 = .ok (.aload_n 0, 1) := dk_42 (dk_at dksX1_winner_0 0 rfl rfl)
theorem dX1_winner_1 : decode cX1_winner 1 = .ok (.iload_n 1, 1) := dk_27 (dk_at dksX1_winner_0 1 rfl rfl)
theorem dX1_winner_2 : decode cX1_winner 2 = .ok (.invokevirtual 199, 3) := dk_182 0 199 (dk_at dksX1_winner_0 2 rfl rfl)
theorem dX1_winner_5 : decode cX1_winner 5 = .ok (.astore_n 2, 1) := dk_77 (dk_at dksX1_winner_0 5 rfl rfl)
theorem dX1_winner_6 : decode cX1_winner 6 = .ok (.aload_n 2, 1) := dk_44 (dk_at dksX1_winner_0 6 rfl rfl)
theorem dX1_winner_7 : decode cX1_winner 7 = .ok (.invokestatic 316, 3) := dk_184 1 60 (dk_at dksX1_winner_0 7 rfl rfl)
theorem dX1_winner_10 : decode cX1_winner 10 = .ok (.invokestatic 232, 3) := dk_184 0 232 (dk_at dksX1_winner_0 10 rfl rfl)
theorem dX1_winner_13 : decode cX1_winner 13 = .ok (.aconst_null, 1) := dk_1 (dk_at dksX1_winner_0 13 rfl rfl)
theorem dX1_winner_14 : decode cX1_winner 14 = .ok (.astore_n 3, 1) := dk_78 (dk_at dksX1_winner_0 14 rfl rfl)
theorem dX1_winner_15 : decode cX1_winner 15 = .ok (.iconst 0, 1) := dk_3 (dk_at dksX1_winner_0 15 rfl rfl)
theorem dX1_winner_16 : decode cX1_winner 16 = .ok (.istore 4, 2) := dk_54 4 (dk_at dksX1_winner_0 16 rfl rfl)
theorem dX1_winner_18 : decode cX1_winner 18 = .ok (.aload_n 2, 1) := dk_44 (dk_at dksX1_winner_0 18 rfl rfl)
theorem dX1_winner_19 : decode cX1_winner 19 = .ok (.invokevirtual 169, 3) := dk_182 0 169 (dk_at dksX1_winner_0 19 rfl rfl)
theorem dX1_winner_22 : decode cX1_winner 22 = .ok (.invokeinterface 173 1, 5) := by decide +kernel
theorem dX1_winner_27 : decode cX1_winner 27 = .ok (.astore 5, 2) := dk_58 5 (dk_at dksX1_winner_1 5 rfl rfl)
theorem dX1_winner_29 : decode cX1_winner 29 = .ok (.aload 5, 2) := dk_25 5 (dk_at dksX1_winner_1 7 rfl rfl)
theorem dX1_winner_31 : decode cX1_winner 31 = .ok (.invokeinterface 179 1, 5) := by decide +kernel
theorem dX1_winner_36 : decode cX1_winner 36 = .ok (.ifCond .eq 49, 3) := dk_153 0 49 (dk_at dksX1_winner_1 14 rfl rfl)
theorem dX1_winner_39 : decode cX1_winner 39 = .ok (.aload 5, 2) := dk_25 5 (dk_at dksX1_winner_1 17 rfl rfl)
theorem dX1_winner_41 : decode cX1_winner 41 = .ok (.invokeinterface 185 1, 5) := by decide +kernel
theorem dX1_winner_46 : decode cX1_winner 46 = .ok (.checkcast 124, 3) := dk_192 0 124 (dk_at dksX1_winner_2 0 rfl rfl)
theorem dX1_winner_49 : decode cX1_winner 49 = .ok (.astore 6, 2) := dk_58 6 (dk_at dksX1_winner_2 3 rfl rfl)
theorem dX1_winner_51 : decode cX1_winner 51 = .ok (.aload_n 2, 1) := dk_44 (dk_at dksX1_winner_2 5 rfl rfl)
theorem dX1_winner_52 : decode cX1_winner 52 = .ok (.aload 6, 2) := dk_25 6 (dk_at dksX1_winner_2 6 rfl rfl)
theorem dX1_winner_54 : decode cX1_winner 54 = .ok (.invokestatic 431, 3) := dk_184 1 175 (dk_at dksX1_winner_2 8 rfl rfl)
theorem dX1_winner_57 : decode cX1_winner 57 = .ok (.istore 7, 2) := dk_54 7 (dk_at dksX1_winner_2 11 rfl rfl)
theorem dX1_winner_59 : decode cX1_winner 59 = .ok (.iload 7, 2) := dk_21 7 (dk_at dksX1_winner_2 13 rfl rfl)
theorem dX1_winner_61 : decode cX1_winner 61 = .ok (.iload 4, 2) := dk_21 4 (dk_at dksX1_winner_2 15 rfl rfl)
theorem dX1_winner_63 : decode cX1_winner 63 = .ok (.if_icmp .le 8, 3) := dk_164 0 8 (dk_at dksX1_winner_2 17 rfl rfl)
theorem dX1_winner_66 : decode cX1_winner 66 = .ok (.aload 6, 2) := dk_25 6 (dk_at dksX1_winner_2 20 rfl rfl)
theorem dX1_winner_68 : decode cX1_winner 68 = .ok (.goto 4, 3) := dk_167 0 4 (dk_at dksX1_winner_3 0 rfl rfl)
theorem dX1_winner_71 : decode cX1_winner 71 = .ok (.aload_n 3, 1) := dk_45 (dk_at dksX1_winner_3 3 rfl rfl)
theorem dX1_winner_72 : decode cX1_winner 72 = .ok (.astore_n 3, 1) := dk_78 (dk_at dksX1_winner_3 4 rfl rfl)
theorem dX1_winner_73 : decode cX1_winner 73 = .ok (.iload 4, 2) := dk_21 4 (dk_at dksX1_winner_3 5 rfl rfl)
theorem dX1_winner_75 : decode cX1_winner 75 = .ok (.iload 7, 2) := dk_21 7 (dk_at dksX1_winner_3 7 rfl rfl)
theorem dX1_winner_77 : decode cX1_winner 77 = .ok (.invokestatic 435, 3) := dk_184 1 179 (dk_at dksX1_winner_3 9 rfl rfl)
theorem dX1_winner_80 : decode cX1_winner 80 = .ok (.istore 4, 2) := dk_54 4 (dk_at dksX1_winner_3 12 rfl rfl)
theorem dX1_winner_82 : decode cX1_winner 82 = .ok (.goto (-53), 3) := dk_167 255 203 (dk_at dksX1_winner_3 14 rfl rfl)
theorem dX1_winner_85 : decode cX1_winner 85 = .ok (.aload_n 3, 1) := dk_45 (dk_at dksX1_winner_3 17 rfl rfl)
theorem dX1_winner_86 : decode cX1_winner 86 = .ok (.ifnull 7, 3) := dk_198 0 7 (dk_at dksX1_winner_3 18 rfl rfl)
theorem dX1_winner_89 : decode cX1_winner 89 = .ok (.iconst 1, 1) := dk_4 (dk_at dksX1_winner_3 21 rfl rfl)
theorem dX1_winner_90 : decode cX1_winner 90 = .ok (.goto 4, 3) := dk_167 0 4 (dk_at dksX1_winner_4 0 rfl rfl)
theorem dX1_winner_93 : decode cX1_winner 93 = .ok (.iconst 0, 1) := dk_3 (dk_at dksX1_winner_4 3 rfl rfl)
theorem dX1_winner_94 : decode cX1_winner 94 = .ok (.invokestatic 117, 3) := dk_184 0 117 (dk_at dksX1_winner_4 4 rfl rfl)
theorem dX1_winner_97 : decode cX1_winner 97 = .ok (.aload_n 3, 1) := dk_45 (dk_at dksX1_winner_4 7 rfl rfl)
theorem dX1_winner_98 : decode cX1_winner 98 = .ok (.getfield 264, 3) := dk_180 1 8 (dk_at dksX1_winner_4 8 rfl rfl)
theorem dX1_winner_101 : decode cX1_winner 101 = .ok (.ireturn, 1) := dk_172 (dk_at dksX1_winner_4 11 rfl rfl)
theorem q1612 : (Jvm.Cond.methodLink "Plugboard" (435 : Nat) ({ cls := "java/lang/Math", name := "max", desc := "(II)I" } : Jvm.MethodName)) ∈ lw_all := lw_g (lw_at lw_m7 102 rfl) rfl
abbrev rm_X1_winner : Room := { frames := 9, cells := 6, slots := 22, locals := 146 }
def w_X1_winner_29 (P : Int32 → AH → Prop) (PX : String → AH → Prop) (x2 : Option Nat) (x3 : Option Nat) (x4 : Int32) (x5 : Option Nat) (h : AH) : Prop :=
  ∀ Z29 : Option Nat → Int32 → AH → Prop, (∀ x3 x4 h, (
      is_c h x5 [6] (
      w_X7_hasNext x5 h (fun y31 h31 =>
      ((y31 = 0 →
        ((x3 = (none : Option Nat) →
          w_X1_requireElement 0 h31 (fun h94 =>
          g_iS h94 x3 0 fun y98 =>
          P y98 h94) PX) ∧
         (¬ x3 = (none : Option Nat) →
          w_X1_requireElement 1 h31 (fun h94 =>
          g_iS h94 x3 0 fun y98 =>
          P y98 h94) PX))) ∧
       (¬ y31 = 0 →
        is_c h31 x5 [6] (
        w_X7_next x5 h31 (fun y41 h41 =>
        is_c h41 y41 [7, 8] (
        w_X1_votesFor_2 x2 y41 h41 (fun y54 h54 =>
        ((y54 ≤ x4 →
          w_J14_max_2 x4 y54 h54 (fun y77 h77 =>
          Z29 x3 y77 h77)) ∧
         (¬ y54 ≤ x4 →
          w_J14_max_2 x4 y54 h54 (fun y77 h77 =>
          Z29 y41 y77 h77))))))))))))
      → Z29 x3 x4 h) → Z29 x3 x4 h
def w_X1_winner (a0 : Option Nat) (a1 : Int32) (h : AH) (P : Int32 → AH → Prop) (PX : String → AH → Prop) : Prop :=
  is_c h a0 [0] (
  w_X1_board a0 a1 h (fun y2 h2 =>
  w_X1_areShown y2 h2 (fun y7 h7 =>
  w_X1_requireSupported y7 h7 (fun h10 =>
  is_c h10 y2 [2] (
  w_X3_seen y2 h10 (fun y19 h19 =>
  is_c h19 y19 [5] (
  w_X6_iterator y19 h19 (fun y22 h22 =>
  w_X1_winner_29 P PX y2 none 0 y22 h22))))) PX)) PX)
theorem wk_X1_winner_29 {x : CX} (X : Ok x cX1_winner RX1 rm_X1_winner 8) (er : xrt x = (Option.some Jvm.ClassFile.FieldType.int)) (en : xnm x = yX1_winner.name) {P : Int32 → AH → Prop} {PX : String → AH → Prop} (hQ : xr_i x P) (hT : xt_ x PX) (hex : ∀ z ∈ x.2.2.2.2.2.2.2.2.2.1.exceptionTable.toList, False) (x2 : Option Nat) (x3 : Option Nat) (x4 : Int32) (x5 : Option Nat) (h : AH) (hw : w_X1_winner_29 P PX x2 x3 x4 x5 h) : J x h 5 16 29 [(2, vR x2), (3, vR x3), (4, vI x4), (5, vR x5)] [] := by
  refine hw (fun x3 x4 h => J x h 5 16 29 [(2, vR x2), (3, vR x3), (4, vI x4), (5, vR x5)] []) (fun x3 x4 h hw => ?_)
  refine j_aload X (pc := 29) 3 dX1_winner_29 rfl ?_
  obtain ⟨b9, c9, f9, hr9, ho9, hc9, hw⟩ := hw
  obtain rfl := List.mem_singleton.mp hc9
  refine j_call5i (j_runF (n8 := 0) (As := []) (rest := []) X (pc := 31) hr9 (met_X7_hasNext (xl x) X.hl (xG x) h x5 _ hw) ho9 (by decide) rfl q481 q485 q487 q85 q489 (fun U hU => kt_F2 hU) (by decide +kernel) dX1_winner_31 rfl ⟨Nat.le_of_ble_eq_true rfl, Nat.le_of_ble_eq_true rfl⟩ (Nat.le_of_ble_eq_true rfl) ⟨Nat.le_of_ble_eq_true rfl, Nat.le_of_ble_eq_true rfl⟩) (fun y31 h31 hw => ?_)
  refine j_if_eq X (pc := 36) 85 dX1_winner_36 (by decide) hw (fun hw => ?_) (fun hw => ?_)
  · refine j_aload_n X (pc := 85) 1 dX1_winner_85 rfl rfl ?_
    refine j_ifnull X (pc := 86) 93 dX1_winner_86 (by decide) hw (fun hw => ?_) (fun hw => ?_)
    · refine j_iconst X (pc := 93) 0 dX1_winner_93 (by decide) ?_
      refine j_callXv (j_runSX (n8 := 1) (As := [vI 0]) (rest := []) X (pc := 94) (met_X1_requireElement (xl x) X.hl (xG x) h31 0 _ _ hw) q1080 q1081 q71 q1082 (by decide +kernel) dX1_winner_94 rfl ⟨Nat.le_of_ble_eq_true rfl, Nat.le_of_ble_eq_true rfl⟩ (Nat.le_of_ble_eq_true rfl) ⟨Nat.le_of_ble_eq_true rfl, Nat.le_of_ble_eq_true rfl⟩) (fun E h9 hx => j_out X hT hex (Nat.le_of_ble_eq_true rfl) (Nat.le_of_ble_eq_true rfl) hx) (fun h94 hw => ?_)
      refine j_aload_n X (pc := 97) 1 dX1_winner_97 rfl rfl ?_
      refine j_getiSN X (pc := 98) 0 (by decide) q578 dX1_winner_98 hw (fun y98 hw => ?_)
      exact j_iret X (pc := 101) hQ er (Nat.le_of_ble_eq_true rfl) (Nat.le_of_ble_eq_true rfl) dX1_winner_101 hw
    · refine j_iconst X (pc := 89) 1 dX1_winner_89 (by decide) ?_
      refine j_goto X (pc := 90) 94 dX1_winner_90 (by decide) ?_
      refine j_callXv (j_runSX (n8 := 1) (As := [vI 1]) (rest := []) X (pc := 94) (met_X1_requireElement (xl x) X.hl (xG x) h31 1 _ _ hw) q1080 q1081 q71 q1082 (by decide +kernel) dX1_winner_94 rfl ⟨Nat.le_of_ble_eq_true rfl, Nat.le_of_ble_eq_true rfl⟩ (Nat.le_of_ble_eq_true rfl) ⟨Nat.le_of_ble_eq_true rfl, Nat.le_of_ble_eq_true rfl⟩) (fun E h9 hx => j_out X hT hex (Nat.le_of_ble_eq_true rfl) (Nat.le_of_ble_eq_true rfl) hx) (fun h94 hw => ?_)
      refine j_aload_n X (pc := 97) 1 dX1_winner_97 rfl rfl ?_
      refine j_getiSN X (pc := 98) 0 (by decide) q578 dX1_winner_98 hw (fun y98 hw => ?_)
      exact j_iret X (pc := 101) hQ er (Nat.le_of_ble_eq_true rfl) (Nat.le_of_ble_eq_true rfl) dX1_winner_101 hw
  · refine j_aload X (pc := 39) 3 dX1_winner_39 rfl ?_
    obtain ⟨b9, c9, f9, hr9, ho9, hc9, hw⟩ := hw
    obtain rfl := List.mem_singleton.mp hc9
    refine j_call5q (j_runF (n8 := 0) (As := []) (rest := []) X (pc := 41) hr9 (met_X7_next (xl x) X.hl (xG x) h31 x5 _ hw) ho9 (by decide) rfl q499 q502 q504 q85 q506 (fun U hU => kt_F3 hU) (by decide +kernel) dX1_winner_41 rfl ⟨Nat.le_of_ble_eq_true rfl, Nat.le_of_ble_eq_true rfl⟩ (Nat.le_of_ble_eq_true rfl) ⟨Nat.le_of_ble_eq_true rfl, Nat.le_of_ble_eq_true rfl⟩) (fun y41 h41 hw => ?_)
    refine j_chk X (pc := 46) (L := [7, 8]) q550 (by intro ci hci; simp only [List.mem_cons, List.not_mem_nil, or_false] at hci; rcases hci with rfl | rfl <;> first | exact ⟨by decide, _, _, _, rfl, Or.inr q2343⟩ | exact ⟨by decide, _, _, _, rfl, Or.inr q2344⟩) dX1_winner_46 hw (fun hw => ?_)
    refine j_astore X (pc := 49) [(6, vR y41), (2, vR x2), (3, vR x3), (4, vI x4), (5, vR x5)] dX1_winner_49 (Nat.le_of_ble_eq_true rfl) rfl ?_
    refine j_aload_n X (pc := 51) 1 dX1_winner_51 rfl rfl ?_
    refine j_aload X (pc := 52) 0 dX1_winner_52 rfl ?_
    refine j_calli (j_runS (n8 := 2) (As := [vR x2, vR y41]) (rest := []) X (pc := 54) (met_X1_votesFor_2 (xl x) X.hl (xG x) h41 x2 y41 _ hw) q1602 q1603 q71 q1604 (by decide +kernel) dX1_winner_54 rfl ⟨Nat.le_of_ble_eq_true rfl, Nat.le_of_ble_eq_true rfl⟩ (Nat.le_of_ble_eq_true rfl) ⟨Nat.le_of_ble_eq_true rfl, Nat.le_of_ble_eq_true rfl⟩) (fun y54 h54 hw => ?_)
    refine j_istore X (pc := 57) [(7, vI y54), (6, vR y41), (2, vR x2), (3, vR x3), (4, vI x4), (5, vR x5)] dX1_winner_57 (Nat.le_of_ble_eq_true rfl) rfl ?_
    refine j_iload X (pc := 59) 0 dX1_winner_59 rfl ?_
    refine j_iload X (pc := 61) 4 dX1_winner_61 rfl ?_
    refine j_icmp_le X (pc := 63) 71 dX1_winner_63 (by decide) hw (fun hw => ?_) (fun hw => ?_)
    · refine j_aload_n X (pc := 71) 3 dX1_winner_71 rfl rfl ?_
      refine j_astore_n X (pc := 72) [(3, vR x3), (7, vI y54), (6, vR y41), (2, vR x2), (4, vI x4), (5, vR x5)] dX1_winner_72 rfl (Nat.le_of_ble_eq_true rfl) rfl ?_
      refine j_iload X (pc := 73) 4 dX1_winner_73 rfl ?_
      refine j_iload X (pc := 75) 1 dX1_winner_75 rfl ?_
      refine j_calli (j_runS (n8 := 2) (As := [vI x4, vI y54]) (rest := []) X (pc := 77) (met_J14_max_2 (xl x) X.hl (xG x) h54 x4 y54 _ hw) q1612 q622 q92 q623 (by decide +kernel) dX1_winner_77 rfl ⟨Nat.le_of_ble_eq_true rfl, Nat.le_of_ble_eq_true rfl⟩ (Nat.le_of_ble_eq_true rfl) ⟨Nat.le_of_ble_eq_true rfl, Nat.le_of_ble_eq_true rfl⟩) (fun y77 h77 hw => ?_)
      refine j_istore X (pc := 80) [(4, vI y77), (3, vR x3), (7, vI y54), (6, vR y41), (2, vR x2), (5, vR x5)] dX1_winner_80 (Nat.le_of_ble_eq_true rfl) rfl ?_
      refine j_goto X (pc := 82) 29 dX1_winner_82 (by decide) ?_
      refine j_lv [(2, vR x2), (3, vR x3), (4, vI y77), (5, vR x5)] [4, 1, 0, 5] rfl ?_
      refine j_cs (u' := 5) (v' := 16) (Nat.le_of_ble_eq_true rfl) (Nat.le_of_ble_eq_true rfl) ?_
      exact hw
    · refine j_aload X (pc := 66) 1 dX1_winner_66 rfl ?_
      refine j_goto X (pc := 68) 72 dX1_winner_68 (by decide) ?_
      refine j_astore_n X (pc := 72) [(3, vR y41), (7, vI y54), (6, vR y41), (2, vR x2), (4, vI x4), (5, vR x5)] dX1_winner_72 rfl (Nat.le_of_ble_eq_true rfl) rfl ?_
      refine j_iload X (pc := 73) 4 dX1_winner_73 rfl ?_
      refine j_iload X (pc := 75) 1 dX1_winner_75 rfl ?_
      refine j_calli (j_runS (n8 := 2) (As := [vI x4, vI y54]) (rest := []) X (pc := 77) (met_J14_max_2 (xl x) X.hl (xG x) h54 x4 y54 _ hw) q1612 q622 q92 q623 (by decide +kernel) dX1_winner_77 rfl ⟨Nat.le_of_ble_eq_true rfl, Nat.le_of_ble_eq_true rfl⟩ (Nat.le_of_ble_eq_true rfl) ⟨Nat.le_of_ble_eq_true rfl, Nat.le_of_ble_eq_true rfl⟩) (fun y77 h77 hw => ?_)
      refine j_istore X (pc := 80) [(4, vI y77), (3, vR y41), (7, vI y54), (6, vR y41), (2, vR x2), (5, vR x5)] dX1_winner_80 (Nat.le_of_ble_eq_true rfl) rfl ?_
      refine j_goto X (pc := 82) 29 dX1_winner_82 (by decide) ?_
      refine j_lv [(2, vR x2), (3, vR y41), (4, vI y77), (5, vR x5)] [4, 1, 0, 5] rfl ?_
      refine j_cs (u' := 5) (v' := 16) (Nat.le_of_ble_eq_true rfl) (Nat.le_of_ble_eq_true rfl) ?_
      exact hw
theorem met_X1_winner (l : Launch) (hlt : l.stackTraces = false) (G : GG) (h : AH) (a0 : Option Nat) (a1 : Int32) (P : Int32 → AH → Prop) (PX : String → AH → Prop) (hw : w_X1_winner a0 a1 h P PX) : cx_i l yX1_winner (ws_ yX1_winner cX1_winner 8 (Option.some Jvm.ClassFile.FieldType.int)) rm_X1_winner G h [vR a0, vI a1] P PX := by
  refine j_startXi hlt [(0, vR a0), (1, vI a1)] (by decide) rfl rfl (fun x X eG er en hQ hT hex => ?_)
  subst eG
  refine j_aload_n X (pc := 0) 0 dX1_winner_0 rfl rfl ?_
  refine j_iload_n X (pc := 1) 1 dX1_winner_1 rfl rfl ?_
  obtain ⟨b9, c9, f9, hr9, ho9, hc9, hw⟩ := hw
  obtain rfl := List.mem_singleton.mp hc9
  refine j_callXq (j_runVX (n8 := 1) (As := [vI a1]) (rest := []) X (pc := 2) hr9 (met_X1_board (xl x) X.hl (xG x) h a0 a1 _ _ hw) ho9 (by decide) rfl q297 q299 qs0 q71 q300 (by decide +kernel) dX1_winner_2 rfl ⟨Nat.le_of_ble_eq_true rfl, Nat.le_of_ble_eq_true rfl⟩ (Nat.le_of_ble_eq_true rfl) ⟨Nat.le_of_ble_eq_true rfl, Nat.le_of_ble_eq_true rfl⟩) (fun E h9 hx => j_out X hT hex (Nat.le_of_ble_eq_true rfl) (Nat.le_of_ble_eq_true rfl) hx) (fun y2 h2 hw => ?_)
  refine j_astore_n X (pc := 5) [(2, vR y2), (0, vR a0), (1, vI a1)] dX1_winner_5 rfl (Nat.le_of_ble_eq_true rfl) rfl ?_
  refine j_aload_n X (pc := 6) 0 dX1_winner_6 rfl rfl ?_
  refine j_calli (j_runS (n8 := 1) (As := [vR y2]) (rest := []) X (pc := 7) (met_X1_areShown (xl x) X.hl (xG x) h2 y2 _ hw) q1332 q1333 q71 q1334 (by decide +kernel) dX1_winner_7 rfl ⟨Nat.le_of_ble_eq_true rfl, Nat.le_of_ble_eq_true rfl⟩ (Nat.le_of_ble_eq_true rfl) ⟨Nat.le_of_ble_eq_true rfl, Nat.le_of_ble_eq_true rfl⟩) (fun y7 h7 hw => ?_)
  refine j_callXv (j_runSX (n8 := 1) (As := [vI y7]) (rest := []) X (pc := 10) (met_X1_requireSupported (xl x) X.hl (xG x) h7 y7 _ _ hw) q1097 q1098 q71 q1099 (by decide +kernel) dX1_winner_10 rfl ⟨Nat.le_of_ble_eq_true rfl, Nat.le_of_ble_eq_true rfl⟩ (Nat.le_of_ble_eq_true rfl) ⟨Nat.le_of_ble_eq_true rfl, Nat.le_of_ble_eq_true rfl⟩) (fun E h9 hx => j_out X hT hex (Nat.le_of_ble_eq_true rfl) (Nat.le_of_ble_eq_true rfl) hx) (fun h10 hw => ?_)
  refine j_null X (pc := 13) dX1_winner_13 ?_
  refine j_astore_n X (pc := 14) [(3, vR none), (2, vR y2), (0, vR a0), (1, vI a1)] dX1_winner_14 rfl (Nat.le_of_ble_eq_true rfl) rfl ?_
  refine j_iconst X (pc := 15) 0 dX1_winner_15 (by decide) ?_
  refine j_istore X (pc := 16) [(4, vI 0), (3, vR none), (2, vR y2), (0, vR a0), (1, vI a1)] dX1_winner_16 (Nat.le_of_ble_eq_true rfl) rfl ?_
  refine j_aload_n X (pc := 18) 2 dX1_winner_18 rfl rfl ?_
  obtain ⟨b9, c9, f9, hr9, ho9, hc9, hw⟩ := hw
  obtain rfl := List.mem_singleton.mp hc9
  refine j_callq (j_runV (n8 := 0) (As := []) (rest := []) X (pc := 19) hr9 (met_X3_seen (xl x) X.hl (xG x) h10 y2 _ hw) ho9 (by decide) rfl q418 q419 q420 q76 q421 (by decide +kernel) dX1_winner_19 rfl ⟨Nat.le_of_ble_eq_true rfl, Nat.le_of_ble_eq_true rfl⟩ (Nat.le_of_ble_eq_true rfl) ⟨Nat.le_of_ble_eq_true rfl, Nat.le_of_ble_eq_true rfl⟩) (fun y19 h19 hw => ?_)
  obtain ⟨b9, c9, f9, hr9, ho9, hc9, hw⟩ := hw
  obtain rfl := List.mem_singleton.mp hc9
  refine j_call5q (j_runF (n8 := 0) (As := []) (rest := []) X (pc := 22) hr9 (met_X6_iterator (xl x) X.hl (xG x) h19 y19 _ hw) ho9 (by decide) rfl q433 q437 q439 q84 q441 (fun U hU => kt_F1 hU) (by decide +kernel) dX1_winner_22 rfl ⟨Nat.le_of_ble_eq_true rfl, Nat.le_of_ble_eq_true rfl⟩ (Nat.le_of_ble_eq_true rfl) ⟨Nat.le_of_ble_eq_true rfl, Nat.le_of_ble_eq_true rfl⟩) (fun y22 h22 hw => ?_)
  refine j_astore X (pc := 27) [(5, vR y22), (4, vI 0), (3, vR none), (2, vR y2), (0, vR a0), (1, vI a1)] dX1_winner_27 (Nat.le_of_ble_eq_true rfl) rfl ?_
  refine j_lv [(2, vR y2), (3, vR none), (4, vI 0), (5, vR y22)] [3, 2, 1, 0] rfl ?_
  refine j_cs (u' := 5) (v' := 16) (Nat.le_of_ble_eq_true rfl) (Nat.le_of_ble_eq_true rfl) ?_
  exact wk_X1_winner_29 X er en hQ hT hex y2 none 0 y22 h22 hw
abbrev cX0_winner : ByteArray := method_39_code
def yX0_winner : MethodName := ⟨RX0, "winner", "(LPlugboard;I[J)I"⟩
def dkwX0_winner_0 : List UInt8 := [44, 3, 42, 27, 182, 0, 136, 133, 80, 167, 0, 12, 78, 4, 172, 78, 5, 172, 78, 6, 172, 3, 172]
abbrev dktX0_winner_0 : List UInt8 := dkwX0_winner_0 ++ []
theorem dksX0_winner_0 : cX0_winner.data.toList.drop 0 = dktX0_winner_0 := by decide +kernel
theorem dX0_winner_0 : decode cX0_winner 0 = .ok (.aload_n 2, 1) := dk_44 (dk_at dksX0_winner_0 0 rfl rfl)
theorem dX0_winner_1 : decode cX0_winner 1 = .ok (.iconst 0, 1) := dk_3 (dk_at dksX0_winner_0 1 rfl rfl)
theorem dX0_winner_2 : decode cX0_winner 2 = .ok (.aload_n 0, 1) := dk_42 (dk_at dksX0_winner_0 2 rfl rfl)
theorem dX0_winner_3 : decode cX0_winner 3 = .ok (.iload_n 1, 1) := dk_27 (dk_at dksX0_winner_0 3 rfl rfl)
theorem dX0_winner_4 : decode cX0_winner 4 = .ok (.invokevirtual 136, 3) := dk_182 0 136 (dk_at dksX0_winner_0 4 rfl rfl)
theorem dX0_winner_7 : decode cX0_winner 7 = .ok (.i2l, 1) := dk_133 (dk_at dksX0_winner_0 7 rfl rfl)
theorem dX0_winner_8 : decode cX0_winner 8 = .ok (.lastore, 1) := dk_80 (dk_at dksX0_winner_0 8 rfl rfl)
theorem dX0_winner_9 : decode cX0_winner 9 = .ok (.goto 12, 3) := dk_167 0 12 (dk_at dksX0_winner_0 9 rfl rfl)
theorem dX0_winner_12 : decode cX0_winner 12 = .ok (.astore_n 3, 1) := dk_78 (dk_at dksX0_winner_0 12 rfl rfl)
theorem dX0_winner_13 : decode cX0_winner 13 = .ok (.iconst 1, 1) := dk_4 (dk_at dksX0_winner_0 13 rfl rfl)
theorem dX0_winner_14 : decode cX0_winner 14 = .ok (.ireturn, 1) := dk_172 (dk_at dksX0_winner_0 14 rfl rfl)
theorem dX0_winner_15 : decode cX0_winner 15 = .ok (.astore_n 3, 1) := dk_78 (dk_at dksX0_winner_0 15 rfl rfl)
theorem dX0_winner_16 : decode cX0_winner 16 = .ok (.iconst 2, 1) := dk_5 (dk_at dksX0_winner_0 16 rfl rfl)
theorem dX0_winner_17 : decode cX0_winner 17 = .ok (.ireturn, 1) := dk_172 (dk_at dksX0_winner_0 17 rfl rfl)
theorem dX0_winner_18 : decode cX0_winner 18 = .ok (.astore_n 3, 1) := dk_78 (dk_at dksX0_winner_0 18 rfl rfl)
theorem dX0_winner_19 : decode cX0_winner 19 = .ok (.iconst 3, 1) := dk_6 (dk_at dksX0_winner_0 19 rfl rfl)
theorem dX0_winner_20 : decode cX0_winner 20 = .ok (.ireturn, 1) := dk_172 (dk_at dksX0_winner_0 20 rfl rfl)
theorem dX0_winner_21 : decode cX0_winner 21 = .ok (.iconst 0, 1) := dk_3 (dk_at dksX0_winner_0 21 rfl rfl)
theorem dX0_winner_22 : decode cX0_winner 22 = .ok (.ireturn, 1) := dk_172 (dk_at dksX0_winner_0 22 rfl rfl)
theorem q1608 : (Jvm.Cond.methodLink "PlugboardLaw" (136 : Nat) ({ cls := "Plugboard", name := "winner", desc := "(I)I" } : Jvm.MethodName)) ∈ lw_all := lw_g (lw_at lw_m7 98 rfl) rfl
theorem q1609 : (Jvm.Cond.instanceMethod ({ cls := "Plugboard", name := "winner", desc := "(I)I" } : Jvm.MethodName)) ∈ lw_all := lw_g (lw_at lw_m7 99 rfl) rfl
theorem q1610 : (Jvm.Cond.selects "Plugboard" ({ cls := "Plugboard", name := "winner", desc := "(I)I" } : Jvm.MethodName) ({ cls := "Plugboard", name := "winner", desc := "(I)I" } : Jvm.MethodName)) ∈ lw_all := lw_g (lw_at lw_m7 100 rfl) rfl
theorem q1611 : (Jvm.Cond.code ({ cls := "Plugboard", name := "winner", desc := "(I)I" } : Jvm.MethodName) prog_1_method_77_code (8 : Nat) (Option.some Jvm.ClassFile.FieldType.int)) ∈ lw_all := lw_g (lw_at lw_m7 101 rfl) rfl
abbrev rm_X0_winner : Room := { frames := 10, cells := 6, slots := 22, locals := 173 }
def w_X0_winner (a0 : Option Nat) (a1 : Int32) (a2 : Option Nat) (h : AH) (P : Int32 → AH → Prop) : Prop :=
  is_c h a0 [0] (
  w_X1_winner a0 a1 h (fun y4 h4 =>
  s_L h4 a2 0 (Int32.toInt64 y4) fun h8 =>
  P 0 h8)
    (fun E9 h9 => (E9 = "java/lang/IllegalArgumentException" ∧ ∀ q9 : Nat,
    P 1 h9) ∨
    (E9 = "java/lang/UnsupportedOperationException" ∧ ∀ q9 : Nat,
    P 2 h9) ∨
    (E9 = "java/util/NoSuchElementException" ∧ ∀ q9 : Nat,
    P 3 h9)))
theorem met_X0_winner (l : Launch) (hlt : l.stackTraces = false) (G : GG) (h : AH) (a0 : Option Nat) (a1 : Int32) (a2 : Option Nat) (P : Int32 → AH → Prop) (hw : w_X0_winner a0 a1 a2 h P) : ct_i l yX0_winner (wsW_ yX0_winner cX0_winner 4 (Option.some Jvm.ClassFile.FieldType.int) [((0 : Nat), (9 : Nat), (12 : Nat), (13 : Nat)), ((0 : Nat), (9 : Nat), (15 : Nat), (23 : Nat)), ((0 : Nat), (9 : Nat), (18 : Nat), (21 : Nat))]) rm_X0_winner G h [vR a0, vI a1, vR a2] P := by
  refine j_startWi hlt [(0, vR a0), (1, vI a1), (2, vR a2)] (by decide) rfl rfl (fun x X eG er en hQ hex => ?_)
  subst eG
  refine j_aload_n X (pc := 0) 2 dX0_winner_0 rfl rfl ?_
  refine j_iconst X (pc := 1) 0 dX0_winner_1 (by decide) ?_
  refine j_aload_n X (pc := 2) 0 dX0_winner_2 rfl rfl ?_
  refine j_iload_n X (pc := 3) 1 dX0_winner_3 rfl rfl ?_
  obtain ⟨b9, c9, f9, hr9, ho9, hc9, hw⟩ := hw
  obtain rfl := List.mem_singleton.mp hc9
  refine j_callXi (j_runVX (n8 := 1) (As := [vI a1]) (rest := [vI 0, vR a2]) X (pc := 4) hr9 (met_X1_winner (xl x) X.hl (xG x) h a0 a1 _ _ hw) ho9 (by decide) rfl q1608 q1609 q1610 q71 q1611 (by decide +kernel) dX0_winner_4 rfl ⟨Nat.le_of_ble_eq_true rfl, Nat.le_of_ble_eq_true rfl⟩ (Nat.le_of_ble_eq_true rfl) ⟨Nat.le_of_ble_eq_true rfl, Nat.le_of_ble_eq_true rfl⟩) ?_ (fun y4 h4 hw => ?_)
  · intro E9 h9 hx
    rcases hx with ⟨rfl, hw⟩ | ⟨rfl, hw⟩ | ⟨rfl, hw⟩
    · refine j_catch X (pc := 4) "java/lang/IllegalArgumentException" hex [] [⟨0, 9, 15, 23⟩, ⟨0, 9, 18, 21⟩] ⟨0, 9, 12, 13⟩ rfl (by intro y hy; cases hy) (by decide) (by decide) q291 q312 (fun q9 => ?_)
      have hw := hw q9
      refine j_astore_n X (pc := 12) [(3, vR (some q9)), (0, vR a0), (1, vI a1), (2, vR a2)] dX0_winner_12 rfl (Nat.le_of_ble_eq_true rfl) rfl ?_
      refine j_iconst X (pc := 13) 1 dX0_winner_13 (by decide) ?_
      exact j_iret X (pc := 14) hQ er (Nat.le_of_ble_eq_true rfl) (Nat.le_of_ble_eq_true rfl) dX0_winner_14 hw
    · refine j_catch X (pc := 4) "java/lang/UnsupportedOperationException" hex [⟨0, 9, 12, 13⟩] [⟨0, 9, 18, 21⟩] ⟨0, 9, 15, 23⟩ rfl (by intro y hy; simp only [List.mem_cons, List.not_mem_nil, or_false] at hy; subst hy; exact Or.inr ⟨by decide, "java/lang/IllegalArgumentException", q291, by decide +kernel⟩) (by decide) (by decide) q1069 q1102 (fun q9 => ?_)
      have hw := hw q9
      refine j_astore_n X (pc := 15) [(3, vR (some q9)), (0, vR a0), (1, vI a1), (2, vR a2)] dX0_winner_15 rfl (Nat.le_of_ble_eq_true rfl) rfl ?_
      refine j_iconst X (pc := 16) 2 dX0_winner_16 (by decide) ?_
      exact j_iret X (pc := 17) hQ er (Nat.le_of_ble_eq_true rfl) (Nat.le_of_ble_eq_true rfl) dX0_winner_17 hw
    · refine j_catch X (pc := 4) "java/util/NoSuchElementException" hex [⟨0, 9, 12, 13⟩, ⟨0, 9, 15, 23⟩] [] ⟨0, 9, 18, 21⟩ rfl (by intro y hy; simp only [List.mem_cons, List.not_mem_nil, or_false] at hy; rcases hy with rfl | rfl <;> first | exact Or.inr ⟨by decide, "java/lang/IllegalArgumentException", q291, by decide +kernel⟩ | exact Or.inr ⟨by decide, "java/lang/UnsupportedOperationException", q1069, by decide +kernel⟩) (by decide) (by decide) q1068 q537 (fun q9 => ?_)
      have hw := hw q9
      refine j_astore_n X (pc := 18) [(3, vR (some q9)), (0, vR a0), (1, vI a1), (2, vR a2)] dX0_winner_18 rfl (Nat.le_of_ble_eq_true rfl) rfl ?_
      refine j_iconst X (pc := 19) 3 dX0_winner_19 (by decide) ?_
      exact j_iret X (pc := 20) hQ er (Nat.le_of_ble_eq_true rfl) (Nat.le_of_ble_eq_true rfl) dX0_winner_20 hw
  refine j_i2l X (pc := 7) dX0_winner_7 ?_
  refine j_last X (pc := 8) dX0_winner_8 hw (fun h8 hw => ?_)
  refine j_goto X (pc := 9) 21 dX0_winner_9 (by decide) ?_
  refine j_iconst X (pc := 21) 0 dX0_winner_21 (by decide) ?_
  exact j_iret X (pc := 22) hQ er (Nat.le_of_ble_eq_true rfl) (Nat.le_of_ble_eq_true rfl) dX0_winner_22 hw
abbrev cX5_winner : ByteArray := prog_19_method_81_code
def yX5_winner : MethodName := ⟨RX5, "winner", "(I)I"⟩
def dkwX5_winner_4 : List UInt8 := [172]
abbrev dktX5_winner_4 : List UInt8 := dkwX5_winner_4 ++ []
def dkwX5_winner_3 : List UInt8 := [167, 0, 4, 28, 61, 132, 3, 1, 167, 255, 210, 28, 156, 0, 11, 42, 6, 182, 0, 172, 167, 0, 4, 28]
abbrev dktX5_winner_3 : List UInt8 := dkwX5_winner_3 ++ dktX5_winner_4
def dkwX5_winner_2 : List UInt8 := [42, 29, 182, 1, 14, 28, 156, 0, 7, 3, 167, 0, 8, 42, 28, 182, 1, 14, 164, 0, 7, 29]
abbrev dktX5_winner_2 : List UInt8 := dkwX5_winner_2 ++ dktX5_winner_3
def dkwX5_winner_1 : List UInt8 := [182, 0, 172, 172, 2, 61, 3, 62, 29, 42, 180, 0, 119, 162, 0, 44, 42, 29, 182, 0, 125, 153, 0, 28]
abbrev dktX5_winner_1 : List UInt8 := dkwX5_winner_1 ++ dktX5_winner_2
def dkwX5_winner_0 : List UInt8 := [42, 27, 182, 0, 228, 153, 0, 5, 3, 172, 42, 180, 0, 67, 16, 92, 46, 154, 0, 9, 42, 5]
abbrev dktX5_winner_0 : List UInt8 := dkwX5_winner_0 ++ dktX5_winner_1
theorem dksX5_winner_0 : cX5_winner.data.toList.drop 0 = dktX5_winner_0 := by decide +kernel
theorem dksX5_winner_1 : cX5_winner.data.toList.drop 22 = dktX5_winner_1 := dk_seg dksX5_winner_0 22 rfl rfl
theorem dksX5_winner_2 : cX5_winner.data.toList.drop 46 = dktX5_winner_2 := dk_seg dksX5_winner_1 24 rfl rfl
theorem dksX5_winner_3 : cX5_winner.data.toList.drop 68 = dktX5_winner_3 := dk_seg dksX5_winner_2 22 rfl rfl
theorem dksX5_winner_4 : cX5_winner.data.toList.drop 92 = dktX5_winner_4 := dk_seg dksX5_winner_3 24 rfl rfl
theorem dX5_winner_0 : decode cX5_winner 0 = .ok (.aload_n 0, 1) := dk_42 (dk_at dksX5_winner_0 0 rfl rfl)
theorem dX5_winner_1 : decode cX5_winner 1 = .ok (.iload_n 1, 1) := dk_27 (dk_at dksX5_winner_0 1 rfl rfl)
theorem dX5_winner_2 : decode cX5_winner 2 = .ok (.invokevirtual 228, 3) := dk_182 0 228 (dk_at dksX5_winner_0 2 rfl rfl)
theorem dX5_winner_5 : decode cX5_winner 5 = .ok (.ifCond .eq 5, 3) := dk_153 0 5 (dk_at dksX5_winner_0 5 rfl rfl)
theorem dX5_winner_8 : decode cX5_winner 8 = .ok (.iconst 0, 1) := dk_3 (dk_at dksX5_winner_0 8 rfl rfl)
theorem dX5_winner_9 : decode cX5_winner 9 = .ok (.ireturn, 1) := dk_172 (dk_at dksX5_winner_0 9 rfl rfl)
theorem dX5_winner_10 : decode cX5_winner 10 = .ok (.aload_n 0, 1) := dk_42 (dk_at dksX5_winner_0 10 rfl rfl)
theorem dX5_winner_11 : decode cX5_winner 11 = .ok (.getfield 67, 3) := dk_180 0 67 (dk_at dksX5_winner_0 11 rfl rfl)
theorem dX5_winner_14 : decode cX5_winner 14 = .ok (.bipush 92, 2) := dk_16 92 (dk_at dksX5_winner_0 14 rfl rfl)
theorem dX5_winner_16 : decode cX5_winner 16 = .ok (.iaload, 1) := dk_46 (dk_at dksX5_winner_0 16 rfl rfl)
theorem dX5_winner_17 : decode cX5_winner 17 = .ok (.ifCond .ne 9, 3) := dk_154 0 9 (dk_at dksX5_winner_0 17 rfl rfl)
theorem dX5_winner_20 : decode cX5_winner 20 = .ok (.aload_n 0, 1) := dk_42 (dk_at dksX5_winner_0 20 rfl rfl)
theorem dX5_winner_21 : decode cX5_winner 21 = .ok (.iconst 2, 1) := dk_5 (dk_at dksX5_winner_0 21 rfl rfl)
theorem dX5_winner_22 : decode cX5_winner 22 = .ok (.invokevirtual 172, 3) := dk_182 0 172 (dk_at dksX5_winner_1 0 rfl rfl)
theorem dX5_winner_25 : decode cX5_winner 25 = .ok (.ireturn, 1) := dk_172 (dk_at dksX5_winner_1 3 rfl rfl)
theorem dX5_winner_26 : decode cX5_winner 26 = .ok (.iconst (-1), 1) := dk_2 (dk_at dksX5_winner_1 4 rfl rfl)
theorem dX5_winner_27 : decode cX5_winner 27 = .ok (.istore_n 2, 1) := dk_61 (dk_at dksX5_winner_1 5 rfl rfl)
theorem dX5_winner_28 : decode cX5_winner 28 = .ok (.iconst 0, 1) := dk_3 (dk_at dksX5_winner_1 6 rfl rfl)
theorem dX5_winner_29 : decode cX5_winner 29 = .ok (.istore_n 3, 1) := dk_62 (dk_at dksX5_winner_1 7 rfl rfl)
theorem dX5_winner_30 : decode cX5_winner 30 = .ok (.iload_n 3, 1) := dk_29 (dk_at dksX5_winner_1 8 rfl rfl)
theorem dX5_winner_31 : decode cX5_winner 31 = .ok (.aload_n 0, 1) := dk_42 (dk_at dksX5_winner_1 9 rfl rfl)
theorem dX5_winner_32 : decode cX5_winner 32 = .ok (.getfield 119, 3) := dk_180 0 119 (dk_at dksX5_winner_1 10 rfl rfl)
theorem dX5_winner_35 : decode cX5_winner 35 = .ok (.if_icmp .ge 44, 3) := dk_162 0 44 (dk_at dksX5_winner_1 13 rfl rfl)
theorem dX5_winner_38 : decode cX5_winner 38 = .ok (.aload_n 0, 1) := dk_42 (dk_at dksX5_winner_1 16 rfl rfl)
theorem dX5_winner_39 : decode cX5_winner 39 = .ok (.iload_n 3, 1) := dk_29 (dk_at dksX5_winner_1 17 rfl rfl)
theorem dX5_winner_40 : decode cX5_winner 40 = .ok (.invokevirtual 125, 3) := dk_182 0 125 (dk_at dksX5_winner_1 18 rfl rfl)
theorem dX5_winner_43 : decode cX5_winner 43 = .ok (.ifCond .eq 28, 3) := dk_153 0 28 (dk_at dksX5_winner_1 21 rfl rfl)
theorem dX5_winner_46 : decode cX5_winner 46 = .ok (.aload_n 0, 1) := dk_42 (dk_at dksX5_winner_2 0 rfl rfl)
theorem dX5_winner_47 : decode cX5_winner 47 = .ok (.iload_n 3, 1) := dk_29 (dk_at dksX5_winner_2 1 rfl rfl)
theorem dX5_winner_48 : decode cX5_winner 48 = .ok (.invokevirtual 270, 3) := dk_182 1 14 (dk_at dksX5_winner_2 2 rfl rfl)
theorem dX5_winner_51 : decode cX5_winner 51 = .ok (.iload_n 2, 1) := dk_28 (dk_at dksX5_winner_2 5 rfl rfl)
theorem dX5_winner_52 : decode cX5_winner 52 = .ok (.ifCond .ge 7, 3) := dk_156 0 7 (dk_at dksX5_winner_2 6 rfl rfl)
theorem dX5_winner_55 : decode cX5_winner 55 = .ok (.iconst 0, 1) := dk_3 (dk_at dksX5_winner_2 9 rfl rfl)
theorem dX5_winner_56 : decode cX5_winner 56 = .ok (.goto 8, 3) := dk_167 0 8 (dk_at dksX5_winner_2 10 rfl rfl)
theorem dX5_winner_59 : decode cX5_winner 59 = .ok (.aload_n 0, 1) := dk_42 (dk_at dksX5_winner_2 13 rfl rfl)
theorem dX5_winner_60 : decode cX5_winner 60 = .ok (.iload_n 2, 1) := dk_28 (dk_at dksX5_winner_2 14 rfl rfl)
theorem dX5_winner_61 : decode cX5_winner 61 = .ok (.invokevirtual 270, 3) := dk_182 1 14 (dk_at dksX5_winner_2 15 rfl rfl)
theorem dX5_winner_64 : decode cX5_winner 64 = .ok (.if_icmp .le 7, 3) := dk_164 0 7 (dk_at dksX5_winner_2 18 rfl rfl)
theorem dX5_winner_67 : decode cX5_winner 67 = .ok (.iload_n 3, 1) := dk_29 (dk_at dksX5_winner_2 21 rfl rfl)
theorem dX5_winner_68 : decode cX5_winner 68 = .ok (.goto 4, 3) := dk_167 0 4 (dk_at dksX5_winner_3 0 rfl rfl)
theorem dX5_winner_71 : decode cX5_winner 71 = .ok (.iload_n 2, 1) := dk_28 (dk_at dksX5_winner_3 3 rfl rfl)
theorem dX5_winner_72 : decode cX5_winner 72 = .ok (.istore_n 2, 1) := dk_61 (dk_at dksX5_winner_3 4 rfl rfl)
theorem dX5_winner_73 : decode cX5_winner 73 = .ok (.iinc 3 1, 3) := dk_132 3 1 (dk_at dksX5_winner_3 5 rfl rfl)
theorem dX5_winner_76 : decode cX5_winner 76 = .ok (.goto (-46), 3) := dk_167 255 210 (dk_at dksX5_winner_3 8 rfl rfl)
theorem dX5_winner_79 : decode cX5_winner 79 = .ok (.iload_n 2, 1) := dk_28 (dk_at dksX5_winner_3 11 rfl rfl)
theorem dX5_winner_80 : decode cX5_winner 80 = .ok (.ifCond .ge 11, 3) := dk_156 0 11 (dk_at dksX5_winner_3 12 rfl rfl)
theorem dX5_winner_83 : decode cX5_winner 83 = .ok (.aload_n 0, 1) := dk_42 (dk_at dksX5_winner_3 15 rfl rfl)
theorem dX5_winner_84 : decode cX5_winner 84 = .ok (.iconst 3, 1) := dk_6 (dk_at dksX5_winner_3 16 rfl rfl)
theorem dX5_winner_85 : decode cX5_winner 85 = .ok (.invokevirtual 172, 3) := dk_182 0 172 (dk_at dksX5_winner_3 17 rfl rfl)
theorem dX5_winner_88 : decode cX5_winner 88 = .ok (.goto 4, 3) := dk_167 0 4 (dk_at dksX5_winner_3 20 rfl rfl)
theorem dX5_winner_91 : decode cX5_winner 91 = .ok (.iload_n 2, 1) := dk_28 (dk_at dksX5_winner_3 23 rfl rfl)
theorem dX5_winner_92 : decode cX5_winner 92 = .ok (.ireturn, 1) := dk_172 (dk_at dksX5_winner_4 0 rfl rfl)
abbrev rm_X5_winner : Room := { frames := 4, cells := 0, slots := 0, locals := 87 }
def w_X5_winner_64 (P : Int32 → AH → Prop) (Z30 : Int32 → Int32 → AH → Prop) (x0 : Option Nat) (x2 : Int32) (x3 : Int32) (t0 : Int32) (t1 : Int32) (h : AH) : Prop :=
  ((t1 ≤ t0 →
    Z30 x2 (x3 + 1) h) ∧
   (¬ t1 ≤ t0 →
    Z30 x3 (x3 + 1) h))
def w_X5_winner_30 (P : Int32 → AH → Prop) (x0 : Option Nat) (x2 : Int32) (x3 : Int32) (h : AH) : Prop :=
  ∀ Z30 : Int32 → Int32 → AH → Prop, (∀ x2 x3 h, (
      g_i h x0 4 8 fun y32 =>
      ((y32 ≤ x3 →
        ((0 ≤ x2 →
          P x2 h) ∧
         (¬ 0 ≤ x2 →
          is_c h x0 [4] (
          w_X5_fails x0 3 h (fun y85 h85 =>
          P y85 h85))))) ∧
       (¬ y32 ≤ x3 →
        is_c h x0 [4] (
        w_X5_isSeen x0 x3 h (fun y40 h40 =>
        ((y40 = 0 →
          Z30 x2 (x3 + 1) h40) ∧
         (¬ y40 = 0 →
          is_c h40 x0 [4] (
          w_X5_votes x0 x3 h40 (fun y48 h48 =>
          ((0 ≤ x2 →
            is_c h48 x0 [4] (
            w_X5_votes x0 x2 h48 (fun y61 h61 =>
            w_X5_winner_64 P Z30 x0 x2 x3 y61 y48 h61))) ∧
           (¬ 0 ≤ x2 →
            w_X5_winner_64 P Z30 x0 x2 x3 0 y48 h48)))))))))))
      → Z30 x2 x3 h) → Z30 x2 x3 h
def w_X5_winner (a0 : Option Nat) (a1 : Int32) (h : AH) (P : Int32 → AH → Prop) : Prop :=
  is_c h a0 [4] (
  w_X5_isNobody a0 a1 h (fun y2 h2 =>
  ((y2 = 0 →
    g_q h2 a0 4 21 fun y11 =>
    l_i h2 y11 0 92 fun y16 =>
    ((y16 = 0 →
      is_c h2 a0 [4] (
      w_X5_fails a0 2 h2 (fun y22 h22 =>
      P y22 h22))) ∧
     (¬ y16 = 0 →
      w_X5_winner_30 P a0 (-1) 0 h2))) ∧
   (¬ y2 = 0 →
    P 0 h2))))
theorem wk_X5_winner_64 {x : CX} (X : Ok x cX5_winner RX5 rm_X5_winner 4) (er : xrt x = (Option.some Jvm.ClassFile.FieldType.int)) (en : xnm x = yX5_winner.name) {P : Int32 → AH → Prop} (hQ : xr_i x P) (Z30 : Int32 → Int32 → AH → Prop) (x0 : Option Nat) (x2 : Int32) (x3 : Int32) (t0 : Int32) (t1 : Int32) (h : AH) (hZ30 : ∀ x2 x3 h, Z30 x2 x3 h → J x h 0 0 30 [(0, vR x0), (2, vI x2), (3, vI x3)] []) (hw : w_X5_winner_64 P Z30 x0 x2 x3 t0 t1 h) : J x h 0 0 64 [(0, vR x0), (2, vI x2), (3, vI x3)] [vI t0, vI t1] := by
  refine j_icmp_le X (pc := 64) 71 dX5_winner_64 (by decide) hw (fun hw => ?_) (fun hw => ?_)
  · refine j_iload_n X (pc := 71) 1 dX5_winner_71 rfl rfl ?_
    refine j_istore_n X (pc := 72) [(2, vI x2), (0, vR x0), (3, vI x3)] dX5_winner_72 rfl (Nat.le_of_ble_eq_true rfl) rfl ?_
    refine j_iinc X (pc := 73) 2 (x3 + 1) [(3, vI (x3 + 1)), (2, vI x2), (0, vR x0)] dX5_winner_73 rfl rfl (Nat.le_of_ble_eq_true rfl) rfl ?_
    refine j_goto X (pc := 76) 30 dX5_winner_76 (by decide) ?_
    refine j_lv [(0, vR x0), (2, vI x2), (3, vI (x3 + 1))] [2, 1, 0] rfl ?_
    refine j_cs (u' := 0) (v' := 0) (Nat.le_of_ble_eq_true rfl) (Nat.le_of_ble_eq_true rfl) ?_
    exact hZ30 x2 (x3 + 1) h hw
  · refine j_iload_n X (pc := 67) 2 dX5_winner_67 rfl rfl ?_
    refine j_goto X (pc := 68) 72 dX5_winner_68 (by decide) ?_
    refine j_istore_n X (pc := 72) [(2, vI x3), (0, vR x0), (3, vI x3)] dX5_winner_72 rfl (Nat.le_of_ble_eq_true rfl) rfl ?_
    refine j_iinc X (pc := 73) 2 (x3 + 1) [(3, vI (x3 + 1)), (2, vI x3), (0, vR x0)] dX5_winner_73 rfl rfl (Nat.le_of_ble_eq_true rfl) rfl ?_
    refine j_goto X (pc := 76) 30 dX5_winner_76 (by decide) ?_
    refine j_lv [(0, vR x0), (2, vI x3), (3, vI (x3 + 1))] [2, 1, 0] rfl ?_
    refine j_cs (u' := 0) (v' := 0) (Nat.le_of_ble_eq_true rfl) (Nat.le_of_ble_eq_true rfl) ?_
    exact hZ30 x3 (x3 + 1) h hw
theorem wk_X5_winner_30 {x : CX} (X : Ok x cX5_winner RX5 rm_X5_winner 4) (er : xrt x = (Option.some Jvm.ClassFile.FieldType.int)) (en : xnm x = yX5_winner.name) {P : Int32 → AH → Prop} (hQ : xr_i x P) (x0 : Option Nat) (x2 : Int32) (x3 : Int32) (h : AH) (hw : w_X5_winner_30 P x0 x2 x3 h) : J x h 0 0 30 [(0, vR x0), (2, vI x2), (3, vI x3)] [] := by
  refine hw (fun x2 x3 h => J x h 0 0 30 [(0, vR x0), (2, vI x2), (3, vI x3)] []) (fun x2 x3 h hw => ?_)
  refine j_iload_n X (pc := 30) 2 dX5_winner_30 rfl rfl ?_
  refine j_aload_n X (pc := 31) 0 dX5_winner_31 rfl rfl ?_
  refine j_geti (ci := 4) X (pc := 32) in_X5 rfl (by decide) 8 (by decide) q1880 (Or.inl rfl) dX5_winner_32 hw (fun y32 hw => ?_)
  refine j_icmp_ge X (pc := 35) 79 dX5_winner_35 (by decide) hw (fun hw => ?_) (fun hw => ?_)
  · refine j_iload_n X (pc := 79) 1 dX5_winner_79 rfl rfl ?_
    refine j_if_ge X (pc := 80) 91 dX5_winner_80 (by decide) hw (fun hw => ?_) (fun hw => ?_)
    · refine j_iload_n X (pc := 91) 1 dX5_winner_91 rfl rfl ?_
      exact j_iret X (pc := 92) hQ er (Nat.le_of_ble_eq_true rfl) (Nat.le_of_ble_eq_true rfl) dX5_winner_92 hw
    · refine j_aload_n X (pc := 83) 0 dX5_winner_83 rfl rfl ?_
      refine j_iconst X (pc := 84) 3 dX5_winner_84 (by decide) ?_
      obtain ⟨b9, c9, f9, hr9, ho9, hc9, hw⟩ := hw
      obtain rfl := List.mem_singleton.mp hc9
      refine j_calli (j_runV (n8 := 1) (As := [vI 3]) (rest := []) X (pc := 85) hr9 (met_X5_fails (xl x) X.hl (xG x) h x0 3 _ hw) ho9 (by decide) rfl q1988 q1990 qs33 q78 q1991 (by decide +kernel) dX5_winner_85 rfl ⟨Nat.le_of_ble_eq_true rfl, Nat.le_of_ble_eq_true rfl⟩ (Nat.le_of_ble_eq_true rfl) ⟨Nat.le_of_ble_eq_true rfl, Nat.le_of_ble_eq_true rfl⟩) (fun y85 h85 hw => ?_)
      refine j_goto X (pc := 88) 92 dX5_winner_88 (by decide) ?_
      exact j_iret X (pc := 92) hQ er (Nat.le_of_ble_eq_true rfl) (Nat.le_of_ble_eq_true rfl) dX5_winner_92 hw
  · refine j_aload_n X (pc := 38) 0 dX5_winner_38 rfl rfl ?_
    refine j_iload_n X (pc := 39) 2 dX5_winner_39 rfl rfl ?_
    obtain ⟨b9, c9, f9, hr9, ho9, hc9, hw⟩ := hw
    obtain rfl := List.mem_singleton.mp hc9
    refine j_calli (j_runV (n8 := 1) (As := [vI x3]) (rest := []) X (pc := 40) hr9 (met_X5_isSeen (xl x) X.hl (xG x) h x0 x3 _ hw) ho9 (by decide) rfl q2012 q2014 qs39 q78 q2015 (by decide +kernel) dX5_winner_40 rfl ⟨Nat.le_of_ble_eq_true rfl, Nat.le_of_ble_eq_true rfl⟩ (Nat.le_of_ble_eq_true rfl) ⟨Nat.le_of_ble_eq_true rfl, Nat.le_of_ble_eq_true rfl⟩) (fun y40 h40 hw => ?_)
    refine j_if_eq X (pc := 43) 71 dX5_winner_43 (by decide) hw (fun hw => ?_) (fun hw => ?_)
    · refine j_iload_n X (pc := 71) 1 dX5_winner_71 rfl rfl ?_
      refine j_istore_n X (pc := 72) [(2, vI x2), (0, vR x0), (3, vI x3)] dX5_winner_72 rfl (Nat.le_of_ble_eq_true rfl) rfl ?_
      refine j_iinc X (pc := 73) 2 (x3 + 1) [(3, vI (x3 + 1)), (2, vI x2), (0, vR x0)] dX5_winner_73 rfl rfl (Nat.le_of_ble_eq_true rfl) rfl ?_
      refine j_goto X (pc := 76) 30 dX5_winner_76 (by decide) ?_
      refine j_lv [(0, vR x0), (2, vI x2), (3, vI (x3 + 1))] [2, 1, 0] rfl ?_
      refine j_cs (u' := 0) (v' := 0) (Nat.le_of_ble_eq_true rfl) (Nat.le_of_ble_eq_true rfl) ?_
      exact hw
    · refine j_aload_n X (pc := 46) 0 dX5_winner_46 rfl rfl ?_
      refine j_iload_n X (pc := 47) 2 dX5_winner_47 rfl rfl ?_
      obtain ⟨b9, c9, f9, hr9, ho9, hc9, hw⟩ := hw
      obtain rfl := List.mem_singleton.mp hc9
      refine j_calli (j_runV (n8 := 1) (As := [vI x3]) (rest := []) X (pc := 48) hr9 (met_X5_votes (xl x) X.hl (xG x) h40 x0 x3 _ hw) ho9 (by decide) rfl q2284 q2286 qs67 q78 q2287 (by decide +kernel) dX5_winner_48 rfl ⟨Nat.le_of_ble_eq_true rfl, Nat.le_of_ble_eq_true rfl⟩ (Nat.le_of_ble_eq_true rfl) ⟨Nat.le_of_ble_eq_true rfl, Nat.le_of_ble_eq_true rfl⟩) (fun y48 h48 hw => ?_)
      refine j_iload_n X (pc := 51) 1 dX5_winner_51 rfl rfl ?_
      refine j_if_ge X (pc := 52) 59 dX5_winner_52 (by decide) hw (fun hw => ?_) (fun hw => ?_)
      · refine j_aload_n X (pc := 59) 0 dX5_winner_59 rfl rfl ?_
        refine j_iload_n X (pc := 60) 1 dX5_winner_60 rfl rfl ?_
        obtain ⟨b9, c9, f9, hr9, ho9, hc9, hw⟩ := hw
        obtain rfl := List.mem_singleton.mp hc9
        refine j_calli (j_runV (n8 := 1) (As := [vI x2]) (rest := [vI y48]) X (pc := 61) hr9 (met_X5_votes (xl x) X.hl (xG x) h48 x0 x2 _ hw) ho9 (by decide) rfl q2284 q2286 qs67 q78 q2287 (by decide +kernel) dX5_winner_61 rfl ⟨Nat.le_of_ble_eq_true rfl, Nat.le_of_ble_eq_true rfl⟩ (Nat.le_of_ble_eq_true rfl) ⟨Nat.le_of_ble_eq_true rfl, Nat.le_of_ble_eq_true rfl⟩) (fun y61 h61 hw => ?_)
        refine j_cs (u' := 0) (v' := 0) (Nat.le_of_ble_eq_true rfl) (Nat.le_of_ble_eq_true rfl) ?_
        exact wk_X5_winner_64 X er en hQ _ x0 x2 x3 y61 y48 h61 (fun x2_ x3_ h_ hz => hz) hw
      · refine j_iconst X (pc := 55) 0 dX5_winner_55 (by decide) ?_
        refine j_goto X (pc := 56) 64 dX5_winner_56 (by decide) ?_
        refine j_cs (u' := 0) (v' := 0) (Nat.le_of_ble_eq_true rfl) (Nat.le_of_ble_eq_true rfl) ?_
        exact wk_X5_winner_64 X er en hQ _ x0 x2 x3 0 y48 h48 (fun x2_ x3_ h_ hz => hz) hw
theorem met_X5_winner (l : Launch) (hlt : l.stackTraces = false) (G : GG) (h : AH) (a0 : Option Nat) (a1 : Int32) (P : Int32 → AH → Prop) (hw : w_X5_winner a0 a1 h P) : ct_i l yX5_winner (ws_ yX5_winner cX5_winner 4 (Option.some Jvm.ClassFile.FieldType.int)) rm_X5_winner G h [vR a0, vI a1] P := by
  refine j_starti hlt [(0, vR a0), (1, vI a1)] (plainFor_of_name (by decide)) rfl rfl (fun x X eG er en hQ => ?_)
  subst eG
  refine j_aload_n X (pc := 0) 0 dX5_winner_0 rfl rfl ?_
  refine j_iload_n X (pc := 1) 1 dX5_winner_1 rfl rfl ?_
  obtain ⟨b9, c9, f9, hr9, ho9, hc9, hw⟩ := hw
  obtain rfl := List.mem_singleton.mp hc9
  refine j_calli (j_runV (n8 := 1) (As := [vI a1]) (rest := []) X (pc := 2) hr9 (met_X5_isNobody (xl x) X.hl (xG x) h a0 a1 _ hw) ho9 (by decide) rfl q2170 q2172 qs58 q78 q2173 (by decide +kernel) dX5_winner_2 rfl ⟨Nat.le_of_ble_eq_true rfl, Nat.le_of_ble_eq_true rfl⟩ (Nat.le_of_ble_eq_true rfl) ⟨Nat.le_of_ble_eq_true rfl, Nat.le_of_ble_eq_true rfl⟩) (fun y2 h2 hw => ?_)
  refine j_if_eq X (pc := 5) 10 dX5_winner_5 (by decide) hw (fun hw => ?_) (fun hw => ?_)
  · refine j_aload_n X (pc := 10) 0 dX5_winner_10 rfl rfl ?_
    refine j_getq (ci := 4) X (pc := 11) in_X5 rfl (by decide) 21 (by decide) q1893 (Or.inl rfl) dX5_winner_11 hw (fun y11 hw => ?_)
    refine j_bipush X (pc := 14) 92 dX5_winner_14 (by decide) ?_
    refine j_iald X (pc := 16) 0 rfl dX5_winner_16 hw (fun y16 hw => ?_)
    refine j_if_ne X (pc := 17) 26 dX5_winner_17 (by decide) hw (fun hw => ?_) (fun hw => ?_)
    · refine j_aload_n X (pc := 20) 0 dX5_winner_20 rfl rfl ?_
      refine j_iconst X (pc := 21) 2 dX5_winner_21 (by decide) ?_
      obtain ⟨b9, c9, f9, hr9, ho9, hc9, hw⟩ := hw
      obtain rfl := List.mem_singleton.mp hc9
      refine j_calli (j_runV (n8 := 1) (As := [vI 2]) (rest := []) X (pc := 22) hr9 (met_X5_fails (xl x) X.hl (xG x) h2 a0 2 _ hw) ho9 (by decide) rfl q1988 q1990 qs33 q78 q1991 (by decide +kernel) dX5_winner_22 rfl ⟨Nat.le_of_ble_eq_true rfl, Nat.le_of_ble_eq_true rfl⟩ (Nat.le_of_ble_eq_true rfl) ⟨Nat.le_of_ble_eq_true rfl, Nat.le_of_ble_eq_true rfl⟩) (fun y22 h22 hw => ?_)
      exact j_iret X (pc := 25) hQ er (Nat.le_of_ble_eq_true rfl) (Nat.le_of_ble_eq_true rfl) dX5_winner_25 hw
    · refine j_iconst X (pc := 26) (-1) dX5_winner_26 (by decide) ?_
      refine j_istore_n X (pc := 27) [(2, vI (-1)), (0, vR a0), (1, vI a1)] dX5_winner_27 rfl (Nat.le_of_ble_eq_true rfl) rfl ?_
      refine j_iconst X (pc := 28) 0 dX5_winner_28 (by decide) ?_
      refine j_istore_n X (pc := 29) [(3, vI 0), (2, vI (-1)), (0, vR a0), (1, vI a1)] dX5_winner_29 rfl (Nat.le_of_ble_eq_true rfl) rfl ?_
      refine j_lv [(0, vR a0), (2, vI (-1)), (3, vI 0)] [2, 1, 0] rfl ?_
      refine j_cs (u' := 0) (v' := 0) (Nat.le_of_ble_eq_true rfl) (Nat.le_of_ble_eq_true rfl) ?_
      exact wk_X5_winner_30 X er en hQ a0 (-1) 0 h2 hw
  · refine j_iconst X (pc := 8) 0 dX5_winner_8 (by decide) ?_
    exact j_iret X (pc := 9) hQ er (Nat.le_of_ble_eq_true rfl) (Nat.le_of_ble_eq_true rfl) dX5_winner_9 hw
abbrev cX3_lambda_outcome_0 : ByteArray := prog_3_method_20_code
def yX3_lambda_outcome_0 : MethodName := ⟨RX3, "lambda$outcome$0", "(LPlugboard$Shape;)I"⟩
theorem dX3_lambda_outcome_0_0 : decode cX3_lambda_outcome_0 0 = .ok (.aload_n 0, 1) := by decide +kernel
theorem dX3_lambda_outcome_0_1 : decode cX3_lambda_outcome_0 1 = .ok (.getfield 103, 3) := by decide +kernel
theorem dX3_lambda_outcome_0_4 : decode cX3_lambda_outcome_0 4 = .ok (.ireturn, 1) := by decide +kernel
abbrev rm_X3_lambda_outcome_0 : Room := { frames := 0, cells := 0, slots := 0, locals := 0 }
def w_X3_lambda_outcome_0 (a0 : Option Nat) (h : AH) (P : Int32 → AH → Prop) : Prop :=
  g_iS h a0 0 fun y1 =>
  P y1 h
theorem met_X3_lambda_outcome_0 (l : Launch) (hlt : l.stackTraces = false) (G : GG) (h : AH) (a0 : Option Nat) (P : Int32 → AH → Prop) (hw : w_X3_lambda_outcome_0 a0 h P) : ct_i l yX3_lambda_outcome_0 (ws_ yX3_lambda_outcome_0 cX3_lambda_outcome_0 1 (Option.some Jvm.ClassFile.FieldType.int)) rm_X3_lambda_outcome_0 G h [vR a0] P := by
  refine j_starti hlt [(0, vR a0)] (plainFor_of_name (by decide)) rfl rfl (fun x X eG er en hQ => ?_)
  subst eG
  refine j_aload_n X (pc := 0) 0 dX3_lambda_outcome_0_0 rfl rfl ?_
  refine j_getiSN X (pc := 1) 0 (by decide) q577 dX3_lambda_outcome_0_1 hw (fun y1 hw => ?_)
  exact j_iret X (pc := 4) hQ er (Nat.le_of_ble_eq_true rfl) (Nat.le_of_ble_eq_true rfl) dX3_lambda_outcome_0_4 hw
abbrev cX3_lambda_outcome_1 : ByteArray := prog_3_method_19_code
def yX3_lambda_outcome_1 : MethodName := ⟨RX3, "lambda$outcome$1", "(LPlugboard$Shape;)I"⟩
def dkwX3_lambda_outcome_1_0 : List UInt8 := [42, 43, 182, 0, 123, 172]
abbrev dktX3_lambda_outcome_1_0 : List UInt8 := dkwX3_lambda_outcome_1_0 ++ []
theorem dksX3_lambda_outcome_1_0 : cX3_lambda_outcome_1.data.toList.drop 0 = dktX3_lambda_outcome_1_0 := by decide +kernel
theorem dX3_lambda_outcome_1_0 : decode cX3_lambda_outcome_1 0 = .ok (.aload_n 0, 1) := dk_42 (dk_at dksX3_lambda_outcome_1_0 0 rfl rfl)
theorem dX3_lambda_outcome_1_1 : decode cX3_lambda_outcome_1 1 = .ok (.aload_n 1, 1) := dk_43 (dk_at dksX3_lambda_outcome_1_0 1 rfl rfl)
theorem dX3_lambda_outcome_1_2 : decode cX3_lambda_outcome_1 2 = .ok (.invokevirtual 123, 3) := dk_182 0 123 (dk_at dksX3_lambda_outcome_1_0 2 rfl rfl)
theorem dX3_lambda_outcome_1_5 : decode cX3_lambda_outcome_1 5 = .ok (.ireturn, 1) := dk_172 (dk_at dksX3_lambda_outcome_1_0 5 rfl rfl)
abbrev rm_X3_lambda_outcome_1 : Room := { frames := 1, cells := 0, slots := 0, locals := 21 }
def w_X3_lambda_outcome_1 (a0 : Option Nat) (a1 : Option Nat) (h : AH) (P : Int32 → AH → Prop) : Prop :=
  is_c h a0 [2] (
  w_X3_columnOf a0 a1 h (fun y2 h2 =>
  P y2 h2))
theorem met_X3_lambda_outcome_1 (l : Launch) (hlt : l.stackTraces = false) (G : GG) (h : AH) (a0 : Option Nat) (a1 : Option Nat) (P : Int32 → AH → Prop) (hw : w_X3_lambda_outcome_1 a0 a1 h P) : ct_i l yX3_lambda_outcome_1 (ws_ yX3_lambda_outcome_1 cX3_lambda_outcome_1 2 (Option.some Jvm.ClassFile.FieldType.int)) rm_X3_lambda_outcome_1 G h [vR a0, vR a1] P := by
  refine j_starti hlt [(0, vR a0), (1, vR a1)] (plainFor_of_name (by decide)) rfl rfl (fun x X eG er en hQ => ?_)
  subst eG
  refine j_aload_n X (pc := 0) 0 dX3_lambda_outcome_1_0 rfl rfl ?_
  refine j_aload_n X (pc := 1) 1 dX3_lambda_outcome_1_1 rfl rfl ?_
  obtain ⟨b9, c9, f9, hr9, ho9, hc9, hw⟩ := hw
  obtain rfl := List.mem_singleton.mp hc9
  refine j_calli (j_runV (n8 := 1) (As := [vR a1]) (rest := []) X (pc := 2) hr9 (met_X3_columnOf (xl x) X.hl (xG x) h a0 a1 _ hw) ho9 (by decide) rfl q1150 q1116 q1117 q76 q1118 (by decide +kernel) dX3_lambda_outcome_1_2 rfl ⟨Nat.le_of_ble_eq_true rfl, Nat.le_of_ble_eq_true rfl⟩ (Nat.le_of_ble_eq_true rfl) ⟨Nat.le_of_ble_eq_true rfl, Nat.le_of_ble_eq_true rfl⟩) (fun y2 h2 hw => ?_)
  exact j_iret X (pc := 5) hQ er (Nat.le_of_ble_eq_true rfl) (Nat.le_of_ble_eq_true rfl) dX3_lambda_outcome_1_5 hw
abbrev cX3_lambda_outcome_2 : ByteArray := prog_3_method_18_code
def yX3_lambda_outcome_2 : MethodName := ⟨RX3, "lambda$outcome$2", "(LPlugboard$Shape;)I"⟩
def dkwX3_lambda_outcome_2_0 : List UInt8 := [42, 43, 182, 0, 129, 172]
abbrev dktX3_lambda_outcome_2_0 : List UInt8 := dkwX3_lambda_outcome_2_0 ++ []
theorem dksX3_lambda_outcome_2_0 : cX3_lambda_outcome_2.data.toList.drop 0 = dktX3_lambda_outcome_2_0 := by decide +kernel
theorem dX3_lambda_outcome_2_0 : decode cX3_lambda_outcome_2 0 = .ok (.aload_n 0, 1) := dk_42 (dk_at dksX3_lambda_outcome_2_0 0 rfl rfl)
theorem dX3_lambda_outcome_2_1 : decode cX3_lambda_outcome_2 1 = .ok (.aload_n 1, 1) := dk_43 (dk_at dksX3_lambda_outcome_2_0 1 rfl rfl)
theorem dX3_lambda_outcome_2_2 : decode cX3_lambda_outcome_2 2 = .ok (.invokevirtual 129, 3) := dk_182 0 129 (dk_at dksX3_lambda_outcome_2_0 2 rfl rfl)
theorem dX3_lambda_outcome_2_5 : decode cX3_lambda_outcome_2 5 = .ok (.ireturn, 1) := dk_172 (dk_at dksX3_lambda_outcome_2_0 5 rfl rfl)
abbrev rm_X3_lambda_outcome_2 : Room := { frames := 1, cells := 0, slots := 0, locals := 21 }
def w_X3_lambda_outcome_2 (a0 : Option Nat) (a1 : Option Nat) (h : AH) (P : Int32 → AH → Prop) : Prop :=
  is_c h a0 [2] (
  w_X3_rowOf a0 a1 h (fun y2 h2 =>
  P y2 h2))
theorem met_X3_lambda_outcome_2 (l : Launch) (hlt : l.stackTraces = false) (G : GG) (h : AH) (a0 : Option Nat) (a1 : Option Nat) (P : Int32 → AH → Prop) (hw : w_X3_lambda_outcome_2 a0 a1 h P) : ct_i l yX3_lambda_outcome_2 (ws_ yX3_lambda_outcome_2 cX3_lambda_outcome_2 2 (Option.some Jvm.ClassFile.FieldType.int)) rm_X3_lambda_outcome_2 G h [vR a0, vR a1] P := by
  refine j_starti hlt [(0, vR a0), (1, vR a1)] (plainFor_of_name (by decide)) rfl rfl (fun x X eG er en hQ => ?_)
  subst eG
  refine j_aload_n X (pc := 0) 0 dX3_lambda_outcome_2_0 rfl rfl ?_
  refine j_aload_n X (pc := 1) 1 dX3_lambda_outcome_2_1 rfl rfl ?_
  obtain ⟨b9, c9, f9, hr9, ho9, hc9, hw⟩ := hw
  obtain rfl := List.mem_singleton.mp hc9
  refine j_calli (j_runV (n8 := 1) (As := [vR a1]) (rest := []) X (pc := 2) hr9 (met_X3_rowOf (xl x) X.hl (xG x) h a0 a1 _ hw) ho9 (by decide) rfl q1151 q1120 q1121 q76 q1122 (by decide +kernel) dX3_lambda_outcome_2_2 rfl ⟨Nat.le_of_ble_eq_true rfl, Nat.le_of_ble_eq_true rfl⟩ (Nat.le_of_ble_eq_true rfl) ⟨Nat.le_of_ble_eq_true rfl, Nat.le_of_ble_eq_true rfl⟩) (fun y2 h2 hw => ?_)
  exact j_iret X (pc := 5) hQ er (Nat.le_of_ble_eq_true rfl) (Nat.le_of_ble_eq_true rfl) dX3_lambda_outcome_2_5 hw
abbrev cX3_lambda_outcome_3 : ByteArray := prog_3_method_17_code
def yX3_lambda_outcome_3 : MethodName := ⟨RX3, "lambda$outcome$3", "(LPlugboard$Shape;)I"⟩
def dkwX3_lambda_outcome_3_0 : List UInt8 := [42, 43, 182, 0, 186, 172]
abbrev dktX3_lambda_outcome_3_0 : List UInt8 := dkwX3_lambda_outcome_3_0 ++ []
theorem dksX3_lambda_outcome_3_0 : cX3_lambda_outcome_3.data.toList.drop 0 = dktX3_lambda_outcome_3_0 := by decide +kernel
theorem dX3_lambda_outcome_3_0 : decode cX3_lambda_outcome_3 0 = .ok (.aload_n 0, 1) := dk_42 (dk_at dksX3_lambda_outcome_3_0 0 rfl rfl)
theorem dX3_lambda_outcome_3_1 : decode cX3_lambda_outcome_3 1 = .ok (.aload_n 1, 1) := dk_43 (dk_at dksX3_lambda_outcome_3_0 1 rfl rfl)
theorem dX3_lambda_outcome_3_2 : decode cX3_lambda_outcome_3 2 = .ok (.invokevirtual 186, 3) := dk_182 0 186 (dk_at dksX3_lambda_outcome_3_0 2 rfl rfl)
theorem dX3_lambda_outcome_3_5 : decode cX3_lambda_outcome_3 5 = .ok (.ireturn, 1) := dk_172 (dk_at dksX3_lambda_outcome_3_0 5 rfl rfl)
theorem q1637 : (Jvm.Cond.methodLink "Plugboard$Board" (186 : Nat) ({ cls := "Plugboard$Board", name := "rankOf", desc := "(LPlugboard$Shape;)I" } : Jvm.MethodName)) ∈ lw_all := lw_g (lw_at lw_m7 127 rfl) rfl
abbrev rm_X3_lambda_outcome_3 : Room := { frames := 4, cells := 0, slots := 0, locals := 87 }
def w_X3_lambda_outcome_3 (a0 : Option Nat) (a1 : Option Nat) (h : AH) (P : Int32 → AH → Prop) : Prop :=
  is_c h a0 [2] (
  w_X3_rankOf a0 a1 h (fun y2 h2 =>
  P y2 h2))
theorem met_X3_lambda_outcome_3 (l : Launch) (hlt : l.stackTraces = false) (G : GG) (h : AH) (a0 : Option Nat) (a1 : Option Nat) (P : Int32 → AH → Prop) (hw : w_X3_lambda_outcome_3 a0 a1 h P) : ct_i l yX3_lambda_outcome_3 (ws_ yX3_lambda_outcome_3 cX3_lambda_outcome_3 2 (Option.some Jvm.ClassFile.FieldType.int)) rm_X3_lambda_outcome_3 G h [vR a0, vR a1] P := by
  refine j_starti hlt [(0, vR a0), (1, vR a1)] (plainFor_of_name (by decide)) rfl rfl (fun x X eG er en hQ => ?_)
  subst eG
  refine j_aload_n X (pc := 0) 0 dX3_lambda_outcome_3_0 rfl rfl ?_
  refine j_aload_n X (pc := 1) 1 dX3_lambda_outcome_3_1 rfl rfl ?_
  obtain ⟨b9, c9, f9, hr9, ho9, hc9, hw⟩ := hw
  obtain rfl := List.mem_singleton.mp hc9
  refine j_calli (j_runV (n8 := 1) (As := [vR a1]) (rest := []) X (pc := 2) hr9 (met_X3_rankOf (xl x) X.hl (xG x) h a0 a1 _ hw) ho9 (by decide) rfl q1637 q1194 q1195 q76 q1196 (by decide +kernel) dX3_lambda_outcome_3_2 rfl ⟨Nat.le_of_ble_eq_true rfl, Nat.le_of_ble_eq_true rfl⟩ (Nat.le_of_ble_eq_true rfl) ⟨Nat.le_of_ble_eq_true rfl, Nat.le_of_ble_eq_true rfl⟩) (fun y2 h2 hw => ?_)
  exact j_iret X (pc := 5) hQ er (Nat.le_of_ble_eq_true rfl) (Nat.le_of_ble_eq_true rfl) dX3_lambda_outcome_3_5 hw
def lm_of (h : AH) (r a : Option Nat) (K : Int32 → AH → Prop) : Prop := ∃ b ci fs, r = some b ∧ h.1 b = some (.inr (ci, fs)) ∧ ((ci = 20 ∧ w_X3_lambda_outcome_0 a h K) ∨ ∃ y, fs = [va_rf y] ∧ ((ci = 21 ∧ w_X3_lambda_outcome_1 y a h K) ∨ (ci = 22 ∧ w_X3_lambda_outcome_2 y a h K) ∨ (ci = 23 ∧ w_X3_lambda_outcome_3 y a h K)))
theorem j_lmOf {x : CX} {cc : ByteArray} {own : String} {rm : Room} {n9 : Nat} (X : Ok x cc own rm n9) {h : AH} {u v pc : Nat} {lv : List (Nat × TV)} {rest : List TV} {index count : Nat} {r a : Option Nat} {K : Int32 → AH → Prop} (q1 : Cond.methodLink own index ⟨"Plugboard$Asked", "of", "(LPlugboard$Shape;)I"⟩ ∈ lw_all) (d : decode cc pc = .ok (.invokeinterface index count, 5)) (hR : 6 ≤ rm.frames ∧ 160 ≤ rm.locals) (hW : (rest.map tvc).sum ≤ 8) (hu : u ≤ rm.cells) (hv : v ≤ rm.slots) (hw : lm_of h r a K) (kk : ∀ y h', K y h' → J x h' u v (pc + 5) lv (vI y :: rest)) : J x h u v pc lv (vR a :: vR r :: rest) := by
  sorry
abbrev cX3_outcome : ByteArray := prog_3_method_16_code
def yX3_outcome : MethodName := ⟨RX3, "outcome", "()I"⟩
def dkwX3_outcome_5 : List UInt8 := [132, 7, 1, 167, 255, 219, 167, 255, 185, 28, 172]
abbrev dktX3_outcome_5 : List UInt8 := dkwX3_outcome_5 ++ []
def dkwX3_outcome_4 : List UInt8 := [50, 58, 8, 16, 31, 28, 104, 25, 8, 25, 4, 185, 0, 183, 2, 0, 96, 4, 96, 18, 185, 112, 61]
abbrev dktX3_outcome_4 : List UInt8 := dkwX3_outcome_4 ++ dktX3_outcome_5
def dkwX3_outcome_3 : List UInt8 := [58, 4, 43, 58, 5, 25, 5, 190, 54, 6, 3, 54, 7, 21, 7, 21, 6, 162, 0, 36, 25, 5, 21, 7]
abbrev dktX3_outcome_3 : List UInt8 := dkwX3_outcome_3 ++ dktX3_outcome_4
def dkwX3_outcome_2 : List UInt8 := [185, 0, 167, 1, 0, 78, 45, 185, 0, 173, 1, 0, 153, 0, 68, 45, 185, 0, 179, 1, 0, 192, 0, 104]
abbrev dktX3_outcome_2 : List UInt8 := dkwX3_outcome_2 ++ dktX3_outcome_3
def dkwX3_outcome_1 : List UInt8 := [186, 0, 161, 0, 0, 83, 89, 6, 42, 186, 0, 162, 0, 0, 83, 76, 3, 61, 42, 182, 0, 163]
abbrev dktX3_outcome_1 : List UInt8 := dkwX3_outcome_1 ++ dktX3_outcome_2
def dkwX3_outcome_0 : List UInt8 := [7, 189, 0, 152, 89, 3, 186, 0, 154, 0, 0, 83, 89, 4, 42, 186, 0, 158, 0, 0, 83, 89, 5, 42]
abbrev dktX3_outcome_0 : List UInt8 := dkwX3_outcome_0 ++ dktX3_outcome_1
theorem dksX3_outcome_0 : cX3_outcome.data.toList.drop 0 = dktX3_outcome_0 := by decide +kernel
theorem dksX3_outcome_1 : cX3_outcome.data.toList.drop 24 = dktX3_outcome_1 := dk_seg dksX3_outcome_0 24 rfl rfl
theorem dksX3_outcome_2 : cX3_outcome.data.toList.drop 46 = dktX3_outcome_2 := dk_seg dksX3_outcome_1 22 rfl rfl
theorem dksX3_outcome_3 : cX3_outcome.data.toList.drop 70 = dktX3_outcome_3 := dk_seg dksX3_outcome_2 24 rfl rfl
theorem dksX3_outcome_4 : cX3_outcome.data.toList.drop 94 = dktX3_outcome_4 := dk_seg dksX3_outcome_3 24 rfl rfl
theorem dksX3_outcome_5 : cX3_outcome.data.toList.drop 117 = dktX3_outcome_5 := dk_seg dksX3_outcome_4 23 rfl rfl
theorem dX3_outcome_0 : decode cX3_outcome 0 = .ok (.iconst 4, 1) := dk_7 (dk_at dksX3_outcome_0 0 rfl rfl)
theorem dX3_outcome_1 : decode cX3_outcome 1 = .ok (.anewarray 152, 3) := dk_189 0 152 (dk_at dksX3_outcome_0 1 rfl rfl)
theorem dX3_outcome_4 : decode cX3_outcome 4 = .ok (.dup, 1) := dk_89 (dk_at dksX3_outcome_0 4 rfl rfl)
theorem dX3_outcome_5 : decode cX3_outcome 5 = .ok (.iconst 0, 1) := dk_3 (dk_at dksX3_outcome_0 5 rfl rfl)
theorem dX3_outcome_6 : decode cX3_outcome 6 = .ok (.invokedynamic 154, 5) := by decide +kernel
theorem dX3_outcome_11 : decode cX3_outcome 11 = .ok (.aastore, 1) := dk_83 (dk_at dksX3_outcome_0 11 rfl rfl)
theorem dX3_outcome_12 : decode cX3_outcome 12 = .ok (.dup, 1) := dk_89 (dk_at dksX3_outcome_0 12 rfl rfl)
theorem dX3_outcome_13 : decode cX3_outcome 13 = .ok (.iconst 1, 1) := dk_4 (dk_at dksX3_outcome_0 13 rfl rfl)
theorem dX3_outcome_14 : decode cX3_outcome 14 = .ok (.aload_n 0, 1) := dk_42 (dk_at dksX3_outcome_0 14 rfl rfl)
theorem dX3_outcome_15 : decode cX3_outcome 15 = .ok (.invokedynamic 158, 5) := by decide +kernel
theorem dX3_outcome_20 : decode cX3_outcome 20 = .ok (.aastore, 1) := dk_83 (dk_at dksX3_outcome_0 20 rfl rfl)
theorem dX3_outcome_21 : decode cX3_outcome 21 = .ok (.dup, 1) := dk_89 (dk_at dksX3_outcome_0 21 rfl rfl)
theorem dX3_outcome_22 : decode cX3_outcome 22 = .ok (.iconst 2, 1) := dk_5 (dk_at dksX3_outcome_0 22 rfl rfl)
theorem dX3_outcome_23 : decode cX3_outcome 23 = .ok (.aload_n 0, 1) := dk_42 (dk_at dksX3_outcome_0 23 rfl rfl)
theorem dX3_outcome_24 : decode cX3_outcome 24 = .ok (.invokedynamic 161, 5) := by decide +kernel
theorem dX3_outcome_29 : decode cX3_outcome 29 = .ok (.aastore, 1) := dk_83 (dk_at dksX3_outcome_1 5 rfl rfl)
theorem dX3_outcome_30 : decode cX3_outcome 30 = .ok (.dup, 1) := dk_89 (dk_at dksX3_outcome_1 6 rfl rfl)
theorem dX3_outcome_31 : decode cX3_outcome 31 = .ok (.iconst 3, 1) := dk_6 (dk_at dksX3_outcome_1 7 rfl rfl)
theorem dX3_outcome_32 : decode cX3_outcome 32 = .ok (.aload_n 0, 1) := dk_42 (dk_at dksX3_outcome_1 8 rfl rfl)
theorem dX3_outcome_33 : decode cX3_outcome 33 = .ok (.invokedynamic 162, 5) := by decide +kernel
theorem dX3_outcome_38 : decode cX3_outcome 38 = .ok (.aastore, 1) := dk_83 (dk_at dksX3_outcome_1 14 rfl rfl)
theorem dX3_outcome_39 : decode cX3_outcome 39 = .ok (.astore_n 1, 1) := dk_76 (dk_at dksX3_outcome_1 15 rfl rfl)
theorem dX3_outcome_40 : decode cX3_outcome 40 = .ok (.iconst 0, 1) := dk_3 (dk_at dksX3_outcome_1 16 rfl rfl)
theorem dX3_outcome_41 : decode cX3_outcome 41 = .ok (.istore_n 2, 1) := dk_61 (dk_at dksX3_outcome_1 17 rfl rfl)
theorem dX3_outcome_42 : decode cX3_outcome 42 = .ok (.aload_n 0, 1) := dk_42 (dk_at dksX3_outcome_1 18 rfl rfl)
theorem dX3_outcome_43 : decode cX3_outcome 43 = .ok (.invokevirtual 163, 3) := dk_182 0 163 (dk_at dksX3_outcome_1 19 rfl rfl)
theorem dX3_outcome_46 : decode cX3_outcome 46 = .ok (.invokeinterface 167 1, 5) := by decide +kernel
theorem dX3_outcome_51 : decode cX3_outcome 51 = .ok (.astore_n 3, 1) := dk_78 (dk_at dksX3_outcome_2 5 rfl rfl)
theorem dX3_outcome_52 : decode cX3_outcome 52 = .ok (.aload_n 3, 1) := dk_45 (dk_at dksX3_outcome_2 6 rfl rfl)
theorem dX3_outcome_53 : decode cX3_outcome 53 = .ok (.invokeinterface 173 1, 5) := by decide +kernel
theorem dX3_outcome_58 : decode cX3_outcome 58 = .ok (.ifCond .eq 68, 3) := dk_153 0 68 (dk_at dksX3_outcome_2 12 rfl rfl)
theorem dX3_outcome_61 : decode cX3_outcome 61 = .ok (.aload_n 3, 1) := dk_45 (dk_at dksX3_outcome_2 15 rfl rfl)
theorem dX3_outcome_62 : decode cX3_outcome 62 = .ok (.invokeinterface 179 1, 5) := by decide +kernel
theorem dX3_outcome_67 : decode cX3_outcome 67 = .ok (.checkcast 104, 3) := dk_192 0 104 (dk_at dksX3_outcome_2 21 rfl rfl)
theorem dX3_outcome_70 : decode cX3_outcome 70 = .ok (.astore 4, 2) := dk_58 4 (dk_at dksX3_outcome_3 0 rfl rfl)
theorem dX3_outcome_72 : decode cX3_outcome 72 = .ok (.aload_n 1, 1) := dk_43 (dk_at dksX3_outcome_3 2 rfl rfl)
theorem dX3_outcome_73 : decode cX3_outcome 73 = .ok (.astore 5, 2) := dk_58 5 (dk_at dksX3_outcome_3 3 rfl rfl)
theorem dX3_outcome_75 : decode cX3_outcome 75 = .ok (.aload 5, 2) := dk_25 5 (dk_at dksX3_outcome_3 5 rfl rfl)
theorem dX3_outcome_77 : decode cX3_outcome 77 = .ok (.arraylength, 1) := dk_190 (dk_at dksX3_outcome_3 7 rfl rfl)
theorem dX3_outcome_78 : decode cX3_outcome 78 = .ok (.istore 6, 2) := dk_54 6 (dk_at dksX3_outcome_3 8 rfl rfl)
theorem dX3_outcome_80 : decode cX3_outcome 80 = .ok (.iconst 0, 1) := dk_3 (dk_at dksX3_outcome_3 10 rfl rfl)
theorem dX3_outcome_81 : decode cX3_outcome 81 = .ok (.istore 7, 2) := dk_54 7 (dk_at dksX3_outcome_3 11 rfl rfl)
theorem dX3_outcome_83 : decode cX3_outcome 83 = .ok (.iload 7, 2) := dk_21 7 (dk_at dksX3_outcome_3 13 rfl rfl)
theorem dX3_outcome_85 : decode cX3_outcome 85 = .ok (.iload 6, 2) := dk_21 6 (dk_at dksX3_outcome_3 15 rfl rfl)
theorem dX3_outcome_87 : decode cX3_outcome 87 = .ok (.if_icmp .ge 36, 3) := dk_162 0 36 (dk_at dksX3_outcome_3 17 rfl rfl)
theorem dX3_outcome_90 : decode cX3_outcome 90 = .ok (.aload 5, 2) := dk_25 5 (dk_at dksX3_outcome_3 20 rfl rfl)
theorem dX3_outcome_92 : decode cX3_outcome 92 = .ok (.iload 7, 2) := dk_21 7 (dk_at dksX3_outcome_3 22 rfl rfl)
theorem dX3_outcome_94 : decode cX3_outcome 94 = .ok (.aaload, 1) := dk_50 (dk_at dksX3_outcome_4 0 rfl rfl)
theorem dX3_outcome_95 : decode cX3_outcome 95 = .ok (.astore 8, 2) := dk_58 8 (dk_at dksX3_outcome_4 1 rfl rfl)
theorem dX3_outcome_97 : decode cX3_outcome 97 = .ok (.bipush 31, 2) := dk_16 31 (dk_at dksX3_outcome_4 3 rfl rfl)
theorem dX3_outcome_99 : decode cX3_outcome 99 = .ok (.iload_n 2, 1) := dk_28 (dk_at dksX3_outcome_4 5 rfl rfl)
theorem dX3_outcome_100 : decode cX3_outcome 100 = .ok (.imul, 1) := dk_104 (dk_at dksX3_outcome_4 6 rfl rfl)
theorem dX3_outcome_101 : decode cX3_outcome 101 = .ok (.aload 8, 2) := dk_25 8 (dk_at dksX3_outcome_4 7 rfl rfl)
theorem dX3_outcome_103 : decode cX3_outcome 103 = .ok (.aload 4, 2) := dk_25 4 (dk_at dksX3_outcome_4 9 rfl rfl)
theorem dX3_outcome_105 : decode cX3_outcome 105 = .ok (.invokeinterface 183 2, 5) := by decide +kernel
theorem dX3_outcome_110 : decode cX3_outcome 110 = .ok (.iadd, 1) := dk_96 (dk_at dksX3_outcome_4 16 rfl rfl)
theorem dX3_outcome_111 : decode cX3_outcome 111 = .ok (.iconst 1, 1) := dk_4 (dk_at dksX3_outcome_4 17 rfl rfl)
theorem dX3_outcome_112 : decode cX3_outcome 112 = .ok (.iadd, 1) := dk_96 (dk_at dksX3_outcome_4 18 rfl rfl)
theorem dX3_outcome_113 : decode cX3_outcome 113 = .ok (.ldc 185, 2) := dk_18 185 (dk_at dksX3_outcome_4 19 rfl rfl)
theorem dX3_outcome_115 : decode cX3_outcome 115 = .ok (.irem, 1) := dk_112 (dk_at dksX3_outcome_4 21 rfl rfl)
theorem dX3_outcome_116 : decode cX3_outcome 116 = .ok (.istore_n 2, 1) := dk_61 (dk_at dksX3_outcome_4 22 rfl rfl)
theorem dX3_outcome_117 : decode cX3_outcome 117 = .ok (.iinc 7 1, 3) := dk_132 7 1 (dk_at dksX3_outcome_5 0 rfl rfl)
theorem dX3_outcome_120 : decode cX3_outcome 120 = .ok (.goto (-37), 3) := dk_167 255 219 (dk_at dksX3_outcome_5 3 rfl rfl)
theorem dX3_outcome_123 : decode cX3_outcome 123 = .ok (.goto (-71), 3) := dk_167 255 185 (dk_at dksX3_outcome_5 6 rfl rfl)
theorem dX3_outcome_126 : decode cX3_outcome 126 = .ok (.iload_n 2, 1) := dk_28 (dk_at dksX3_outcome_5 9 rfl rfl)
theorem dX3_outcome_127 : decode cX3_outcome 127 = .ok (.ireturn, 1) := dk_172 (dk_at dksX3_outcome_5 10 rfl rfl)
theorem q1624 : (Jvm.Cond.classLink "Plugboard$Board" (152 : Nat) "Plugboard$Asked") ∈ lw_all := lw_g (lw_at lw_m7 114 rfl) rfl
theorem q1638 : (Jvm.Cond.methodLink "Plugboard$Board" (163 : Nat) ({ cls := "Plugboard$Board", name := "seen", desc := "()Ljava/lang/Iterable;" } : Jvm.MethodName)) ∈ lw_all := lw_g (lw_at lw_m7 128 rfl) rfl
theorem q1640 : (Jvm.Cond.methodLink "Plugboard$Board" (167 : Nat) ({ cls := "java/lang/Iterable", name := "iterator", desc := "()Ljava/util/Iterator;" } : Jvm.MethodName)) ∈ lw_all := lw_g (lw_at lw_m7 130 rfl) rfl
theorem q1642 : (Jvm.Cond.methodLink "Plugboard$Board" (173 : Nat) ({ cls := "java/util/Iterator", name := "hasNext", desc := "()Z" } : Jvm.MethodName)) ∈ lw_all := lw_g (lw_at lw_m7 132 rfl) rfl
theorem q1644 : (Jvm.Cond.methodLink "Plugboard$Board" (179 : Nat) ({ cls := "java/util/Iterator", name := "next", desc := "()Ljava/lang/Object;" } : Jvm.MethodName)) ∈ lw_all := lw_g (lw_at lw_m7 134 rfl) rfl
theorem q1646 : (Jvm.Cond.methodLink "Plugboard$Board" (183 : Nat) ({ cls := "Plugboard$Asked", name := "of", desc := "(LPlugboard$Shape;)I" } : Jvm.MethodName)) ∈ lw_all := lw_g (lw_at lw_m7 136 rfl) rfl
theorem q1649 : (Jvm.Cond.constant "Plugboard$Board" (185 : Nat) (1000003 : Int32)) ∈ lw_all := lw_g (lw_at lw_m7 139 rfl) rfl
theorem q2393 : (Jvm.Cond.instantiable "java/lang/Object" (0 : Nat)) ∈ lw_all := lw_g (lw_at lw_m10 163 rfl) rfl
abbrev rm_X3_outcome : Room := { frames := 6, cells := 6, slots := 10, locals := 3076 }
def w_X3_outcome_83 (P : Int32 → AH → Prop) (Z52 : Int32 → AH → Prop) (x1 : Option Nat) (x2 : Int32) (x3 : Option Nat) (x4 : Option Nat) (x5 : Option Nat) (x6 : Int32) (x7 : Int32) (h : AH) : Prop :=
  ∀ Z83 : Int32 → Int32 → AH → Prop, (∀ x2 x7 h, (
      ((x6 ≤ x7 →
        Z52 x2 h) ∧
       (¬ x6 ≤ x7 →
        l_q h x5 x7 fun y94 =>
        lm_of h y94 x4 (fun y105 h105 =>
        ¬ (1000003 : Int32) = 0 ∧
        Z83 ((((31 * x2) + y105) + 1) - (((31 * x2) + y105) + 1) / 1000003 * 1000003) (x7 + 1) h105))))
      → Z83 x2 x7 h) → Z83 x2 x7 h
def w_X3_outcome_52 (P : Int32 → AH → Prop) (x1 : Option Nat) (x2 : Int32) (x3 : Option Nat) (h : AH) : Prop :=
  ∀ Z52 : Int32 → AH → Prop, (∀ x2 h, (
      is_c h x3 [6] (
      w_X7_hasNext x3 h (fun y53 h53 =>
      ((y53 = 0 →
        P x2 h53) ∧
       (¬ y53 = 0 →
        is_c h53 x3 [6] (
        w_X7_next x3 h53 (fun y62 h62 =>
        is_c h62 y62 [7, 8] (
        n_a h62 x1 fun y77 =>
        w_X3_outcome_83 P Z52 x1 x2 x3 y62 x1 y77 0 h62))))))))
      → Z52 x2 h) → Z52 x2 h
def w_X3_outcome (a0 : Option Nat) (h : AH) (P : Int32 → AH → Prop) : Prop :=
  mk_q h 11 4 4 fun q1 h1 =>
  s_q h1 (some q1) 11 0 (some (h1.2 3)) fun h11 =>
  mk h11 (.inr (21, [va_rf a0])) fun q15 h15 =>
  s_q h15 (some q1) 11 1 (some q15) fun h20 =>
  mk h20 (.inr (22, [va_rf a0])) fun q24 h24 =>
  s_q h24 (some q1) 11 2 (some q24) fun h29 =>
  mk h29 (.inr (23, [va_rf a0])) fun q33 h33 =>
  s_q h33 (some q1) 11 3 (some q33) fun h38 =>
  is_c h38 a0 [2] (
  w_X3_seen a0 h38 (fun y43 h43 =>
  is_c h43 y43 [5] (
  w_X6_iterator y43 h43 (fun y46 h46 =>
  w_X3_outcome_52 P (some q1) 0 y46 h46))))
theorem wk_X3_outcome_83 {x : CX} (X : Ok x cX3_outcome RX3 rm_X3_outcome 9) (er : xrt x = (Option.some Jvm.ClassFile.FieldType.int)) (en : xnm x = yX3_outcome.name) {P : Int32 → AH → Prop} (hQ : xr_i x P) (Z52 : Int32 → AH → Prop) (x1 : Option Nat) (x2 : Int32) (x3 : Option Nat) (x4 : Option Nat) (x5 : Option Nat) (x6 : Int32) (x7 : Int32) (h : AH) (hZ52 : ∀ x2 h, Z52 x2 h → J x h 6 10 52 [(1, vR x1), (2, vI x2), (3, vR x3)] []) (hw : w_X3_outcome_83 P Z52 x1 x2 x3 x4 x5 x6 x7 h) : J x h 6 10 83 [(1, vR x1), (2, vI x2), (3, vR x3), (4, vR x4), (5, vR x5), (6, vI x6), (7, vI x7)] [] := by
  refine hw (fun x2 x7 h => J x h 6 10 83 [(1, vR x1), (2, vI x2), (3, vR x3), (4, vR x4), (5, vR x5), (6, vI x6), (7, vI x7)] []) (fun x2 x7 h hw => ?_)
  refine j_iload X (pc := 83) 6 dX3_outcome_83 rfl ?_
  refine j_iload X (pc := 85) 5 dX3_outcome_85 rfl ?_
  refine j_icmp_ge X (pc := 87) 123 dX3_outcome_87 (by decide) hw (fun hw => ?_) (fun hw => ?_)
  · refine j_goto X (pc := 123) 52 dX3_outcome_123 (by decide) ?_
    refine j_lv [(1, vR x1), (2, vI x2), (3, vR x3)] [0, 1, 2] rfl ?_
    refine j_cs (u' := 6) (v' := 10) (Nat.le_of_ble_eq_true rfl) (Nat.le_of_ble_eq_true rfl) ?_
    exact hZ52 x2 h hw
  · refine j_aload X (pc := 90) 4 dX3_outcome_90 rfl ?_
    refine j_iload X (pc := 92) 6 dX3_outcome_92 rfl ?_
    refine j_aald X (pc := 94) dX3_outcome_94 hw (fun y94 hw => ?_)
    refine j_astore X (pc := 95) [(8, vR y94), (1, vR x1), (2, vI x2), (3, vR x3), (4, vR x4), (5, vR x5), (6, vI x6), (7, vI x7)] dX3_outcome_95 (Nat.le_of_ble_eq_true rfl) rfl ?_
    refine j_bipush X (pc := 97) 31 dX3_outcome_97 (by decide) ?_
    refine j_iload_n X (pc := 99) 2 dX3_outcome_99 rfl rfl ?_
    refine j_imul X (pc := 100) dX3_outcome_100 ?_
    refine j_aload X (pc := 101) 0 dX3_outcome_101 rfl ?_
    refine j_aload X (pc := 103) 4 dX3_outcome_103 rfl ?_
    refine j_lmOf (rest := [vI (31 * x2)]) X (pc := 105) q1646 dX3_outcome_105 ⟨Nat.le_of_ble_eq_true rfl, Nat.le_of_ble_eq_true rfl⟩ (Nat.le_of_ble_eq_true rfl) (Nat.le_of_ble_eq_true rfl) (Nat.le_of_ble_eq_true rfl) hw (fun y105 h105 hw => ?_)
    refine j_iadd X (pc := 110) dX3_outcome_110 ?_
    refine j_iconst X (pc := 111) 1 dX3_outcome_111 (by decide) ?_
    refine j_iadd X (pc := 112) dX3_outcome_112 ?_
    refine j_ldc X (pc := 113) dX3_outcome_113 q1649 ?_
    refine j_irem X (pc := 115) dX3_outcome_115 hw (fun hw => ?_)
    refine j_istore_n X (pc := 116) [(2, vI ((((31 * x2) + y105) + 1) - (((31 * x2) + y105) + 1) / 1000003 * 1000003)), (8, vR y94), (1, vR x1), (3, vR x3), (4, vR x4), (5, vR x5), (6, vI x6), (7, vI x7)] dX3_outcome_116 rfl (Nat.le_of_ble_eq_true rfl) rfl ?_
    refine j_iinc X (pc := 117) 7 (x7 + 1) [(7, vI (x7 + 1)), (2, vI ((((31 * x2) + y105) + 1) - (((31 * x2) + y105) + 1) / 1000003 * 1000003)), (8, vR y94), (1, vR x1), (3, vR x3), (4, vR x4), (5, vR x5), (6, vI x6)] dX3_outcome_117 rfl rfl (Nat.le_of_ble_eq_true rfl) rfl ?_
    refine j_goto X (pc := 120) 83 dX3_outcome_120 (by decide) ?_
    refine j_lv [(1, vR x1), (2, vI ((((31 * x2) + y105) + 1) - (((31 * x2) + y105) + 1) / 1000003 * 1000003)), (3, vR x3), (4, vR x4), (5, vR x5), (6, vI x6), (7, vI (x7 + 1))] [3, 1, 4, 5, 6, 7, 0] rfl ?_
    refine j_cs (u' := 6) (v' := 10) (Nat.le_of_ble_eq_true rfl) (Nat.le_of_ble_eq_true rfl) ?_
    exact hw
theorem wk_X3_outcome_52 {x : CX} (X : Ok x cX3_outcome RX3 rm_X3_outcome 9) (er : xrt x = (Option.some Jvm.ClassFile.FieldType.int)) (en : xnm x = yX3_outcome.name) {P : Int32 → AH → Prop} (hQ : xr_i x P) (x1 : Option Nat) (x2 : Int32) (x3 : Option Nat) (h : AH) (hw : w_X3_outcome_52 P x1 x2 x3 h) : J x h 6 10 52 [(1, vR x1), (2, vI x2), (3, vR x3)] [] := by
  refine hw (fun x2 h => J x h 6 10 52 [(1, vR x1), (2, vI x2), (3, vR x3)] []) (fun x2 h hw => ?_)
  refine j_aload_n X (pc := 52) 2 dX3_outcome_52 rfl rfl ?_
  obtain ⟨b9, c9, f9, hr9, ho9, hc9, hw⟩ := hw
  obtain rfl := List.mem_singleton.mp hc9
  refine j_call5i (j_runF (n8 := 0) (As := []) (rest := []) X (pc := 53) hr9 (met_X7_hasNext (xl x) X.hl (xG x) h x3 _ hw) ho9 (by decide) rfl q1642 q485 q487 q85 q489 (fun U hU => kt_F2 hU) (by decide +kernel) dX3_outcome_53 rfl ⟨Nat.le_of_ble_eq_true rfl, Nat.le_of_ble_eq_true rfl⟩ (Nat.le_of_ble_eq_true rfl) ⟨Nat.le_of_ble_eq_true rfl, Nat.le_of_ble_eq_true rfl⟩) (fun y53 h53 hw => ?_)
  refine j_if_eq X (pc := 58) 126 dX3_outcome_58 (by decide) hw (fun hw => ?_) (fun hw => ?_)
  · refine j_iload_n X (pc := 126) 1 dX3_outcome_126 rfl rfl ?_
    exact j_iret X (pc := 127) hQ er (Nat.le_of_ble_eq_true rfl) (Nat.le_of_ble_eq_true rfl) dX3_outcome_127 hw
  · refine j_aload_n X (pc := 61) 2 dX3_outcome_61 rfl rfl ?_
    obtain ⟨b9, c9, f9, hr9, ho9, hc9, hw⟩ := hw
    obtain rfl := List.mem_singleton.mp hc9
    refine j_call5q (j_runF (n8 := 0) (As := []) (rest := []) X (pc := 62) hr9 (met_X7_next (xl x) X.hl (xG x) h53 x3 _ hw) ho9 (by decide) rfl q1644 q502 q504 q85 q506 (fun U hU => kt_F3 hU) (by decide +kernel) dX3_outcome_62 rfl ⟨Nat.le_of_ble_eq_true rfl, Nat.le_of_ble_eq_true rfl⟩ (Nat.le_of_ble_eq_true rfl) ⟨Nat.le_of_ble_eq_true rfl, Nat.le_of_ble_eq_true rfl⟩) (fun y62 h62 hw => ?_)
    refine j_chk X (pc := 67) (L := [7, 8]) q1198 (by intro ci hci; simp only [List.mem_cons, List.not_mem_nil, or_false] at hci; rcases hci with rfl | rfl <;> first | exact ⟨by decide, _, _, _, rfl, Or.inr q2343⟩ | exact ⟨by decide, _, _, _, rfl, Or.inr q2344⟩) dX3_outcome_67 hw (fun hw => ?_)
    refine j_astore X (pc := 70) [(4, vR y62), (1, vR x1), (2, vI x2), (3, vR x3)] dX3_outcome_70 (Nat.le_of_ble_eq_true rfl) rfl ?_
    refine j_aload_n X (pc := 72) 1 dX3_outcome_72 rfl rfl ?_
    refine j_astore X (pc := 73) [(5, vR x1), (4, vR y62), (1, vR x1), (2, vI x2), (3, vR x3)] dX3_outcome_73 (Nat.le_of_ble_eq_true rfl) rfl ?_
    refine j_aload X (pc := 75) 0 dX3_outcome_75 rfl ?_
    refine j_alen X (pc := 77) dX3_outcome_77 hw (fun y77 hw => ?_)
    refine j_istore X (pc := 78) [(6, vI y77), (5, vR x1), (4, vR y62), (1, vR x1), (2, vI x2), (3, vR x3)] dX3_outcome_78 (Nat.le_of_ble_eq_true rfl) rfl ?_
    refine j_iconst X (pc := 80) 0 dX3_outcome_80 (by decide) ?_
    refine j_istore X (pc := 81) [(7, vI 0), (6, vI y77), (5, vR x1), (4, vR y62), (1, vR x1), (2, vI x2), (3, vR x3)] dX3_outcome_81 (Nat.le_of_ble_eq_true rfl) rfl ?_
    refine j_lv [(1, vR x1), (2, vI x2), (3, vR x3), (4, vR y62), (5, vR x1), (6, vI y77), (7, vI 0)] [4, 5, 6, 3, 2, 1, 0] rfl ?_
    refine j_cs (u' := 6) (v' := 10) (Nat.le_of_ble_eq_true rfl) (Nat.le_of_ble_eq_true rfl) ?_
    exact wk_X3_outcome_83 X er en hQ _ x1 x2 x3 y62 x1 y77 0 h62 (fun x2_ h_ hz => hz) hw
theorem met_X3_outcome (l : Launch) (hlt : l.stackTraces = false) (G : GG) (h : AH) (a0 : Option Nat) (P : Int32 → AH → Prop) (hw : w_X3_outcome a0 h P) : ct_i l yX3_outcome (ws_ yX3_outcome cX3_outcome 9 (Option.some Jvm.ClassFile.FieldType.int)) rm_X3_outcome G h [vR a0] P := by
  refine j_startNi hlt [(0, vR a0)] (plainFor_of_name (by decide)) rfl rfl (fun x X eG er en hQ hnm => ?_)
  subst eG
  refine j_iconst X (pc := 0) 4 dX3_outcome_0 (by decide) ?_
  refine j_newQ X (pc := 1) 11 rfl (by decide) 4 dX3_outcome_1 q1624 (fun U hU => kt_11 hU) (by decide) (Nat.le_of_ble_eq_true rfl) (Nat.le_of_ble_eq_true rfl) hw (fun q1 h1 hw => ?_)
  refine j_dup X (pc := 4) dX3_outcome_4 rfl ?_
  refine j_iconst X (pc := 5) 0 dX3_outcome_5 (by decide) ?_
  refine j_indy0 X (pc := 6) rfl hnm dX3_outcome_6 (Nat.le_of_ble_eq_true rfl) ?_
  refine j_aast X (pc := 11) 11 (Nat.le_of_ble_eq_true rfl) rfl dX3_outcome_11 hw (fun h11 hw => ?_)
  refine j_dup X (pc := 12) dX3_outcome_12 rfl ?_
  refine j_iconst X (pc := 13) 1 dX3_outcome_13 (by decide) ?_
  refine j_aload_n X (pc := 14) 0 dX3_outcome_14 rfl rfl ?_
  refine j_indyM X (pc := 15) 1 hnm dX3_outcome_15 (Or.inl ⟨rfl, rfl, rfl⟩) q2393 (Nat.le_of_ble_eq_true rfl) (Nat.le_of_ble_eq_true rfl) (Nat.le_of_ble_eq_true rfl) hw (fun q15 h15 hw => ?_)
  refine j_aast X (pc := 20) 11 (Nat.le_of_ble_eq_true rfl) rfl dX3_outcome_20 hw (fun h20 hw => ?_)
  refine j_dup X (pc := 21) dX3_outcome_21 rfl ?_
  refine j_iconst X (pc := 22) 2 dX3_outcome_22 (by decide) ?_
  refine j_aload_n X (pc := 23) 0 dX3_outcome_23 rfl rfl ?_
  refine j_indyM X (pc := 24) 2 hnm dX3_outcome_24 (Or.inr (Or.inl ⟨rfl, rfl, rfl⟩)) q2393 (Nat.le_of_ble_eq_true rfl) (Nat.le_of_ble_eq_true rfl) (Nat.le_of_ble_eq_true rfl) hw (fun q24 h24 hw => ?_)
  refine j_aast X (pc := 29) 11 (Nat.le_of_ble_eq_true rfl) rfl dX3_outcome_29 hw (fun h29 hw => ?_)
  refine j_dup X (pc := 30) dX3_outcome_30 rfl ?_
  refine j_iconst X (pc := 31) 3 dX3_outcome_31 (by decide) ?_
  refine j_aload_n X (pc := 32) 0 dX3_outcome_32 rfl rfl ?_
  refine j_indyM X (pc := 33) 3 hnm dX3_outcome_33 (Or.inr (Or.inr ⟨rfl, rfl, rfl⟩)) q2393 (Nat.le_of_ble_eq_true rfl) (Nat.le_of_ble_eq_true rfl) (Nat.le_of_ble_eq_true rfl) hw (fun q33 h33 hw => ?_)
  refine j_aast X (pc := 38) 11 (Nat.le_of_ble_eq_true rfl) rfl dX3_outcome_38 hw (fun h38 hw => ?_)
  refine j_astore_n X (pc := 39) [(1, vR (some q1)), (0, vR a0)] dX3_outcome_39 rfl (Nat.le_of_ble_eq_true rfl) rfl ?_
  refine j_iconst X (pc := 40) 0 dX3_outcome_40 (by decide) ?_
  refine j_istore_n X (pc := 41) [(2, vI 0), (1, vR (some q1)), (0, vR a0)] dX3_outcome_41 rfl (Nat.le_of_ble_eq_true rfl) rfl ?_
  refine j_aload_n X (pc := 42) 2 dX3_outcome_42 rfl rfl ?_
  obtain ⟨b9, c9, f9, hr9, ho9, hc9, hw⟩ := hw
  obtain rfl := List.mem_singleton.mp hc9
  refine j_callq (j_runV (n8 := 0) (As := []) (rest := []) X (pc := 43) hr9 (met_X3_seen (xl x) X.hl (xG x) h38 a0 _ hw) ho9 (by decide) rfl q1638 q419 q420 q76 q421 (by decide +kernel) dX3_outcome_43 rfl ⟨Nat.le_of_ble_eq_true rfl, Nat.le_of_ble_eq_true rfl⟩ (Nat.le_of_ble_eq_true rfl) ⟨Nat.le_of_ble_eq_true rfl, Nat.le_of_ble_eq_true rfl⟩) (fun y43 h43 hw => ?_)
  obtain ⟨b9, c9, f9, hr9, ho9, hc9, hw⟩ := hw
  obtain rfl := List.mem_singleton.mp hc9
  refine j_call5q (j_runF (n8 := 0) (As := []) (rest := []) X (pc := 46) hr9 (met_X6_iterator (xl x) X.hl (xG x) h43 y43 _ hw) ho9 (by decide) rfl q1640 q437 q439 q84 q441 (fun U hU => kt_F1 hU) (by decide +kernel) dX3_outcome_46 rfl ⟨Nat.le_of_ble_eq_true rfl, Nat.le_of_ble_eq_true rfl⟩ (Nat.le_of_ble_eq_true rfl) ⟨Nat.le_of_ble_eq_true rfl, Nat.le_of_ble_eq_true rfl⟩) (fun y46 h46 hw => ?_)
  refine j_astore_n X (pc := 51) [(3, vR y46), (2, vI 0), (1, vR (some q1)), (0, vR a0)] dX3_outcome_51 rfl (Nat.le_of_ble_eq_true rfl) rfl ?_
  refine j_lv [(1, vR (some q1)), (2, vI 0), (3, vR y46)] [2, 1, 0] rfl ?_
  refine j_cs (u' := 6) (v' := 10) (Nat.le_of_ble_eq_true rfl) (Nat.le_of_ble_eq_true rfl) ?_
  exact wk_X3_outcome_52 X er en hQ (some q1) 0 y46 h46 hw
abbrev cX1_outcome : ByteArray := prog_1_method_78_code
def yX1_outcome : MethodName := ⟨RX1, "outcome", "(I)I"⟩
def dkwX1_outcome_0 : List UInt8 := [42, 27, 182, 0, 199, 182, 1, 181, 172]
abbrev dktX1_outcome_0 : List UInt8 := dkwX1_outcome_0 ++ []
theorem dksX1_outcome_0 : cX1_outcome.data.toList.drop 0 = dktX1_outcome_0 := by decide +kernel
theorem dX1_outcome_0 : decode cX1_outcome 0 = .ok (.aload_n 0, 1) := dk_42 (dk_at dksX1_outcome_0 0 rfl rfl)
theorem dX1_outcome_1 : decode cX1_outcome 1 = .ok (.iload_n 1, 1) := dk_27 (dk_at dksX1_outcome_0 1 rfl rfl)
theorem dX1_outcome_2 : decode cX1_outcome 2 = .ok (.invokevirtual 199, 3) := dk_182 0 199 (dk_at dksX1_outcome_0 2 rfl rfl)
theorem dX1_outcome_5 : decode cX1_outcome 5 = .ok (.invokevirtual 437, 3) := dk_182 1 181 (dk_at dksX1_outcome_0 5 rfl rfl)
theorem dX1_outcome_8 : decode cX1_outcome 8 = .ok (.ireturn, 1) := dk_172 (dk_at dksX1_outcome_0 8 rfl rfl)
theorem q1620 : (Jvm.Cond.methodLink "Plugboard" (437 : Nat) ({ cls := "Plugboard$Board", name := "outcome", desc := "()I" } : Jvm.MethodName)) ∈ lw_all := lw_g (lw_at lw_m7 110 rfl) rfl
theorem q1621 : (Jvm.Cond.instanceMethod ({ cls := "Plugboard$Board", name := "outcome", desc := "()I" } : Jvm.MethodName)) ∈ lw_all := lw_g (lw_at lw_m7 111 rfl) rfl
theorem q1622 : (Jvm.Cond.selects "Plugboard$Board" ({ cls := "Plugboard$Board", name := "outcome", desc := "()I" } : Jvm.MethodName) ({ cls := "Plugboard$Board", name := "outcome", desc := "()I" } : Jvm.MethodName)) ∈ lw_all := lw_g (lw_at lw_m7 112 rfl) rfl
theorem q1623 : (Jvm.Cond.code ({ cls := "Plugboard$Board", name := "outcome", desc := "()I" } : Jvm.MethodName) prog_3_method_16_code (9 : Nat) (Option.some Jvm.ClassFile.FieldType.int)) ∈ lw_all := lw_g (lw_at lw_m7 113 rfl) rfl
abbrev rm_X1_outcome : Room := { frames := 9, cells := 8, slots := 17, locals := 3104 }
def w_X1_outcome (a0 : Option Nat) (a1 : Int32) (h : AH) (P : Int32 → AH → Prop) (PX : String → AH → Prop) : Prop :=
  is_c h a0 [0] (
  w_X1_board a0 a1 h (fun y2 h2 =>
  is_c h2 y2 [2] (
  w_X3_outcome y2 h2 (fun y5 h5 =>
  P y5 h5))) PX)
theorem met_X1_outcome (l : Launch) (hlt : l.stackTraces = false) (G : GG) (h : AH) (a0 : Option Nat) (a1 : Int32) (P : Int32 → AH → Prop) (PX : String → AH → Prop) (hw : w_X1_outcome a0 a1 h P PX) : cx_i l yX1_outcome (ws_ yX1_outcome cX1_outcome 2 (Option.some Jvm.ClassFile.FieldType.int)) rm_X1_outcome G h [vR a0, vI a1] P PX := by
  refine j_startXi hlt [(0, vR a0), (1, vI a1)] (by decide) rfl rfl (fun x X eG er en hQ hT hex => ?_)
  subst eG
  refine j_aload_n X (pc := 0) 0 dX1_outcome_0 rfl rfl ?_
  refine j_iload_n X (pc := 1) 1 dX1_outcome_1 rfl rfl ?_
  obtain ⟨b9, c9, f9, hr9, ho9, hc9, hw⟩ := hw
  obtain rfl := List.mem_singleton.mp hc9
  refine j_callXq (j_runVX (n8 := 1) (As := [vI a1]) (rest := []) X (pc := 2) hr9 (met_X1_board (xl x) X.hl (xG x) h a0 a1 _ _ hw) ho9 (by decide) rfl q297 q299 qs0 q71 q300 (by decide +kernel) dX1_outcome_2 rfl ⟨Nat.le_of_ble_eq_true rfl, Nat.le_of_ble_eq_true rfl⟩ (Nat.le_of_ble_eq_true rfl) ⟨Nat.le_of_ble_eq_true rfl, Nat.le_of_ble_eq_true rfl⟩) (fun E h9 hx => j_out X hT hex (Nat.le_of_ble_eq_true rfl) (Nat.le_of_ble_eq_true rfl) hx) (fun y2 h2 hw => ?_)
  obtain ⟨b9, c9, f9, hr9, ho9, hc9, hw⟩ := hw
  obtain rfl := List.mem_singleton.mp hc9
  refine j_calli (j_runV (n8 := 0) (As := []) (rest := []) X (pc := 5) hr9 (met_X3_outcome (xl x) X.hl (xG x) h2 y2 _ hw) ho9 (by decide) rfl q1620 q1621 q1622 q76 q1623 (by decide +kernel) dX1_outcome_5 rfl ⟨Nat.le_of_ble_eq_true rfl, Nat.le_of_ble_eq_true rfl⟩ (Nat.le_of_ble_eq_true rfl) ⟨Nat.le_of_ble_eq_true rfl, Nat.le_of_ble_eq_true rfl⟩) (fun y5 h5 hw => ?_)
  exact j_iret X (pc := 8) hQ er (Nat.le_of_ble_eq_true rfl) (Nat.le_of_ble_eq_true rfl) dX1_outcome_8 hw
abbrev cX0_outcome : ByteArray := method_40_code
def yX0_outcome : MethodName := ⟨RX0, "outcome", "(LPlugboard;I[J)I"⟩
def dkwX0_outcome_0 : List UInt8 := [44, 3, 42, 27, 182, 0, 139, 133, 80, 167, 0, 6, 78, 4, 172, 3, 172]
abbrev dktX0_outcome_0 : List UInt8 := dkwX0_outcome_0 ++ []
theorem dksX0_outcome_0 : cX0_outcome.data.toList.drop 0 = dktX0_outcome_0 := by decide +kernel
theorem dX0_outcome_0 : decode cX0_outcome 0 = .ok (.aload_n 2, 1) := dk_44 (dk_at dksX0_outcome_0 0 rfl rfl)
theorem dX0_outcome_1 : decode cX0_outcome 1 = .ok (.iconst 0, 1) := dk_3 (dk_at dksX0_outcome_0 1 rfl rfl)
theorem dX0_outcome_2 : decode cX0_outcome 2 = .ok (.aload_n 0, 1) := dk_42 (dk_at dksX0_outcome_0 2 rfl rfl)
theorem dX0_outcome_3 : decode cX0_outcome 3 = .ok (.iload_n 1, 1) := dk_27 (dk_at dksX0_outcome_0 3 rfl rfl)
theorem dX0_outcome_4 : decode cX0_outcome 4 = .ok (.invokevirtual 139, 3) := dk_182 0 139 (dk_at dksX0_outcome_0 4 rfl rfl)
theorem dX0_outcome_7 : decode cX0_outcome 7 = .ok (.i2l, 1) := dk_133 (dk_at dksX0_outcome_0 7 rfl rfl)
theorem dX0_outcome_8 : decode cX0_outcome 8 = .ok (.lastore, 1) := dk_80 (dk_at dksX0_outcome_0 8 rfl rfl)
theorem dX0_outcome_9 : decode cX0_outcome 9 = .ok (.goto 6, 3) := dk_167 0 6 (dk_at dksX0_outcome_0 9 rfl rfl)
theorem dX0_outcome_12 : decode cX0_outcome 12 = .ok (.astore_n 3, 1) := dk_78 (dk_at dksX0_outcome_0 12 rfl rfl)
theorem dX0_outcome_13 : decode cX0_outcome 13 = .ok (.iconst 1, 1) := dk_4 (dk_at dksX0_outcome_0 13 rfl rfl)
theorem dX0_outcome_14 : decode cX0_outcome 14 = .ok (.ireturn, 1) := dk_172 (dk_at dksX0_outcome_0 14 rfl rfl)
theorem dX0_outcome_15 : decode cX0_outcome 15 = .ok (.iconst 0, 1) := dk_3 (dk_at dksX0_outcome_0 15 rfl rfl)
theorem dX0_outcome_16 : decode cX0_outcome 16 = .ok (.ireturn, 1) := dk_172 (dk_at dksX0_outcome_0 16 rfl rfl)
theorem q1616 : (Jvm.Cond.methodLink "PlugboardLaw" (139 : Nat) ({ cls := "Plugboard", name := "outcome", desc := "(I)I" } : Jvm.MethodName)) ∈ lw_all := lw_g (lw_at lw_m7 106 rfl) rfl
theorem q1617 : (Jvm.Cond.instanceMethod ({ cls := "Plugboard", name := "outcome", desc := "(I)I" } : Jvm.MethodName)) ∈ lw_all := lw_g (lw_at lw_m7 107 rfl) rfl
theorem q1618 : (Jvm.Cond.selects "Plugboard" ({ cls := "Plugboard", name := "outcome", desc := "(I)I" } : Jvm.MethodName) ({ cls := "Plugboard", name := "outcome", desc := "(I)I" } : Jvm.MethodName)) ∈ lw_all := lw_g (lw_at lw_m7 108 rfl) rfl
theorem q1619 : (Jvm.Cond.code ({ cls := "Plugboard", name := "outcome", desc := "(I)I" } : Jvm.MethodName) prog_1_method_78_code (2 : Nat) (Option.some Jvm.ClassFile.FieldType.int)) ∈ lw_all := lw_g (lw_at lw_m7 109 rfl) rfl
abbrev rm_X0_outcome : Room := { frames := 10, cells := 8, slots := 17, locals := 3125 }
def w_X0_outcome (a0 : Option Nat) (a1 : Int32) (a2 : Option Nat) (h : AH) (P : Int32 → AH → Prop) : Prop :=
  is_c h a0 [0] (
  w_X1_outcome a0 a1 h (fun y4 h4 =>
  s_L h4 a2 0 (Int32.toInt64 y4) fun h8 =>
  P 0 h8)
    (fun E9 h9 => (E9 = "java/lang/IllegalArgumentException" ∧ ∀ q9 : Nat,
    P 1 h9)))
theorem met_X0_outcome (l : Launch) (hlt : l.stackTraces = false) (G : GG) (h : AH) (a0 : Option Nat) (a1 : Int32) (a2 : Option Nat) (P : Int32 → AH → Prop) (hw : w_X0_outcome a0 a1 a2 h P) : ct_i l yX0_outcome (wsW_ yX0_outcome cX0_outcome 4 (Option.some Jvm.ClassFile.FieldType.int) [((0 : Nat), (9 : Nat), (12 : Nat), (13 : Nat))]) rm_X0_outcome G h [vR a0, vI a1, vR a2] P := by
  refine j_startWi hlt [(0, vR a0), (1, vI a1), (2, vR a2)] (by decide) rfl rfl (fun x X eG er en hQ hex => ?_)
  subst eG
  refine j_aload_n X (pc := 0) 2 dX0_outcome_0 rfl rfl ?_
  refine j_iconst X (pc := 1) 0 dX0_outcome_1 (by decide) ?_
  refine j_aload_n X (pc := 2) 0 dX0_outcome_2 rfl rfl ?_
  refine j_iload_n X (pc := 3) 1 dX0_outcome_3 rfl rfl ?_
  obtain ⟨b9, c9, f9, hr9, ho9, hc9, hw⟩ := hw
  obtain rfl := List.mem_singleton.mp hc9
  refine j_callXi (j_runVX (n8 := 1) (As := [vI a1]) (rest := [vI 0, vR a2]) X (pc := 4) hr9 (met_X1_outcome (xl x) X.hl (xG x) h a0 a1 _ _ hw) ho9 (by decide) rfl q1616 q1617 q1618 q71 q1619 (by decide +kernel) dX0_outcome_4 rfl ⟨Nat.le_of_ble_eq_true rfl, Nat.le_of_ble_eq_true rfl⟩ (Nat.le_of_ble_eq_true rfl) ⟨Nat.le_of_ble_eq_true rfl, Nat.le_of_ble_eq_true rfl⟩) ?_ (fun y4 h4 hw => ?_)
  · intro E9 h9 hx
    obtain ⟨rfl, hw⟩ := hx
    refine j_catch X (pc := 4) "java/lang/IllegalArgumentException" hex [] [] ⟨0, 9, 12, 13⟩ rfl (by intro y hy; cases hy) (by decide) (by decide) q291 q312 (fun q9 => ?_)
    have hw := hw q9
    refine j_astore_n X (pc := 12) [(3, vR (some q9)), (0, vR a0), (1, vI a1), (2, vR a2)] dX0_outcome_12 rfl (Nat.le_of_ble_eq_true rfl) rfl ?_
    refine j_iconst X (pc := 13) 1 dX0_outcome_13 (by decide) ?_
    exact j_iret X (pc := 14) hQ er (Nat.le_of_ble_eq_true rfl) (Nat.le_of_ble_eq_true rfl) dX0_outcome_14 hw
  refine j_i2l X (pc := 7) dX0_outcome_7 ?_
  refine j_last X (pc := 8) dX0_outcome_8 hw (fun h8 hw => ?_)
  refine j_goto X (pc := 9) 15 dX0_outcome_9 (by decide) ?_
  refine j_iconst X (pc := 15) 0 dX0_outcome_15 (by decide) ?_
  exact j_iret X (pc := 16) hQ er (Nat.le_of_ble_eq_true rfl) (Nat.le_of_ble_eq_true rfl) dX0_outcome_16 hw
abbrev cX5_joins : ByteArray := prog_19_method_82_code
def yX5_joins : MethodName := ⟨RX5, "joins", "(II)I"⟩
def dkwX5_joins_0 : List UInt8 := [16, 31, 27, 104, 28, 96, 4, 96, 19, 1, 17, 112, 172]
abbrev dktX5_joins_0 : List UInt8 := dkwX5_joins_0 ++ []
theorem dksX5_joins_0 : cX5_joins.data.toList.drop 0 = dktX5_joins_0 := by decide +kernel
theorem dX5_joins_0 : decode cX5_joins 0 = .ok (.bipush 31, 2) := dk_16 31 (dk_at dksX5_joins_0 0 rfl rfl)
theorem dX5_joins_2 : decode cX5_joins 2 = .ok (.iload_n 1, 1) := dk_27 (dk_at dksX5_joins_0 2 rfl rfl)
theorem dX5_joins_3 : decode cX5_joins 3 = .ok (.imul, 1) := dk_104 (dk_at dksX5_joins_0 3 rfl rfl)
theorem dX5_joins_4 : decode cX5_joins 4 = .ok (.iload_n 2, 1) := dk_28 (dk_at dksX5_joins_0 4 rfl rfl)
theorem dX5_joins_5 : decode cX5_joins 5 = .ok (.iadd, 1) := dk_96 (dk_at dksX5_joins_0 5 rfl rfl)
theorem dX5_joins_6 : decode cX5_joins 6 = .ok (.iconst 1, 1) := dk_4 (dk_at dksX5_joins_0 6 rfl rfl)
theorem dX5_joins_7 : decode cX5_joins 7 = .ok (.iadd, 1) := dk_96 (dk_at dksX5_joins_0 7 rfl rfl)
theorem dX5_joins_8 : decode cX5_joins 8 = .ok (.ldc_w 273, 3) := dk_19 1 17 (dk_at dksX5_joins_0 8 rfl rfl)
theorem dX5_joins_11 : decode cX5_joins 11 = .ok (.irem, 1) := dk_112 (dk_at dksX5_joins_0 11 rfl rfl)
theorem dX5_joins_12 : decode cX5_joins 12 = .ok (.ireturn, 1) := dk_172 (dk_at dksX5_joins_0 12 rfl rfl)
theorem q2304 : (Jvm.Cond.constant "PlugboardModel" (273 : Nat) (1000003 : Int32)) ∈ lw_all := lw_g (lw_at lw_m10 74 rfl) rfl
abbrev rm_X5_joins : Room := { frames := 0, cells := 0, slots := 0, locals := 0 }
def w_X5_joins (a0 : Option Nat) (a1 : Int32) (a2 : Int32) (h : AH) (P : Int32 → AH → Prop) : Prop :=
  ¬ (1000003 : Int32) = 0 ∧
  P ((((31 * a1) + a2) + 1) - (((31 * a1) + a2) + 1) / 1000003 * 1000003) h
theorem met_X5_joins (l : Launch) (hlt : l.stackTraces = false) (G : GG) (h : AH) (a0 : Option Nat) (a1 : Int32) (a2 : Int32) (P : Int32 → AH → Prop) (hw : w_X5_joins a0 a1 a2 h P) : ct_i l yX5_joins (ws_ yX5_joins cX5_joins 3 (Option.some Jvm.ClassFile.FieldType.int)) rm_X5_joins G h [vR a0, vI a1, vI a2] P := by
  refine j_starti hlt [(0, vR a0), (1, vI a1), (2, vI a2)] (plainFor_of_name (by decide)) rfl rfl (fun x X eG er en hQ => ?_)
  subst eG
  refine j_bipush X (pc := 0) 31 dX5_joins_0 (by decide) ?_
  refine j_iload_n X (pc := 2) 1 dX5_joins_2 rfl rfl ?_
  refine j_imul X (pc := 3) dX5_joins_3 ?_
  refine j_iload_n X (pc := 4) 2 dX5_joins_4 rfl rfl ?_
  refine j_iadd X (pc := 5) dX5_joins_5 ?_
  refine j_iconst X (pc := 6) 1 dX5_joins_6 (by decide) ?_
  refine j_iadd X (pc := 7) dX5_joins_7 ?_
  refine j_ldcw X (pc := 8) dX5_joins_8 q2304 ?_
  refine j_irem X (pc := 11) dX5_joins_11 hw (fun hw => ?_)
  exact j_iret X (pc := 12) hQ er (Nat.le_of_ble_eq_true rfl) (Nat.le_of_ble_eq_true rfl) dX5_joins_12 hw
abbrev cX5_outcomeNow : ByteArray := prog_19_method_83_code
def yX5_outcomeNow : MethodName := ⟨RX5, "outcomeNow", "()I"⟩
def dkwX5_outcomeNow_2 : List UInt8 := [42, 28, 182, 0, 199, 182, 1, 18, 60, 132, 2, 1, 167, 255, 200, 27, 172]
abbrev dktX5_outcomeNow_2 : List UInt8 := dkwX5_outcomeNow_2 ++ []
def dkwX5_outcomeNow_1 : List UInt8 := [42, 42, 42, 27, 28, 182, 1, 18, 42, 28, 182, 0, 141, 182, 1, 18, 42, 28, 182, 0, 145, 182, 1, 18]
abbrev dktX5_outcomeNow_1 : List UInt8 := dkwX5_outcomeNow_1 ++ dktX5_outcomeNow_2
def dkwX5_outcomeNow_0 : List UInt8 := [3, 60, 3, 61, 28, 42, 180, 0, 119, 162, 0, 54, 42, 28, 182, 0, 125, 154, 0, 6, 167, 0, 37, 42]
abbrev dktX5_outcomeNow_0 : List UInt8 := dkwX5_outcomeNow_0 ++ dktX5_outcomeNow_1
theorem dksX5_outcomeNow_0 : cX5_outcomeNow.data.toList.drop 0 = dktX5_outcomeNow_0 := by decide +kernel
theorem dksX5_outcomeNow_1 : cX5_outcomeNow.data.toList.drop 24 = dktX5_outcomeNow_1 := dk_seg dksX5_outcomeNow_0 24 rfl rfl
theorem dksX5_outcomeNow_2 : cX5_outcomeNow.data.toList.drop 48 = dktX5_outcomeNow_2 := dk_seg dksX5_outcomeNow_1 24 rfl rfl
theorem dX5_outcomeNow_0 : decode cX5_outcomeNow 0 = .ok (.iconst 0, 1) := dk_3 (dk_at dksX5_outcomeNow_0 0 rfl rfl)
theorem dX5_outcomeNow_1 : decode cX5_outcomeNow 1 = .ok (.istore_n 1, 1) := dk_60 (dk_at dksX5_outcomeNow_0 1 rfl rfl)
theorem dX5_outcomeNow_2 : decode cX5_outcomeNow 2 = .ok (.iconst 0, 1) := dk_3 (dk_at dksX5_outcomeNow_0 2 rfl rfl)
theorem dX5_outcomeNow_3 : decode cX5_outcomeNow 3 = .ok (.istore_n 2, 1) := dk_61 (dk_at dksX5_outcomeNow_0 3 rfl rfl)
theorem dX5_outcomeNow_4 : decode cX5_outcomeNow 4 = .ok (.iload_n 2, 1) := dk_28 (dk_at dksX5_outcomeNow_0 4 rfl rfl)
theorem dX5_outcomeNow_5 : decode cX5_outcomeNow 5 = .ok (.aload_n 0, 1) := dk_42 (dk_at dksX5_outcomeNow_0 5 rfl rfl)
theorem dX5_outcomeNow_6 : decode cX5_outcomeNow 6 = .ok (.getfield 119, 3) := dk_180 0 119 (dk_at dksX5_outcomeNow_0 6 rfl rfl)
theorem dX5_outcomeNow_9 : decode cX5_outcomeNow 9 = .ok (.if_icmp .ge 54, 3) := dk_162 0 54 (dk_at dksX5_outcomeNow_0 9 rfl rfl)
theorem dX5_outcomeNow_12 : decode cX5_outcomeNow 12 = .ok (.aload_n 0, 1) := dk_42 (dk_at dksX5_outcomeNow_0 12 rfl rfl)
theorem dX5_outcomeNow_13 : decode cX5_outcomeNow 13 = .ok (.iload_n 2, 1) := dk_28 (dk_at dksX5_outcomeNow_0 13 rfl rfl)
theorem dX5_outcomeNow_14 : decode cX5_outcomeNow 14 = .ok (.invokevirtual 125, 3) := dk_182 0 125 (dk_at dksX5_outcomeNow_0 14 rfl rfl)
theorem dX5_outcomeNow_17 : decode cX5_outcomeNow 17 = .ok (.ifCond .ne 6, 3) := dk_154 0 6 (dk_at dksX5_outcomeNow_0 17 rfl rfl)
theorem dX5_outcomeNow_20 : decode cX5_outcomeNow 20 = .ok (.goto 37, 3) := dk_167 0 37 (dk_at dksX5_outcomeNow_0 20 rfl rfl)
theorem dX5_outcomeNow_23 : decode cX5_outcomeNow 23 = .ok (.aload_n 0, 1) := dk_42 (dk_at dksX5_outcomeNow_0 23 rfl rfl)
theorem dX5_outcomeNow_24 : decode cX5_outcomeNow 24 = .ok (.aload_n 0, 1) := dk_42 (dk_at dksX5_outcomeNow_1 0 rfl rfl)
theorem dX5_outcomeNow_25 : decode cX5_outcomeNow 25 = .ok (.aload_n 0, 1) := dk_42 (dk_at dksX5_outcomeNow_1 1 rfl rfl)
theorem dX5_outcomeNow_26 : decode cX5_outcomeNow 26 = .ok (.aload_n 0, 1) := dk_42 (dk_at dksX5_outcomeNow_1 2 rfl rfl)
theorem dX5_outcomeNow_27 : decode cX5_outcomeNow 27 = .ok (.iload_n 1, 1) := dk_27 (dk_at dksX5_outcomeNow_1 3 rfl rfl)
theorem dX5_outcomeNow_28 : decode cX5_outcomeNow 28 = .ok (.iload_n 2, 1) := dk_28 (dk_at dksX5_outcomeNow_1 4 rfl rfl)
theorem dX5_outcomeNow_29 : decode cX5_outcomeNow 29 = .ok (.invokevirtual 274, 3) := dk_182 1 18 (dk_at dksX5_outcomeNow_1 5 rfl rfl)
theorem dX5_outcomeNow_32 : decode cX5_outcomeNow 32 = .ok (.aload_n 0, 1) := dk_42 (dk_at dksX5_outcomeNow_1 8 rfl rfl)
theorem dX5_outcomeNow_33 : decode cX5_outcomeNow 33 = .ok (.iload_n 2, 1) := dk_28 (dk_at dksX5_outcomeNow_1 9 rfl rfl)
theorem dX5_outcomeNow_34 : decode cX5_outcomeNow 34 = .ok (.invokevirtual 141, 3) := dk_182 0 141 (dk_at dksX5_outcomeNow_1 10 rfl rfl)
theorem dX5_outcomeNow_37 : decode cX5_outcomeNow 37 = .ok (.invokevirtual 274, 3) := dk_182 1 18 (dk_at dksX5_outcomeNow_1 13 rfl rfl)
theorem dX5_outcomeNow_40 : decode cX5_outcomeNow 40 = .ok (.aload_n 0, 1) := dk_42 (dk_at dksX5_outcomeNow_1 16 rfl rfl)
theorem dX5_outcomeNow_41 : decode cX5_outcomeNow 41 = .ok (.iload_n 2, 1) := dk_28 (dk_at dksX5_outcomeNow_1 17 rfl rfl)
theorem dX5_outcomeNow_42 : decode cX5_outcomeNow 42 = .ok (.invokevirtual 145, 3) := dk_182 0 145 (dk_at dksX5_outcomeNow_1 18 rfl rfl)
theorem dX5_outcomeNow_45 : decode cX5_outcomeNow 45 = .ok (.invokevirtual 274, 3) := dk_182 1 18 (dk_at dksX5_outcomeNow_1 21 rfl rfl)
theorem dX5_outcomeNow_48 : decode cX5_outcomeNow 48 = .ok (.aload_n 0, 1) := dk_42 (dk_at dksX5_outcomeNow_2 0 rfl rfl)
theorem dX5_outcomeNow_49 : decode cX5_outcomeNow 49 = .ok (.iload_n 2, 1) := dk_28 (dk_at dksX5_outcomeNow_2 1 rfl rfl)
theorem dX5_outcomeNow_50 : decode cX5_outcomeNow 50 = .ok (.invokevirtual 199, 3) := dk_182 0 199 (dk_at dksX5_outcomeNow_2 2 rfl rfl)
theorem dX5_outcomeNow_53 : decode cX5_outcomeNow 53 = .ok (.invokevirtual 274, 3) := dk_182 1 18 (dk_at dksX5_outcomeNow_2 5 rfl rfl)
theorem dX5_outcomeNow_56 : decode cX5_outcomeNow 56 = .ok (.istore_n 1, 1) := dk_60 (dk_at dksX5_outcomeNow_2 8 rfl rfl)
theorem dX5_outcomeNow_57 : decode cX5_outcomeNow 57 = .ok (.iinc 2 1, 3) := dk_132 2 1 (dk_at dksX5_outcomeNow_2 9 rfl rfl)
theorem dX5_outcomeNow_60 : decode cX5_outcomeNow 60 = .ok (.goto (-56), 3) := dk_167 255 200 (dk_at dksX5_outcomeNow_2 12 rfl rfl)
theorem dX5_outcomeNow_63 : decode cX5_outcomeNow 63 = .ok (.iload_n 1, 1) := dk_27 (dk_at dksX5_outcomeNow_2 15 rfl rfl)
theorem dX5_outcomeNow_64 : decode cX5_outcomeNow 64 = .ok (.ireturn, 1) := dk_172 (dk_at dksX5_outcomeNow_2 16 rfl rfl)
theorem q2300 : (Jvm.Cond.methodLink "PlugboardModel" (274 : Nat) ({ cls := "PlugboardModel", name := "joins", desc := "(II)I" } : Jvm.MethodName)) ∈ lw_all := lw_g (lw_at lw_m10 70 rfl) rfl
theorem q2302 : (Jvm.Cond.instanceMethod ({ cls := "PlugboardModel", name := "joins", desc := "(II)I" } : Jvm.MethodName)) ∈ lw_all := lw_g (lw_at lw_m10 72 rfl) rfl
theorem q2303 : (Jvm.Cond.code ({ cls := "PlugboardModel", name := "joins", desc := "(II)I" } : Jvm.MethodName) prog_19_method_82_code (3 : Nat) (Option.some Jvm.ClassFile.FieldType.int)) ∈ lw_all := lw_g (lw_at lw_m10 73 rfl) rfl
abbrev rm_X5_outcomeNow : Room := { frames := 3, cells := 0, slots := 0, locals := 66 }
def w_X5_outcomeNow_4 (P : Int32 → AH → Prop) (x0 : Option Nat) (x1 : Int32) (x2 : Int32) (h : AH) : Prop :=
  ∀ Z4 : Int32 → Int32 → AH → Prop, (∀ x1 x2 h, (
      g_i h x0 4 8 fun y6 =>
      ((y6 ≤ x2 →
        P x1 h) ∧
       (¬ y6 ≤ x2 →
        is_c h x0 [4] (
        w_X5_isSeen x0 x2 h (fun y14 h14 =>
        ((y14 = 0 →
          Z4 x1 (x2 + 1) h14) ∧
         (¬ y14 = 0 →
          is_c h14 x0 [4] (
          w_X5_joins x0 x1 x2 h14 (fun y29 h29 =>
          is_c h29 x0 [4] (
          w_X5_column x0 x2 h29 (fun y34 h34 =>
          is_c h34 x0 [4] (
          w_X5_joins x0 y29 y34 h34 (fun y37 h37 =>
          is_c h37 x0 [4] (
          w_X5_row x0 x2 h37 (fun y42 h42 =>
          is_c h42 x0 [4] (
          w_X5_joins x0 y37 y42 h42 (fun y45 h45 =>
          is_c h45 x0 [4] (
          w_X5_rank x0 x2 h45 (fun y50 h50 =>
          is_c h50 x0 [4] (
          w_X5_joins x0 y45 y50 h50 (fun y53 h53 =>
          Z4 y53 (x2 + 1) h53)))))))))))))))))))))
      → Z4 x1 x2 h) → Z4 x1 x2 h
def w_X5_outcomeNow (a0 : Option Nat) (h : AH) (P : Int32 → AH → Prop) : Prop :=
  w_X5_outcomeNow_4 P a0 0 0 h
theorem wk_X5_outcomeNow_4 {x : CX} (X : Ok x cX5_outcomeNow RX5 rm_X5_outcomeNow 3) (er : xrt x = (Option.some Jvm.ClassFile.FieldType.int)) (en : xnm x = yX5_outcomeNow.name) {P : Int32 → AH → Prop} (hQ : xr_i x P) (x0 : Option Nat) (x1 : Int32) (x2 : Int32) (h : AH) (hw : w_X5_outcomeNow_4 P x0 x1 x2 h) : J x h 0 0 4 [(0, vR x0), (1, vI x1), (2, vI x2)] [] := by
  refine hw (fun x1 x2 h => J x h 0 0 4 [(0, vR x0), (1, vI x1), (2, vI x2)] []) (fun x1 x2 h hw => ?_)
  refine j_iload_n X (pc := 4) 2 dX5_outcomeNow_4 rfl rfl ?_
  refine j_aload_n X (pc := 5) 0 dX5_outcomeNow_5 rfl rfl ?_
  refine j_geti (ci := 4) X (pc := 6) in_X5 rfl (by decide) 8 (by decide) q1880 (Or.inl rfl) dX5_outcomeNow_6 hw (fun y6 hw => ?_)
  refine j_icmp_ge X (pc := 9) 63 dX5_outcomeNow_9 (by decide) hw (fun hw => ?_) (fun hw => ?_)
  · refine j_iload_n X (pc := 63) 1 dX5_outcomeNow_63 rfl rfl ?_
    exact j_iret X (pc := 64) hQ er (Nat.le_of_ble_eq_true rfl) (Nat.le_of_ble_eq_true rfl) dX5_outcomeNow_64 hw
  · refine j_aload_n X (pc := 12) 0 dX5_outcomeNow_12 rfl rfl ?_
    refine j_iload_n X (pc := 13) 2 dX5_outcomeNow_13 rfl rfl ?_
    obtain ⟨b9, c9, f9, hr9, ho9, hc9, hw⟩ := hw
    obtain rfl := List.mem_singleton.mp hc9
    refine j_calli (j_runV (n8 := 1) (As := [vI x2]) (rest := []) X (pc := 14) hr9 (met_X5_isSeen (xl x) X.hl (xG x) h x0 x2 _ hw) ho9 (by decide) rfl q2012 q2014 qs39 q78 q2015 (by decide +kernel) dX5_outcomeNow_14 rfl ⟨Nat.le_of_ble_eq_true rfl, Nat.le_of_ble_eq_true rfl⟩ (Nat.le_of_ble_eq_true rfl) ⟨Nat.le_of_ble_eq_true rfl, Nat.le_of_ble_eq_true rfl⟩) (fun y14 h14 hw => ?_)
    refine j_if_ne X (pc := 17) 23 dX5_outcomeNow_17 (by decide) hw (fun hw => ?_) (fun hw => ?_)
    · refine j_goto X (pc := 20) 57 dX5_outcomeNow_20 (by decide) ?_
      refine j_iinc X (pc := 57) 2 (x2 + 1) [(2, vI (x2 + 1)), (0, vR x0), (1, vI x1)] dX5_outcomeNow_57 rfl rfl (Nat.le_of_ble_eq_true rfl) rfl ?_
      refine j_goto X (pc := 60) 4 dX5_outcomeNow_60 (by decide) ?_
      refine j_lv [(0, vR x0), (1, vI x1), (2, vI (x2 + 1))] [1, 2, 0] rfl ?_
      refine j_cs (u' := 0) (v' := 0) (Nat.le_of_ble_eq_true rfl) (Nat.le_of_ble_eq_true rfl) ?_
      exact hw
    · refine j_aload_n X (pc := 23) 0 dX5_outcomeNow_23 rfl rfl ?_
      refine j_aload_n X (pc := 24) 0 dX5_outcomeNow_24 rfl rfl ?_
      refine j_aload_n X (pc := 25) 0 dX5_outcomeNow_25 rfl rfl ?_
      refine j_aload_n X (pc := 26) 0 dX5_outcomeNow_26 rfl rfl ?_
      refine j_iload_n X (pc := 27) 1 dX5_outcomeNow_27 rfl rfl ?_
      refine j_iload_n X (pc := 28) 2 dX5_outcomeNow_28 rfl rfl ?_
      obtain ⟨b9, c9, f9, hr9, ho9, hc9, hw⟩ := hw
      obtain rfl := List.mem_singleton.mp hc9
      refine j_calli (j_runV (n8 := 2) (As := [vI x1, vI x2]) (rest := [vR x0, vR x0, vR x0]) X (pc := 29) hr9 (met_X5_joins (xl x) X.hl (xG x) h14 x0 x1 x2 _ hw) ho9 (by decide) rfl q2300 q2302 qs69 q78 q2303 (by decide +kernel) dX5_outcomeNow_29 rfl ⟨Nat.le_of_ble_eq_true rfl, Nat.le_of_ble_eq_true rfl⟩ (Nat.le_of_ble_eq_true rfl) ⟨Nat.le_of_ble_eq_true rfl, Nat.le_of_ble_eq_true rfl⟩) (fun y29 h29 hw => ?_)
      refine j_aload_n X (pc := 32) 0 dX5_outcomeNow_32 rfl rfl ?_
      refine j_iload_n X (pc := 33) 2 dX5_outcomeNow_33 rfl rfl ?_
      obtain ⟨b9, c9, f9, hr9, ho9, hc9, hw⟩ := hw
      obtain rfl := List.mem_singleton.mp hc9
      refine j_calli (j_runV (n8 := 1) (As := [vI x2]) (rest := [vI y29, vR x0, vR x0, vR x0]) X (pc := 34) hr9 (met_X5_column (xl x) X.hl (xG x) h29 x0 x2 _ hw) ho9 (by decide) rfl q2047 q2049 qs46 q78 q2050 (by decide +kernel) dX5_outcomeNow_34 rfl ⟨Nat.le_of_ble_eq_true rfl, Nat.le_of_ble_eq_true rfl⟩ (Nat.le_of_ble_eq_true rfl) ⟨Nat.le_of_ble_eq_true rfl, Nat.le_of_ble_eq_true rfl⟩) (fun y34 h34 hw => ?_)
      obtain ⟨b9, c9, f9, hr9, ho9, hc9, hw⟩ := hw
      obtain rfl := List.mem_singleton.mp hc9
      refine j_calli (j_runV (n8 := 2) (As := [vI y29, vI y34]) (rest := [vR x0, vR x0]) X (pc := 37) hr9 (met_X5_joins (xl x) X.hl (xG x) h34 x0 y29 y34 _ hw) ho9 (by decide) rfl q2300 q2302 qs69 q78 q2303 (by decide +kernel) dX5_outcomeNow_37 rfl ⟨Nat.le_of_ble_eq_true rfl, Nat.le_of_ble_eq_true rfl⟩ (Nat.le_of_ble_eq_true rfl) ⟨Nat.le_of_ble_eq_true rfl, Nat.le_of_ble_eq_true rfl⟩) (fun y37 h37 hw => ?_)
      refine j_aload_n X (pc := 40) 0 dX5_outcomeNow_40 rfl rfl ?_
      refine j_iload_n X (pc := 41) 2 dX5_outcomeNow_41 rfl rfl ?_
      obtain ⟨b9, c9, f9, hr9, ho9, hc9, hw⟩ := hw
      obtain rfl := List.mem_singleton.mp hc9
      refine j_calli (j_runV (n8 := 1) (As := [vI x2]) (rest := [vI y37, vR x0, vR x0]) X (pc := 42) hr9 (met_X5_row (xl x) X.hl (xG x) h37 x0 x2 _ hw) ho9 (by decide) rfl q2051 q2053 qs47 q78 q2054 (by decide +kernel) dX5_outcomeNow_42 rfl ⟨Nat.le_of_ble_eq_true rfl, Nat.le_of_ble_eq_true rfl⟩ (Nat.le_of_ble_eq_true rfl) ⟨Nat.le_of_ble_eq_true rfl, Nat.le_of_ble_eq_true rfl⟩) (fun y42 h42 hw => ?_)
      obtain ⟨b9, c9, f9, hr9, ho9, hc9, hw⟩ := hw
      obtain rfl := List.mem_singleton.mp hc9
      refine j_calli (j_runV (n8 := 2) (As := [vI y37, vI y42]) (rest := [vR x0]) X (pc := 45) hr9 (met_X5_joins (xl x) X.hl (xG x) h42 x0 y37 y42 _ hw) ho9 (by decide) rfl q2300 q2302 qs69 q78 q2303 (by decide +kernel) dX5_outcomeNow_45 rfl ⟨Nat.le_of_ble_eq_true rfl, Nat.le_of_ble_eq_true rfl⟩ (Nat.le_of_ble_eq_true rfl) ⟨Nat.le_of_ble_eq_true rfl, Nat.le_of_ble_eq_true rfl⟩) (fun y45 h45 hw => ?_)
      refine j_aload_n X (pc := 48) 0 dX5_outcomeNow_48 rfl rfl ?_
      refine j_iload_n X (pc := 49) 2 dX5_outcomeNow_49 rfl rfl ?_
      obtain ⟨b9, c9, f9, hr9, ho9, hc9, hw⟩ := hw
      obtain rfl := List.mem_singleton.mp hc9
      refine j_calli (j_runV (n8 := 1) (As := [vI x2]) (rest := [vI y45, vR x0]) X (pc := 50) hr9 (met_X5_rank (xl x) X.hl (xG x) h45 x0 x2 _ hw) ho9 (by decide) rfl q2067 q2069 qs50 q78 q2070 (by decide +kernel) dX5_outcomeNow_50 rfl ⟨Nat.le_of_ble_eq_true rfl, Nat.le_of_ble_eq_true rfl⟩ (Nat.le_of_ble_eq_true rfl) ⟨Nat.le_of_ble_eq_true rfl, Nat.le_of_ble_eq_true rfl⟩) (fun y50 h50 hw => ?_)
      obtain ⟨b9, c9, f9, hr9, ho9, hc9, hw⟩ := hw
      obtain rfl := List.mem_singleton.mp hc9
      refine j_calli (j_runV (n8 := 2) (As := [vI y45, vI y50]) (rest := []) X (pc := 53) hr9 (met_X5_joins (xl x) X.hl (xG x) h50 x0 y45 y50 _ hw) ho9 (by decide) rfl q2300 q2302 qs69 q78 q2303 (by decide +kernel) dX5_outcomeNow_53 rfl ⟨Nat.le_of_ble_eq_true rfl, Nat.le_of_ble_eq_true rfl⟩ (Nat.le_of_ble_eq_true rfl) ⟨Nat.le_of_ble_eq_true rfl, Nat.le_of_ble_eq_true rfl⟩) (fun y53 h53 hw => ?_)
      refine j_istore_n X (pc := 56) [(1, vI y53), (0, vR x0), (2, vI x2)] dX5_outcomeNow_56 rfl (Nat.le_of_ble_eq_true rfl) rfl ?_
      refine j_iinc X (pc := 57) 2 (x2 + 1) [(2, vI (x2 + 1)), (1, vI y53), (0, vR x0)] dX5_outcomeNow_57 rfl rfl (Nat.le_of_ble_eq_true rfl) rfl ?_
      refine j_goto X (pc := 60) 4 dX5_outcomeNow_60 (by decide) ?_
      refine j_lv [(0, vR x0), (1, vI y53), (2, vI (x2 + 1))] [2, 1, 0] rfl ?_
      refine j_cs (u' := 0) (v' := 0) (Nat.le_of_ble_eq_true rfl) (Nat.le_of_ble_eq_true rfl) ?_
      exact hw
theorem met_X5_outcomeNow (l : Launch) (hlt : l.stackTraces = false) (G : GG) (h : AH) (a0 : Option Nat) (P : Int32 → AH → Prop) (hw : w_X5_outcomeNow a0 h P) : ct_i l yX5_outcomeNow (ws_ yX5_outcomeNow cX5_outcomeNow 3 (Option.some Jvm.ClassFile.FieldType.int)) rm_X5_outcomeNow G h [vR a0] P := by
  refine j_starti hlt [(0, vR a0)] (plainFor_of_name (by decide)) rfl rfl (fun x X eG er en hQ => ?_)
  subst eG
  refine j_iconst X (pc := 0) 0 dX5_outcomeNow_0 (by decide) ?_
  refine j_istore_n X (pc := 1) [(1, vI 0), (0, vR a0)] dX5_outcomeNow_1 rfl (Nat.le_of_ble_eq_true rfl) rfl ?_
  refine j_iconst X (pc := 2) 0 dX5_outcomeNow_2 (by decide) ?_
  refine j_istore_n X (pc := 3) [(2, vI 0), (1, vI 0), (0, vR a0)] dX5_outcomeNow_3 rfl (Nat.le_of_ble_eq_true rfl) rfl ?_
  refine j_lv [(0, vR a0), (1, vI 0), (2, vI 0)] [2, 1, 0] rfl ?_
  refine j_cs (u' := 0) (v' := 0) (Nat.le_of_ble_eq_true rfl) (Nat.le_of_ble_eq_true rfl) ?_
  exact wk_X5_outcomeNow_4 X er en hQ a0 0 0 h hw
abbrev cX5_outcome : ByteArray := prog_19_method_84_code
def yX5_outcome : MethodName := ⟨RX5, "outcome", "(I)I"⟩
def dkwX5_outcome_0 : List UInt8 := [42, 27, 182, 0, 228, 153, 0, 7, 3, 167, 0, 7, 42, 182, 1, 21, 172]
abbrev dktX5_outcome_0 : List UInt8 := dkwX5_outcome_0 ++ []
theorem dksX5_outcome_0 : cX5_outcome.data.toList.drop 0 = dktX5_outcome_0 := by decide +kernel
theorem dX5_outcome_0 : decode cX5_outcome 0 = .ok (.aload_n 0, 1) := dk_42 (dk_at dksX5_outcome_0 0 rfl rfl)
theorem dX5_outcome_1 : decode cX5_outcome 1 = .ok (.iload_n 1, 1) := dk_27 (dk_at dksX5_outcome_0 1 rfl rfl)
theorem dX5_outcome_2 : decode cX5_outcome 2 = .ok (.invokevirtual 228, 3) := dk_182 0 228 (dk_at dksX5_outcome_0 2 rfl rfl)
theorem dX5_outcome_5 : decode cX5_outcome 5 = .ok (.ifCond .eq 7, 3) := dk_153 0 7 (dk_at dksX5_outcome_0 5 rfl rfl)
theorem dX5_outcome_8 : decode cX5_outcome 8 = .ok (.iconst 0, 1) := dk_3 (dk_at dksX5_outcome_0 8 rfl rfl)
theorem dX5_outcome_9 : decode cX5_outcome 9 = .ok (.goto 7, 3) := dk_167 0 7 (dk_at dksX5_outcome_0 9 rfl rfl)
theorem dX5_outcome_12 : decode cX5_outcome 12 = .ok (.aload_n 0, 1) := dk_42 (dk_at dksX5_outcome_0 12 rfl rfl)
theorem dX5_outcome_13 : decode cX5_outcome 13 = .ok (.invokevirtual 277, 3) := dk_182 1 21 (dk_at dksX5_outcome_0 13 rfl rfl)
theorem dX5_outcome_16 : decode cX5_outcome 16 = .ok (.ireturn, 1) := dk_172 (dk_at dksX5_outcome_0 16 rfl rfl)
theorem q2296 : (Jvm.Cond.methodLink "PlugboardModel" (277 : Nat) ({ cls := "PlugboardModel", name := "outcomeNow", desc := "()I" } : Jvm.MethodName)) ∈ lw_all := lw_g (lw_at lw_m10 66 rfl) rfl
theorem q2298 : (Jvm.Cond.instanceMethod ({ cls := "PlugboardModel", name := "outcomeNow", desc := "()I" } : Jvm.MethodName)) ∈ lw_all := lw_g (lw_at lw_m10 68 rfl) rfl
theorem q2299 : (Jvm.Cond.code ({ cls := "PlugboardModel", name := "outcomeNow", desc := "()I" } : Jvm.MethodName) prog_19_method_83_code (3 : Nat) (Option.some Jvm.ClassFile.FieldType.int)) ∈ lw_all := lw_g (lw_at lw_m10 69 rfl) rfl
abbrev rm_X5_outcome : Room := { frames := 4, cells := 0, slots := 0, locals := 88 }
def w_X5_outcome (a0 : Option Nat) (a1 : Int32) (h : AH) (P : Int32 → AH → Prop) : Prop :=
  is_c h a0 [4] (
  w_X5_isNobody a0 a1 h (fun y2 h2 =>
  ((y2 = 0 →
    is_c h2 a0 [4] (
    w_X5_outcomeNow a0 h2 (fun y13 h13 =>
    P y13 h13))) ∧
   (¬ y2 = 0 →
    P 0 h2))))
theorem met_X5_outcome (l : Launch) (hlt : l.stackTraces = false) (G : GG) (h : AH) (a0 : Option Nat) (a1 : Int32) (P : Int32 → AH → Prop) (hw : w_X5_outcome a0 a1 h P) : ct_i l yX5_outcome (ws_ yX5_outcome cX5_outcome 2 (Option.some Jvm.ClassFile.FieldType.int)) rm_X5_outcome G h [vR a0, vI a1] P := by
  refine j_starti hlt [(0, vR a0), (1, vI a1)] (plainFor_of_name (by decide)) rfl rfl (fun x X eG er en hQ => ?_)
  subst eG
  refine j_aload_n X (pc := 0) 0 dX5_outcome_0 rfl rfl ?_
  refine j_iload_n X (pc := 1) 1 dX5_outcome_1 rfl rfl ?_
  obtain ⟨b9, c9, f9, hr9, ho9, hc9, hw⟩ := hw
  obtain rfl := List.mem_singleton.mp hc9
  refine j_calli (j_runV (n8 := 1) (As := [vI a1]) (rest := []) X (pc := 2) hr9 (met_X5_isNobody (xl x) X.hl (xG x) h a0 a1 _ hw) ho9 (by decide) rfl q2170 q2172 qs58 q78 q2173 (by decide +kernel) dX5_outcome_2 rfl ⟨Nat.le_of_ble_eq_true rfl, Nat.le_of_ble_eq_true rfl⟩ (Nat.le_of_ble_eq_true rfl) ⟨Nat.le_of_ble_eq_true rfl, Nat.le_of_ble_eq_true rfl⟩) (fun y2 h2 hw => ?_)
  refine j_if_eq X (pc := 5) 12 dX5_outcome_5 (by decide) hw (fun hw => ?_) (fun hw => ?_)
  · refine j_aload_n X (pc := 12) 0 dX5_outcome_12 rfl rfl ?_
    obtain ⟨b9, c9, f9, hr9, ho9, hc9, hw⟩ := hw
    obtain rfl := List.mem_singleton.mp hc9
    refine j_calli (j_runV (n8 := 0) (As := []) (rest := []) X (pc := 13) hr9 (met_X5_outcomeNow (xl x) X.hl (xG x) h2 a0 _ hw) ho9 (by decide) rfl q2296 q2298 qs68 q78 q2299 (by decide +kernel) dX5_outcome_13 rfl ⟨Nat.le_of_ble_eq_true rfl, Nat.le_of_ble_eq_true rfl⟩ (Nat.le_of_ble_eq_true rfl) ⟨Nat.le_of_ble_eq_true rfl, Nat.le_of_ble_eq_true rfl⟩) (fun y13 h13 hw => ?_)
    exact j_iret X (pc := 16) hQ er (Nat.le_of_ble_eq_true rfl) (Nat.le_of_ble_eq_true rfl) dX5_outcome_16 hw
  · refine j_iconst X (pc := 8) 0 dX5_outcome_8 (by decide) ?_
    refine j_goto X (pc := 9) 16 dX5_outcome_9 (by decide) ?_
    exact j_iret X (pc := 16) hQ er (Nat.le_of_ble_eq_true rfl) (Nat.le_of_ble_eq_true rfl) dX5_outcome_16 hw
abbrev cX1_outcomeOf : ByteArray := prog_1_method_79_code
def yX1_outcomeOf : MethodName := ⟨RX1, "outcomeOf", "(LPlugboard$Fields;)I"⟩
def dkwX1_outcomeOf_0 : List UInt8 := [42, 180, 0, 84, 180, 0, 136, 43, 180, 0, 139, 181, 0, 139, 42, 180, 0, 84, 182, 1, 181, 172]
abbrev dktX1_outcomeOf_0 : List UInt8 := dkwX1_outcomeOf_0 ++ []
theorem dksX1_outcomeOf_0 : cX1_outcomeOf.data.toList.drop 0 = dktX1_outcomeOf_0 := by decide +kernel
theorem dX1_outcomeOf_0 : decode cX1_outcomeOf 0 = .ok (.aload_n 0, 1) := dk_42 (dk_at dksX1_outcomeOf_0 0 rfl rfl)
theorem dX1_outcomeOf_1 : decode cX1_outcomeOf 1 = .ok (.getfield 84, 3) := dk_180 0 84 (dk_at dksX1_outcomeOf_0 1 rfl rfl)
theorem dX1_outcomeOf_4 : decode cX1_outcomeOf 4 = .ok (.getfield 136, 3) := dk_180 0 136 (dk_at dksX1_outcomeOf_0 4 rfl rfl)
theorem dX1_outcomeOf_7 : decode cX1_outcomeOf 7 = .ok (.aload_n 1, 1) := dk_43 (dk_at dksX1_outcomeOf_0 7 rfl rfl)
theorem dX1_outcomeOf_8 : decode cX1_outcomeOf 8 = .ok (.getfield 139, 3) := dk_180 0 139 (dk_at dksX1_outcomeOf_0 8 rfl rfl)
theorem dX1_outcomeOf_11 : decode cX1_outcomeOf 11 = .ok (.putfield 139, 3) := dk_181 0 139 (dk_at dksX1_outcomeOf_0 11 rfl rfl)
theorem dX1_outcomeOf_14 : decode cX1_outcomeOf 14 = .ok (.aload_n 0, 1) := dk_42 (dk_at dksX1_outcomeOf_0 14 rfl rfl)
theorem dX1_outcomeOf_15 : decode cX1_outcomeOf 15 = .ok (.getfield 84, 3) := dk_180 0 84 (dk_at dksX1_outcomeOf_0 15 rfl rfl)
theorem dX1_outcomeOf_18 : decode cX1_outcomeOf 18 = .ok (.invokevirtual 437, 3) := dk_182 1 181 (dk_at dksX1_outcomeOf_0 18 rfl rfl)
theorem dX1_outcomeOf_21 : decode cX1_outcomeOf 21 = .ok (.ireturn, 1) := dk_172 (dk_at dksX1_outcomeOf_0 21 rfl rfl)
abbrev rm_X1_outcomeOf : Room := { frames := 7, cells := 6, slots := 10, locals := 3104 }
def w_X1_outcomeOf (a0 : Option Nat) (a1 : Option Nat) (h : AH) (P : Int32 → AH → Prop) : Prop :=
  g_q h a0 0 6 fun y1 =>
  g_q h y1 2 1 fun y4 =>
  g_q h a1 1 0 fun y8 =>
  p_v h y4 1 0 (vR y8) fun h11 =>
  g_q h11 a0 0 6 fun y15 =>
  is_c h11 y15 [2] (
  w_X3_outcome y15 h11 (fun y18 h18 =>
  P y18 h18))
theorem met_X1_outcomeOf (l : Launch) (hlt : l.stackTraces = false) (G : GG) (h : AH) (a0 : Option Nat) (a1 : Option Nat) (P : Int32 → AH → Prop) (hw : w_X1_outcomeOf a0 a1 h P) : ct_i l yX1_outcomeOf (ws_ yX1_outcomeOf cX1_outcomeOf 2 (Option.some Jvm.ClassFile.FieldType.int)) rm_X1_outcomeOf G h [vR a0, vR a1] P := by
  refine j_starti hlt [(0, vR a0), (1, vR a1)] (plainFor_of_name (by decide)) rfl rfl (fun x X eG er en hQ => ?_)
  subst eG
  refine j_aload_n X (pc := 0) 0 dX1_outcomeOf_0 rfl rfl ?_
  refine j_getq (ci := 0) X (pc := 1) in_X1 rfl (by decide) 6 (by decide) q249 (Or.inl rfl) dX1_outcomeOf_1 hw (fun y1 hw => ?_)
  refine j_getqN (ci := 2) X (pc := 4) in_X3 rfl (by decide) 1 (by decide) q210 (Or.inl rfl) dX1_outcomeOf_4 hw (fun y4 hw => ?_)
  refine j_aload_n X (pc := 7) 1 dX1_outcomeOf_7 rfl rfl ?_
  refine j_getqN (ci := 1) X (pc := 8) in_X2 rfl (by decide) 0 (by decide) q168 (Or.inl rfl) dX1_outcomeOf_8 hw (fun y8 hw => ?_)
  refine j_putN (ci := 1) X (pc := 11) in_X2 rfl (by decide) 0 (by decide) q168 (Or.inl rfl) tyX2 tyX2_ok nmX2 rfl rfl (ty := (.array .int)) (tyX2_ok 0 (by decide)) (rt_nar _ rfl _) (rt_fit _ rfl _) dX1_outcomeOf_11 hw (fun h11 hw => ?_)
  refine j_aload_n X (pc := 14) 0 dX1_outcomeOf_14 rfl rfl ?_
  refine j_getq (ci := 0) X (pc := 15) in_X1 rfl (by decide) 6 (by decide) q249 (Or.inl rfl) dX1_outcomeOf_15 hw (fun y15 hw => ?_)
  obtain ⟨b9, c9, f9, hr9, ho9, hc9, hw⟩ := hw
  obtain rfl := List.mem_singleton.mp hc9
  refine j_calli (j_runV (n8 := 0) (As := []) (rest := []) X (pc := 18) hr9 (met_X3_outcome (xl x) X.hl (xG x) h11 y15 _ hw) ho9 (by decide) rfl q1620 q1621 q1622 q76 q1623 (by decide +kernel) dX1_outcomeOf_18 rfl ⟨Nat.le_of_ble_eq_true rfl, Nat.le_of_ble_eq_true rfl⟩ (Nat.le_of_ble_eq_true rfl) ⟨Nat.le_of_ble_eq_true rfl, Nat.le_of_ble_eq_true rfl⟩) (fun y18 h18 hw => ?_)
  exact j_iret X (pc := 21) hQ er (Nat.le_of_ble_eq_true rfl) (Nat.le_of_ble_eq_true rfl) dX1_outcomeOf_21 hw
abbrev cX1_outcomeAnew : ByteArray := prog_1_method_80_code
def yX1_outcomeAnew : MethodName := ⟨RX1, "outcomeAnew", "(I)I"⟩
def dkwX1_outcomeAnew_2 : List UInt8 := [167, 255, 224, 42, 42, 180, 0, 68, 182, 1, 190, 172]
abbrev dktX1_outcomeAnew_2 : List UInt8 := dkwX1_outcomeAnew_2 ++ []
def dkwX1_outcomeAnew_1 : List UInt8 := [162, 0, 27, 42, 180, 0, 68, 44, 180, 1, 93, 29, 182, 0, 35, 192, 0, 145, 182, 1, 187, 132, 3, 1]
abbrev dktX1_outcomeAnew_1 : List UInt8 := dkwX1_outcomeAnew_1 ++ dktX1_outcomeAnew_2
def dkwX1_outcomeAnew_0 : List UInt8 := [42, 27, 182, 0, 199, 77, 42, 180, 0, 68, 182, 1, 184, 3, 62, 29, 44, 180, 1, 93, 182, 0, 29]
abbrev dktX1_outcomeAnew_0 : List UInt8 := dkwX1_outcomeAnew_0 ++ dktX1_outcomeAnew_1
theorem dksX1_outcomeAnew_0 : cX1_outcomeAnew.data.toList.drop 0 = dktX1_outcomeAnew_0 := by decide +kernel
theorem dksX1_outcomeAnew_1 : cX1_outcomeAnew.data.toList.drop 23 = dktX1_outcomeAnew_1 := dk_seg dksX1_outcomeAnew_0 23 rfl rfl
theorem dksX1_outcomeAnew_2 : cX1_outcomeAnew.data.toList.drop 47 = dktX1_outcomeAnew_2 := dk_seg dksX1_outcomeAnew_1 24 rfl rfl
theorem dX1_outcomeAnew_0 : decode cX1_outcomeAnew 0 = .ok (.aload_n 0, 1) := dk_42 (dk_at dksX1_outcomeAnew_0 0 rfl rfl)
theorem dX1_outcomeAnew_1 : decode cX1_outcomeAnew 1 = .ok (.iload_n 1, 1) := dk_27 (dk_at dksX1_outcomeAnew_0 1 rfl rfl)
theorem dX1_outcomeAnew_2 : decode cX1_outcomeAnew 2 = .ok (.invokevirtual 199, 3) := dk_182 0 199 (dk_at dksX1_outcomeAnew_0 2 rfl rfl)
theorem dX1_outcomeAnew_5 : decode cX1_outcomeAnew 5 = .ok (.astore_n 2, 1) := dk_77 (dk_at dksX1_outcomeAnew_0 5 rfl rfl)
theorem dX1_outcomeAnew_6 : decode cX1_outcomeAnew 6 = .ok (.aload_n 0, 1) := dk_42 (dk_at dksX1_outcomeAnew_0 6 rfl rfl)
theorem dX1_outcomeAnew_7 : decode cX1_outcomeAnew 7 = .ok (.getfield 68, 3) := dk_180 0 68 (dk_at dksX1_outcomeAnew_0 7 rfl rfl)
theorem dX1_outcomeAnew_10 : decode cX1_outcomeAnew 10 = .ok (.invokevirtual 440, 3) := dk_182 1 184 (dk_at dksX1_outcomeAnew_0 10 rfl rfl)
theorem dX1_outcomeAnew_13 : decode cX1_outcomeAnew 13 = .ok (.iconst 0, 1) := dk_3 (dk_at dksX1_outcomeAnew_0 13 rfl rfl)
theorem dX1_outcomeAnew_14 : decode cX1_outcomeAnew 14 = .ok (.istore_n 3, 1) := dk_62 (dk_at dksX1_outcomeAnew_0 14 rfl rfl)
theorem dX1_outcomeAnew_15 : decode cX1_outcomeAnew 15 = .ok (.iload_n 3, 1) := dk_29 (dk_at dksX1_outcomeAnew_0 15 rfl rfl)
theorem dX1_outcomeAnew_16 : decode cX1_outcomeAnew 16 = .ok (.aload_n 2, 1) := dk_44 (dk_at dksX1_outcomeAnew_0 16 rfl rfl)
theorem dX1_outcomeAnew_17 : decode cX1_outcomeAnew 17 = .ok (.getfield 349, 3) := dk_180 1 93 (dk_at dksX1_outcomeAnew_0 17 rfl rfl)
theorem dX1_outcomeAnew_20 : decode cX1_outcomeAnew 20 = .ok (.invokevirtual 29, 3) := dk_182 0 29 (dk_at dksX1_outcomeAnew_0 20 rfl rfl)
theorem dX1_outcomeAnew_23 : decode cX1_outcomeAnew 23 = .ok (.if_icmp .ge 27, 3) := dk_162 0 27 (dk_at dksX1_outcomeAnew_1 0 rfl rfl)
theorem dX1_outcomeAnew_26 : decode cX1_outcomeAnew 26 = .ok (.aload_n 0, 1) := dk_42 (dk_at dksX1_outcomeAnew_1 3 rfl rfl)
theorem dX1_outcomeAnew_27 : decode cX1_outcomeAnew 27 = .ok (.getfield 68, 3) := dk_180 0 68 (dk_at dksX1_outcomeAnew_1 4 rfl rfl)
theorem dX1_outcomeAnew_30 : decode cX1_outcomeAnew 30 = .ok (.aload_n 2, 1) := dk_44 (dk_at dksX1_outcomeAnew_1 7 rfl rfl)
theorem dX1_outcomeAnew_31 : decode cX1_outcomeAnew 31 = .ok (.getfield 349, 3) := dk_180 1 93 (dk_at dksX1_outcomeAnew_1 8 rfl rfl)
theorem dX1_outcomeAnew_34 : decode cX1_outcomeAnew 34 = .ok (.iload_n 3, 1) := dk_29 (dk_at dksX1_outcomeAnew_1 11 rfl rfl)
theorem dX1_outcomeAnew_35 : decode cX1_outcomeAnew 35 = .ok (.invokevirtual 35, 3) := dk_182 0 35 (dk_at dksX1_outcomeAnew_1 12 rfl rfl)
theorem dX1_outcomeAnew_38 : decode cX1_outcomeAnew 38 = .ok (.checkcast 145, 3) := dk_192 0 145 (dk_at dksX1_outcomeAnew_1 15 rfl rfl)
theorem dX1_outcomeAnew_41 : decode cX1_outcomeAnew 41 = .ok (.invokevirtual 443, 3) := dk_182 1 187 (dk_at dksX1_outcomeAnew_1 18 rfl rfl)
theorem dX1_outcomeAnew_44 : decode cX1_outcomeAnew 44 = .ok (.iinc 3 1, 3) := dk_132 3 1 (dk_at dksX1_outcomeAnew_1 21 rfl rfl)
theorem dX1_outcomeAnew_47 : decode cX1_outcomeAnew 47 = .ok (.goto (-32), 3) := dk_167 255 224 (dk_at dksX1_outcomeAnew_2 0 rfl rfl)
theorem dX1_outcomeAnew_50 : decode cX1_outcomeAnew 50 = .ok (.aload_n 0, 1) := dk_42 (dk_at dksX1_outcomeAnew_2 3 rfl rfl)
theorem dX1_outcomeAnew_51 : decode cX1_outcomeAnew 51 = .ok (.aload_n 0, 1) := dk_42 (dk_at dksX1_outcomeAnew_2 4 rfl rfl)
theorem dX1_outcomeAnew_52 : decode cX1_outcomeAnew 52 = .ok (.getfield 68, 3) := dk_180 0 68 (dk_at dksX1_outcomeAnew_2 5 rfl rfl)
theorem dX1_outcomeAnew_55 : decode cX1_outcomeAnew 55 = .ok (.invokevirtual 446, 3) := dk_182 1 190 (dk_at dksX1_outcomeAnew_2 8 rfl rfl)
theorem dX1_outcomeAnew_58 : decode cX1_outcomeAnew 58 = .ok (.ireturn, 1) := dk_172 (dk_at dksX1_outcomeAnew_2 11 rfl rfl)
theorem q1657 : (Jvm.Cond.methodLink "Plugboard" (440 : Nat) ({ cls := "Plugboard$Fields", name := "clear", desc := "()V" } : Jvm.MethodName)) ∈ lw_all := lw_g (lw_at lw_m7 147 rfl) rfl
theorem q1658 : (Jvm.Cond.methodLink "Plugboard" (443 : Nat) ({ cls := "Plugboard$Fields", name := "write", desc := "(LPlugboard$Operation;)V" } : Jvm.MethodName)) ∈ lw_all := lw_g (lw_at lw_m7 148 rfl) rfl
theorem q1659 : (Jvm.Cond.methodLink "Plugboard" (446 : Nat) ({ cls := "Plugboard", name := "outcomeOf", desc := "(LPlugboard$Fields;)I" } : Jvm.MethodName)) ∈ lw_all := lw_g (lw_at lw_m7 149 rfl) rfl
theorem q1661 : (Jvm.Cond.instanceMethod ({ cls := "Plugboard", name := "outcomeOf", desc := "(LPlugboard$Fields;)I" } : Jvm.MethodName)) ∈ lw_all := lw_g (lw_at lw_m7 151 rfl) rfl
theorem q1662 : (Jvm.Cond.code ({ cls := "Plugboard", name := "outcomeOf", desc := "(LPlugboard$Fields;)I" } : Jvm.MethodName) prog_1_method_79_code (2 : Nat) (Option.some Jvm.ClassFile.FieldType.int)) ∈ lw_all := lw_g (lw_at lw_m7 152 rfl) rfl
abbrev rm_X1_outcomeAnew : Room := { frames := 9, cells := 8, slots := 17, locals := 3125 }
def w_X1_outcomeAnew_15 (P : Int32 → AH → Prop) (PX : String → AH → Prop) (x0 : Option Nat) (x2 : Option Nat) (x3 : Int32) (h : AH) : Prop :=
  ∀ Z15 : Int32 → AH → Prop, (∀ x3 h, (
      g_q h x2 2 2 fun y17 =>
      is_c h y17 [3] (
      w_X4_size y17 h (fun y20 h20 =>
      ((y20 ≤ x3 →
        g_q h20 x0 0 3 fun y52 =>
        is_c h20 x0 [0] (
        w_X1_outcomeOf x0 y52 h20 (fun y55 h55 =>
        P y55 h55))) ∧
       (¬ y20 ≤ x3 →
        g_q h20 x0 0 3 fun y27 =>
        g_q h20 x2 2 2 fun y31 =>
        is_c h20 y31 [3] (
        w_X4_at y31 x3 h20 (fun y35 h35 =>
        is_c h35 y35 [9] (
        is_c h35 y27 [1] (
        w_X2_write y27 y35 h35 (fun h41 =>
        Z15 (x3 + 1) h41))))))))))
      → Z15 x3 h) → Z15 x3 h
def w_X1_outcomeAnew (a0 : Option Nat) (a1 : Int32) (h : AH) (P : Int32 → AH → Prop) (PX : String → AH → Prop) : Prop :=
  is_c h a0 [0] (
  w_X1_board a0 a1 h (fun y2 h2 =>
  g_q h2 a0 0 3 fun y7 =>
  is_c h2 y7 [1] (
  w_X2_clear y7 h2 (fun h10 =>
  w_X1_outcomeAnew_15 P PX a0 y2 0 h10))) PX)
theorem wk_X1_outcomeAnew_15 {x : CX} (X : Ok x cX1_outcomeAnew RX1 rm_X1_outcomeAnew 4) (er : xrt x = (Option.some Jvm.ClassFile.FieldType.int)) (en : xnm x = yX1_outcomeAnew.name) {P : Int32 → AH → Prop} {PX : String → AH → Prop} (hQ : xr_i x P) (hT : xt_ x PX) (hex : ∀ z ∈ x.2.2.2.2.2.2.2.2.2.1.exceptionTable.toList, False) (x0 : Option Nat) (x2 : Option Nat) (x3 : Int32) (h : AH) (hw : w_X1_outcomeAnew_15 P PX x0 x2 x3 h) : J x h 2 7 15 [(0, vR x0), (2, vR x2), (3, vI x3)] [] := by
  refine hw (fun x3 h => J x h 2 7 15 [(0, vR x0), (2, vR x2), (3, vI x3)] []) (fun x3 h hw => ?_)
  refine j_iload_n X (pc := 15) 2 dX1_outcomeAnew_15 rfl rfl ?_
  refine j_aload_n X (pc := 16) 1 dX1_outcomeAnew_16 rfl rfl ?_
  refine j_getqN (ci := 2) X (pc := 17) in_X3 rfl (by decide) 2 (by decide) q213 (Or.inl rfl) dX1_outcomeAnew_17 hw (fun y17 hw => ?_)
  obtain ⟨b9, c9, f9, hr9, ho9, hc9, hw⟩ := hw
  obtain rfl := List.mem_singleton.mp hc9
  refine j_calli (j_runV (n8 := 0) (As := []) (rest := [vI x3]) X (pc := 20) hr9 (met_X4_size (xl x) X.hl (xG x) h y17 _ hw) ho9 (by decide) rfl q756 q757 q758 q77 q759 (by decide +kernel) dX1_outcomeAnew_20 rfl ⟨Nat.le_of_ble_eq_true rfl, Nat.le_of_ble_eq_true rfl⟩ (Nat.le_of_ble_eq_true rfl) ⟨Nat.le_of_ble_eq_true rfl, Nat.le_of_ble_eq_true rfl⟩) (fun y20 h20 hw => ?_)
  refine j_icmp_ge X (pc := 23) 50 dX1_outcomeAnew_23 (by decide) hw (fun hw => ?_) (fun hw => ?_)
  · refine j_aload_n X (pc := 50) 0 dX1_outcomeAnew_50 rfl rfl ?_
    refine j_aload_n X (pc := 51) 0 dX1_outcomeAnew_51 rfl rfl ?_
    refine j_getq (ci := 0) X (pc := 52) in_X1 rfl (by decide) 3 (by decide) q245 (Or.inl rfl) dX1_outcomeAnew_52 hw (fun y52 hw => ?_)
    obtain ⟨b9, c9, f9, hr9, ho9, hc9, hw⟩ := hw
    obtain rfl := List.mem_singleton.mp hc9
    refine j_calli (j_runV (n8 := 1) (As := [vR y52]) (rest := []) X (pc := 55) hr9 (met_X1_outcomeOf (xl x) X.hl (xG x) h20 x0 y52 _ hw) ho9 (by decide) rfl q1659 q1661 qs30 q71 q1662 (by decide +kernel) dX1_outcomeAnew_55 rfl ⟨Nat.le_of_ble_eq_true rfl, Nat.le_of_ble_eq_true rfl⟩ (Nat.le_of_ble_eq_true rfl) ⟨Nat.le_of_ble_eq_true rfl, Nat.le_of_ble_eq_true rfl⟩) (fun y55 h55 hw => ?_)
    exact j_iret X (pc := 58) hQ er (Nat.le_of_ble_eq_true rfl) (Nat.le_of_ble_eq_true rfl) dX1_outcomeAnew_58 hw
  · refine j_aload_n X (pc := 26) 0 dX1_outcomeAnew_26 rfl rfl ?_
    refine j_getq (ci := 0) X (pc := 27) in_X1 rfl (by decide) 3 (by decide) q245 (Or.inl rfl) dX1_outcomeAnew_27 hw (fun y27 hw => ?_)
    refine j_aload_n X (pc := 30) 1 dX1_outcomeAnew_30 rfl rfl ?_
    refine j_getqN (ci := 2) X (pc := 31) in_X3 rfl (by decide) 2 (by decide) q213 (Or.inl rfl) dX1_outcomeAnew_31 hw (fun y31 hw => ?_)
    refine j_iload_n X (pc := 34) 2 dX1_outcomeAnew_34 rfl rfl ?_
    obtain ⟨b9, c9, f9, hr9, ho9, hc9, hw⟩ := hw
    obtain rfl := List.mem_singleton.mp hc9
    refine j_callq (j_runV (n8 := 1) (As := [vI x3]) (rest := [vR y27]) X (pc := 35) hr9 (met_X4_at (xl x) X.hl (xG x) h20 y31 x3 _ hw) ho9 (by decide) rfl q761 q762 q763 q77 q764 (by decide +kernel) dX1_outcomeAnew_35 rfl ⟨Nat.le_of_ble_eq_true rfl, Nat.le_of_ble_eq_true rfl⟩ (Nat.le_of_ble_eq_true rfl) ⟨Nat.le_of_ble_eq_true rfl, Nat.le_of_ble_eq_true rfl⟩) (fun y35 h35 hw => ?_)
    refine j_chk X (pc := 38) (L := [9]) q692 (by intro ci hci; obtain rfl := List.mem_singleton.mp hci; exact ⟨by decide, _, _, _, rfl, Or.inl rfl⟩) dX1_outcomeAnew_38 hw (fun hw => ?_)
    obtain ⟨b9, c9, f9, hr9, ho9, hc9, hw⟩ := hw
    obtain rfl := List.mem_singleton.mp hc9
    refine j_callv (j_runV (n8 := 1) (As := [vR y35]) (rest := []) X (pc := 41) hr9 (met_X2_write (xl x) X.hl (xG x) h35 y27 y35 _ hw) ho9 (by decide) rfl q1658 q1061 q1062 q75 q1063 (by decide +kernel) dX1_outcomeAnew_41 rfl ⟨Nat.le_of_ble_eq_true rfl, Nat.le_of_ble_eq_true rfl⟩ (Nat.le_of_ble_eq_true rfl) ⟨Nat.le_of_ble_eq_true rfl, Nat.le_of_ble_eq_true rfl⟩) (fun h41 hw => ?_)
    refine j_iinc X (pc := 44) 2 (x3 + 1) [(3, vI (x3 + 1)), (0, vR x0), (2, vR x2)] dX1_outcomeAnew_44 rfl rfl (Nat.le_of_ble_eq_true rfl) rfl ?_
    refine j_goto X (pc := 47) 15 dX1_outcomeAnew_47 (by decide) ?_
    refine j_lv [(0, vR x0), (2, vR x2), (3, vI (x3 + 1))] [1, 2, 0] rfl ?_
    refine j_cs (u' := 2) (v' := 7) (Nat.le_of_ble_eq_true rfl) (Nat.le_of_ble_eq_true rfl) ?_
    exact hw
theorem met_X1_outcomeAnew (l : Launch) (hlt : l.stackTraces = false) (G : GG) (h : AH) (a0 : Option Nat) (a1 : Int32) (P : Int32 → AH → Prop) (PX : String → AH → Prop) (hw : w_X1_outcomeAnew a0 a1 h P PX) : cx_i l yX1_outcomeAnew (ws_ yX1_outcomeAnew cX1_outcomeAnew 4 (Option.some Jvm.ClassFile.FieldType.int)) rm_X1_outcomeAnew G h [vR a0, vI a1] P PX := by
  refine j_startXi hlt [(0, vR a0), (1, vI a1)] (by decide) rfl rfl (fun x X eG er en hQ hT hex => ?_)
  subst eG
  refine j_aload_n X (pc := 0) 0 dX1_outcomeAnew_0 rfl rfl ?_
  refine j_iload_n X (pc := 1) 1 dX1_outcomeAnew_1 rfl rfl ?_
  obtain ⟨b9, c9, f9, hr9, ho9, hc9, hw⟩ := hw
  obtain rfl := List.mem_singleton.mp hc9
  refine j_callXq (j_runVX (n8 := 1) (As := [vI a1]) (rest := []) X (pc := 2) hr9 (met_X1_board (xl x) X.hl (xG x) h a0 a1 _ _ hw) ho9 (by decide) rfl q297 q299 qs0 q71 q300 (by decide +kernel) dX1_outcomeAnew_2 rfl ⟨Nat.le_of_ble_eq_true rfl, Nat.le_of_ble_eq_true rfl⟩ (Nat.le_of_ble_eq_true rfl) ⟨Nat.le_of_ble_eq_true rfl, Nat.le_of_ble_eq_true rfl⟩) (fun E h9 hx => j_out X hT hex (Nat.le_of_ble_eq_true rfl) (Nat.le_of_ble_eq_true rfl) hx) (fun y2 h2 hw => ?_)
  refine j_astore_n X (pc := 5) [(2, vR y2), (0, vR a0), (1, vI a1)] dX1_outcomeAnew_5 rfl (Nat.le_of_ble_eq_true rfl) rfl ?_
  refine j_aload_n X (pc := 6) 1 dX1_outcomeAnew_6 rfl rfl ?_
  refine j_getq (ci := 0) X (pc := 7) in_X1 rfl (by decide) 3 (by decide) q245 (Or.inl rfl) dX1_outcomeAnew_7 hw (fun y7 hw => ?_)
  obtain ⟨b9, c9, f9, hr9, ho9, hc9, hw⟩ := hw
  obtain rfl := List.mem_singleton.mp hc9
  refine j_callv (j_runV (n8 := 0) (As := []) (rest := []) X (pc := 10) hr9 (met_X2_clear (xl x) X.hl (xG x) h2 y7 _ hw) ho9 (by decide) rfl q1657 q203 q204 q75 q205 (by decide +kernel) dX1_outcomeAnew_10 rfl ⟨Nat.le_of_ble_eq_true rfl, Nat.le_of_ble_eq_true rfl⟩ (Nat.le_of_ble_eq_true rfl) ⟨Nat.le_of_ble_eq_true rfl, Nat.le_of_ble_eq_true rfl⟩) (fun h10 hw => ?_)
  refine j_iconst X (pc := 13) 0 dX1_outcomeAnew_13 (by decide) ?_
  refine j_istore_n X (pc := 14) [(3, vI 0), (2, vR y2), (0, vR a0), (1, vI a1)] dX1_outcomeAnew_14 rfl (Nat.le_of_ble_eq_true rfl) rfl ?_
  refine j_lv [(0, vR a0), (2, vR y2), (3, vI 0)] [2, 1, 0] rfl ?_
  refine j_cs (u' := 2) (v' := 7) (Nat.le_of_ble_eq_true rfl) (Nat.le_of_ble_eq_true rfl) ?_
  exact wk_X1_outcomeAnew_15 X er en hQ hT hex a0 y2 0 h10 hw
abbrev cX0_outcomeAnew : ByteArray := method_41_code
def yX0_outcomeAnew : MethodName := ⟨RX0, "outcomeAnew", "(LPlugboard;I[J)I"⟩
def dkwX0_outcomeAnew_0 : List UInt8 := [44, 3, 42, 27, 182, 0, 142, 133, 80, 167, 0, 6, 78, 4, 172, 3, 172]
abbrev dktX0_outcomeAnew_0 : List UInt8 := dkwX0_outcomeAnew_0 ++ []
theorem dksX0_outcomeAnew_0 : cX0_outcomeAnew.data.toList.drop 0 = dktX0_outcomeAnew_0 := by decide +kernel
theorem dX0_outcomeAnew_0 : decode cX0_outcomeAnew 0 = .ok (.aload_n 2, 1) := dk_44 (dk_at dksX0_outcomeAnew_0 0 rfl rfl)
theorem dX0_outcomeAnew_1 : decode cX0_outcomeAnew 1 = .ok (.iconst 0, 1) := dk_3 (dk_at dksX0_outcomeAnew_0 1 rfl rfl)
theorem dX0_outcomeAnew_2 : decode cX0_outcomeAnew 2 = .ok (.aload_n 0, 1) := dk_42 (dk_at dksX0_outcomeAnew_0 2 rfl rfl)
theorem dX0_outcomeAnew_3 : decode cX0_outcomeAnew 3 = .ok (.iload_n 1, 1) := dk_27 (dk_at dksX0_outcomeAnew_0 3 rfl rfl)
theorem dX0_outcomeAnew_4 : decode cX0_outcomeAnew 4 = .ok (.invokevirtual 142, 3) := dk_182 0 142 (dk_at dksX0_outcomeAnew_0 4 rfl rfl)
theorem dX0_outcomeAnew_7 : decode cX0_outcomeAnew 7 = .ok (.i2l, 1) := dk_133 (dk_at dksX0_outcomeAnew_0 7 rfl rfl)
theorem dX0_outcomeAnew_8 : decode cX0_outcomeAnew 8 = .ok (.lastore, 1) := dk_80 (dk_at dksX0_outcomeAnew_0 8 rfl rfl)
theorem dX0_outcomeAnew_9 : decode cX0_outcomeAnew 9 = .ok (.goto 6, 3) := dk_167 0 6 (dk_at dksX0_outcomeAnew_0 9 rfl rfl)
theorem dX0_outcomeAnew_12 : decode cX0_outcomeAnew 12 = .ok (.astore_n 3, 1) := dk_78 (dk_at dksX0_outcomeAnew_0 12 rfl rfl)
theorem dX0_outcomeAnew_13 : decode cX0_outcomeAnew 13 = .ok (.iconst 1, 1) := dk_4 (dk_at dksX0_outcomeAnew_0 13 rfl rfl)
theorem dX0_outcomeAnew_14 : decode cX0_outcomeAnew 14 = .ok (.ireturn, 1) := dk_172 (dk_at dksX0_outcomeAnew_0 14 rfl rfl)
theorem dX0_outcomeAnew_15 : decode cX0_outcomeAnew 15 = .ok (.iconst 0, 1) := dk_3 (dk_at dksX0_outcomeAnew_0 15 rfl rfl)
theorem dX0_outcomeAnew_16 : decode cX0_outcomeAnew 16 = .ok (.ireturn, 1) := dk_172 (dk_at dksX0_outcomeAnew_0 16 rfl rfl)
theorem q1653 : (Jvm.Cond.methodLink "PlugboardLaw" (142 : Nat) ({ cls := "Plugboard", name := "outcomeAnew", desc := "(I)I" } : Jvm.MethodName)) ∈ lw_all := lw_g (lw_at lw_m7 143 rfl) rfl
theorem q1654 : (Jvm.Cond.instanceMethod ({ cls := "Plugboard", name := "outcomeAnew", desc := "(I)I" } : Jvm.MethodName)) ∈ lw_all := lw_g (lw_at lw_m7 144 rfl) rfl
theorem q1655 : (Jvm.Cond.selects "Plugboard" ({ cls := "Plugboard", name := "outcomeAnew", desc := "(I)I" } : Jvm.MethodName) ({ cls := "Plugboard", name := "outcomeAnew", desc := "(I)I" } : Jvm.MethodName)) ∈ lw_all := lw_g (lw_at lw_m7 145 rfl) rfl
theorem q1656 : (Jvm.Cond.code ({ cls := "Plugboard", name := "outcomeAnew", desc := "(I)I" } : Jvm.MethodName) prog_1_method_80_code (4 : Nat) (Option.some Jvm.ClassFile.FieldType.int)) ∈ lw_all := lw_g (lw_at lw_m7 146 rfl) rfl
abbrev rm_X0_outcomeAnew : Room := { frames := 10, cells := 8, slots := 17, locals := 3148 }
def w_X0_outcomeAnew (a0 : Option Nat) (a1 : Int32) (a2 : Option Nat) (h : AH) (P : Int32 → AH → Prop) : Prop :=
  is_c h a0 [0] (
  w_X1_outcomeAnew a0 a1 h (fun y4 h4 =>
  s_L h4 a2 0 (Int32.toInt64 y4) fun h8 =>
  P 0 h8)
    (fun E9 h9 => (E9 = "java/lang/IllegalArgumentException" ∧ ∀ q9 : Nat,
    P 1 h9)))
theorem met_X0_outcomeAnew (l : Launch) (hlt : l.stackTraces = false) (G : GG) (h : AH) (a0 : Option Nat) (a1 : Int32) (a2 : Option Nat) (P : Int32 → AH → Prop) (hw : w_X0_outcomeAnew a0 a1 a2 h P) : ct_i l yX0_outcomeAnew (wsW_ yX0_outcomeAnew cX0_outcomeAnew 4 (Option.some Jvm.ClassFile.FieldType.int) [((0 : Nat), (9 : Nat), (12 : Nat), (13 : Nat))]) rm_X0_outcomeAnew G h [vR a0, vI a1, vR a2] P := by
  refine j_startWi hlt [(0, vR a0), (1, vI a1), (2, vR a2)] (by decide) rfl rfl (fun x X eG er en hQ hex => ?_)
  subst eG
  refine j_aload_n X (pc := 0) 2 dX0_outcomeAnew_0 rfl rfl ?_
  refine j_iconst X (pc := 1) 0 dX0_outcomeAnew_1 (by decide) ?_
  refine j_aload_n X (pc := 2) 0 dX0_outcomeAnew_2 rfl rfl ?_
  refine j_iload_n X (pc := 3) 1 dX0_outcomeAnew_3 rfl rfl ?_
  obtain ⟨b9, c9, f9, hr9, ho9, hc9, hw⟩ := hw
  obtain rfl := List.mem_singleton.mp hc9
  refine j_callXi (j_runVX (n8 := 1) (As := [vI a1]) (rest := [vI 0, vR a2]) X (pc := 4) hr9 (met_X1_outcomeAnew (xl x) X.hl (xG x) h a0 a1 _ _ hw) ho9 (by decide) rfl q1653 q1654 q1655 q71 q1656 (by decide +kernel) dX0_outcomeAnew_4 rfl ⟨Nat.le_of_ble_eq_true rfl, Nat.le_of_ble_eq_true rfl⟩ (Nat.le_of_ble_eq_true rfl) ⟨Nat.le_of_ble_eq_true rfl, Nat.le_of_ble_eq_true rfl⟩) ?_ (fun y4 h4 hw => ?_)
  · intro E9 h9 hx
    obtain ⟨rfl, hw⟩ := hx
    refine j_catch X (pc := 4) "java/lang/IllegalArgumentException" hex [] [] ⟨0, 9, 12, 13⟩ rfl (by intro y hy; cases hy) (by decide) (by decide) q291 q312 (fun q9 => ?_)
    have hw := hw q9
    refine j_astore_n X (pc := 12) [(3, vR (some q9)), (0, vR a0), (1, vI a1), (2, vR a2)] dX0_outcomeAnew_12 rfl (Nat.le_of_ble_eq_true rfl) rfl ?_
    refine j_iconst X (pc := 13) 1 dX0_outcomeAnew_13 (by decide) ?_
    exact j_iret X (pc := 14) hQ er (Nat.le_of_ble_eq_true rfl) (Nat.le_of_ble_eq_true rfl) dX0_outcomeAnew_14 hw
  refine j_i2l X (pc := 7) dX0_outcomeAnew_7 ?_
  refine j_last X (pc := 8) dX0_outcomeAnew_8 hw (fun h8 hw => ?_)
  refine j_goto X (pc := 9) 15 dX0_outcomeAnew_9 (by decide) ?_
  refine j_iconst X (pc := 15) 0 dX0_outcomeAnew_15 (by decide) ?_
  exact j_iret X (pc := 16) hQ er (Nat.le_of_ble_eq_true rfl) (Nat.le_of_ble_eq_true rfl) dX0_outcomeAnew_16 hw
abbrev cX5_outcomeAnew : ByteArray := prog_19_method_85_code
def yX5_outcomeAnew : MethodName := ⟨RX5, "outcomeAnew", "(I)I"⟩
def dkwX5_outcomeAnew_0 : List UInt8 := [42, 27, 182, 1, 24, 172]
abbrev dktX5_outcomeAnew_0 : List UInt8 := dkwX5_outcomeAnew_0 ++ []
theorem dksX5_outcomeAnew_0 : cX5_outcomeAnew.data.toList.drop 0 = dktX5_outcomeAnew_0 := by decide +kernel
theorem dX5_outcomeAnew_0 : decode cX5_outcomeAnew 0 = .ok (.aload_n 0, 1) := dk_42 (dk_at dksX5_outcomeAnew_0 0 rfl rfl)
theorem dX5_outcomeAnew_1 : decode cX5_outcomeAnew 1 = .ok (.iload_n 1, 1) := dk_27 (dk_at dksX5_outcomeAnew_0 1 rfl rfl)
theorem dX5_outcomeAnew_2 : decode cX5_outcomeAnew 2 = .ok (.invokevirtual 280, 3) := dk_182 1 24 (dk_at dksX5_outcomeAnew_0 2 rfl rfl)
theorem dX5_outcomeAnew_5 : decode cX5_outcomeAnew 5 = .ok (.ireturn, 1) := dk_172 (dk_at dksX5_outcomeAnew_0 5 rfl rfl)
theorem q2293 : (Jvm.Cond.instanceMethod ({ cls := "PlugboardModel", name := "outcome", desc := "(I)I" } : Jvm.MethodName)) ∈ lw_all := lw_g (lw_at lw_m10 63 rfl) rfl
theorem q2294 : (Jvm.Cond.selects "PlugboardModel" ({ cls := "PlugboardModel", name := "outcome", desc := "(I)I" } : Jvm.MethodName) ({ cls := "PlugboardModel", name := "outcome", desc := "(I)I" } : Jvm.MethodName)) ∈ lw_all := lw_g (lw_at lw_m10 64 rfl) rfl
theorem q2295 : (Jvm.Cond.code ({ cls := "PlugboardModel", name := "outcome", desc := "(I)I" } : Jvm.MethodName) prog_19_method_84_code (2 : Nat) (Option.some Jvm.ClassFile.FieldType.int)) ∈ lw_all := lw_g (lw_at lw_m10 65 rfl) rfl
theorem q2309 : (Jvm.Cond.methodLink "PlugboardModel" (280 : Nat) ({ cls := "PlugboardModel", name := "outcome", desc := "(I)I" } : Jvm.MethodName)) ∈ lw_all := lw_g (lw_at lw_m10 79 rfl) rfl
abbrev rm_X5_outcomeAnew : Room := { frames := 5, cells := 0, slots := 0, locals := 109 }
def w_X5_outcomeAnew (a0 : Option Nat) (a1 : Int32) (h : AH) (P : Int32 → AH → Prop) : Prop :=
  is_c h a0 [4] (
  w_X5_outcome a0 a1 h (fun y2 h2 =>
  P y2 h2))
theorem met_X5_outcomeAnew (l : Launch) (hlt : l.stackTraces = false) (G : GG) (h : AH) (a0 : Option Nat) (a1 : Int32) (P : Int32 → AH → Prop) (hw : w_X5_outcomeAnew a0 a1 h P) : ct_i l yX5_outcomeAnew (ws_ yX5_outcomeAnew cX5_outcomeAnew 2 (Option.some Jvm.ClassFile.FieldType.int)) rm_X5_outcomeAnew G h [vR a0, vI a1] P := by
  refine j_starti hlt [(0, vR a0), (1, vI a1)] (plainFor_of_name (by decide)) rfl rfl (fun x X eG er en hQ => ?_)
  subst eG
  refine j_aload_n X (pc := 0) 0 dX5_outcomeAnew_0 rfl rfl ?_
  refine j_iload_n X (pc := 1) 1 dX5_outcomeAnew_1 rfl rfl ?_
  obtain ⟨b9, c9, f9, hr9, ho9, hc9, hw⟩ := hw
  obtain rfl := List.mem_singleton.mp hc9
  refine j_calli (j_runV (n8 := 1) (As := [vI a1]) (rest := []) X (pc := 2) hr9 (met_X5_outcome (xl x) X.hl (xG x) h a0 a1 _ hw) ho9 (by decide) rfl q2309 q2293 q2294 q78 q2295 (by decide +kernel) dX5_outcomeAnew_2 rfl ⟨Nat.le_of_ble_eq_true rfl, Nat.le_of_ble_eq_true rfl⟩ (Nat.le_of_ble_eq_true rfl) ⟨Nat.le_of_ble_eq_true rfl, Nat.le_of_ble_eq_true rfl⟩) (fun y2 h2 hw => ?_)
  exact j_iret X (pc := 5) hQ er (Nat.le_of_ble_eq_true rfl) (Nat.le_of_ble_eq_true rfl) dX5_outcomeAnew_5 hw
