/-! walks (printed): PlugboardModel -/
set_option maxRecDepth 100000
abbrev cX5_shuts : ByteArray := prog_19_method_70_code
def yX5_shuts : MethodName := ⟨RX5, "shuts", "()V"⟩
def dkwX5_shuts_3 : List UInt8 := [128, 84, 132, 2, 1, 167, 255, 198, 132, 1, 1, 167, 255, 176, 177]
abbrev dktX5_shuts_3 : List UInt8 := dkwX5_shuts_3 ++ []
def dkwX5_shuts_2 : List UInt8 := [154, 0, 23, 42, 28, 27, 16, 24, 112, 27, 16, 24, 108, 182, 0, 235, 153, 0, 7, 4, 167, 0, 4, 3]
abbrev dktX5_shuts_2 : List UInt8 := dkwX5_shuts_2 ++ dktX5_shuts_3
def dkwX5_shuts_1 : List UInt8 := [162, 0, 56, 42, 180, 0, 91, 27, 92, 51, 42, 28, 182, 0, 125, 153, 0, 32, 42, 180, 0, 22, 28, 51]
abbrev dktX5_shuts_1 : List UInt8 := dkwX5_shuts_1 ++ dktX5_shuts_2
def dkwX5_shuts_0 : List UInt8 := [3, 60, 27, 17, 1, 128, 162, 0, 79, 42, 180, 0, 91, 27, 3, 84, 3, 61, 28, 42, 180, 0, 119]
abbrev dktX5_shuts_0 : List UInt8 := dkwX5_shuts_0 ++ dktX5_shuts_1
theorem dksX5_shuts_0 : cX5_shuts.data.toList.drop 0 = dktX5_shuts_0 := by decide +kernel
theorem dksX5_shuts_1 : cX5_shuts.data.toList.drop 23 = dktX5_shuts_1 := dk_seg dksX5_shuts_0 23 rfl rfl
theorem dksX5_shuts_2 : cX5_shuts.data.toList.drop 47 = dktX5_shuts_2 := dk_seg dksX5_shuts_1 24 rfl rfl
theorem dksX5_shuts_3 : cX5_shuts.data.toList.drop 71 = dktX5_shuts_3 := dk_seg dksX5_shuts_2 24 rfl rfl
theorem dX5_shuts_0 : decode cX5_shuts 0 = .ok (.iconst 0, 1) := dk_3 (dk_at dksX5_shuts_0 0 rfl rfl)
theorem dX5_shuts_1 : decode cX5_shuts 1 = .ok (.istore_n 1, 1) := dk_60 (dk_at dksX5_shuts_0 1 rfl rfl)
theorem dX5_shuts_2 : decode cX5_shuts 2 = .ok (.iload_n 1, 1) := dk_27 (dk_at dksX5_shuts_0 2 rfl rfl)
theorem dX5_shuts_3 : decode cX5_shuts 3 = .ok (.sipush 384, 3) := dk_17 1 128 (dk_at dksX5_shuts_0 3 rfl rfl)
theorem dX5_shuts_6 : decode cX5_shuts 6 = .ok (.if_icmp .ge 79, 3) := dk_162 0 79 (dk_at dksX5_shuts_0 6 rfl rfl)
theorem dX5_shuts_9 : decode cX5_shuts 9 = .ok (.aload_n 0, 1) := dk_42 (dk_at dksX5_shuts_0 9 rfl rfl)
theorem dX5_shuts_10 : decode cX5_shuts 10 = .ok (.getfield 91, 3) := dk_180 0 91 (dk_at dksX5_shuts_0 10 rfl rfl)
theorem dX5_shuts_13 : decode cX5_shuts 13 = .ok (.iload_n 1, 1) := dk_27 (dk_at dksX5_shuts_0 13 rfl rfl)
theorem dX5_shuts_14 : decode cX5_shuts 14 = .ok (.iconst 0, 1) := dk_3 (dk_at dksX5_shuts_0 14 rfl rfl)
theorem dX5_shuts_15 : decode cX5_shuts 15 = .ok (.bastore, 1) := dk_84 (dk_at dksX5_shuts_0 15 rfl rfl)
theorem dX5_shuts_16 : decode cX5_shuts 16 = .ok (.iconst 0, 1) := dk_3 (dk_at dksX5_shuts_0 16 rfl rfl)
theorem dX5_shuts_17 : decode cX5_shuts 17 = .ok (.istore_n 2, 1) := dk_61 (dk_at dksX5_shuts_0 17 rfl rfl)
theorem dX5_shuts_18 : decode cX5_shuts 18 = .ok (.iload_n 2, 1) := dk_28 (dk_at dksX5_shuts_0 18 rfl rfl)
theorem dX5_shuts_19 : decode cX5_shuts 19 = .ok (.aload_n 0, 1) := dk_42 (dk_at dksX5_shuts_0 19 rfl rfl)
theorem dX5_shuts_20 : decode cX5_shuts 20 = .ok (.getfield 119, 3) := dk_180 0 119 (dk_at dksX5_shuts_0 20 rfl rfl)
theorem dX5_shuts_23 : decode cX5_shuts 23 = .ok (.if_icmp .ge 56, 3) := dk_162 0 56 (dk_at dksX5_shuts_1 0 rfl rfl)
theorem dX5_shuts_26 : decode cX5_shuts 26 = .ok (.aload_n 0, 1) := dk_42 (dk_at dksX5_shuts_1 3 rfl rfl)
theorem dX5_shuts_27 : decode cX5_shuts 27 = .ok (.getfield 91, 3) := dk_180 0 91 (dk_at dksX5_shuts_1 4 rfl rfl)
theorem dX5_shuts_30 : decode cX5_shuts 30 = .ok (.iload_n 1, 1) := dk_27 (dk_at dksX5_shuts_1 7 rfl rfl)
theorem dX5_shuts_31 : decode cX5_shuts 31 = .ok (.dup2, 1) := dk_92 (dk_at dksX5_shuts_1 8 rfl rfl)
theorem dX5_shuts_32 : decode cX5_shuts 32 = .ok (.baload, 1) := dk_51 (dk_at dksX5_shuts_1 9 rfl rfl)
theorem dX5_shuts_33 : decode cX5_shuts 33 = .ok (.aload_n 0, 1) := dk_42 (dk_at dksX5_shuts_1 10 rfl rfl)
theorem dX5_shuts_34 : decode cX5_shuts 34 = .ok (.iload_n 2, 1) := dk_28 (dk_at dksX5_shuts_1 11 rfl rfl)
theorem dX5_shuts_35 : decode cX5_shuts 35 = .ok (.invokevirtual 125, 3) := dk_182 0 125 (dk_at dksX5_shuts_1 12 rfl rfl)
theorem dX5_shuts_38 : decode cX5_shuts 38 = .ok (.ifCond .eq 32, 3) := dk_153 0 32 (dk_at dksX5_shuts_1 15 rfl rfl)
theorem dX5_shuts_41 : decode cX5_shuts 41 = .ok (.aload_n 0, 1) := dk_42 (dk_at dksX5_shuts_1 18 rfl rfl)
theorem dX5_shuts_42 : decode cX5_shuts 42 = .ok (.getfield 22, 3) := dk_180 0 22 (dk_at dksX5_shuts_1 19 rfl rfl)
theorem dX5_shuts_45 : decode cX5_shuts 45 = .ok (.iload_n 2, 1) := dk_28 (dk_at dksX5_shuts_1 22 rfl rfl)
theorem dX5_shuts_46 : decode cX5_shuts 46 = .ok (.baload, 1) := dk_51 (dk_at dksX5_shuts_1 23 rfl rfl)
theorem dX5_shuts_47 : decode cX5_shuts 47 = .ok (.ifCond .ne 23, 3) := dk_154 0 23 (dk_at dksX5_shuts_2 0 rfl rfl)
theorem dX5_shuts_50 : decode cX5_shuts 50 = .ok (.aload_n 0, 1) := dk_42 (dk_at dksX5_shuts_2 3 rfl rfl)
theorem dX5_shuts_51 : decode cX5_shuts 51 = .ok (.iload_n 2, 1) := dk_28 (dk_at dksX5_shuts_2 4 rfl rfl)
theorem dX5_shuts_52 : decode cX5_shuts 52 = .ok (.iload_n 1, 1) := dk_27 (dk_at dksX5_shuts_2 5 rfl rfl)
theorem dX5_shuts_53 : decode cX5_shuts 53 = .ok (.bipush 24, 2) := dk_16 24 (dk_at dksX5_shuts_2 6 rfl rfl)
theorem dX5_shuts_55 : decode cX5_shuts 55 = .ok (.irem, 1) := dk_112 (dk_at dksX5_shuts_2 8 rfl rfl)
theorem dX5_shuts_56 : decode cX5_shuts 56 = .ok (.iload_n 1, 1) := dk_27 (dk_at dksX5_shuts_2 9 rfl rfl)
theorem dX5_shuts_57 : decode cX5_shuts 57 = .ok (.bipush 24, 2) := dk_16 24 (dk_at dksX5_shuts_2 10 rfl rfl)
theorem dX5_shuts_59 : decode cX5_shuts 59 = .ok (.idiv, 1) := dk_108 (dk_at dksX5_shuts_2 12 rfl rfl)
theorem dX5_shuts_60 : decode cX5_shuts 60 = .ok (.invokevirtual 235, 3) := dk_182 0 235 (dk_at dksX5_shuts_2 13 rfl rfl)
theorem dX5_shuts_63 : decode cX5_shuts 63 = .ok (.ifCond .eq 7, 3) := dk_153 0 7 (dk_at dksX5_shuts_2 16 rfl rfl)
theorem dX5_shuts_66 : decode cX5_shuts 66 = .ok (.iconst 1, 1) := dk_4 (dk_at dksX5_shuts_2 19 rfl rfl)
theorem dX5_shuts_67 : decode cX5_shuts 67 = .ok (.goto 4, 3) := dk_167 0 4 (dk_at dksX5_shuts_2 20 rfl rfl)
theorem dX5_shuts_70 : decode cX5_shuts 70 = .ok (.iconst 0, 1) := dk_3 (dk_at dksX5_shuts_2 23 rfl rfl)
theorem dX5_shuts_71 : decode cX5_shuts 71 = .ok (.ior, 1) := dk_128 (dk_at dksX5_shuts_3 0 rfl rfl)
theorem dX5_shuts_72 : decode cX5_shuts 72 = .ok (.bastore, 1) := dk_84 (dk_at dksX5_shuts_3 1 rfl rfl)
theorem dX5_shuts_73 : decode cX5_shuts 73 = .ok (.iinc 2 1, 3) := dk_132 2 1 (dk_at dksX5_shuts_3 2 rfl rfl)
theorem dX5_shuts_76 : decode cX5_shuts 76 = .ok (.goto (-58), 3) := dk_167 255 198 (dk_at dksX5_shuts_3 5 rfl rfl)
theorem dX5_shuts_79 : decode cX5_shuts 79 = .ok (.iinc 1 1, 3) := dk_132 1 1 (dk_at dksX5_shuts_3 8 rfl rfl)
theorem dX5_shuts_82 : decode cX5_shuts 82 = .ok (.goto (-80), 3) := dk_167 255 176 (dk_at dksX5_shuts_3 11 rfl rfl)
theorem dX5_shuts_85 : decode cX5_shuts 85 = .ok (.return_, 1) := dk_177 (dk_at dksX5_shuts_3 14 rfl rfl)
abbrev rm_X5_shuts : Room := { frames := 2, cells := 0, slots := 0, locals := 45 }
def w_X5_shuts_18 (P : AH → Prop) (Z2 : Int32 → AH → Prop) (x0 : Option Nat) (x1 : Int32) (x2 : Int32) (h : AH) : Prop :=
  ∀ Z18 : Int32 → AH → Prop, (∀ x2 h, (
      g_i h x0 4 8 fun y20 =>
      ((y20 ≤ x2 →
        Z2 (x1 + 1) h) ∧
       (¬ y20 ≤ x2 →
        g_q h x0 4 30 fun y27 =>
        l_i h y27 1 x1 fun y32 =>
        is_c h x0 [4] (
        w_X5_isSeen x0 x2 h (fun y35 h35 =>
        ((y35 = 0 →
          nrw .boolean (y32 ||| 0) ∧
          s_i h35 y27 1 x1 (y32 ||| 0) fun h72 =>
          Z18 (x2 + 1) h72) ∧
         (¬ y35 = 0 →
          g_q h35 x0 4 5 fun y42 =>
          l_i h35 y42 1 x2 fun y46 =>
          ((y46 = 0 →
            ¬ (24 : Int32) = 0 ∧
            ¬ (24 : Int32) = 0 ∧
            is_c h35 x0 [4] (
            w_X5_isCovering x0 x2 (x1 - x1 / 24 * 24) (x1 / 24) h35 (fun y60 h60 =>
            ((y60 = 0 →
              nrw .boolean (y32 ||| 0) ∧
              s_i h60 y27 1 x1 (y32 ||| 0) fun h72 =>
              Z18 (x2 + 1) h72) ∧
             (¬ y60 = 0 →
              nrw .boolean (y32 ||| 1) ∧
              s_i h60 y27 1 x1 (y32 ||| 1) fun h72 =>
              Z18 (x2 + 1) h72))))) ∧
           (¬ y46 = 0 →
            nrw .boolean (y32 ||| 0) ∧
            s_i h35 y27 1 x1 (y32 ||| 0) fun h72 =>
            Z18 (x2 + 1) h72)))))))))
      → Z18 x2 h) → Z18 x2 h
def w_X5_shuts_2 (P : AH → Prop) (x0 : Option Nat) (x1 : Int32) (h : AH) : Prop :=
  ∀ Z2 : Int32 → AH → Prop, (∀ x1 h, (
      ((384 ≤ x1 →
        P h) ∧
       (¬ 384 ≤ x1 →
        g_q h x0 4 30 fun y10 =>
        s_i h y10 1 x1 0 fun h15 =>
        w_X5_shuts_18 P Z2 x0 x1 0 h15)))
      → Z2 x1 h) → Z2 x1 h
def w_X5_shuts (a0 : Option Nat) (h : AH) (P : AH → Prop) : Prop :=
  w_X5_shuts_2 P a0 0 h
theorem wk_X5_shuts_18 {x : CX} (X : Ok x cX5_shuts RX5 rm_X5_shuts 3) (er : xrt x = (Option.none : Option Jvm.ClassFile.FieldType)) (en : xnm x = yX5_shuts.name) {P : AH → Prop} (hQ : xr_v x P) (Z2 : Int32 → AH → Prop) (x0 : Option Nat) (x1 : Int32) (x2 : Int32) (h : AH) (hZ2 : ∀ x1 h, Z2 x1 h → J x h 0 0 2 [(0, vR x0), (1, vI x1)] []) (hw : w_X5_shuts_18 P Z2 x0 x1 x2 h) : J x h 0 0 18 [(0, vR x0), (1, vI x1), (2, vI x2)] [] := by
  refine hw (fun x2 h => J x h 0 0 18 [(0, vR x0), (1, vI x1), (2, vI x2)] []) (fun x2 h hw => ?_)
  refine j_iload_n X (pc := 18) 2 dX5_shuts_18 rfl rfl ?_
  refine j_aload_n X (pc := 19) 0 dX5_shuts_19 rfl rfl ?_
  refine j_geti (ci := 4) X (pc := 20) in_X5 rfl (by decide) 8 (by decide) q1880 (Or.inl rfl) dX5_shuts_20 hw (fun y20 hw => ?_)
  refine j_icmp_ge X (pc := 23) 79 dX5_shuts_23 (by decide) hw (fun hw => ?_) (fun hw => ?_)
  · refine j_iinc X (pc := 79) 1 (x1 + 1) [(1, vI (x1 + 1)), (0, vR x0), (2, vI x2)] dX5_shuts_79 rfl rfl (Nat.le_of_ble_eq_true rfl) rfl ?_
    refine j_goto X (pc := 82) 2 dX5_shuts_82 (by decide) ?_
    refine j_lv [(0, vR x0), (1, vI (x1 + 1))] [1, 0] rfl ?_
    refine j_cs (u' := 0) (v' := 0) (Nat.le_of_ble_eq_true rfl) (Nat.le_of_ble_eq_true rfl) ?_
    exact hZ2 (x1 + 1) h hw
  · refine j_aload_n X (pc := 26) 0 dX5_shuts_26 rfl rfl ?_
    refine j_getq (ci := 4) X (pc := 27) in_X5 rfl (by decide) 30 (by decide) q1902 (Or.inl rfl) dX5_shuts_27 hw (fun y27 hw => ?_)
    refine j_iload_n X (pc := 30) 1 dX5_shuts_30 rfl rfl ?_
    refine j_dup2 X (pc := 31) dX5_shuts_31 rfl rfl ?_
    refine j_zald X (pc := 32) 1 rfl dX5_shuts_32 hw (fun y32 hw => ?_)
    refine j_aload_n X (pc := 33) 0 dX5_shuts_33 rfl rfl ?_
    refine j_iload_n X (pc := 34) 2 dX5_shuts_34 rfl rfl ?_
    obtain ⟨b9, c9, f9, hr9, ho9, hc9, hw⟩ := hw
    obtain rfl := List.mem_singleton.mp hc9
    refine j_calli (j_runV (n8 := 1) (As := [vI x2]) (rest := [vI y32, vI x1, vR y27]) X (pc := 35) hr9 (met_X5_isSeen (xl x) X.hl (xG x) h x0 x2 _ hw) ho9 (by decide) rfl q2012 q2014 qs39 q78 q2015 (by decide +kernel) dX5_shuts_35 rfl ⟨Nat.le_of_ble_eq_true rfl, Nat.le_of_ble_eq_true rfl⟩ (Nat.le_of_ble_eq_true rfl) ⟨Nat.le_of_ble_eq_true rfl, Nat.le_of_ble_eq_true rfl⟩) (fun y35 h35 hw => ?_)
    refine j_if_eq X (pc := 38) 70 dX5_shuts_38 (by decide) hw (fun hw => ?_) (fun hw => ?_)
    · refine j_iconst X (pc := 70) 0 dX5_shuts_70 (by decide) ?_
      refine j_ior X (pc := 71) dX5_shuts_71 ?_
      have hnr := hw.1
      have hw := hw.2
      refine j_zast X (pc := 72) 1 rfl rfl hnr dX5_shuts_72 hw (fun h72 hw => ?_)
      refine j_iinc X (pc := 73) 2 (x2 + 1) [(2, vI (x2 + 1)), (0, vR x0), (1, vI x1)] dX5_shuts_73 rfl rfl (Nat.le_of_ble_eq_true rfl) rfl ?_
      refine j_goto X (pc := 76) 18 dX5_shuts_76 (by decide) ?_
      refine j_lv [(0, vR x0), (1, vI x1), (2, vI (x2 + 1))] [1, 2, 0] rfl ?_
      refine j_cs (u' := 0) (v' := 0) (Nat.le_of_ble_eq_true rfl) (Nat.le_of_ble_eq_true rfl) ?_
      exact hw
    · refine j_aload_n X (pc := 41) 0 dX5_shuts_41 rfl rfl ?_
      refine j_getq (ci := 4) X (pc := 42) in_X5 rfl (by decide) 5 (by decide) q1877 (Or.inl rfl) dX5_shuts_42 hw (fun y42 hw => ?_)
      refine j_iload_n X (pc := 45) 2 dX5_shuts_45 rfl rfl ?_
      refine j_zald X (pc := 46) 1 rfl dX5_shuts_46 hw (fun y46 hw => ?_)
      refine j_if_ne X (pc := 47) 70 dX5_shuts_47 (by decide) hw (fun hw => ?_) (fun hw => ?_)
      · refine j_aload_n X (pc := 50) 0 dX5_shuts_50 rfl rfl ?_
        refine j_iload_n X (pc := 51) 2 dX5_shuts_51 rfl rfl ?_
        refine j_iload_n X (pc := 52) 1 dX5_shuts_52 rfl rfl ?_
        refine j_bipush X (pc := 53) 24 dX5_shuts_53 (by decide) ?_
        refine j_irem X (pc := 55) dX5_shuts_55 hw (fun hw => ?_)
        refine j_iload_n X (pc := 56) 1 dX5_shuts_56 rfl rfl ?_
        refine j_bipush X (pc := 57) 24 dX5_shuts_57 (by decide) ?_
        refine j_idiv X (pc := 59) dX5_shuts_59 hw (fun hw => ?_)
        obtain ⟨b9, c9, f9, hr9, ho9, hc9, hw⟩ := hw
        obtain rfl := List.mem_singleton.mp hc9
        refine j_calli (j_runV (n8 := 3) (As := [vI x2, vI (x1 - x1 / 24 * 24), vI (x1 / 24)]) (rest := [vI y32, vI x1, vR y27]) X (pc := 60) hr9 (met_X5_isCovering (xl x) X.hl (xG x) h35 x0 x2 (x1 - x1 / 24 * 24) (x1 / 24) _ hw) ho9 (by decide) rfl q2215 q2217 qs60 q78 q2218 (by decide +kernel) dX5_shuts_60 rfl ⟨Nat.le_of_ble_eq_true rfl, Nat.le_of_ble_eq_true rfl⟩ (Nat.le_of_ble_eq_true rfl) ⟨Nat.le_of_ble_eq_true rfl, Nat.le_of_ble_eq_true rfl⟩) (fun y60 h60 hw => ?_)
        refine j_if_eq X (pc := 63) 70 dX5_shuts_63 (by decide) hw (fun hw => ?_) (fun hw => ?_)
        · refine j_iconst X (pc := 70) 0 dX5_shuts_70 (by decide) ?_
          refine j_ior X (pc := 71) dX5_shuts_71 ?_
          have hnr := hw.1
          have hw := hw.2
          refine j_zast X (pc := 72) 1 rfl rfl hnr dX5_shuts_72 hw (fun h72 hw => ?_)
          refine j_iinc X (pc := 73) 2 (x2 + 1) [(2, vI (x2 + 1)), (0, vR x0), (1, vI x1)] dX5_shuts_73 rfl rfl (Nat.le_of_ble_eq_true rfl) rfl ?_
          refine j_goto X (pc := 76) 18 dX5_shuts_76 (by decide) ?_
          refine j_lv [(0, vR x0), (1, vI x1), (2, vI (x2 + 1))] [1, 2, 0] rfl ?_
          refine j_cs (u' := 0) (v' := 0) (Nat.le_of_ble_eq_true rfl) (Nat.le_of_ble_eq_true rfl) ?_
          exact hw
        · refine j_iconst X (pc := 66) 1 dX5_shuts_66 (by decide) ?_
          refine j_goto X (pc := 67) 71 dX5_shuts_67 (by decide) ?_
          refine j_ior X (pc := 71) dX5_shuts_71 ?_
          have hnr := hw.1
          have hw := hw.2
          refine j_zast X (pc := 72) 1 rfl rfl hnr dX5_shuts_72 hw (fun h72 hw => ?_)
          refine j_iinc X (pc := 73) 2 (x2 + 1) [(2, vI (x2 + 1)), (0, vR x0), (1, vI x1)] dX5_shuts_73 rfl rfl (Nat.le_of_ble_eq_true rfl) rfl ?_
          refine j_goto X (pc := 76) 18 dX5_shuts_76 (by decide) ?_
          refine j_lv [(0, vR x0), (1, vI x1), (2, vI (x2 + 1))] [1, 2, 0] rfl ?_
          refine j_cs (u' := 0) (v' := 0) (Nat.le_of_ble_eq_true rfl) (Nat.le_of_ble_eq_true rfl) ?_
          exact hw
      · refine j_iconst X (pc := 70) 0 dX5_shuts_70 (by decide) ?_
        refine j_ior X (pc := 71) dX5_shuts_71 ?_
        have hnr := hw.1
        have hw := hw.2
        refine j_zast X (pc := 72) 1 rfl rfl hnr dX5_shuts_72 hw (fun h72 hw => ?_)
        refine j_iinc X (pc := 73) 2 (x2 + 1) [(2, vI (x2 + 1)), (0, vR x0), (1, vI x1)] dX5_shuts_73 rfl rfl (Nat.le_of_ble_eq_true rfl) rfl ?_
        refine j_goto X (pc := 76) 18 dX5_shuts_76 (by decide) ?_
        refine j_lv [(0, vR x0), (1, vI x1), (2, vI (x2 + 1))] [1, 2, 0] rfl ?_
        refine j_cs (u' := 0) (v' := 0) (Nat.le_of_ble_eq_true rfl) (Nat.le_of_ble_eq_true rfl) ?_
        exact hw
theorem wk_X5_shuts_2 {x : CX} (X : Ok x cX5_shuts RX5 rm_X5_shuts 3) (er : xrt x = (Option.none : Option Jvm.ClassFile.FieldType)) (en : xnm x = yX5_shuts.name) {P : AH → Prop} (hQ : xr_v x P) (x0 : Option Nat) (x1 : Int32) (h : AH) (hw : w_X5_shuts_2 P x0 x1 h) : J x h 0 0 2 [(0, vR x0), (1, vI x1)] [] := by
  refine hw (fun x1 h => J x h 0 0 2 [(0, vR x0), (1, vI x1)] []) (fun x1 h hw => ?_)
  refine j_iload_n X (pc := 2) 1 dX5_shuts_2 rfl rfl ?_
  refine j_sipush X (pc := 3) 384 dX5_shuts_3 (by decide) ?_
  refine j_icmp_ge X (pc := 6) 85 dX5_shuts_6 (by decide) hw (fun hw => ?_) (fun hw => ?_)
  · exact j_vret X (pc := 85) hQ er (Nat.le_of_ble_eq_true rfl) (Nat.le_of_ble_eq_true rfl) dX5_shuts_85 hw
  · refine j_aload_n X (pc := 9) 0 dX5_shuts_9 rfl rfl ?_
    refine j_getq (ci := 4) X (pc := 10) in_X5 rfl (by decide) 30 (by decide) q1902 (Or.inl rfl) dX5_shuts_10 hw (fun y10 hw => ?_)
    refine j_iload_n X (pc := 13) 1 dX5_shuts_13 rfl rfl ?_
    refine j_iconst X (pc := 14) 0 dX5_shuts_14 (by decide) ?_
    refine j_zast X (pc := 15) 1 rfl rfl ⟨rfl, rfl⟩ dX5_shuts_15 hw (fun h15 hw => ?_)
    refine j_iconst X (pc := 16) 0 dX5_shuts_16 (by decide) ?_
    refine j_istore_n X (pc := 17) [(2, vI 0), (0, vR x0), (1, vI x1)] dX5_shuts_17 rfl (Nat.le_of_ble_eq_true rfl) rfl ?_
    refine j_lv [(0, vR x0), (1, vI x1), (2, vI 0)] [1, 2, 0] rfl ?_
    refine j_cs (u' := 0) (v' := 0) (Nat.le_of_ble_eq_true rfl) (Nat.le_of_ble_eq_true rfl) ?_
    exact wk_X5_shuts_18 X er en hQ _ x0 x1 0 h15 (fun x1_ h_ hz => hz) hw
theorem met_X5_shuts (l : Launch) (hlt : l.stackTraces = false) (G : GG) (h : AH) (a0 : Option Nat) (P : AH → Prop) (hw : w_X5_shuts a0 h P) : ct_v l yX5_shuts (ws_ yX5_shuts cX5_shuts 3 (Option.none : Option Jvm.ClassFile.FieldType)) rm_X5_shuts G h [vR a0] P := by
  refine j_startv hlt [(0, vR a0)] (plainFor_of_name (by decide)) rfl rfl (fun x X eG er en hQ => ?_)
  subst eG
  refine j_iconst X (pc := 0) 0 dX5_shuts_0 (by decide) ?_
  refine j_istore_n X (pc := 1) [(1, vI 0), (0, vR a0)] dX5_shuts_1 rfl (Nat.le_of_ble_eq_true rfl) rfl ?_
  refine j_lv [(0, vR a0), (1, vI 0)] [1, 0] rfl ?_
  refine j_cs (u' := 0) (v' := 0) (Nat.le_of_ble_eq_true rfl) (Nat.le_of_ble_eq_true rfl) ?_
  exact wk_X5_shuts_2 X er en hQ a0 0 h hw
abbrev cX5_endColumn : ByteArray := prog_19_method_67_code
def yX5_endColumn : MethodName := ⟨RX5, "endColumn", "(IC)I"⟩
def dkwX5_endColumn_2 : List UInt8 := [4, 100, 5, 108, 96, 172]
abbrev dktX5_endColumn_2 : List UInt8 := dkwX5_endColumn_2 ++ []
def dkwX5_endColumn_1 : List UInt8 := [182, 0, 141, 42, 180, 0, 9, 27, 46, 96, 167, 0, 19, 42, 27, 182, 0, 141, 42, 180, 0, 9, 27, 46]
abbrev dktX5_endColumn_1 : List UInt8 := dkwX5_endColumn_1 ++ dktX5_endColumn_2
def dkwX5_endColumn_0 : List UInt8 := [28, 16, 108, 160, 0, 13, 42, 27, 182, 0, 141, 4, 100, 167, 0, 40, 28, 16, 114, 160, 0, 18, 42, 27]
abbrev dktX5_endColumn_0 : List UInt8 := dkwX5_endColumn_0 ++ dktX5_endColumn_1
theorem dksX5_endColumn_0 : cX5_endColumn.data.toList.drop 0 = dktX5_endColumn_0 := by decide +kernel
theorem dksX5_endColumn_1 : cX5_endColumn.data.toList.drop 24 = dktX5_endColumn_1 := dk_seg dksX5_endColumn_0 24 rfl rfl
theorem dksX5_endColumn_2 : cX5_endColumn.data.toList.drop 48 = dktX5_endColumn_2 := dk_seg dksX5_endColumn_1 24 rfl rfl
theorem dX5_endColumn_0 : decode cX5_endColumn 0 = .ok (.iload_n 2, 1) := dk_28 (dk_at dksX5_endColumn_0 0 rfl rfl)
theorem dX5_endColumn_1 : decode cX5_endColumn 1 = .ok (.bipush 108, 2) := dk_16 108 (dk_at dksX5_endColumn_0 1 rfl rfl)
theorem dX5_endColumn_3 : decode cX5_endColumn 3 = .ok (.if_icmp .ne 13, 3) := dk_160 0 13 (dk_at dksX5_endColumn_0 3 rfl rfl)
theorem dX5_endColumn_6 : decode cX5_endColumn 6 = .ok (.aload_n 0, 1) := dk_42 (dk_at dksX5_endColumn_0 6 rfl rfl)
theorem dX5_endColumn_7 : decode cX5_endColumn 7 = .ok (.iload_n 1, 1) := dk_27 (dk_at dksX5_endColumn_0 7 rfl rfl)
theorem dX5_endColumn_8 : decode cX5_endColumn 8 = .ok (.invokevirtual 141, 3) := dk_182 0 141 (dk_at dksX5_endColumn_0 8 rfl rfl)
theorem dX5_endColumn_11 : decode cX5_endColumn 11 = .ok (.iconst 1, 1) := dk_4 (dk_at dksX5_endColumn_0 11 rfl rfl)
theorem dX5_endColumn_12 : decode cX5_endColumn 12 = .ok (.isub, 1) := dk_100 (dk_at dksX5_endColumn_0 12 rfl rfl)
theorem dX5_endColumn_13 : decode cX5_endColumn 13 = .ok (.goto 40, 3) := dk_167 0 40 (dk_at dksX5_endColumn_0 13 rfl rfl)
theorem dX5_endColumn_16 : decode cX5_endColumn 16 = .ok (.iload_n 2, 1) := dk_28 (dk_at dksX5_endColumn_0 16 rfl rfl)
theorem dX5_endColumn_17 : decode cX5_endColumn 17 = .ok (.bipush 114, 2) := dk_16 114 (dk_at dksX5_endColumn_0 17 rfl rfl)
theorem dX5_endColumn_19 : decode cX5_endColumn 19 = .ok (.if_icmp .ne 18, 3) := dk_160 0 18 (dk_at dksX5_endColumn_0 19 rfl rfl)
theorem dX5_endColumn_22 : decode cX5_endColumn 22 = .ok (.aload_n 0, 1) := dk_42 (dk_at dksX5_endColumn_0 22 rfl rfl)
theorem dX5_endColumn_23 : decode cX5_endColumn 23 = .ok (.iload_n 1, 1) := dk_27 (dk_at dksX5_endColumn_0 23 rfl rfl)
theorem dX5_endColumn_24 : decode cX5_endColumn 24 = .ok (.invokevirtual 141, 3) := dk_182 0 141 (dk_at dksX5_endColumn_1 0 rfl rfl)
theorem dX5_endColumn_27 : decode cX5_endColumn 27 = .ok (.aload_n 0, 1) := dk_42 (dk_at dksX5_endColumn_1 3 rfl rfl)
theorem dX5_endColumn_28 : decode cX5_endColumn 28 = .ok (.getfield 9, 3) := dk_180 0 9 (dk_at dksX5_endColumn_1 4 rfl rfl)
theorem dX5_endColumn_31 : decode cX5_endColumn 31 = .ok (.iload_n 1, 1) := dk_27 (dk_at dksX5_endColumn_1 7 rfl rfl)
theorem dX5_endColumn_32 : decode cX5_endColumn 32 = .ok (.iaload, 1) := dk_46 (dk_at dksX5_endColumn_1 8 rfl rfl)
theorem dX5_endColumn_33 : decode cX5_endColumn 33 = .ok (.iadd, 1) := dk_96 (dk_at dksX5_endColumn_1 9 rfl rfl)
theorem dX5_endColumn_34 : decode cX5_endColumn 34 = .ok (.goto 19, 3) := dk_167 0 19 (dk_at dksX5_endColumn_1 10 rfl rfl)
theorem dX5_endColumn_37 : decode cX5_endColumn 37 = .ok (.aload_n 0, 1) := dk_42 (dk_at dksX5_endColumn_1 13 rfl rfl)
theorem dX5_endColumn_38 : decode cX5_endColumn 38 = .ok (.iload_n 1, 1) := dk_27 (dk_at dksX5_endColumn_1 14 rfl rfl)
theorem dX5_endColumn_39 : decode cX5_endColumn 39 = .ok (.invokevirtual 141, 3) := dk_182 0 141 (dk_at dksX5_endColumn_1 15 rfl rfl)
theorem dX5_endColumn_42 : decode cX5_endColumn 42 = .ok (.aload_n 0, 1) := dk_42 (dk_at dksX5_endColumn_1 18 rfl rfl)
theorem dX5_endColumn_43 : decode cX5_endColumn 43 = .ok (.getfield 9, 3) := dk_180 0 9 (dk_at dksX5_endColumn_1 19 rfl rfl)
theorem dX5_endColumn_46 : decode cX5_endColumn 46 = .ok (.iload_n 1, 1) := dk_27 (dk_at dksX5_endColumn_1 22 rfl rfl)
theorem dX5_endColumn_47 : decode cX5_endColumn 47 = .ok (.iaload, 1) := dk_46 (dk_at dksX5_endColumn_1 23 rfl rfl)
theorem dX5_endColumn_48 : decode cX5_endColumn 48 = .ok (.iconst 1, 1) := dk_4 (dk_at dksX5_endColumn_2 0 rfl rfl)
theorem dX5_endColumn_49 : decode cX5_endColumn 49 = .ok (.isub, 1) := dk_100 (dk_at dksX5_endColumn_2 1 rfl rfl)
theorem dX5_endColumn_50 : decode cX5_endColumn 50 = .ok (.iconst 2, 1) := dk_5 (dk_at dksX5_endColumn_2 2 rfl rfl)
theorem dX5_endColumn_51 : decode cX5_endColumn 51 = .ok (.idiv, 1) := dk_108 (dk_at dksX5_endColumn_2 3 rfl rfl)
theorem dX5_endColumn_52 : decode cX5_endColumn 52 = .ok (.iadd, 1) := dk_96 (dk_at dksX5_endColumn_2 4 rfl rfl)
theorem dX5_endColumn_53 : decode cX5_endColumn 53 = .ok (.ireturn, 1) := dk_172 (dk_at dksX5_endColumn_2 5 rfl rfl)
abbrev rm_X5_endColumn : Room := { frames := 1, cells := 0, slots := 0, locals := 21 }
def w_X5_endColumn (a0 : Option Nat) (a1 : Int32) (a2 : Int32) (h : AH) (P : Int32 → AH → Prop) : Prop :=
  ((a2 = 108 →
    is_c h a0 [4] (
    w_X5_column a0 a1 h (fun y8 h8 =>
    P (y8 - 1) h8))) ∧
   (¬ a2 = 108 →
    ((a2 = 114 →
      is_c h a0 [4] (
      w_X5_column a0 a1 h (fun y24 h24 =>
      g_q h24 a0 4 1 fun y28 =>
      l_i h24 y28 0 a1 fun y32 =>
      P (y24 + y32) h24))) ∧
     (¬ a2 = 114 →
      is_c h a0 [4] (
      w_X5_column a0 a1 h (fun y39 h39 =>
      g_q h39 a0 4 1 fun y43 =>
      l_i h39 y43 0 a1 fun y47 =>
      ¬ (2 : Int32) = 0 ∧
      P (y39 + ((y47 - 1) / 2)) h39))))))
theorem met_X5_endColumn (l : Launch) (hlt : l.stackTraces = false) (G : GG) (h : AH) (a0 : Option Nat) (a1 : Int32) (a2 : Int32) (P : Int32 → AH → Prop) (hw : w_X5_endColumn a0 a1 a2 h P) : ct_i l yX5_endColumn (ws_ yX5_endColumn cX5_endColumn 3 (Option.some Jvm.ClassFile.FieldType.int)) rm_X5_endColumn G h [vR a0, vI a1, vI a2] P := by
  refine j_starti hlt [(0, vR a0), (1, vI a1), (2, vI a2)] (plainFor_of_name (by decide)) rfl rfl (fun x X eG er en hQ => ?_)
  subst eG
  refine j_iload_n X (pc := 0) 2 dX5_endColumn_0 rfl rfl ?_
  refine j_bipush X (pc := 1) 108 dX5_endColumn_1 (by decide) ?_
  refine j_icmp_ne X (pc := 3) 16 dX5_endColumn_3 (by decide) hw (fun hw => ?_) (fun hw => ?_)
  · refine j_aload_n X (pc := 6) 0 dX5_endColumn_6 rfl rfl ?_
    refine j_iload_n X (pc := 7) 1 dX5_endColumn_7 rfl rfl ?_
    obtain ⟨b9, c9, f9, hr9, ho9, hc9, hw⟩ := hw
    obtain rfl := List.mem_singleton.mp hc9
    refine j_calli (j_runV (n8 := 1) (As := [vI a1]) (rest := []) X (pc := 8) hr9 (met_X5_column (xl x) X.hl (xG x) h a0 a1 _ hw) ho9 (by decide) rfl q2047 q2049 qs46 q78 q2050 (by decide +kernel) dX5_endColumn_8 rfl ⟨Nat.le_of_ble_eq_true rfl, Nat.le_of_ble_eq_true rfl⟩ (Nat.le_of_ble_eq_true rfl) ⟨Nat.le_of_ble_eq_true rfl, Nat.le_of_ble_eq_true rfl⟩) (fun y8 h8 hw => ?_)
    refine j_iconst X (pc := 11) 1 dX5_endColumn_11 (by decide) ?_
    refine j_isub X (pc := 12) dX5_endColumn_12 ?_
    refine j_goto X (pc := 13) 53 dX5_endColumn_13 (by decide) ?_
    exact j_iret X (pc := 53) hQ er (Nat.le_of_ble_eq_true rfl) (Nat.le_of_ble_eq_true rfl) dX5_endColumn_53 hw
  · refine j_iload_n X (pc := 16) 2 dX5_endColumn_16 rfl rfl ?_
    refine j_bipush X (pc := 17) 114 dX5_endColumn_17 (by decide) ?_
    refine j_icmp_ne X (pc := 19) 37 dX5_endColumn_19 (by decide) hw (fun hw => ?_) (fun hw => ?_)
    · refine j_aload_n X (pc := 22) 0 dX5_endColumn_22 rfl rfl ?_
      refine j_iload_n X (pc := 23) 1 dX5_endColumn_23 rfl rfl ?_
      obtain ⟨b9, c9, f9, hr9, ho9, hc9, hw⟩ := hw
      obtain rfl := List.mem_singleton.mp hc9
      refine j_calli (j_runV (n8 := 1) (As := [vI a1]) (rest := []) X (pc := 24) hr9 (met_X5_column (xl x) X.hl (xG x) h a0 a1 _ hw) ho9 (by decide) rfl q2047 q2049 qs46 q78 q2050 (by decide +kernel) dX5_endColumn_24 rfl ⟨Nat.le_of_ble_eq_true rfl, Nat.le_of_ble_eq_true rfl⟩ (Nat.le_of_ble_eq_true rfl) ⟨Nat.le_of_ble_eq_true rfl, Nat.le_of_ble_eq_true rfl⟩) (fun y24 h24 hw => ?_)
      refine j_aload_n X (pc := 27) 0 dX5_endColumn_27 rfl rfl ?_
      refine j_getq (ci := 4) X (pc := 28) in_X5 rfl (by decide) 1 (by decide) q1873 (Or.inl rfl) dX5_endColumn_28 hw (fun y28 hw => ?_)
      refine j_iload_n X (pc := 31) 1 dX5_endColumn_31 rfl rfl ?_
      refine j_iald X (pc := 32) 0 rfl dX5_endColumn_32 hw (fun y32 hw => ?_)
      refine j_iadd X (pc := 33) dX5_endColumn_33 ?_
      refine j_goto X (pc := 34) 53 dX5_endColumn_34 (by decide) ?_
      exact j_iret X (pc := 53) hQ er (Nat.le_of_ble_eq_true rfl) (Nat.le_of_ble_eq_true rfl) dX5_endColumn_53 hw
    · refine j_aload_n X (pc := 37) 0 dX5_endColumn_37 rfl rfl ?_
      refine j_iload_n X (pc := 38) 1 dX5_endColumn_38 rfl rfl ?_
      obtain ⟨b9, c9, f9, hr9, ho9, hc9, hw⟩ := hw
      obtain rfl := List.mem_singleton.mp hc9
      refine j_calli (j_runV (n8 := 1) (As := [vI a1]) (rest := []) X (pc := 39) hr9 (met_X5_column (xl x) X.hl (xG x) h a0 a1 _ hw) ho9 (by decide) rfl q2047 q2049 qs46 q78 q2050 (by decide +kernel) dX5_endColumn_39 rfl ⟨Nat.le_of_ble_eq_true rfl, Nat.le_of_ble_eq_true rfl⟩ (Nat.le_of_ble_eq_true rfl) ⟨Nat.le_of_ble_eq_true rfl, Nat.le_of_ble_eq_true rfl⟩) (fun y39 h39 hw => ?_)
      refine j_aload_n X (pc := 42) 0 dX5_endColumn_42 rfl rfl ?_
      refine j_getq (ci := 4) X (pc := 43) in_X5 rfl (by decide) 1 (by decide) q1873 (Or.inl rfl) dX5_endColumn_43 hw (fun y43 hw => ?_)
      refine j_iload_n X (pc := 46) 1 dX5_endColumn_46 rfl rfl ?_
      refine j_iald X (pc := 47) 0 rfl dX5_endColumn_47 hw (fun y47 hw => ?_)
      refine j_iconst X (pc := 48) 1 dX5_endColumn_48 (by decide) ?_
      refine j_isub X (pc := 49) dX5_endColumn_49 ?_
      refine j_iconst X (pc := 50) 2 dX5_endColumn_50 (by decide) ?_
      refine j_idiv X (pc := 51) dX5_endColumn_51 hw (fun hw => ?_)
      refine j_iadd X (pc := 52) dX5_endColumn_52 ?_
      exact j_iret X (pc := 53) hQ er (Nat.le_of_ble_eq_true rfl) (Nat.le_of_ble_eq_true rfl) dX5_endColumn_53 hw
abbrev cX5_endRow : ByteArray := prog_19_method_68_code
def yX5_endRow : MethodName := ⟨RX5, "endRow", "(IC)I"⟩
def dkwX5_endRow_2 : List UInt8 := [4, 100, 5, 108, 96, 172]
abbrev dktX5_endRow_2 : List UInt8 := dkwX5_endRow_2 ++ []
def dkwX5_endRow_1 : List UInt8 := [182, 0, 145, 42, 180, 0, 13, 27, 46, 96, 167, 0, 19, 42, 27, 182, 0, 145, 42, 180, 0, 13, 27, 46]
abbrev dktX5_endRow_1 : List UInt8 := dkwX5_endRow_1 ++ dktX5_endRow_2
def dkwX5_endRow_0 : List UInt8 := [28, 16, 116, 160, 0, 13, 42, 27, 182, 0, 145, 4, 100, 167, 0, 40, 28, 16, 98, 160, 0, 18, 42, 27]
abbrev dktX5_endRow_0 : List UInt8 := dkwX5_endRow_0 ++ dktX5_endRow_1
theorem dksX5_endRow_0 : cX5_endRow.data.toList.drop 0 = dktX5_endRow_0 := by decide +kernel
theorem dksX5_endRow_1 : cX5_endRow.data.toList.drop 24 = dktX5_endRow_1 := dk_seg dksX5_endRow_0 24 rfl rfl
theorem dksX5_endRow_2 : cX5_endRow.data.toList.drop 48 = dktX5_endRow_2 := dk_seg dksX5_endRow_1 24 rfl rfl
theorem dX5_endRow_0 : decode cX5_endRow 0 = .ok (.iload_n 2, 1) := dk_28 (dk_at dksX5_endRow_0 0 rfl rfl)
theorem dX5_endRow_1 : decode cX5_endRow 1 = .ok (.bipush 116, 2) := dk_16 116 (dk_at dksX5_endRow_0 1 rfl rfl)
theorem dX5_endRow_3 : decode cX5_endRow 3 = .ok (.if_icmp .ne 13, 3) := dk_160 0 13 (dk_at dksX5_endRow_0 3 rfl rfl)
theorem dX5_endRow_6 : decode cX5_endRow 6 = .ok (.aload_n 0, 1) := dk_42 (dk_at dksX5_endRow_0 6 rfl rfl)
theorem dX5_endRow_7 : decode cX5_endRow 7 = .ok (.iload_n 1, 1) := dk_27 (dk_at dksX5_endRow_0 7 rfl rfl)
theorem dX5_endRow_8 : decode cX5_endRow 8 = .ok (.invokevirtual 145, 3) := dk_182 0 145 (dk_at dksX5_endRow_0 8 rfl rfl)
theorem dX5_endRow_11 : decode cX5_endRow 11 = .ok (.iconst 1, 1) := dk_4 (dk_at dksX5_endRow_0 11 rfl rfl)
theorem dX5_endRow_12 : decode cX5_endRow 12 = .ok (.isub, 1) := dk_100 (dk_at dksX5_endRow_0 12 rfl rfl)
theorem dX5_endRow_13 : decode cX5_endRow 13 = .ok (.goto 40, 3) := dk_167 0 40 (dk_at dksX5_endRow_0 13 rfl rfl)
theorem dX5_endRow_16 : decode cX5_endRow 16 = .ok (.iload_n 2, 1) := dk_28 (dk_at dksX5_endRow_0 16 rfl rfl)
theorem dX5_endRow_17 : decode cX5_endRow 17 = .ok (.bipush 98, 2) := dk_16 98 (dk_at dksX5_endRow_0 17 rfl rfl)
theorem dX5_endRow_19 : decode cX5_endRow 19 = .ok (.if_icmp .ne 18, 3) := dk_160 0 18 (dk_at dksX5_endRow_0 19 rfl rfl)
theorem dX5_endRow_22 : decode cX5_endRow 22 = .ok (.aload_n 0, 1) := dk_42 (dk_at dksX5_endRow_0 22 rfl rfl)
theorem dX5_endRow_23 : decode cX5_endRow 23 = .ok (.iload_n 1, 1) := dk_27 (dk_at dksX5_endRow_0 23 rfl rfl)
theorem dX5_endRow_24 : decode cX5_endRow 24 = .ok (.invokevirtual 145, 3) := dk_182 0 145 (dk_at dksX5_endRow_1 0 rfl rfl)
theorem dX5_endRow_27 : decode cX5_endRow 27 = .ok (.aload_n 0, 1) := dk_42 (dk_at dksX5_endRow_1 3 rfl rfl)
theorem dX5_endRow_28 : decode cX5_endRow 28 = .ok (.getfield 13, 3) := dk_180 0 13 (dk_at dksX5_endRow_1 4 rfl rfl)
theorem dX5_endRow_31 : decode cX5_endRow 31 = .ok (.iload_n 1, 1) := dk_27 (dk_at dksX5_endRow_1 7 rfl rfl)
theorem dX5_endRow_32 : decode cX5_endRow 32 = .ok (.iaload, 1) := dk_46 (dk_at dksX5_endRow_1 8 rfl rfl)
theorem dX5_endRow_33 : decode cX5_endRow 33 = .ok (.iadd, 1) := dk_96 (dk_at dksX5_endRow_1 9 rfl rfl)
theorem dX5_endRow_34 : decode cX5_endRow 34 = .ok (.goto 19, 3) := dk_167 0 19 (dk_at dksX5_endRow_1 10 rfl rfl)
theorem dX5_endRow_37 : decode cX5_endRow 37 = .ok (.aload_n 0, 1) := dk_42 (dk_at dksX5_endRow_1 13 rfl rfl)
theorem dX5_endRow_38 : decode cX5_endRow 38 = .ok (.iload_n 1, 1) := dk_27 (dk_at dksX5_endRow_1 14 rfl rfl)
theorem dX5_endRow_39 : decode cX5_endRow 39 = .ok (.invokevirtual 145, 3) := dk_182 0 145 (dk_at dksX5_endRow_1 15 rfl rfl)
theorem dX5_endRow_42 : decode cX5_endRow 42 = .ok (.aload_n 0, 1) := dk_42 (dk_at dksX5_endRow_1 18 rfl rfl)
theorem dX5_endRow_43 : decode cX5_endRow 43 = .ok (.getfield 13, 3) := dk_180 0 13 (dk_at dksX5_endRow_1 19 rfl rfl)
theorem dX5_endRow_46 : decode cX5_endRow 46 = .ok (.iload_n 1, 1) := dk_27 (dk_at dksX5_endRow_1 22 rfl rfl)
theorem dX5_endRow_47 : decode cX5_endRow 47 = .ok (.iaload, 1) := dk_46 (dk_at dksX5_endRow_1 23 rfl rfl)
theorem dX5_endRow_48 : decode cX5_endRow 48 = .ok (.iconst 1, 1) := dk_4 (dk_at dksX5_endRow_2 0 rfl rfl)
theorem dX5_endRow_49 : decode cX5_endRow 49 = .ok (.isub, 1) := dk_100 (dk_at dksX5_endRow_2 1 rfl rfl)
theorem dX5_endRow_50 : decode cX5_endRow 50 = .ok (.iconst 2, 1) := dk_5 (dk_at dksX5_endRow_2 2 rfl rfl)
theorem dX5_endRow_51 : decode cX5_endRow 51 = .ok (.idiv, 1) := dk_108 (dk_at dksX5_endRow_2 3 rfl rfl)
theorem dX5_endRow_52 : decode cX5_endRow 52 = .ok (.iadd, 1) := dk_96 (dk_at dksX5_endRow_2 4 rfl rfl)
theorem dX5_endRow_53 : decode cX5_endRow 53 = .ok (.ireturn, 1) := dk_172 (dk_at dksX5_endRow_2 5 rfl rfl)
abbrev rm_X5_endRow : Room := { frames := 1, cells := 0, slots := 0, locals := 21 }
def w_X5_endRow (a0 : Option Nat) (a1 : Int32) (a2 : Int32) (h : AH) (P : Int32 → AH → Prop) : Prop :=
  ((a2 = 116 →
    is_c h a0 [4] (
    w_X5_row a0 a1 h (fun y8 h8 =>
    P (y8 - 1) h8))) ∧
   (¬ a2 = 116 →
    ((a2 = 98 →
      is_c h a0 [4] (
      w_X5_row a0 a1 h (fun y24 h24 =>
      g_q h24 a0 4 2 fun y28 =>
      l_i h24 y28 0 a1 fun y32 =>
      P (y24 + y32) h24))) ∧
     (¬ a2 = 98 →
      is_c h a0 [4] (
      w_X5_row a0 a1 h (fun y39 h39 =>
      g_q h39 a0 4 2 fun y43 =>
      l_i h39 y43 0 a1 fun y47 =>
      ¬ (2 : Int32) = 0 ∧
      P (y39 + ((y47 - 1) / 2)) h39))))))
theorem met_X5_endRow (l : Launch) (hlt : l.stackTraces = false) (G : GG) (h : AH) (a0 : Option Nat) (a1 : Int32) (a2 : Int32) (P : Int32 → AH → Prop) (hw : w_X5_endRow a0 a1 a2 h P) : ct_i l yX5_endRow (ws_ yX5_endRow cX5_endRow 3 (Option.some Jvm.ClassFile.FieldType.int)) rm_X5_endRow G h [vR a0, vI a1, vI a2] P := by
  refine j_starti hlt [(0, vR a0), (1, vI a1), (2, vI a2)] (plainFor_of_name (by decide)) rfl rfl (fun x X eG er en hQ => ?_)
  subst eG
  refine j_iload_n X (pc := 0) 2 dX5_endRow_0 rfl rfl ?_
  refine j_bipush X (pc := 1) 116 dX5_endRow_1 (by decide) ?_
  refine j_icmp_ne X (pc := 3) 16 dX5_endRow_3 (by decide) hw (fun hw => ?_) (fun hw => ?_)
  · refine j_aload_n X (pc := 6) 0 dX5_endRow_6 rfl rfl ?_
    refine j_iload_n X (pc := 7) 1 dX5_endRow_7 rfl rfl ?_
    obtain ⟨b9, c9, f9, hr9, ho9, hc9, hw⟩ := hw
    obtain rfl := List.mem_singleton.mp hc9
    refine j_calli (j_runV (n8 := 1) (As := [vI a1]) (rest := []) X (pc := 8) hr9 (met_X5_row (xl x) X.hl (xG x) h a0 a1 _ hw) ho9 (by decide) rfl q2051 q2053 qs47 q78 q2054 (by decide +kernel) dX5_endRow_8 rfl ⟨Nat.le_of_ble_eq_true rfl, Nat.le_of_ble_eq_true rfl⟩ (Nat.le_of_ble_eq_true rfl) ⟨Nat.le_of_ble_eq_true rfl, Nat.le_of_ble_eq_true rfl⟩) (fun y8 h8 hw => ?_)
    refine j_iconst X (pc := 11) 1 dX5_endRow_11 (by decide) ?_
    refine j_isub X (pc := 12) dX5_endRow_12 ?_
    refine j_goto X (pc := 13) 53 dX5_endRow_13 (by decide) ?_
    exact j_iret X (pc := 53) hQ er (Nat.le_of_ble_eq_true rfl) (Nat.le_of_ble_eq_true rfl) dX5_endRow_53 hw
  · refine j_iload_n X (pc := 16) 2 dX5_endRow_16 rfl rfl ?_
    refine j_bipush X (pc := 17) 98 dX5_endRow_17 (by decide) ?_
    refine j_icmp_ne X (pc := 19) 37 dX5_endRow_19 (by decide) hw (fun hw => ?_) (fun hw => ?_)
    · refine j_aload_n X (pc := 22) 0 dX5_endRow_22 rfl rfl ?_
      refine j_iload_n X (pc := 23) 1 dX5_endRow_23 rfl rfl ?_
      obtain ⟨b9, c9, f9, hr9, ho9, hc9, hw⟩ := hw
      obtain rfl := List.mem_singleton.mp hc9
      refine j_calli (j_runV (n8 := 1) (As := [vI a1]) (rest := []) X (pc := 24) hr9 (met_X5_row (xl x) X.hl (xG x) h a0 a1 _ hw) ho9 (by decide) rfl q2051 q2053 qs47 q78 q2054 (by decide +kernel) dX5_endRow_24 rfl ⟨Nat.le_of_ble_eq_true rfl, Nat.le_of_ble_eq_true rfl⟩ (Nat.le_of_ble_eq_true rfl) ⟨Nat.le_of_ble_eq_true rfl, Nat.le_of_ble_eq_true rfl⟩) (fun y24 h24 hw => ?_)
      refine j_aload_n X (pc := 27) 0 dX5_endRow_27 rfl rfl ?_
      refine j_getq (ci := 4) X (pc := 28) in_X5 rfl (by decide) 2 (by decide) q1874 (Or.inl rfl) dX5_endRow_28 hw (fun y28 hw => ?_)
      refine j_iload_n X (pc := 31) 1 dX5_endRow_31 rfl rfl ?_
      refine j_iald X (pc := 32) 0 rfl dX5_endRow_32 hw (fun y32 hw => ?_)
      refine j_iadd X (pc := 33) dX5_endRow_33 ?_
      refine j_goto X (pc := 34) 53 dX5_endRow_34 (by decide) ?_
      exact j_iret X (pc := 53) hQ er (Nat.le_of_ble_eq_true rfl) (Nat.le_of_ble_eq_true rfl) dX5_endRow_53 hw
    · refine j_aload_n X (pc := 37) 0 dX5_endRow_37 rfl rfl ?_
      refine j_iload_n X (pc := 38) 1 dX5_endRow_38 rfl rfl ?_
      obtain ⟨b9, c9, f9, hr9, ho9, hc9, hw⟩ := hw
      obtain rfl := List.mem_singleton.mp hc9
      refine j_calli (j_runV (n8 := 1) (As := [vI a1]) (rest := []) X (pc := 39) hr9 (met_X5_row (xl x) X.hl (xG x) h a0 a1 _ hw) ho9 (by decide) rfl q2051 q2053 qs47 q78 q2054 (by decide +kernel) dX5_endRow_39 rfl ⟨Nat.le_of_ble_eq_true rfl, Nat.le_of_ble_eq_true rfl⟩ (Nat.le_of_ble_eq_true rfl) ⟨Nat.le_of_ble_eq_true rfl, Nat.le_of_ble_eq_true rfl⟩) (fun y39 h39 hw => ?_)
      refine j_aload_n X (pc := 42) 0 dX5_endRow_42 rfl rfl ?_
      refine j_getq (ci := 4) X (pc := 43) in_X5 rfl (by decide) 2 (by decide) q1874 (Or.inl rfl) dX5_endRow_43 hw (fun y43 hw => ?_)
      refine j_iload_n X (pc := 46) 1 dX5_endRow_46 rfl rfl ?_
      refine j_iald X (pc := 47) 0 rfl dX5_endRow_47 hw (fun y47 hw => ?_)
      refine j_iconst X (pc := 48) 1 dX5_endRow_48 (by decide) ?_
      refine j_isub X (pc := 49) dX5_endRow_49 ?_
      refine j_iconst X (pc := 50) 2 dX5_endRow_50 (by decide) ?_
      refine j_idiv X (pc := 51) dX5_endRow_51 hw (fun hw => ?_)
      refine j_iadd X (pc := 52) dX5_endRow_52 ?_
      exact j_iret X (pc := 53) hQ er (Nat.le_of_ble_eq_true rfl) (Nat.le_of_ble_eq_true rfl) dX5_endRow_53 hw
abbrev cX5_isOpen : ByteArray := prog_19_method_69_code
def yX5_isOpen : MethodName := ⟨RX5, "isOpen", "(II)Z"⟩
def dkwX5_isOpen_1 : List UInt8 := [154, 0, 7, 4, 167, 0, 4, 3, 172]
abbrev dktX5_isOpen_1 : List UInt8 := dkwX5_isOpen_1 ++ []
def dkwX5_isOpen_0 : List UInt8 := [42, 27, 28, 4, 4, 182, 0, 168, 153, 0, 21, 42, 180, 0, 91, 16, 24, 28, 104, 27, 96, 51]
abbrev dktX5_isOpen_0 : List UInt8 := dkwX5_isOpen_0 ++ dktX5_isOpen_1
theorem dksX5_isOpen_0 : cX5_isOpen.data.toList.drop 0 = dktX5_isOpen_0 := by decide +kernel
theorem dksX5_isOpen_1 : cX5_isOpen.data.toList.drop 22 = dktX5_isOpen_1 := dk_seg dksX5_isOpen_0 22 rfl rfl
theorem dX5_isOpen_0 : decode cX5_isOpen 0 = .ok (.aload_n 0, 1) := dk_42 (dk_at dksX5_isOpen_0 0 rfl rfl)
theorem dX5_isOpen_1 : decode cX5_isOpen 1 = .ok (.iload_n 1, 1) := dk_27 (dk_at dksX5_isOpen_0 1 rfl rfl)
theorem dX5_isOpen_2 : decode cX5_isOpen 2 = .ok (.iload_n 2, 1) := dk_28 (dk_at dksX5_isOpen_0 2 rfl rfl)
theorem dX5_isOpen_3 : decode cX5_isOpen 3 = .ok (.iconst 1, 1) := dk_4 (dk_at dksX5_isOpen_0 3 rfl rfl)
theorem dX5_isOpen_4 : decode cX5_isOpen 4 = .ok (.iconst 1, 1) := dk_4 (dk_at dksX5_isOpen_0 4 rfl rfl)
theorem dX5_isOpen_5 : decode cX5_isOpen 5 = .ok (.invokevirtual 168, 3) := dk_182 0 168 (dk_at dksX5_isOpen_0 5 rfl rfl)
theorem dX5_isOpen_8 : decode cX5_isOpen 8 = .ok (.ifCond .eq 21, 3) := dk_153 0 21 (dk_at dksX5_isOpen_0 8 rfl rfl)
theorem dX5_isOpen_11 : decode cX5_isOpen 11 = .ok (.aload_n 0, 1) := dk_42 (dk_at dksX5_isOpen_0 11 rfl rfl)
theorem dX5_isOpen_12 : decode cX5_isOpen 12 = .ok (.getfield 91, 3) := dk_180 0 91 (dk_at dksX5_isOpen_0 12 rfl rfl)
theorem dX5_isOpen_15 : decode cX5_isOpen 15 = .ok (.bipush 24, 2) := dk_16 24 (dk_at dksX5_isOpen_0 15 rfl rfl)
theorem dX5_isOpen_17 : decode cX5_isOpen 17 = .ok (.iload_n 2, 1) := dk_28 (dk_at dksX5_isOpen_0 17 rfl rfl)
theorem dX5_isOpen_18 : decode cX5_isOpen 18 = .ok (.imul, 1) := dk_104 (dk_at dksX5_isOpen_0 18 rfl rfl)
theorem dX5_isOpen_19 : decode cX5_isOpen 19 = .ok (.iload_n 1, 1) := dk_27 (dk_at dksX5_isOpen_0 19 rfl rfl)
theorem dX5_isOpen_20 : decode cX5_isOpen 20 = .ok (.iadd, 1) := dk_96 (dk_at dksX5_isOpen_0 20 rfl rfl)
theorem dX5_isOpen_21 : decode cX5_isOpen 21 = .ok (.baload, 1) := dk_51 (dk_at dksX5_isOpen_0 21 rfl rfl)
theorem dX5_isOpen_22 : decode cX5_isOpen 22 = .ok (.ifCond .ne 7, 3) := dk_154 0 7 (dk_at dksX5_isOpen_1 0 rfl rfl)
theorem dX5_isOpen_25 : decode cX5_isOpen 25 = .ok (.iconst 1, 1) := dk_4 (dk_at dksX5_isOpen_1 3 rfl rfl)
theorem dX5_isOpen_26 : decode cX5_isOpen 26 = .ok (.goto 4, 3) := dk_167 0 4 (dk_at dksX5_isOpen_1 4 rfl rfl)
theorem dX5_isOpen_29 : decode cX5_isOpen 29 = .ok (.iconst 0, 1) := dk_3 (dk_at dksX5_isOpen_1 7 rfl rfl)
theorem dX5_isOpen_30 : decode cX5_isOpen 30 = .ok (.ireturn, 1) := dk_172 (dk_at dksX5_isOpen_1 8 rfl rfl)
abbrev rm_X5_isOpen : Room := { frames := 2, cells := 0, slots := 0, locals := 46 }
def w_X5_isOpen (a0 : Option Nat) (a1 : Int32) (a2 : Int32) (h : AH) (P : Int32 → AH → Prop) : Prop :=
  is_c h a0 [4] (
  w_X5_isOnBoard a0 a1 a2 1 1 h (fun y5 h5 =>
  ((y5 = 0 →
    P 0 h5) ∧
   (¬ y5 = 0 →
    g_q h5 a0 4 30 fun y12 =>
    l_i h5 y12 1 ((24 * a2) + a1) fun y21 =>
    ((y21 = 0 →
      P 1 h5) ∧
     (¬ y21 = 0 →
      P 0 h5))))))
theorem met_X5_isOpen (l : Launch) (hlt : l.stackTraces = false) (G : GG) (h : AH) (a0 : Option Nat) (a1 : Int32) (a2 : Int32) (P : Int32 → AH → Prop) (hw : w_X5_isOpen a0 a1 a2 h P) : ct_i l yX5_isOpen (ws_ yX5_isOpen cX5_isOpen 3 (Option.some Jvm.ClassFile.FieldType.boolean)) rm_X5_isOpen G h [vR a0, vI a1, vI a2] P := by
  refine j_starti hlt [(0, vR a0), (1, vI a1), (2, vI a2)] (plainFor_of_name (by decide)) rfl rfl (fun x X eG er en hQ => ?_)
  subst eG
  refine j_aload_n X (pc := 0) 0 dX5_isOpen_0 rfl rfl ?_
  refine j_iload_n X (pc := 1) 1 dX5_isOpen_1 rfl rfl ?_
  refine j_iload_n X (pc := 2) 2 dX5_isOpen_2 rfl rfl ?_
  refine j_iconst X (pc := 3) 1 dX5_isOpen_3 (by decide) ?_
  refine j_iconst X (pc := 4) 1 dX5_isOpen_4 (by decide) ?_
  obtain ⟨b9, c9, f9, hr9, ho9, hc9, hw⟩ := hw
  obtain rfl := List.mem_singleton.mp hc9
  refine j_calli (j_runV (n8 := 4) (As := [vI a1, vI a2, vI 1, vI 1]) (rest := []) X (pc := 5) hr9 (met_X5_isOnBoard (xl x) X.hl (xG x) h a0 a1 a2 1 1 _ hw) ho9 (by decide) rfl q1984 q1986 qs32 q78 q1987 (by decide +kernel) dX5_isOpen_5 rfl ⟨Nat.le_of_ble_eq_true rfl, Nat.le_of_ble_eq_true rfl⟩ (Nat.le_of_ble_eq_true rfl) ⟨Nat.le_of_ble_eq_true rfl, Nat.le_of_ble_eq_true rfl⟩) (fun y5 h5 hw => ?_)
  refine j_if_eq X (pc := 8) 29 dX5_isOpen_8 (by decide) hw (fun hw => ?_) (fun hw => ?_)
  · refine j_iconst X (pc := 29) 0 dX5_isOpen_29 (by decide) ?_
    exact j_zret X (pc := 30) (ty := .boolean) hQ er rfl (Nat.le_of_ble_eq_true rfl) (Nat.le_of_ble_eq_true rfl) dX5_isOpen_30 hw
  · refine j_aload_n X (pc := 11) 0 dX5_isOpen_11 rfl rfl ?_
    refine j_getq (ci := 4) X (pc := 12) in_X5 rfl (by decide) 30 (by decide) q1902 (Or.inl rfl) dX5_isOpen_12 hw (fun y12 hw => ?_)
    refine j_bipush X (pc := 15) 24 dX5_isOpen_15 (by decide) ?_
    refine j_iload_n X (pc := 17) 2 dX5_isOpen_17 rfl rfl ?_
    refine j_imul X (pc := 18) dX5_isOpen_18 ?_
    refine j_iload_n X (pc := 19) 1 dX5_isOpen_19 rfl rfl ?_
    refine j_iadd X (pc := 20) dX5_isOpen_20 ?_
    refine j_zald X (pc := 21) 1 rfl dX5_isOpen_21 hw (fun y21 hw => ?_)
    refine j_if_ne X (pc := 22) 29 dX5_isOpen_22 (by decide) hw (fun hw => ?_) (fun hw => ?_)
    · refine j_iconst X (pc := 25) 1 dX5_isOpen_25 (by decide) ?_
      refine j_goto X (pc := 26) 30 dX5_isOpen_26 (by decide) ?_
      exact j_zret X (pc := 30) (ty := .boolean) hQ er rfl (Nat.le_of_ble_eq_true rfl) (Nat.le_of_ble_eq_true rfl) dX5_isOpen_30 hw
    · refine j_iconst X (pc := 29) 0 dX5_isOpen_29 (by decide) ?_
      exact j_zret X (pc := 30) (ty := .boolean) hQ er rfl (Nat.le_of_ble_eq_true rfl) (Nat.le_of_ble_eq_true rfl) dX5_isOpen_30 hw
abbrev cX5_stepOver : ByteArray := prog_19_method_71_code
def yX5_stepOver : MethodName := ⟨RX5, "stepOver", "(I)I"⟩
def dkwX5_stepOver_0 : List UInt8 := [26, 154, 0, 7, 4, 167, 0, 13, 26, 4, 160, 0, 7, 2, 167, 0, 4, 3, 172]
abbrev dktX5_stepOver_0 : List UInt8 := dkwX5_stepOver_0 ++ []
theorem dksX5_stepOver_0 : cX5_stepOver.data.toList.drop 0 = dktX5_stepOver_0 := by decide +kernel
theorem dX5_stepOver_0 : decode cX5_stepOver 0 = .ok (.iload_n 0, 1) := dk_26 (dk_at dksX5_stepOver_0 0 rfl rfl)
theorem dX5_stepOver_1 : decode cX5_stepOver 1 = .ok (.ifCond .ne 7, 3) := dk_154 0 7 (dk_at dksX5_stepOver_0 1 rfl rfl)
theorem dX5_stepOver_4 : decode cX5_stepOver 4 = .ok (.iconst 1, 1) := dk_4 (dk_at dksX5_stepOver_0 4 rfl rfl)
theorem dX5_stepOver_5 : decode cX5_stepOver 5 = .ok (.goto 13, 3) := dk_167 0 13 (dk_at dksX5_stepOver_0 5 rfl rfl)
theorem dX5_stepOver_8 : decode cX5_stepOver 8 = .ok (.iload_n 0, 1) := dk_26 (dk_at dksX5_stepOver_0 8 rfl rfl)
theorem dX5_stepOver_9 : decode cX5_stepOver 9 = .ok (.iconst 1, 1) := dk_4 (dk_at dksX5_stepOver_0 9 rfl rfl)
theorem dX5_stepOver_10 : decode cX5_stepOver 10 = .ok (.if_icmp .ne 7, 3) := dk_160 0 7 (dk_at dksX5_stepOver_0 10 rfl rfl)
theorem dX5_stepOver_13 : decode cX5_stepOver 13 = .ok (.iconst (-1), 1) := dk_2 (dk_at dksX5_stepOver_0 13 rfl rfl)
theorem dX5_stepOver_14 : decode cX5_stepOver 14 = .ok (.goto 4, 3) := dk_167 0 4 (dk_at dksX5_stepOver_0 14 rfl rfl)
theorem dX5_stepOver_17 : decode cX5_stepOver 17 = .ok (.iconst 0, 1) := dk_3 (dk_at dksX5_stepOver_0 17 rfl rfl)
theorem dX5_stepOver_18 : decode cX5_stepOver 18 = .ok (.ireturn, 1) := dk_172 (dk_at dksX5_stepOver_0 18 rfl rfl)
abbrev rm_X5_stepOver : Room := { frames := 0, cells := 0, slots := 0, locals := 0 }
def w_X5_stepOver (a0 : Int32) (h : AH) (P : Int32 → AH → Prop) : Prop :=
  ((a0 = 0 →
    P 1 h) ∧
   (¬ a0 = 0 →
    ((a0 = 1 →
      P (-1) h) ∧
     (¬ a0 = 1 →
      P 0 h))))
theorem met_X5_stepOver (l : Launch) (hlt : l.stackTraces = false) (G : GG) (h : AH) (a0 : Int32) (P : Int32 → AH → Prop) (hw : w_X5_stepOver a0 h P) : ct_i l yX5_stepOver (ws_ yX5_stepOver cX5_stepOver 1 (Option.some Jvm.ClassFile.FieldType.int)) rm_X5_stepOver G h [vI a0] P := by
  refine j_starti hlt [(0, vI a0)] (plainFor_of_name (by decide)) rfl rfl (fun x X eG er en hQ => ?_)
  subst eG
  refine j_iload_n X (pc := 0) 0 dX5_stepOver_0 rfl rfl ?_
  refine j_if_ne X (pc := 1) 8 dX5_stepOver_1 (by decide) hw (fun hw => ?_) (fun hw => ?_)
  · refine j_iconst X (pc := 4) 1 dX5_stepOver_4 (by decide) ?_
    refine j_goto X (pc := 5) 18 dX5_stepOver_5 (by decide) ?_
    exact j_iret X (pc := 18) hQ er (Nat.le_of_ble_eq_true rfl) (Nat.le_of_ble_eq_true rfl) dX5_stepOver_18 hw
  · refine j_iload_n X (pc := 8) 0 dX5_stepOver_8 rfl rfl ?_
    refine j_iconst X (pc := 9) 1 dX5_stepOver_9 (by decide) ?_
    refine j_icmp_ne X (pc := 10) 17 dX5_stepOver_10 (by decide) hw (fun hw => ?_) (fun hw => ?_)
    · refine j_iconst X (pc := 13) (-1) dX5_stepOver_13 (by decide) ?_
      refine j_goto X (pc := 14) 18 dX5_stepOver_14 (by decide) ?_
      exact j_iret X (pc := 18) hQ er (Nat.le_of_ble_eq_true rfl) (Nat.le_of_ble_eq_true rfl) dX5_stepOver_18 hw
    · refine j_iconst X (pc := 17) 0 dX5_stepOver_17 (by decide) ?_
      exact j_iret X (pc := 18) hQ er (Nat.le_of_ble_eq_true rfl) (Nat.le_of_ble_eq_true rfl) dX5_stepOver_18 hw
abbrev cX5_stepDown : ByteArray := prog_19_method_72_code
def yX5_stepDown : MethodName := ⟨RX5, "stepDown", "(I)I"⟩
def dkwX5_stepDown_0 : List UInt8 := [26, 5, 160, 0, 7, 4, 167, 0, 13, 26, 6, 160, 0, 7, 2, 167, 0, 4, 3, 172]
abbrev dktX5_stepDown_0 : List UInt8 := dkwX5_stepDown_0 ++ []
theorem dksX5_stepDown_0 : cX5_stepDown.data.toList.drop 0 = dktX5_stepDown_0 := by decide +kernel
theorem dX5_stepDown_0 : decode cX5_stepDown 0 = .ok (.iload_n 0, 1) := dk_26 (dk_at dksX5_stepDown_0 0 rfl rfl)
theorem dX5_stepDown_1 : decode cX5_stepDown 1 = .ok (.iconst 2, 1) := dk_5 (dk_at dksX5_stepDown_0 1 rfl rfl)
theorem dX5_stepDown_2 : decode cX5_stepDown 2 = .ok (.if_icmp .ne 7, 3) := dk_160 0 7 (dk_at dksX5_stepDown_0 2 rfl rfl)
theorem dX5_stepDown_5 : decode cX5_stepDown 5 = .ok (.iconst 1, 1) := dk_4 (dk_at dksX5_stepDown_0 5 rfl rfl)
theorem dX5_stepDown_6 : decode cX5_stepDown 6 = .ok (.goto 13, 3) := dk_167 0 13 (dk_at dksX5_stepDown_0 6 rfl rfl)
theorem dX5_stepDown_9 : decode cX5_stepDown 9 = .ok (.iload_n 0, 1) := dk_26 (dk_at dksX5_stepDown_0 9 rfl rfl)
theorem dX5_stepDown_10 : decode cX5_stepDown 10 = .ok (.iconst 3, 1) := dk_6 (dk_at dksX5_stepDown_0 10 rfl rfl)
theorem dX5_stepDown_11 : decode cX5_stepDown 11 = .ok (.if_icmp .ne 7, 3) := dk_160 0 7 (dk_at dksX5_stepDown_0 11 rfl rfl)
theorem dX5_stepDown_14 : decode cX5_stepDown 14 = .ok (.iconst (-1), 1) := dk_2 (dk_at dksX5_stepDown_0 14 rfl rfl)
theorem dX5_stepDown_15 : decode cX5_stepDown 15 = .ok (.goto 4, 3) := dk_167 0 4 (dk_at dksX5_stepDown_0 15 rfl rfl)
theorem dX5_stepDown_18 : decode cX5_stepDown 18 = .ok (.iconst 0, 1) := dk_3 (dk_at dksX5_stepDown_0 18 rfl rfl)
theorem dX5_stepDown_19 : decode cX5_stepDown 19 = .ok (.ireturn, 1) := dk_172 (dk_at dksX5_stepDown_0 19 rfl rfl)
abbrev rm_X5_stepDown : Room := { frames := 0, cells := 0, slots := 0, locals := 0 }
def w_X5_stepDown (a0 : Int32) (h : AH) (P : Int32 → AH → Prop) : Prop :=
  ((a0 = 2 →
    P 1 h) ∧
   (¬ a0 = 2 →
    ((a0 = 3 →
      P (-1) h) ∧
     (¬ a0 = 3 →
      P 0 h))))
theorem met_X5_stepDown (l : Launch) (hlt : l.stackTraces = false) (G : GG) (h : AH) (a0 : Int32) (P : Int32 → AH → Prop) (hw : w_X5_stepDown a0 h P) : ct_i l yX5_stepDown (ws_ yX5_stepDown cX5_stepDown 1 (Option.some Jvm.ClassFile.FieldType.int)) rm_X5_stepDown G h [vI a0] P := by
  refine j_starti hlt [(0, vI a0)] (plainFor_of_name (by decide)) rfl rfl (fun x X eG er en hQ => ?_)
  subst eG
  refine j_iload_n X (pc := 0) 0 dX5_stepDown_0 rfl rfl ?_
  refine j_iconst X (pc := 1) 2 dX5_stepDown_1 (by decide) ?_
  refine j_icmp_ne X (pc := 2) 9 dX5_stepDown_2 (by decide) hw (fun hw => ?_) (fun hw => ?_)
  · refine j_iconst X (pc := 5) 1 dX5_stepDown_5 (by decide) ?_
    refine j_goto X (pc := 6) 19 dX5_stepDown_6 (by decide) ?_
    exact j_iret X (pc := 19) hQ er (Nat.le_of_ble_eq_true rfl) (Nat.le_of_ble_eq_true rfl) dX5_stepDown_19 hw
  · refine j_iload_n X (pc := 9) 0 dX5_stepDown_9 rfl rfl ?_
    refine j_iconst X (pc := 10) 3 dX5_stepDown_10 (by decide) ?_
    refine j_icmp_ne X (pc := 11) 18 dX5_stepDown_11 (by decide) hw (fun hw => ?_) (fun hw => ?_)
    · refine j_iconst X (pc := 14) (-1) dX5_stepDown_14 (by decide) ?_
      refine j_goto X (pc := 15) 19 dX5_stepDown_15 (by decide) ?_
      exact j_iret X (pc := 19) hQ er (Nat.le_of_ble_eq_true rfl) (Nat.le_of_ble_eq_true rfl) dX5_stepDown_19 hw
    · refine j_iconst X (pc := 18) 0 dX5_stepDown_18 (by decide) ?_
      exact j_iret X (pc := 19) hQ er (Nat.le_of_ble_eq_true rfl) (Nat.le_of_ble_eq_true rfl) dX5_stepDown_19 hw
abbrev cX5_route : ByteArray := prog_19_method_73_code
def yX5_route : MethodName := ⟨RX5, "route", "(I)I"⟩
def dkwX5_route_19 : List UInt8 := [184, 1, 2, 54, 8, 132, 9, 1, 167, 255, 222, 21, 8, 172]
abbrev dktX5_route_19 : List UInt8 := dkwX5_route_19 ++ []
def dkwX5_route_18 : List UInt8 := [162, 0, 34, 21, 8, 42, 180, 0, 85, 7, 16, 24, 21, 5, 104, 21, 4, 96, 104, 21, 9, 96, 46]
abbrev dktX5_route_18 : List UInt8 := dkwX5_route_18 ++ dktX5_route_19
def dkwX5_route_17 : List UInt8 := [84, 132, 7, 1, 132, 11, 1, 167, 255, 104, 167, 255, 43, 18, 251, 54, 8, 3, 54, 9, 21, 9, 7]
abbrev dktX5_route_17 : List UInt8 := dkwX5_route_17 ++ dktX5_route_18
def dkwX5_route_16 : List UInt8 := [180, 0, 88, 21, 6, 21, 7, 96, 42, 180, 0, 88, 190, 112, 21, 14, 79, 42, 180, 0, 94, 21, 14, 4]
abbrev dktX5_route_16 : List UInt8 := dkwX5_route_16 ++ dktX5_route_17
def dkwX5_route_15 : List UInt8 := [42, 180, 0, 85, 21, 14, 21, 15, 79, 42, 180, 0, 94, 21, 14, 51, 153, 0, 6, 167, 0, 32, 42]
abbrev dktX5_route_15 : List UInt8 := dkwX5_route_15 ++ dktX5_route_16
def dkwX5_route_14 : List UInt8 := [167, 0, 6, 17, 3, 232, 96, 54, 15, 21, 15, 42, 180, 0, 85, 21, 14, 46, 161, 0, 6, 167, 0, 54]
abbrev dktX5_route_14 : List UInt8 := dkwX5_route_14 ++ dktX5_route_15
def dkwX5_route_13 : List UInt8 := [21, 11, 96, 54, 14, 42, 180, 0, 85, 21, 8, 46, 4, 96, 21, 11, 21, 8, 7, 112, 160, 0, 7, 3]
abbrev dktX5_route_13 : List UInt8 := dkwX5_route_13 ++ dktX5_route_14
def dkwX5_route_12 : List UInt8 := [21, 12, 21, 13, 182, 0, 248, 154, 0, 6, 167, 0, 112, 7, 16, 24, 21, 13, 104, 21, 12, 96, 104]
abbrev dktX5_route_12 : List UInt8 := dkwX5_route_12 ++ dktX5_route_13
def dkwX5_route_11 : List UInt8 := [162, 0, 152, 21, 9, 21, 11, 184, 0, 252, 96, 54, 12, 21, 10, 21, 11, 184, 0, 255, 96, 54, 13, 42]
abbrev dktX5_route_11 : List UInt8 := dkwX5_route_11 ++ dktX5_route_12
def dkwX5_route_10 : List UInt8 := [21, 8, 7, 108, 16, 24, 112, 54, 9, 21, 8, 7, 108, 16, 24, 108, 54, 10, 3, 54, 11, 21, 11, 7]
abbrev dktX5_route_10 : List UInt8 := dkwX5_route_10 ++ dktX5_route_11
def dkwX5_route_9 : List UInt8 := [21, 6, 4, 96, 42, 180, 0, 88, 190, 112, 54, 6, 132, 7, 255, 42, 180, 0, 94, 21, 8, 3, 84]
abbrev dktX5_route_9 : List UInt8 := dkwX5_route_9 ++ dktX5_route_10
def dkwX5_route_8 : List UInt8 := [84, 132, 7, 1, 132, 8, 1, 167, 255, 206, 21, 7, 158, 0, 214, 42, 180, 0, 88, 21, 6, 46, 54, 8]
abbrev dktX5_route_8 : List UInt8 := dkwX5_route_8 ++ dktX5_route_9
def dkwX5_route_7 : List UInt8 := [42, 180, 0, 85, 21, 9, 4, 79, 42, 180, 0, 88, 21, 7, 21, 9, 79, 42, 180, 0, 94, 21, 9, 4]
abbrev dktX5_route_7 : List UInt8 := dkwX5_route_7 ++ dktX5_route_8
def dkwX5_route_6 : List UInt8 := [54, 7, 3, 54, 8, 21, 8, 7, 162, 0, 50, 7, 16, 24, 29, 104, 28, 96, 104, 21, 8, 96, 54, 9]
abbrev dktX5_route_6 : List UInt8 := dkwX5_route_6 ++ dktX5_route_7
def dkwX5_route_5 : List UInt8 := [21, 6, 18, 251, 79, 42, 180, 0, 94, 21, 6, 3, 84, 132, 6, 1, 167, 255, 226, 3, 54, 6, 3]
abbrev dktX5_route_5 : List UInt8 := dkwX5_route_5 ++ dktX5_route_6
def dkwX5_route_4 : List UInt8 := [154, 0, 6, 18, 251, 172, 3, 54, 6, 21, 6, 42, 180, 0, 85, 190, 162, 0, 26, 42, 180, 0, 85]
abbrev dktX5_route_4 : List UInt8 := dkwX5_route_4 ++ dktX5_route_5
def dkwX5_route_3 : List UInt8 := [182, 0, 245, 54, 5, 42, 28, 29, 182, 0, 248, 153, 0, 14, 42, 21, 4, 21, 5, 182, 0, 248]
abbrev dktX5_route_3 : List UInt8 := dkwX5_route_3 ++ dktX5_route_4
def dkwX5_route_2 : List UInt8 := [180, 0, 30, 27, 52, 182, 0, 241, 54, 4, 42, 42, 180, 0, 19, 27, 46, 42, 180, 0, 30, 27, 52]
abbrev dktX5_route_2 : List UInt8 := dkwX5_route_2 ++ dktX5_route_3
def dkwX5_route_1 : List UInt8 := [180, 0, 16, 27, 46, 42, 180, 0, 26, 27, 52, 182, 0, 245, 62, 42, 42, 180, 0, 19, 27, 46, 42]
abbrev dktX5_route_1 : List UInt8 := dkwX5_route_1 ++ dktX5_route_2
def dkwX5_route_0 : List UInt8 := [42, 182, 0, 238, 42, 42, 180, 0, 16, 27, 46, 42, 180, 0, 26, 27, 52, 182, 0, 241, 61, 42, 42]
abbrev dktX5_route_0 : List UInt8 := dkwX5_route_0 ++ dktX5_route_1
theorem dksX5_route_0 : cX5_route.data.toList.drop 0 = dktX5_route_0 := by decide +kernel
theorem dksX5_route_1 : cX5_route.data.toList.drop 23 = dktX5_route_1 := dk_seg dksX5_route_0 23 rfl rfl
theorem dksX5_route_2 : cX5_route.data.toList.drop 46 = dktX5_route_2 := dk_seg dksX5_route_1 23 rfl rfl
theorem dksX5_route_3 : cX5_route.data.toList.drop 69 = dktX5_route_3 := dk_seg dksX5_route_2 23 rfl rfl
theorem dksX5_route_4 : cX5_route.data.toList.drop 91 = dktX5_route_4 := dk_seg dksX5_route_3 22 rfl rfl
theorem dksX5_route_5 : cX5_route.data.toList.drop 114 = dktX5_route_5 := dk_seg dksX5_route_4 23 rfl rfl
theorem dksX5_route_6 : cX5_route.data.toList.drop 137 = dktX5_route_6 := dk_seg dksX5_route_5 23 rfl rfl
theorem dksX5_route_7 : cX5_route.data.toList.drop 161 = dktX5_route_7 := dk_seg dksX5_route_6 24 rfl rfl
theorem dksX5_route_8 : cX5_route.data.toList.drop 185 = dktX5_route_8 := dk_seg dksX5_route_7 24 rfl rfl
theorem dksX5_route_9 : cX5_route.data.toList.drop 209 = dktX5_route_9 := dk_seg dksX5_route_8 24 rfl rfl
theorem dksX5_route_10 : cX5_route.data.toList.drop 232 = dktX5_route_10 := dk_seg dksX5_route_9 23 rfl rfl
theorem dksX5_route_11 : cX5_route.data.toList.drop 256 = dktX5_route_11 := dk_seg dksX5_route_10 24 rfl rfl
theorem dksX5_route_12 : cX5_route.data.toList.drop 280 = dktX5_route_12 := dk_seg dksX5_route_11 24 rfl rfl
theorem dksX5_route_13 : cX5_route.data.toList.drop 303 = dktX5_route_13 := dk_seg dksX5_route_12 23 rfl rfl
theorem dksX5_route_14 : cX5_route.data.toList.drop 327 = dktX5_route_14 := dk_seg dksX5_route_13 24 rfl rfl
theorem dksX5_route_15 : cX5_route.data.toList.drop 351 = dktX5_route_15 := dk_seg dksX5_route_14 24 rfl rfl
theorem dksX5_route_16 : cX5_route.data.toList.drop 374 = dktX5_route_16 := dk_seg dksX5_route_15 23 rfl rfl
theorem dksX5_route_17 : cX5_route.data.toList.drop 398 = dktX5_route_17 := dk_seg dksX5_route_16 24 rfl rfl
theorem dksX5_route_18 : cX5_route.data.toList.drop 421 = dktX5_route_18 := dk_seg dksX5_route_17 23 rfl rfl
theorem dksX5_route_19 : cX5_route.data.toList.drop 444 = dktX5_route_19 := dk_seg dksX5_route_18 23 rfl rfl
theorem dX5_route_0 : decode cX5_route 0 = .ok (.aload_n 0, 1) := dk_42 (dk_at dksX5_route_0 0 rfl rfl)
theorem dX5_route_1 : decode cX5_route 1 = .ok (.invokevirtual 238, 3) := dk_182 0 238 (dk_at dksX5_route_0 1 rfl rfl)
theorem dX5_route_4 : decode cX5_route 4 = .ok (.aload_n 0, 1) := dk_42 (dk_at dksX5_route_0 4 rfl rfl)
theorem dX5_route_5 : decode cX5_route 5 = .ok (.aload_n 0, 1) := dk_42 (dk_at dksX5_route_0 5 rfl rfl)
theorem dX5_route_6 : decode cX5_route 6 = .ok (.getfield 16, 3) := dk_180 0 16 (dk_at dksX5_route_0 6 rfl rfl)
theorem dX5_route_9 : decode cX5_route 9 = .ok (.iload_n 1, 1) := dk_27 (dk_at dksX5_route_0 9 rfl rfl)
theorem dX5_route_10 : decode cX5_route 10 = .ok (.iaload, 1) := dk_46 (dk_at dksX5_route_0 10 rfl rfl)
theorem dX5_route_11 : decode cX5_route 11 = .ok (.aload_n 0, 1) := dk_42 (dk_at dksX5_route_0 11 rfl rfl)
theorem dX5_route_12 : decode cX5_route 12 = .ok (.getfield 26, 3) := dk_180 0 26 (dk_at dksX5_route_0 12 rfl rfl)
theorem dX5_route_15 : decode cX5_route 15 = .ok (.iload_n 1, 1) := dk_27 (dk_at dksX5_route_0 15 rfl rfl)
theorem dX5_route_16 : decode cX5_route 16 = .ok (.caload, 1) := dk_52 (dk_at dksX5_route_0 16 rfl rfl)
theorem dX5_route_17 : decode cX5_route 17 = .ok (.invokevirtual 241, 3) := dk_182 0 241 (dk_at dksX5_route_0 17 rfl rfl)
theorem dX5_route_20 : decode cX5_route 20 = .ok (.istore_n 2, 1) := dk_61 (dk_at dksX5_route_0 20 rfl rfl)
theorem dX5_route_21 : decode cX5_route 21 = .ok (.aload_n 0, 1) := dk_42 (dk_at dksX5_route_0 21 rfl rfl)
theorem dX5_route_22 : decode cX5_route 22 = .ok (.aload_n 0, 1) := dk_42 (dk_at dksX5_route_0 22 rfl rfl)
theorem dX5_route_23 : decode cX5_route 23 = .ok (.getfield 16, 3) := dk_180 0 16 (dk_at dksX5_route_1 0 rfl rfl)
theorem dX5_route_26 : decode cX5_route 26 = .ok (.iload_n 1, 1) := dk_27 (dk_at dksX5_route_1 3 rfl rfl)
theorem dX5_route_27 : decode cX5_route 27 = .ok (.iaload, 1) := dk_46 (dk_at dksX5_route_1 4 rfl rfl)
theorem dX5_route_28 : decode cX5_route 28 = .ok (.aload_n 0, 1) := dk_42 (dk_at dksX5_route_1 5 rfl rfl)
theorem dX5_route_29 : decode cX5_route 29 = .ok (.getfield 26, 3) := dk_180 0 26 (dk_at dksX5_route_1 6 rfl rfl)
theorem dX5_route_32 : decode cX5_route 32 = .ok (.iload_n 1, 1) := dk_27 (dk_at dksX5_route_1 9 rfl rfl)
theorem dX5_route_33 : decode cX5_route 33 = .ok (.caload, 1) := dk_52 (dk_at dksX5_route_1 10 rfl rfl)
theorem dX5_route_34 : decode cX5_route 34 = .ok (.invokevirtual 245, 3) := dk_182 0 245 (dk_at dksX5_route_1 11 rfl rfl)
theorem dX5_route_37 : decode cX5_route 37 = .ok (.istore_n 3, 1) := dk_62 (dk_at dksX5_route_1 14 rfl rfl)
theorem dX5_route_38 : decode cX5_route 38 = .ok (.aload_n 0, 1) := dk_42 (dk_at dksX5_route_1 15 rfl rfl)
theorem dX5_route_39 : decode cX5_route 39 = .ok (.aload_n 0, 1) := dk_42 (dk_at dksX5_route_1 16 rfl rfl)
theorem dX5_route_40 : decode cX5_route 40 = .ok (.getfield 19, 3) := dk_180 0 19 (dk_at dksX5_route_1 17 rfl rfl)
theorem dX5_route_43 : decode cX5_route 43 = .ok (.iload_n 1, 1) := dk_27 (dk_at dksX5_route_1 20 rfl rfl)
theorem dX5_route_44 : decode cX5_route 44 = .ok (.iaload, 1) := dk_46 (dk_at dksX5_route_1 21 rfl rfl)
theorem dX5_route_45 : decode cX5_route 45 = .ok (.aload_n 0, 1) := dk_42 (dk_at dksX5_route_1 22 rfl rfl)
theorem dX5_route_46 : decode cX5_route 46 = .ok (.getfield 30, 3) := dk_180 0 30 (dk_at dksX5_route_2 0 rfl rfl)
theorem dX5_route_49 : decode cX5_route 49 = .ok (.iload_n 1, 1) := dk_27 (dk_at dksX5_route_2 3 rfl rfl)
theorem dX5_route_50 : decode cX5_route 50 = .ok (.caload, 1) := dk_52 (dk_at dksX5_route_2 4 rfl rfl)
theorem dX5_route_51 : decode cX5_route 51 = .ok (.invokevirtual 241, 3) := dk_182 0 241 (dk_at dksX5_route_2 5 rfl rfl)
theorem dX5_route_54 : decode cX5_route 54 = .ok (.istore 4, 2) := dk_54 4 (dk_at dksX5_route_2 8 rfl rfl)
theorem dX5_route_56 : decode cX5_route 56 = .ok (.aload_n 0, 1) := dk_42 (dk_at dksX5_route_2 10 rfl rfl)
theorem dX5_route_57 : decode cX5_route 57 = .ok (.aload_n 0, 1) := dk_42 (dk_at dksX5_route_2 11 rfl rfl)
theorem dX5_route_58 : decode cX5_route 58 = .ok (.getfield 19, 3) := dk_180 0 19 (dk_at dksX5_route_2 12 rfl rfl)
theorem dX5_route_61 : decode cX5_route 61 = .ok (.iload_n 1, 1) := dk_27 (dk_at dksX5_route_2 15 rfl rfl)
theorem dX5_route_62 : decode cX5_route 62 = .ok (.iaload, 1) := dk_46 (dk_at dksX5_route_2 16 rfl rfl)
theorem dX5_route_63 : decode cX5_route 63 = .ok (.aload_n 0, 1) := dk_42 (dk_at dksX5_route_2 17 rfl rfl)
theorem dX5_route_64 : decode cX5_route 64 = .ok (.getfield 30, 3) := dk_180 0 30 (dk_at dksX5_route_2 18 rfl rfl)
theorem dX5_route_67 : decode cX5_route 67 = .ok (.iload_n 1, 1) := dk_27 (dk_at dksX5_route_2 21 rfl rfl)
theorem dX5_route_68 : decode cX5_route 68 = .ok (.caload, 1) := dk_52 (dk_at dksX5_route_2 22 rfl rfl)
theorem dX5_route_69 : decode cX5_route 69 = .ok (.invokevirtual 245, 3) := dk_182 0 245 (dk_at dksX5_route_3 0 rfl rfl)
theorem dX5_route_72 : decode cX5_route 72 = .ok (.istore 5, 2) := dk_54 5 (dk_at dksX5_route_3 3 rfl rfl)
theorem dX5_route_74 : decode cX5_route 74 = .ok (.aload_n 0, 1) := dk_42 (dk_at dksX5_route_3 5 rfl rfl)
theorem dX5_route_75 : decode cX5_route 75 = .ok (.iload_n 2, 1) := dk_28 (dk_at dksX5_route_3 6 rfl rfl)
theorem dX5_route_76 : decode cX5_route 76 = .ok (.iload_n 3, 1) := dk_29 (dk_at dksX5_route_3 7 rfl rfl)
theorem dX5_route_77 : decode cX5_route 77 = .ok (.invokevirtual 248, 3) := dk_182 0 248 (dk_at dksX5_route_3 8 rfl rfl)
theorem dX5_route_80 : decode cX5_route 80 = .ok (.ifCond .eq 14, 3) := dk_153 0 14 (dk_at dksX5_route_3 11 rfl rfl)
theorem dX5_route_83 : decode cX5_route 83 = .ok (.aload_n 0, 1) := dk_42 (dk_at dksX5_route_3 14 rfl rfl)
theorem dX5_route_84 : decode cX5_route 84 = .ok (.iload 4, 2) := dk_21 4 (dk_at dksX5_route_3 15 rfl rfl)
theorem dX5_route_86 : decode cX5_route 86 = .ok (.iload 5, 2) := dk_21 5 (dk_at dksX5_route_3 17 rfl rfl)
theorem dX5_route_88 : decode cX5_route 88 = .ok (.invokevirtual 248, 3) := dk_182 0 248 (dk_at dksX5_route_3 19 rfl rfl)
theorem dX5_route_91 : decode cX5_route 91 = .ok (.ifCond .ne 6, 3) := dk_154 0 6 (dk_at dksX5_route_4 0 rfl rfl)
theorem dX5_route_94 : decode cX5_route 94 = .ok (.ldc 251, 2) := dk_18 251 (dk_at dksX5_route_4 3 rfl rfl)
theorem dX5_route_96 : decode cX5_route 96 = .ok (.ireturn, 1) := dk_172 (dk_at dksX5_route_4 5 rfl rfl)
theorem dX5_route_97 : decode cX5_route 97 = .ok (.iconst 0, 1) := dk_3 (dk_at dksX5_route_4 6 rfl rfl)
theorem dX5_route_98 : decode cX5_route 98 = .ok (.istore 6, 2) := dk_54 6 (dk_at dksX5_route_4 7 rfl rfl)
theorem dX5_route_100 : decode cX5_route 100 = .ok (.iload 6, 2) := dk_21 6 (dk_at dksX5_route_4 9 rfl rfl)
theorem dX5_route_102 : decode cX5_route 102 = .ok (.aload_n 0, 1) := dk_42 (dk_at dksX5_route_4 11 rfl rfl)
theorem dX5_route_103 : decode cX5_route 103 = .ok (.getfield 85, 3) := dk_180 0 85 (dk_at dksX5_route_4 12 rfl rfl)
theorem dX5_route_106 : decode cX5_route 106 = .ok (.arraylength, 1) := dk_190 (dk_at dksX5_route_4 15 rfl rfl)
theorem dX5_route_107 : decode cX5_route 107 = .ok (.if_icmp .ge 26, 3) := dk_162 0 26 (dk_at dksX5_route_4 16 rfl rfl)
theorem dX5_route_110 : decode cX5_route 110 = .ok (.aload_n 0, 1) := dk_42 (dk_at dksX5_route_4 19 rfl rfl)
theorem dX5_route_111 : decode cX5_route 111 = .ok (.getfield 85, 3) := dk_180 0 85 (dk_at dksX5_route_4 20 rfl rfl)
theorem dX5_route_114 : decode cX5_route 114 = .ok (.iload 6, 2) := dk_21 6 (dk_at dksX5_route_5 0 rfl rfl)
theorem dX5_route_116 : decode cX5_route 116 = .ok (.ldc 251, 2) := dk_18 251 (dk_at dksX5_route_5 2 rfl rfl)
theorem dX5_route_118 : decode cX5_route 118 = .ok (.iastore, 1) := dk_79 (dk_at dksX5_route_5 4 rfl rfl)
theorem dX5_route_119 : decode cX5_route 119 = .ok (.aload_n 0, 1) := dk_42 (dk_at dksX5_route_5 5 rfl rfl)
theorem dX5_route_120 : decode cX5_route 120 = .ok (.getfield 94, 3) := dk_180 0 94 (dk_at dksX5_route_5 6 rfl rfl)
theorem dX5_route_123 : decode cX5_route 123 = .ok (.iload 6, 2) := dk_21 6 (dk_at dksX5_route_5 9 rfl rfl)
theorem dX5_route_125 : decode cX5_route 125 = .ok (.iconst 0, 1) := dk_3 (dk_at dksX5_route_5 11 rfl rfl)
theorem dX5_route_126 : decode cX5_route 126 = .ok (.bastore, 1) := dk_84 (dk_at dksX5_route_5 12 rfl rfl)
theorem dX5_route_127 : decode cX5_route 127 = .ok (.iinc 6 1, 3) := dk_132 6 1 (dk_at dksX5_route_5 13 rfl rfl)
theorem dX5_route_130 : decode cX5_route 130 = .ok (.goto (-30), 3) := dk_167 255 226 (dk_at dksX5_route_5 16 rfl rfl)
theorem dX5_route_133 : decode cX5_route 133 = .ok (.iconst 0, 1) := dk_3 (dk_at dksX5_route_5 19 rfl rfl)
theorem dX5_route_134 : decode cX5_route 134 = .ok (.istore 6, 2) := dk_54 6 (dk_at dksX5_route_5 20 rfl rfl)
theorem dX5_route_136 : decode cX5_route 136 = .ok (.iconst 0, 1) := dk_3 (dk_at dksX5_route_5 22 rfl rfl)
theorem dX5_route_137 : decode cX5_route 137 = .ok (.istore 7, 2) := dk_54 7 (dk_at dksX5_route_6 0 rfl rfl)
theorem dX5_route_139 : decode cX5_route 139 = .ok (.iconst 0, 1) := dk_3 (dk_at dksX5_route_6 2 rfl rfl)
theorem dX5_route_140 : decode cX5_route 140 = .ok (.istore 8, 2) := dk_54 8 (dk_at dksX5_route_6 3 rfl rfl)
theorem dX5_route_142 : decode cX5_route 142 = .ok (.iload 8, 2) := dk_21 8 (dk_at dksX5_route_6 5 rfl rfl)
theorem dX5_route_144 : decode cX5_route 144 = .ok (.iconst 4, 1) := dk_7 (dk_at dksX5_route_6 7 rfl rfl)
theorem dX5_route_145 : decode cX5_route 145 = .ok (.if_icmp .ge 50, 3) := dk_162 0 50 (dk_at dksX5_route_6 8 rfl rfl)
theorem dX5_route_148 : decode cX5_route 148 = .ok (.iconst 4, 1) := dk_7 (dk_at dksX5_route_6 11 rfl rfl)
theorem dX5_route_149 : decode cX5_route 149 = .ok (.bipush 24, 2) := dk_16 24 (dk_at dksX5_route_6 12 rfl rfl)
theorem dX5_route_151 : decode cX5_route 151 = .ok (.iload_n 3, 1) := dk_29 (dk_at dksX5_route_6 14 rfl rfl)
theorem dX5_route_152 : decode cX5_route 152 = .ok (.imul, 1) := dk_104 (dk_at dksX5_route_6 15 rfl rfl)
theorem dX5_route_153 : decode cX5_route 153 = .ok (.iload_n 2, 1) := dk_28 (dk_at dksX5_route_6 16 rfl rfl)
theorem dX5_route_154 : decode cX5_route 154 = .ok (.iadd, 1) := dk_96 (dk_at dksX5_route_6 17 rfl rfl)
theorem dX5_route_155 : decode cX5_route 155 = .ok (.imul, 1) := dk_104 (dk_at dksX5_route_6 18 rfl rfl)
theorem dX5_route_156 : decode cX5_route 156 = .ok (.iload 8, 2) := dk_21 8 (dk_at dksX5_route_6 19 rfl rfl)
theorem dX5_route_158 : decode cX5_route 158 = .ok (.iadd, 1) := dk_96 (dk_at dksX5_route_6 21 rfl rfl)
theorem dX5_route_159 : decode cX5_route 159 = .ok (.istore 9, 2) := dk_54 9 (dk_at dksX5_route_6 22 rfl rfl)
theorem dX5_route_161 : decode cX5_route 161 = .ok (.aload_n 0, 1) := dk_42 (dk_at dksX5_route_7 0 rfl rfl)
theorem dX5_route_162 : decode cX5_route 162 = .ok (.getfield 85, 3) := dk_180 0 85 (dk_at dksX5_route_7 1 rfl rfl)
theorem dX5_route_165 : decode cX5_route 165 = .ok (.iload 9, 2) := dk_21 9 (dk_at dksX5_route_7 4 rfl rfl)
theorem dX5_route_167 : decode cX5_route 167 = .ok (.iconst 1, 1) := dk_4 (dk_at dksX5_route_7 6 rfl rfl)
theorem dX5_route_168 : decode cX5_route 168 = .ok (.iastore, 1) := dk_79 (dk_at dksX5_route_7 7 rfl rfl)
theorem dX5_route_169 : decode cX5_route 169 = .ok (.aload_n 0, 1) := dk_42 (dk_at dksX5_route_7 8 rfl rfl)
theorem dX5_route_170 : decode cX5_route 170 = .ok (.getfield 88, 3) := dk_180 0 88 (dk_at dksX5_route_7 9 rfl rfl)
theorem dX5_route_173 : decode cX5_route 173 = .ok (.iload 7, 2) := dk_21 7 (dk_at dksX5_route_7 12 rfl rfl)
theorem dX5_route_175 : decode cX5_route 175 = .ok (.iload 9, 2) := dk_21 9 (dk_at dksX5_route_7 14 rfl rfl)
theorem dX5_route_177 : decode cX5_route 177 = .ok (.iastore, 1) := dk_79 (dk_at dksX5_route_7 16 rfl rfl)
theorem dX5_route_178 : decode cX5_route 178 = .ok (.aload_n 0, 1) := dk_42 (dk_at dksX5_route_7 17 rfl rfl)
theorem dX5_route_179 : decode cX5_route 179 = .ok (.getfield 94, 3) := dk_180 0 94 (dk_at dksX5_route_7 18 rfl rfl)
theorem dX5_route_182 : decode cX5_route 182 = .ok (.iload 9, 2) := dk_21 9 (dk_at dksX5_route_7 21 rfl rfl)
theorem dX5_route_184 : decode cX5_route 184 = .ok (.iconst 1, 1) := dk_4 (dk_at dksX5_route_7 23 rfl rfl)
theorem dX5_route_185 : decode cX5_route 185 = .ok (.bastore, 1) := dk_84 (dk_at dksX5_route_8 0 rfl rfl)
theorem dX5_route_186 : decode cX5_route 186 = .ok (.iinc 7 1, 3) := dk_132 7 1 (dk_at dksX5_route_8 1 rfl rfl)
theorem dX5_route_189 : decode cX5_route 189 = .ok (.iinc 8 1, 3) := dk_132 8 1 (dk_at dksX5_route_8 4 rfl rfl)
theorem dX5_route_192 : decode cX5_route 192 = .ok (.goto (-50), 3) := dk_167 255 206 (dk_at dksX5_route_8 7 rfl rfl)
theorem dX5_route_195 : decode cX5_route 195 = .ok (.iload 7, 2) := dk_21 7 (dk_at dksX5_route_8 10 rfl rfl)
theorem dX5_route_197 : decode cX5_route 197 = .ok (.ifCond .le 214, 3) := dk_158 0 214 (dk_at dksX5_route_8 12 rfl rfl)
theorem dX5_route_200 : decode cX5_route 200 = .ok (.aload_n 0, 1) := dk_42 (dk_at dksX5_route_8 15 rfl rfl)
theorem dX5_route_201 : decode cX5_route 201 = .ok (.getfield 88, 3) := dk_180 0 88 (dk_at dksX5_route_8 16 rfl rfl)
theorem dX5_route_204 : decode cX5_route 204 = .ok (.iload 6, 2) := dk_21 6 (dk_at dksX5_route_8 19 rfl rfl)
theorem dX5_route_206 : decode cX5_route 206 = .ok (.iaload, 1) := dk_46 (dk_at dksX5_route_8 21 rfl rfl)
theorem dX5_route_207 : decode cX5_route 207 = .ok (.istore 8, 2) := dk_54 8 (dk_at dksX5_route_8 22 rfl rfl)
theorem dX5_route_209 : decode cX5_route 209 = .ok (.iload 6, 2) := dk_21 6 (dk_at dksX5_route_9 0 rfl rfl)
theorem dX5_route_211 : decode cX5_route 211 = .ok (.iconst 1, 1) := dk_4 (dk_at dksX5_route_9 2 rfl rfl)
theorem dX5_route_212 : decode cX5_route 212 = .ok (.iadd, 1) := dk_96 (dk_at dksX5_route_9 3 rfl rfl)
theorem dX5_route_213 : decode cX5_route 213 = .ok (.aload_n 0, 1) := dk_42 (dk_at dksX5_route_9 4 rfl rfl)
theorem dX5_route_214 : decode cX5_route 214 = .ok (.getfield 88, 3) := dk_180 0 88 (dk_at dksX5_route_9 5 rfl rfl)
theorem dX5_route_217 : decode cX5_route 217 = .ok (.arraylength, 1) := dk_190 (dk_at dksX5_route_9 8 rfl rfl)
theorem dX5_route_218 : decode cX5_route 218 = .ok (.irem, 1) := dk_112 (dk_at dksX5_route_9 9 rfl rfl)
theorem dX5_route_219 : decode cX5_route 219 = .ok (.istore 6, 2) := dk_54 6 (dk_at dksX5_route_9 10 rfl rfl)
theorem dX5_route_221 : decode cX5_route 221 = .ok (.iinc 7 (-1), 3) := dk_132 7 255 (dk_at dksX5_route_9 12 rfl rfl)
theorem dX5_route_224 : decode cX5_route 224 = .ok (.aload_n 0, 1) := dk_42 (dk_at dksX5_route_9 15 rfl rfl)
theorem dX5_route_225 : decode cX5_route 225 = .ok (.getfield 94, 3) := dk_180 0 94 (dk_at dksX5_route_9 16 rfl rfl)
theorem dX5_route_228 : decode cX5_route 228 = .ok (.iload 8, 2) := dk_21 8 (dk_at dksX5_route_9 19 rfl rfl)
theorem dX5_route_230 : decode cX5_route 230 = .ok (.iconst 0, 1) := dk_3 (dk_at dksX5_route_9 21 rfl rfl)
theorem dX5_route_231 : decode cX5_route 231 = .ok (.bastore, 1) := dk_84 (dk_at dksX5_route_9 22 rfl rfl)
theorem dX5_route_232 : decode cX5_route 232 = .ok (.iload 8, 2) := dk_21 8 (dk_at dksX5_route_10 0 rfl rfl)
theorem dX5_route_234 : decode cX5_route 234 = .ok (.iconst 4, 1) := dk_7 (dk_at dksX5_route_10 2 rfl rfl)
theorem dX5_route_235 : decode cX5_route 235 = .ok (.idiv, 1) := dk_108 (dk_at dksX5_route_10 3 rfl rfl)
theorem dX5_route_236 : decode cX5_route 236 = .ok (.bipush 24, 2) := dk_16 24 (dk_at dksX5_route_10 4 rfl rfl)
theorem dX5_route_238 : decode cX5_route 238 = .ok (.irem, 1) := dk_112 (dk_at dksX5_route_10 6 rfl rfl)
theorem dX5_route_239 : decode cX5_route 239 = .ok (.istore 9, 2) := dk_54 9 (dk_at dksX5_route_10 7 rfl rfl)
theorem dX5_route_241 : decode cX5_route 241 = .ok (.iload 8, 2) := dk_21 8 (dk_at dksX5_route_10 9 rfl rfl)
theorem dX5_route_243 : decode cX5_route 243 = .ok (.iconst 4, 1) := dk_7 (dk_at dksX5_route_10 11 rfl rfl)
theorem dX5_route_244 : decode cX5_route 244 = .ok (.idiv, 1) := dk_108 (dk_at dksX5_route_10 12 rfl rfl)
theorem dX5_route_245 : decode cX5_route 245 = .ok (.bipush 24, 2) := dk_16 24 (dk_at dksX5_route_10 13 rfl rfl)
theorem dX5_route_247 : decode cX5_route 247 = .ok (.idiv, 1) := dk_108 (dk_at dksX5_route_10 15 rfl rfl)
theorem dX5_route_248 : decode cX5_route 248 = .ok (.istore 10, 2) := dk_54 10 (dk_at dksX5_route_10 16 rfl rfl)
theorem dX5_route_250 : decode cX5_route 250 = .ok (.iconst 0, 1) := dk_3 (dk_at dksX5_route_10 18 rfl rfl)
theorem dX5_route_251 : decode cX5_route 251 = .ok (.istore 11, 2) := dk_54 11 (dk_at dksX5_route_10 19 rfl rfl)
theorem dX5_route_253 : decode cX5_route 253 = .ok (.iload 11, 2) := dk_21 11 (dk_at dksX5_route_10 21 rfl rfl)
theorem dX5_route_255 : decode cX5_route 255 = .ok (.iconst 4, 1) := dk_7 (dk_at dksX5_route_10 23 rfl rfl)
theorem dX5_route_256 : decode cX5_route 256 = .ok (.if_icmp .ge 152, 3) := dk_162 0 152 (dk_at dksX5_route_11 0 rfl rfl)
theorem dX5_route_259 : decode cX5_route 259 = .ok (.iload 9, 2) := dk_21 9 (dk_at dksX5_route_11 3 rfl rfl)
theorem dX5_route_261 : decode cX5_route 261 = .ok (.iload 11, 2) := dk_21 11 (dk_at dksX5_route_11 5 rfl rfl)
theorem dX5_route_263 : decode cX5_route 263 = .ok (.invokestatic 252, 3) := dk_184 0 252 (dk_at dksX5_route_11 7 rfl rfl)
theorem dX5_route_266 : decode cX5_route 266 = .ok (.iadd, 1) := dk_96 (dk_at dksX5_route_11 10 rfl rfl)
theorem dX5_route_267 : decode cX5_route 267 = .ok (.istore 12, 2) := dk_54 12 (dk_at dksX5_route_11 11 rfl rfl)
theorem dX5_route_269 : decode cX5_route 269 = .ok (.iload 10, 2) := dk_21 10 (dk_at dksX5_route_11 13 rfl rfl)
theorem dX5_route_271 : decode cX5_route 271 = .ok (.iload 11, 2) := dk_21 11 (dk_at dksX5_route_11 15 rfl rfl)
theorem dX5_route_273 : decode cX5_route 273 = .ok (.invokestatic 255, 3) := dk_184 0 255 (dk_at dksX5_route_11 17 rfl rfl)
theorem dX5_route_276 : decode cX5_route 276 = .ok (.iadd, 1) := dk_96 (dk_at dksX5_route_11 20 rfl rfl)
theorem dX5_route_277 : decode cX5_route 277 = .ok (.istore 13, 2) := dk_54 13 (dk_at dksX5_route_11 21 rfl rfl)
theorem dX5_route_279 : decode cX5_route 279 = .ok (.aload_n 0, 1) := dk_42 (dk_at dksX5_route_11 23 rfl rfl)
theorem dX5_route_280 : decode cX5_route 280 = .ok (.iload 12, 2) := dk_21 12 (dk_at dksX5_route_12 0 rfl rfl)
theorem dX5_route_282 : decode cX5_route 282 = .ok (.iload 13, 2) := dk_21 13 (dk_at dksX5_route_12 2 rfl rfl)
theorem dX5_route_284 : decode cX5_route 284 = .ok (.invokevirtual 248, 3) := dk_182 0 248 (dk_at dksX5_route_12 4 rfl rfl)
theorem dX5_route_287 : decode cX5_route 287 = .ok (.ifCond .ne 6, 3) := dk_154 0 6 (dk_at dksX5_route_12 7 rfl rfl)
theorem dX5_route_290 : decode cX5_route 290 = .ok (.goto 112, 3) := dk_167 0 112 (dk_at dksX5_route_12 10 rfl rfl)
theorem dX5_route_293 : decode cX5_route 293 = .ok (.iconst 4, 1) := dk_7 (dk_at dksX5_route_12 13 rfl rfl)
theorem dX5_route_294 : decode cX5_route 294 = .ok (.bipush 24, 2) := dk_16 24 (dk_at dksX5_route_12 14 rfl rfl)
theorem dX5_route_296 : decode cX5_route 296 = .ok (.iload 13, 2) := dk_21 13 (dk_at dksX5_route_12 16 rfl rfl)
theorem dX5_route_298 : decode cX5_route 298 = .ok (.imul, 1) := dk_104 (dk_at dksX5_route_12 18 rfl rfl)
theorem dX5_route_299 : decode cX5_route 299 = .ok (.iload 12, 2) := dk_21 12 (dk_at dksX5_route_12 19 rfl rfl)
theorem dX5_route_301 : decode cX5_route 301 = .ok (.iadd, 1) := dk_96 (dk_at dksX5_route_12 21 rfl rfl)
theorem dX5_route_302 : decode cX5_route 302 = .ok (.imul, 1) := dk_104 (dk_at dksX5_route_12 22 rfl rfl)
theorem dX5_route_303 : decode cX5_route 303 = .ok (.iload 11, 2) := dk_21 11 (dk_at dksX5_route_13 0 rfl rfl)
theorem dX5_route_305 : decode cX5_route 305 = .ok (.iadd, 1) := dk_96 (dk_at dksX5_route_13 2 rfl rfl)
theorem dX5_route_306 : decode cX5_route 306 = .ok (.istore 14, 2) := dk_54 14 (dk_at dksX5_route_13 3 rfl rfl)
theorem dX5_route_308 : decode cX5_route 308 = .ok (.aload_n 0, 1) := dk_42 (dk_at dksX5_route_13 5 rfl rfl)
theorem dX5_route_309 : decode cX5_route 309 = .ok (.getfield 85, 3) := dk_180 0 85 (dk_at dksX5_route_13 6 rfl rfl)
theorem dX5_route_312 : decode cX5_route 312 = .ok (.iload 8, 2) := dk_21 8 (dk_at dksX5_route_13 9 rfl rfl)
theorem dX5_route_314 : decode cX5_route 314 = .ok (.iaload, 1) := dk_46 (dk_at dksX5_route_13 11 rfl rfl)
theorem dX5_route_315 : decode cX5_route 315 = .ok (.iconst 1, 1) := dk_4 (dk_at dksX5_route_13 12 rfl rfl)
theorem dX5_route_316 : decode cX5_route 316 = .ok (.iadd, 1) := dk_96 (dk_at dksX5_route_13 13 rfl rfl)
theorem dX5_route_317 : decode cX5_route 317 = .ok (.iload 11, 2) := dk_21 11 (dk_at dksX5_route_13 14 rfl rfl)
theorem dX5_route_319 : decode cX5_route 319 = .ok (.iload 8, 2) := dk_21 8 (dk_at dksX5_route_13 16 rfl rfl)
theorem dX5_route_321 : decode cX5_route 321 = .ok (.iconst 4, 1) := dk_7 (dk_at dksX5_route_13 18 rfl rfl)
theorem dX5_route_322 : decode cX5_route 322 = .ok (.irem, 1) := dk_112 (dk_at dksX5_route_13 19 rfl rfl)
theorem dX5_route_323 : decode cX5_route 323 = .ok (.if_icmp .ne 7, 3) := dk_160 0 7 (dk_at dksX5_route_13 20 rfl rfl)
theorem dX5_route_326 : decode cX5_route 326 = .ok (.iconst 0, 1) := dk_3 (dk_at dksX5_route_13 23 rfl rfl)
theorem dX5_route_327 : decode cX5_route 327 = .ok (.goto 6, 3) := dk_167 0 6 (dk_at dksX5_route_14 0 rfl rfl)
theorem dX5_route_330 : decode cX5_route 330 = .ok (.sipush 1000, 3) := dk_17 3 232 (dk_at dksX5_route_14 3 rfl rfl)
theorem dX5_route_333 : decode cX5_route 333 = .ok (.iadd, 1) := dk_96 (dk_at dksX5_route_14 6 rfl rfl)
theorem dX5_route_334 : decode cX5_route 334 = .ok (.istore 15, 2) := dk_54 15 (dk_at dksX5_route_14 7 rfl rfl)
theorem dX5_route_336 : decode cX5_route 336 = .ok (.iload 15, 2) := dk_21 15 (dk_at dksX5_route_14 9 rfl rfl)
theorem dX5_route_338 : decode cX5_route 338 = .ok (.aload_n 0, 1) := dk_42 (dk_at dksX5_route_14 11 rfl rfl)
theorem dX5_route_339 : decode cX5_route 339 = .ok (.getfield 85, 3) := dk_180 0 85 (dk_at dksX5_route_14 12 rfl rfl)
theorem dX5_route_342 : decode cX5_route 342 = .ok (.iload 14, 2) := dk_21 14 (dk_at dksX5_route_14 15 rfl rfl)
theorem dX5_route_344 : decode cX5_route 344 = .ok (.iaload, 1) := dk_46 (dk_at dksX5_route_14 17 rfl rfl)
theorem dX5_route_345 : decode cX5_route 345 = .ok (.if_icmp .lt 6, 3) := dk_161 0 6 (dk_at dksX5_route_14 18 rfl rfl)
theorem dX5_route_348 : decode cX5_route 348 = .ok (.goto 54, 3) := dk_167 0 54 (dk_at dksX5_route_14 21 rfl rfl)
theorem dX5_route_351 : decode cX5_route 351 = .ok (.aload_n 0, 1) := dk_42 (dk_at dksX5_route_15 0 rfl rfl)
theorem dX5_route_352 : decode cX5_route 352 = .ok (.getfield 85, 3) := dk_180 0 85 (dk_at dksX5_route_15 1 rfl rfl)
theorem dX5_route_355 : decode cX5_route 355 = .ok (.iload 14, 2) := dk_21 14 (dk_at dksX5_route_15 4 rfl rfl)
theorem dX5_route_357 : decode cX5_route 357 = .ok (.iload 15, 2) := dk_21 15 (dk_at dksX5_route_15 6 rfl rfl)
theorem dX5_route_359 : decode cX5_route 359 = .ok (.iastore, 1) := dk_79 (dk_at dksX5_route_15 8 rfl rfl)
theorem dX5_route_360 : decode cX5_route 360 = .ok (.aload_n 0, 1) := dk_42 (dk_at dksX5_route_15 9 rfl rfl)
theorem dX5_route_361 : decode cX5_route 361 = .ok (.getfield 94, 3) := dk_180 0 94 (dk_at dksX5_route_15 10 rfl rfl)
theorem dX5_route_364 : decode cX5_route 364 = .ok (.iload 14, 2) := dk_21 14 (dk_at dksX5_route_15 13 rfl rfl)
theorem dX5_route_366 : decode cX5_route 366 = .ok (.baload, 1) := dk_51 (dk_at dksX5_route_15 15 rfl rfl)
theorem dX5_route_367 : decode cX5_route 367 = .ok (.ifCond .eq 6, 3) := dk_153 0 6 (dk_at dksX5_route_15 16 rfl rfl)
theorem dX5_route_370 : decode cX5_route 370 = .ok (.goto 32, 3) := dk_167 0 32 (dk_at dksX5_route_15 19 rfl rfl)
theorem dX5_route_373 : decode cX5_route 373 = .ok (.aload_n 0, 1) := dk_42 (dk_at dksX5_route_15 22 rfl rfl)
theorem dX5_route_374 : decode cX5_route 374 = .ok (.getfield 88, 3) := dk_180 0 88 (dk_at dksX5_route_16 0 rfl rfl)
theorem dX5_route_377 : decode cX5_route 377 = .ok (.iload 6, 2) := dk_21 6 (dk_at dksX5_route_16 3 rfl rfl)
theorem dX5_route_379 : decode cX5_route 379 = .ok (.iload 7, 2) := dk_21 7 (dk_at dksX5_route_16 5 rfl rfl)
theorem dX5_route_381 : decode cX5_route 381 = .ok (.iadd, 1) := dk_96 (dk_at dksX5_route_16 7 rfl rfl)
theorem dX5_route_382 : decode cX5_route 382 = .ok (.aload_n 0, 1) := dk_42 (dk_at dksX5_route_16 8 rfl rfl)
theorem dX5_route_383 : decode cX5_route 383 = .ok (.getfield 88, 3) := dk_180 0 88 (dk_at dksX5_route_16 9 rfl rfl)
theorem dX5_route_386 : decode cX5_route 386 = .ok (.arraylength, 1) := dk_190 (dk_at dksX5_route_16 12 rfl rfl)
theorem dX5_route_387 : decode cX5_route 387 = .ok (.irem, 1) := dk_112 (dk_at dksX5_route_16 13 rfl rfl)
theorem dX5_route_388 : decode cX5_route 388 = .ok (.iload 14, 2) := dk_21 14 (dk_at dksX5_route_16 14 rfl rfl)
theorem dX5_route_390 : decode cX5_route 390 = .ok (.iastore, 1) := dk_79 (dk_at dksX5_route_16 16 rfl rfl)
theorem dX5_route_391 : decode cX5_route 391 = .ok (.aload_n 0, 1) := dk_42 (dk_at dksX5_route_16 17 rfl rfl)
theorem dX5_route_392 : decode cX5_route 392 = .ok (.getfield 94, 3) := dk_180 0 94 (dk_at dksX5_route_16 18 rfl rfl)
theorem dX5_route_395 : decode cX5_route 395 = .ok (.iload 14, 2) := dk_21 14 (dk_at dksX5_route_16 21 rfl rfl)
theorem dX5_route_397 : decode cX5_route 397 = .ok (.iconst 1, 1) := dk_4 (dk_at dksX5_route_16 23 rfl rfl)
theorem dX5_route_398 : decode cX5_route 398 = .ok (.bastore, 1) := dk_84 (dk_at dksX5_route_17 0 rfl rfl)
theorem dX5_route_399 : decode cX5_route 399 = .ok (.iinc 7 1, 3) := dk_132 7 1 (dk_at dksX5_route_17 1 rfl rfl)
theorem dX5_route_402 : decode cX5_route 402 = .ok (.iinc 11 1, 3) := dk_132 11 1 (dk_at dksX5_route_17 4 rfl rfl)
theorem dX5_route_405 : decode cX5_route 405 = .ok (.goto (-152), 3) := dk_167 255 104 (dk_at dksX5_route_17 7 rfl rfl)
theorem dX5_route_408 : decode cX5_route 408 = .ok (.goto (-213), 3) := dk_167 255 43 (dk_at dksX5_route_17 10 rfl rfl)
theorem dX5_route_411 : decode cX5_route 411 = .ok (.ldc 251, 2) := dk_18 251 (dk_at dksX5_route_17 13 rfl rfl)
theorem dX5_route_413 : decode cX5_route 413 = .ok (.istore 8, 2) := dk_54 8 (dk_at dksX5_route_17 15 rfl rfl)
theorem dX5_route_415 : decode cX5_route 415 = .ok (.iconst 0, 1) := dk_3 (dk_at dksX5_route_17 17 rfl rfl)
theorem dX5_route_416 : decode cX5_route 416 = .ok (.istore 9, 2) := dk_54 9 (dk_at dksX5_route_17 18 rfl rfl)
theorem dX5_route_418 : decode cX5_route 418 = .ok (.iload 9, 2) := dk_21 9 (dk_at dksX5_route_17 20 rfl rfl)
theorem dX5_route_420 : decode cX5_route 420 = .ok (.iconst 4, 1) := dk_7 (dk_at dksX5_route_17 22 rfl rfl)
theorem dX5_route_421 : decode cX5_route 421 = .ok (.if_icmp .ge 34, 3) := dk_162 0 34 (dk_at dksX5_route_18 0 rfl rfl)
theorem dX5_route_424 : decode cX5_route 424 = .ok (.iload 8, 2) := dk_21 8 (dk_at dksX5_route_18 3 rfl rfl)
theorem dX5_route_426 : decode cX5_route 426 = .ok (.aload_n 0, 1) := dk_42 (dk_at dksX5_route_18 5 rfl rfl)
theorem dX5_route_427 : decode cX5_route 427 = .ok (.getfield 85, 3) := dk_180 0 85 (dk_at dksX5_route_18 6 rfl rfl)
theorem dX5_route_430 : decode cX5_route 430 = .ok (.iconst 4, 1) := dk_7 (dk_at dksX5_route_18 9 rfl rfl)
theorem dX5_route_431 : decode cX5_route 431 = .ok (.bipush 24, 2) := dk_16 24 (dk_at dksX5_route_18 10 rfl rfl)
theorem dX5_route_433 : decode cX5_route 433 = .ok (.iload 5, 2) := dk_21 5 (dk_at dksX5_route_18 12 rfl rfl)
theorem dX5_route_435 : decode cX5_route 435 = .ok (.imul, 1) := dk_104 (dk_at dksX5_route_18 14 rfl rfl)
theorem dX5_route_436 : decode cX5_route 436 = .ok (.iload 4, 2) := dk_21 4 (dk_at dksX5_route_18 15 rfl rfl)
theorem dX5_route_438 : decode cX5_route 438 = .ok (.iadd, 1) := dk_96 (dk_at dksX5_route_18 17 rfl rfl)
theorem dX5_route_439 : decode cX5_route 439 = .ok (.imul, 1) := dk_104 (dk_at dksX5_route_18 18 rfl rfl)
theorem dX5_route_440 : decode cX5_route 440 = .ok (.iload 9, 2) := dk_21 9 (dk_at dksX5_route_18 19 rfl rfl)
theorem dX5_route_442 : decode cX5_route 442 = .ok (.iadd, 1) := dk_96 (dk_at dksX5_route_18 21 rfl rfl)
theorem dX5_route_443 : decode cX5_route 443 = .ok (.iaload, 1) := dk_46 (dk_at dksX5_route_18 22 rfl rfl)
theorem dX5_route_444 : decode cX5_route 444 = .ok (.invokestatic 258, 3) := dk_184 1 2 (dk_at dksX5_route_19 0 rfl rfl)
theorem dX5_route_447 : decode cX5_route 447 = .ok (.istore 8, 2) := dk_54 8 (dk_at dksX5_route_19 3 rfl rfl)
theorem dX5_route_449 : decode cX5_route 449 = .ok (.iinc 9 1, 3) := dk_132 9 1 (dk_at dksX5_route_19 5 rfl rfl)
theorem dX5_route_452 : decode cX5_route 452 = .ok (.goto (-34), 3) := dk_167 255 222 (dk_at dksX5_route_19 8 rfl rfl)
theorem dX5_route_455 : decode cX5_route 455 = .ok (.iload 8, 2) := dk_21 8 (dk_at dksX5_route_19 11 rfl rfl)
theorem dX5_route_457 : decode cX5_route 457 = .ok (.ireturn, 1) := dk_172 (dk_at dksX5_route_19 13 rfl rfl)
theorem q2243 : (Jvm.Cond.methodLink "PlugboardModel" (238 : Nat) ({ cls := "PlugboardModel", name := "shuts", desc := "()V" } : Jvm.MethodName)) ∈ lw_all := lw_g (lw_at lw_m10 13 rfl) rfl
theorem q2245 : (Jvm.Cond.instanceMethod ({ cls := "PlugboardModel", name := "shuts", desc := "()V" } : Jvm.MethodName)) ∈ lw_all := lw_g (lw_at lw_m10 15 rfl) rfl
theorem q2246 : (Jvm.Cond.code ({ cls := "PlugboardModel", name := "shuts", desc := "()V" } : Jvm.MethodName) prog_19_method_70_code (3 : Nat) (Option.none : Option Jvm.ClassFile.FieldType)) ∈ lw_all := lw_g (lw_at lw_m10 16 rfl) rfl
theorem q2247 : (Jvm.Cond.methodLink "PlugboardModel" (241 : Nat) ({ cls := "PlugboardModel", name := "endColumn", desc := "(IC)I" } : Jvm.MethodName)) ∈ lw_all := lw_g (lw_at lw_m10 17 rfl) rfl
theorem q2249 : (Jvm.Cond.instanceMethod ({ cls := "PlugboardModel", name := "endColumn", desc := "(IC)I" } : Jvm.MethodName)) ∈ lw_all := lw_g (lw_at lw_m10 19 rfl) rfl
theorem q2250 : (Jvm.Cond.code ({ cls := "PlugboardModel", name := "endColumn", desc := "(IC)I" } : Jvm.MethodName) prog_19_method_67_code (3 : Nat) (Option.some Jvm.ClassFile.FieldType.int)) ∈ lw_all := lw_g (lw_at lw_m10 20 rfl) rfl
theorem q2251 : (Jvm.Cond.methodLink "PlugboardModel" (245 : Nat) ({ cls := "PlugboardModel", name := "endRow", desc := "(IC)I" } : Jvm.MethodName)) ∈ lw_all := lw_g (lw_at lw_m10 21 rfl) rfl
theorem q2253 : (Jvm.Cond.instanceMethod ({ cls := "PlugboardModel", name := "endRow", desc := "(IC)I" } : Jvm.MethodName)) ∈ lw_all := lw_g (lw_at lw_m10 23 rfl) rfl
theorem q2254 : (Jvm.Cond.code ({ cls := "PlugboardModel", name := "endRow", desc := "(IC)I" } : Jvm.MethodName) prog_19_method_68_code (3 : Nat) (Option.some Jvm.ClassFile.FieldType.int)) ∈ lw_all := lw_g (lw_at lw_m10 24 rfl) rfl
theorem q2255 : (Jvm.Cond.methodLink "PlugboardModel" (248 : Nat) ({ cls := "PlugboardModel", name := "isOpen", desc := "(II)Z" } : Jvm.MethodName)) ∈ lw_all := lw_g (lw_at lw_m10 25 rfl) rfl
theorem q2257 : (Jvm.Cond.instanceMethod ({ cls := "PlugboardModel", name := "isOpen", desc := "(II)Z" } : Jvm.MethodName)) ∈ lw_all := lw_g (lw_at lw_m10 27 rfl) rfl
theorem q2258 : (Jvm.Cond.code ({ cls := "PlugboardModel", name := "isOpen", desc := "(II)Z" } : Jvm.MethodName) prog_19_method_69_code (3 : Nat) (Option.some Jvm.ClassFile.FieldType.boolean)) ∈ lw_all := lw_g (lw_at lw_m10 28 rfl) rfl
theorem q2259 : (Jvm.Cond.constant "PlugboardModel" (251 : Nat) (1000000000 : Int32)) ∈ lw_all := lw_g (lw_at lw_m10 29 rfl) rfl
theorem q2260 : (Jvm.Cond.methodLink "PlugboardModel" (252 : Nat) ({ cls := "PlugboardModel", name := "stepOver", desc := "(I)I" } : Jvm.MethodName)) ∈ lw_all := lw_g (lw_at lw_m10 30 rfl) rfl
theorem q2261 : (Jvm.Cond.static ({ cls := "PlugboardModel", name := "stepOver", desc := "(I)I" } : Jvm.MethodName)) ∈ lw_all := lw_g (lw_at lw_m10 31 rfl) rfl
theorem q2262 : (Jvm.Cond.code ({ cls := "PlugboardModel", name := "stepOver", desc := "(I)I" } : Jvm.MethodName) prog_19_method_71_code (1 : Nat) (Option.some Jvm.ClassFile.FieldType.int)) ∈ lw_all := lw_g (lw_at lw_m10 32 rfl) rfl
theorem q2263 : (Jvm.Cond.methodLink "PlugboardModel" (255 : Nat) ({ cls := "PlugboardModel", name := "stepDown", desc := "(I)I" } : Jvm.MethodName)) ∈ lw_all := lw_g (lw_at lw_m10 33 rfl) rfl
theorem q2264 : (Jvm.Cond.static ({ cls := "PlugboardModel", name := "stepDown", desc := "(I)I" } : Jvm.MethodName)) ∈ lw_all := lw_g (lw_at lw_m10 34 rfl) rfl
theorem q2265 : (Jvm.Cond.code ({ cls := "PlugboardModel", name := "stepDown", desc := "(I)I" } : Jvm.MethodName) prog_19_method_72_code (1 : Nat) (Option.some Jvm.ClassFile.FieldType.int)) ∈ lw_all := lw_g (lw_at lw_m10 35 rfl) rfl
theorem q2266 : (Jvm.Cond.methodLink "PlugboardModel" (258 : Nat) ({ cls := "java/lang/Math", name := "min", desc := "(II)I" } : Jvm.MethodName)) ∈ lw_all := lw_g (lw_at lw_m10 36 rfl) rfl
abbrev rm_X5_route : Room := { frames := 3, cells := 0, slots := 0, locals := 68 }
def w_X5_route_418 (P : Int32 → AH → Prop) (x0 : Option Nat) (x4 : Int32) (x5 : Int32) (x8 : Int32) (x9 : Int32) (h : AH) : Prop :=
  ∀ Z418 : Int32 → Int32 → AH → Prop, (∀ x8 x9 h, (
      ((4 ≤ x9 →
        P x8 h) ∧
       (¬ 4 ≤ x9 →
        g_q h x0 4 28 fun y427 =>
        l_i h y427 0 ((4 * ((24 * x5) + x4)) + x9) fun y443 =>
        w_J14_min x8 y443 h (fun y444 h444 =>
        Z418 y444 (x9 + 1) h444))))
      → Z418 x8 x9 h) → Z418 x8 x9 h
def w_X5_route_333 (P : Int32 → AH → Prop) (Z195 : Int32 → Int32 → AH → Prop) (Z253 : Int32 → Int32 → AH → Prop) (x0 : Option Nat) (x4 : Int32) (x5 : Int32) (x6 : Int32) (x7 : Int32) (x8 : Int32) (x9 : Int32) (x10 : Int32) (x11 : Int32) (x14 : Int32) (t0 : Int32) (t1 : Int32) (h : AH) : Prop :=
  g_q h x0 4 28 fun y339 =>
  l_i h y339 0 x14 fun y344 =>
  (((t1 + t0) < y344 →
    g_q h x0 4 28 fun y352 =>
    s_i h y352 0 x14 (t1 + t0) fun h359 =>
    g_q h359 x0 4 31 fun y361 =>
    l_i h359 y361 1 x14 fun y366 =>
    ((y366 = 0 →
      g_q h359 x0 4 29 fun y374 =>
      g_q h359 x0 4 29 fun y383 =>
      n_a h359 y383 fun y386 =>
      ¬ y386 = 0 ∧
      s_i h359 y374 0 ((x6 + x7) - (x6 + x7) / y386 * y386) x14 fun h390 =>
      g_q h390 x0 4 31 fun y392 =>
      s_i h390 y392 1 x14 1 fun h398 =>
      Z253 (x7 + 1) (x11 + 1) h398) ∧
     (¬ y366 = 0 →
      Z253 x7 (x11 + 1) h359))) ∧
   (¬ (t1 + t0) < y344 →
    Z253 x7 (x11 + 1) h))
def w_X5_route_253 (P : Int32 → AH → Prop) (Z195 : Int32 → Int32 → AH → Prop) (x0 : Option Nat) (x4 : Int32) (x5 : Int32) (x6 : Int32) (x7 : Int32) (x8 : Int32) (x9 : Int32) (x10 : Int32) (x11 : Int32) (h : AH) : Prop :=
  ∀ Z253 : Int32 → Int32 → AH → Prop, (∀ x7 x11 h, (
      ((4 ≤ x11 →
        Z195 x6 x7 h) ∧
       (¬ 4 ≤ x11 →
        w_X5_stepOver x11 h (fun y263 h263 =>
        w_X5_stepDown x11 h263 (fun y273 h273 =>
        is_c h273 x0 [4] (
        w_X5_isOpen x0 (x9 + y263) (x10 + y273) h273 (fun y284 h284 =>
        ((y284 = 0 →
          Z253 x7 (x11 + 1) h284) ∧
         (¬ y284 = 0 →
          g_q h284 x0 4 28 fun y309 =>
          l_i h284 y309 0 x8 fun y314 =>
          ¬ (4 : Int32) = 0 ∧
          ((x11 = (x8 - x8 / 4 * 4) →
            w_X5_route_333 P Z195 Z253 x0 x4 x5 x6 x7 x8 x9 x10 x11 ((4 * ((24 * (x10 + y273)) + (x9 + y263))) + x11) 0 (y314 + 1) h284) ∧
           (¬ x11 = (x8 - x8 / 4 * 4) →
            w_X5_route_333 P Z195 Z253 x0 x4 x5 x6 x7 x8 x9 x10 x11 ((4 * ((24 * (x10 + y273)) + (x9 + y263))) + x11) 1000 (y314 + 1) h284)))))))))))
      → Z253 x7 x11 h) → Z253 x7 x11 h
def w_X5_route_195 (P : Int32 → AH → Prop) (x0 : Option Nat) (x4 : Int32) (x5 : Int32) (x6 : Int32) (x7 : Int32) (h : AH) : Prop :=
  ∀ Z195 : Int32 → Int32 → AH → Prop, (∀ x6 x7 h, (
      ((x7 ≤ 0 →
        w_X5_route_418 P x0 x4 x5 1000000000 0 h) ∧
       (¬ x7 ≤ 0 →
        g_q h x0 4 29 fun y201 =>
        l_i h y201 0 x6 fun y206 =>
        g_q h x0 4 29 fun y214 =>
        n_a h y214 fun y217 =>
        ¬ y217 = 0 ∧
        g_q h x0 4 31 fun y225 =>
        s_i h y225 1 y206 0 fun h231 =>
        ¬ (4 : Int32) = 0 ∧
        ¬ (24 : Int32) = 0 ∧
        ¬ (4 : Int32) = 0 ∧
        ¬ (24 : Int32) = 0 ∧
        w_X5_route_253 P Z195 x0 x4 x5 ((x6 + 1) - (x6 + 1) / y217 * y217) (x7 + (-1)) y206 ((y206 / 4) - (y206 / 4) / 24 * 24) ((y206 / 4) / 24) 0 h231)))
      → Z195 x6 x7 h) → Z195 x6 x7 h
def w_X5_route_142 (P : Int32 → AH → Prop) (x0 : Option Nat) (x2 : Int32) (x3 : Int32) (x4 : Int32) (x5 : Int32) (x6 : Int32) (x7 : Int32) (x8 : Int32) (h : AH) : Prop :=
  ∀ Z142 : Int32 → Int32 → AH → Prop, (∀ x7 x8 h, (
      ((4 ≤ x8 →
        w_X5_route_195 P x0 x4 x5 x6 x7 h) ∧
       (¬ 4 ≤ x8 →
        g_q h x0 4 28 fun y162 =>
        s_i h y162 0 ((4 * ((24 * x3) + x2)) + x8) 1 fun h168 =>
        g_q h168 x0 4 29 fun y170 =>
        s_i h168 y170 0 x7 ((4 * ((24 * x3) + x2)) + x8) fun h177 =>
        g_q h177 x0 4 31 fun y179 =>
        s_i h177 y179 1 ((4 * ((24 * x3) + x2)) + x8) 1 fun h185 =>
        Z142 (x7 + 1) (x8 + 1) h185)))
      → Z142 x7 x8 h) → Z142 x7 x8 h
def w_X5_route_100 (P : Int32 → AH → Prop) (x0 : Option Nat) (x2 : Int32) (x3 : Int32) (x4 : Int32) (x5 : Int32) (x6 : Int32) (h : AH) : Prop :=
  ∀ Z100 : Int32 → AH → Prop, (∀ x6 h, (
      g_q h x0 4 28 fun y103 =>
      n_a h y103 fun y106 =>
      ((y106 ≤ x6 →
        w_X5_route_142 P x0 x2 x3 x4 x5 0 0 0 h) ∧
       (¬ y106 ≤ x6 →
        g_q h x0 4 28 fun y111 =>
        s_i h y111 0 x6 1000000000 fun h118 =>
        g_q h118 x0 4 31 fun y120 =>
        s_i h118 y120 1 x6 0 fun h126 =>
        Z100 (x6 + 1) h126)))
      → Z100 x6 h) → Z100 x6 h
def w_X5_route (a0 : Option Nat) (a1 : Int32) (h : AH) (P : Int32 → AH → Prop) : Prop :=
  is_c h a0 [4] (
  w_X5_shuts a0 h (fun h1 =>
  g_q h1 a0 4 3 fun y6 =>
  l_i h1 y6 0 a1 fun y10 =>
  g_q h1 a0 4 6 fun y12 =>
  l_i h1 y12 4 a1 fun y16 =>
  is_c h1 a0 [4] (
  w_X5_endColumn a0 y10 y16 h1 (fun y17 h17 =>
  g_q h17 a0 4 3 fun y23 =>
  l_i h17 y23 0 a1 fun y27 =>
  g_q h17 a0 4 6 fun y29 =>
  l_i h17 y29 4 a1 fun y33 =>
  is_c h17 a0 [4] (
  w_X5_endRow a0 y27 y33 h17 (fun y34 h34 =>
  g_q h34 a0 4 4 fun y40 =>
  l_i h34 y40 0 a1 fun y44 =>
  g_q h34 a0 4 7 fun y46 =>
  l_i h34 y46 4 a1 fun y50 =>
  is_c h34 a0 [4] (
  w_X5_endColumn a0 y44 y50 h34 (fun y51 h51 =>
  g_q h51 a0 4 4 fun y58 =>
  l_i h51 y58 0 a1 fun y62 =>
  g_q h51 a0 4 7 fun y64 =>
  l_i h51 y64 4 a1 fun y68 =>
  is_c h51 a0 [4] (
  w_X5_endRow a0 y62 y68 h51 (fun y69 h69 =>
  is_c h69 a0 [4] (
  w_X5_isOpen a0 y17 y34 h69 (fun y77 h77 =>
  ((y77 = 0 →
    P 1000000000 h77) ∧
   (¬ y77 = 0 →
    is_c h77 a0 [4] (
    w_X5_isOpen a0 y51 y69 h77 (fun y88 h88 =>
    ((y88 = 0 →
      P 1000000000 h88) ∧
     (¬ y88 = 0 →
      w_X5_route_100 P a0 y17 y34 y51 y69 0 h88))))))))))))))))))
theorem wk_X5_route_418 {x : CX} (X : Ok x cX5_route RX5 rm_X5_route 16) (er : xrt x = (Option.some Jvm.ClassFile.FieldType.int)) (en : xnm x = yX5_route.name) {P : Int32 → AH → Prop} (hQ : xr_i x P) (x0 : Option Nat) (x4 : Int32) (x5 : Int32) (x8 : Int32) (x9 : Int32) (h : AH) (hw : w_X5_route_418 P x0 x4 x5 x8 x9 h) : J x h 0 0 418 [(0, vR x0), (4, vI x4), (5, vI x5), (8, vI x8), (9, vI x9)] [] := by
  refine hw (fun x8 x9 h => J x h 0 0 418 [(0, vR x0), (4, vI x4), (5, vI x5), (8, vI x8), (9, vI x9)] []) (fun x8 x9 h hw => ?_)
  refine j_iload X (pc := 418) 4 dX5_route_418 rfl ?_
  refine j_iconst X (pc := 420) 4 dX5_route_420 (by decide) ?_
  refine j_icmp_ge X (pc := 421) 455 dX5_route_421 (by decide) hw (fun hw => ?_) (fun hw => ?_)
  · refine j_iload X (pc := 455) 3 dX5_route_455 rfl ?_
    exact j_iret X (pc := 457) hQ er (Nat.le_of_ble_eq_true rfl) (Nat.le_of_ble_eq_true rfl) dX5_route_457 hw
  · refine j_iload X (pc := 424) 3 dX5_route_424 rfl ?_
    refine j_aload_n X (pc := 426) 0 dX5_route_426 rfl rfl ?_
    refine j_getq (ci := 4) X (pc := 427) in_X5 rfl (by decide) 28 (by decide) q1900 (Or.inl rfl) dX5_route_427 hw (fun y427 hw => ?_)
    refine j_iconst X (pc := 430) 4 dX5_route_430 (by decide) ?_
    refine j_bipush X (pc := 431) 24 dX5_route_431 (by decide) ?_
    refine j_iload X (pc := 433) 2 dX5_route_433 rfl ?_
    refine j_imul X (pc := 435) dX5_route_435 ?_
    refine j_iload X (pc := 436) 1 dX5_route_436 rfl ?_
    refine j_iadd X (pc := 438) dX5_route_438 ?_
    refine j_imul X (pc := 439) dX5_route_439 ?_
    refine j_iload X (pc := 440) 4 dX5_route_440 rfl ?_
    refine j_iadd X (pc := 442) dX5_route_442 ?_
    refine j_iald X (pc := 443) 0 rfl dX5_route_443 hw (fun y443 hw => ?_)
    refine j_calli (j_runS (n8 := 2) (As := [vI x8, vI y443]) (rest := []) X (pc := 444) (met_J14_min (xl x) X.hl (xG x) h x8 y443 _ hw) q2266 q670 q92 q671 (by decide +kernel) dX5_route_444 rfl ⟨Nat.le_of_ble_eq_true rfl, Nat.le_of_ble_eq_true rfl⟩ (Nat.le_of_ble_eq_true rfl) ⟨Nat.le_of_ble_eq_true rfl, Nat.le_of_ble_eq_true rfl⟩) (fun y444 h444 hw => ?_)
    refine j_istore X (pc := 447) [(8, vI y444), (0, vR x0), (4, vI x4), (5, vI x5), (9, vI x9)] dX5_route_447 (Nat.le_of_ble_eq_true rfl) rfl ?_
    refine j_iinc X (pc := 449) 4 (x9 + 1) [(9, vI (x9 + 1)), (8, vI y444), (0, vR x0), (4, vI x4), (5, vI x5)] dX5_route_449 rfl rfl (Nat.le_of_ble_eq_true rfl) rfl ?_
    refine j_goto X (pc := 452) 418 dX5_route_452 (by decide) ?_
    refine j_lv [(0, vR x0), (4, vI x4), (5, vI x5), (8, vI y444), (9, vI (x9 + 1))] [2, 3, 4, 1, 0] rfl ?_
    refine j_cs (u' := 0) (v' := 0) (Nat.le_of_ble_eq_true rfl) (Nat.le_of_ble_eq_true rfl) ?_
    exact hw
theorem wk_X5_route_333 {x : CX} (X : Ok x cX5_route RX5 rm_X5_route 16) (er : xrt x = (Option.some Jvm.ClassFile.FieldType.int)) (en : xnm x = yX5_route.name) {P : Int32 → AH → Prop} (hQ : xr_i x P) (Z195 : Int32 → Int32 → AH → Prop) (Z253 : Int32 → Int32 → AH → Prop) (x0 : Option Nat) (x4 : Int32) (x5 : Int32) (x6 : Int32) (x7 : Int32) (x8 : Int32) (x9 : Int32) (x10 : Int32) (x11 : Int32) (x14 : Int32) (t0 : Int32) (t1 : Int32) (h : AH) (hZ195 : ∀ x6 x7 h, Z195 x6 x7 h → J x h 0 0 195 [(0, vR x0), (4, vI x4), (5, vI x5), (6, vI x6), (7, vI x7)] []) (hZ253 : ∀ x7 x11 h, Z253 x7 x11 h → J x h 0 0 253 [(0, vR x0), (4, vI x4), (5, vI x5), (6, vI x6), (7, vI x7), (8, vI x8), (9, vI x9), (10, vI x10), (11, vI x11)] []) (hw : w_X5_route_333 P Z195 Z253 x0 x4 x5 x6 x7 x8 x9 x10 x11 x14 t0 t1 h) : J x h 0 0 333 [(0, vR x0), (4, vI x4), (5, vI x5), (6, vI x6), (7, vI x7), (8, vI x8), (9, vI x9), (10, vI x10), (11, vI x11), (14, vI x14)] [vI t0, vI t1] := by
  refine j_iadd X (pc := 333) dX5_route_333 ?_
  refine j_istore X (pc := 334) [(15, vI (t1 + t0)), (0, vR x0), (4, vI x4), (5, vI x5), (6, vI x6), (7, vI x7), (8, vI x8), (9, vI x9), (10, vI x10), (11, vI x11), (14, vI x14)] dX5_route_334 (Nat.le_of_ble_eq_true rfl) rfl ?_
  refine j_iload X (pc := 336) 0 dX5_route_336 rfl ?_
  refine j_aload_n X (pc := 338) 1 dX5_route_338 rfl rfl ?_
  refine j_getq (ci := 4) X (pc := 339) in_X5 rfl (by decide) 28 (by decide) q1900 (Or.inl rfl) dX5_route_339 hw (fun y339 hw => ?_)
  refine j_iload X (pc := 342) 10 dX5_route_342 rfl ?_
  refine j_iald X (pc := 344) 0 rfl dX5_route_344 hw (fun y344 hw => ?_)
  refine j_icmp_lt X (pc := 345) 351 dX5_route_345 (by decide) hw (fun hw => ?_) (fun hw => ?_)
  · refine j_aload_n X (pc := 351) 1 dX5_route_351 rfl rfl ?_
    refine j_getq (ci := 4) X (pc := 352) in_X5 rfl (by decide) 28 (by decide) q1900 (Or.inl rfl) dX5_route_352 hw (fun y352 hw => ?_)
    refine j_iload X (pc := 355) 10 dX5_route_355 rfl ?_
    refine j_iload X (pc := 357) 0 dX5_route_357 rfl ?_
    refine j_iast X (pc := 359) 0 rfl rfl dX5_route_359 hw (fun h359 hw => ?_)
    refine j_aload_n X (pc := 360) 1 dX5_route_360 rfl rfl ?_
    refine j_getq (ci := 4) X (pc := 361) in_X5 rfl (by decide) 31 (by decide) q1903 (Or.inl rfl) dX5_route_361 hw (fun y361 hw => ?_)
    refine j_iload X (pc := 364) 10 dX5_route_364 rfl ?_
    refine j_zald X (pc := 366) 1 rfl dX5_route_366 hw (fun y366 hw => ?_)
    refine j_if_eq X (pc := 367) 373 dX5_route_367 (by decide) hw (fun hw => ?_) (fun hw => ?_)
    · refine j_aload_n X (pc := 373) 1 dX5_route_373 rfl rfl ?_
      refine j_getq (ci := 4) X (pc := 374) in_X5 rfl (by decide) 29 (by decide) q1901 (Or.inl rfl) dX5_route_374 hw (fun y374 hw => ?_)
      refine j_iload X (pc := 377) 4 dX5_route_377 rfl ?_
      refine j_iload X (pc := 379) 5 dX5_route_379 rfl ?_
      refine j_iadd X (pc := 381) dX5_route_381 ?_
      refine j_aload_n X (pc := 382) 1 dX5_route_382 rfl rfl ?_
      refine j_getq (ci := 4) X (pc := 383) in_X5 rfl (by decide) 29 (by decide) q1901 (Or.inl rfl) dX5_route_383 hw (fun y383 hw => ?_)
      refine j_alen X (pc := 386) dX5_route_386 hw (fun y386 hw => ?_)
      refine j_irem X (pc := 387) dX5_route_387 hw (fun hw => ?_)
      refine j_iload X (pc := 388) 10 dX5_route_388 rfl ?_
      refine j_iast X (pc := 390) 0 rfl rfl dX5_route_390 hw (fun h390 hw => ?_)
      refine j_aload_n X (pc := 391) 1 dX5_route_391 rfl rfl ?_
      refine j_getq (ci := 4) X (pc := 392) in_X5 rfl (by decide) 31 (by decide) q1903 (Or.inl rfl) dX5_route_392 hw (fun y392 hw => ?_)
      refine j_iload X (pc := 395) 10 dX5_route_395 rfl ?_
      refine j_iconst X (pc := 397) 1 dX5_route_397 (by decide) ?_
      refine j_zast X (pc := 398) 1 rfl rfl ⟨rfl, rfl⟩ dX5_route_398 hw (fun h398 hw => ?_)
      refine j_iinc X (pc := 399) 5 (x7 + 1) [(7, vI (x7 + 1)), (15, vI (t1 + t0)), (0, vR x0), (4, vI x4), (5, vI x5), (6, vI x6), (8, vI x8), (9, vI x9), (10, vI x10), (11, vI x11), (14, vI x14)] dX5_route_399 rfl rfl (Nat.le_of_ble_eq_true rfl) rfl ?_
      refine j_iinc X (pc := 402) 9 (x11 + 1) [(11, vI (x11 + 1)), (7, vI (x7 + 1)), (15, vI (t1 + t0)), (0, vR x0), (4, vI x4), (5, vI x5), (6, vI x6), (8, vI x8), (9, vI x9), (10, vI x10), (14, vI x14)] dX5_route_402 rfl rfl (Nat.le_of_ble_eq_true rfl) rfl ?_
      refine j_goto X (pc := 405) 253 dX5_route_405 (by decide) ?_
      refine j_lv [(0, vR x0), (4, vI x4), (5, vI x5), (6, vI x6), (7, vI (x7 + 1)), (8, vI x8), (9, vI x9), (10, vI x10), (11, vI (x11 + 1))] [3, 4, 5, 6, 1, 7, 8, 9, 0] rfl ?_
      refine j_cs (u' := 0) (v' := 0) (Nat.le_of_ble_eq_true rfl) (Nat.le_of_ble_eq_true rfl) ?_
      exact hZ253 (x7 + 1) (x11 + 1) h398 hw
    · refine j_goto X (pc := 370) 402 dX5_route_370 (by decide) ?_
      refine j_iinc X (pc := 402) 9 (x11 + 1) [(11, vI (x11 + 1)), (15, vI (t1 + t0)), (0, vR x0), (4, vI x4), (5, vI x5), (6, vI x6), (7, vI x7), (8, vI x8), (9, vI x9), (10, vI x10), (14, vI x14)] dX5_route_402 rfl rfl (Nat.le_of_ble_eq_true rfl) rfl ?_
      refine j_goto X (pc := 405) 253 dX5_route_405 (by decide) ?_
      refine j_lv [(0, vR x0), (4, vI x4), (5, vI x5), (6, vI x6), (7, vI x7), (8, vI x8), (9, vI x9), (10, vI x10), (11, vI (x11 + 1))] [2, 3, 4, 5, 6, 7, 8, 9, 0] rfl ?_
      refine j_cs (u' := 0) (v' := 0) (Nat.le_of_ble_eq_true rfl) (Nat.le_of_ble_eq_true rfl) ?_
      exact hZ253 x7 (x11 + 1) h359 hw
  · refine j_goto X (pc := 348) 402 dX5_route_348 (by decide) ?_
    refine j_iinc X (pc := 402) 9 (x11 + 1) [(11, vI (x11 + 1)), (15, vI (t1 + t0)), (0, vR x0), (4, vI x4), (5, vI x5), (6, vI x6), (7, vI x7), (8, vI x8), (9, vI x9), (10, vI x10), (14, vI x14)] dX5_route_402 rfl rfl (Nat.le_of_ble_eq_true rfl) rfl ?_
    refine j_goto X (pc := 405) 253 dX5_route_405 (by decide) ?_
    refine j_lv [(0, vR x0), (4, vI x4), (5, vI x5), (6, vI x6), (7, vI x7), (8, vI x8), (9, vI x9), (10, vI x10), (11, vI (x11 + 1))] [2, 3, 4, 5, 6, 7, 8, 9, 0] rfl ?_
    refine j_cs (u' := 0) (v' := 0) (Nat.le_of_ble_eq_true rfl) (Nat.le_of_ble_eq_true rfl) ?_
    exact hZ253 x7 (x11 + 1) h hw
theorem wk_X5_route_253 {x : CX} (X : Ok x cX5_route RX5 rm_X5_route 16) (er : xrt x = (Option.some Jvm.ClassFile.FieldType.int)) (en : xnm x = yX5_route.name) {P : Int32 → AH → Prop} (hQ : xr_i x P) (Z195 : Int32 → Int32 → AH → Prop) (x0 : Option Nat) (x4 : Int32) (x5 : Int32) (x6 : Int32) (x7 : Int32) (x8 : Int32) (x9 : Int32) (x10 : Int32) (x11 : Int32) (h : AH) (hZ195 : ∀ x6 x7 h, Z195 x6 x7 h → J x h 0 0 195 [(0, vR x0), (4, vI x4), (5, vI x5), (6, vI x6), (7, vI x7)] []) (hw : w_X5_route_253 P Z195 x0 x4 x5 x6 x7 x8 x9 x10 x11 h) : J x h 0 0 253 [(0, vR x0), (4, vI x4), (5, vI x5), (6, vI x6), (7, vI x7), (8, vI x8), (9, vI x9), (10, vI x10), (11, vI x11)] [] := by
  refine hw (fun x7 x11 h => J x h 0 0 253 [(0, vR x0), (4, vI x4), (5, vI x5), (6, vI x6), (7, vI x7), (8, vI x8), (9, vI x9), (10, vI x10), (11, vI x11)] []) (fun x7 x11 h hw => ?_)
  refine j_iload X (pc := 253) 8 dX5_route_253 rfl ?_
  refine j_iconst X (pc := 255) 4 dX5_route_255 (by decide) ?_
  refine j_icmp_ge X (pc := 256) 408 dX5_route_256 (by decide) hw (fun hw => ?_) (fun hw => ?_)
  · refine j_goto X (pc := 408) 195 dX5_route_408 (by decide) ?_
    refine j_lv [(0, vR x0), (4, vI x4), (5, vI x5), (6, vI x6), (7, vI x7)] [0, 1, 2, 3, 4] rfl ?_
    refine j_cs (u' := 0) (v' := 0) (Nat.le_of_ble_eq_true rfl) (Nat.le_of_ble_eq_true rfl) ?_
    exact hZ195 x6 x7 h hw
  · refine j_iload X (pc := 259) 6 dX5_route_259 rfl ?_
    refine j_iload X (pc := 261) 8 dX5_route_261 rfl ?_
    refine j_calli (j_runS (n8 := 1) (As := [vI x11]) (rest := [vI x9]) X (pc := 263) (met_X5_stepOver (xl x) X.hl (xG x) h x11 _ hw) q2260 q2261 q78 q2262 (by decide +kernel) dX5_route_263 rfl ⟨Nat.le_of_ble_eq_true rfl, Nat.le_of_ble_eq_true rfl⟩ (Nat.le_of_ble_eq_true rfl) ⟨Nat.le_of_ble_eq_true rfl, Nat.le_of_ble_eq_true rfl⟩) (fun y263 h263 hw => ?_)
    refine j_iadd X (pc := 266) dX5_route_266 ?_
    refine j_istore X (pc := 267) [(12, vI (x9 + y263)), (0, vR x0), (4, vI x4), (5, vI x5), (6, vI x6), (7, vI x7), (8, vI x8), (9, vI x9), (10, vI x10), (11, vI x11)] dX5_route_267 (Nat.le_of_ble_eq_true rfl) rfl ?_
    refine j_iload X (pc := 269) 8 dX5_route_269 rfl ?_
    refine j_iload X (pc := 271) 9 dX5_route_271 rfl ?_
    refine j_calli (j_runS (n8 := 1) (As := [vI x11]) (rest := [vI x10]) X (pc := 273) (met_X5_stepDown (xl x) X.hl (xG x) h263 x11 _ hw) q2263 q2264 q78 q2265 (by decide +kernel) dX5_route_273 rfl ⟨Nat.le_of_ble_eq_true rfl, Nat.le_of_ble_eq_true rfl⟩ (Nat.le_of_ble_eq_true rfl) ⟨Nat.le_of_ble_eq_true rfl, Nat.le_of_ble_eq_true rfl⟩) (fun y273 h273 hw => ?_)
    refine j_iadd X (pc := 276) dX5_route_276 ?_
    refine j_istore X (pc := 277) [(13, vI (x10 + y273)), (12, vI (x9 + y263)), (0, vR x0), (4, vI x4), (5, vI x5), (6, vI x6), (7, vI x7), (8, vI x8), (9, vI x9), (10, vI x10), (11, vI x11)] dX5_route_277 (Nat.le_of_ble_eq_true rfl) rfl ?_
    refine j_aload_n X (pc := 279) 2 dX5_route_279 rfl rfl ?_
    refine j_iload X (pc := 280) 1 dX5_route_280 rfl ?_
    refine j_iload X (pc := 282) 0 dX5_route_282 rfl ?_
    obtain ⟨b9, c9, f9, hr9, ho9, hc9, hw⟩ := hw
    obtain rfl := List.mem_singleton.mp hc9
    refine j_calli (j_runV (n8 := 2) (As := [vI (x9 + y263), vI (x10 + y273)]) (rest := []) X (pc := 284) hr9 (met_X5_isOpen (xl x) X.hl (xG x) h273 x0 (x9 + y263) (x10 + y273) _ hw) ho9 (by decide) rfl q2255 q2257 qs66 q78 q2258 (by decide +kernel) dX5_route_284 rfl ⟨Nat.le_of_ble_eq_true rfl, Nat.le_of_ble_eq_true rfl⟩ (Nat.le_of_ble_eq_true rfl) ⟨Nat.le_of_ble_eq_true rfl, Nat.le_of_ble_eq_true rfl⟩) (fun y284 h284 hw => ?_)
    refine j_if_ne X (pc := 287) 293 dX5_route_287 (by decide) hw (fun hw => ?_) (fun hw => ?_)
    · refine j_goto X (pc := 290) 402 dX5_route_290 (by decide) ?_
      refine j_iinc X (pc := 402) 10 (x11 + 1) [(11, vI (x11 + 1)), (13, vI (x10 + y273)), (12, vI (x9 + y263)), (0, vR x0), (4, vI x4), (5, vI x5), (6, vI x6), (7, vI x7), (8, vI x8), (9, vI x9), (10, vI x10)] dX5_route_402 rfl rfl (Nat.le_of_ble_eq_true rfl) rfl ?_
      refine j_goto X (pc := 405) 253 dX5_route_405 (by decide) ?_
      refine j_lv [(0, vR x0), (4, vI x4), (5, vI x5), (6, vI x6), (7, vI x7), (8, vI x8), (9, vI x9), (10, vI x10), (11, vI (x11 + 1))] [3, 4, 5, 6, 7, 8, 9, 10, 0] rfl ?_
      refine j_cs (u' := 0) (v' := 0) (Nat.le_of_ble_eq_true rfl) (Nat.le_of_ble_eq_true rfl) ?_
      exact hw
    · refine j_iconst X (pc := 293) 4 dX5_route_293 (by decide) ?_
      refine j_bipush X (pc := 294) 24 dX5_route_294 (by decide) ?_
      refine j_iload X (pc := 296) 0 dX5_route_296 rfl ?_
      refine j_imul X (pc := 298) dX5_route_298 ?_
      refine j_iload X (pc := 299) 1 dX5_route_299 rfl ?_
      refine j_iadd X (pc := 301) dX5_route_301 ?_
      refine j_imul X (pc := 302) dX5_route_302 ?_
      refine j_iload X (pc := 303) 10 dX5_route_303 rfl ?_
      refine j_iadd X (pc := 305) dX5_route_305 ?_
      refine j_istore X (pc := 306) [(14, vI ((4 * ((24 * (x10 + y273)) + (x9 + y263))) + x11)), (13, vI (x10 + y273)), (12, vI (x9 + y263)), (0, vR x0), (4, vI x4), (5, vI x5), (6, vI x6), (7, vI x7), (8, vI x8), (9, vI x9), (10, vI x10), (11, vI x11)] dX5_route_306 (Nat.le_of_ble_eq_true rfl) rfl ?_
      refine j_aload_n X (pc := 308) 3 dX5_route_308 rfl rfl ?_
      refine j_getq (ci := 4) X (pc := 309) in_X5 rfl (by decide) 28 (by decide) q1900 (Or.inl rfl) dX5_route_309 hw (fun y309 hw => ?_)
      refine j_iload X (pc := 312) 8 dX5_route_312 rfl ?_
      refine j_iald X (pc := 314) 0 rfl dX5_route_314 hw (fun y314 hw => ?_)
      refine j_iconst X (pc := 315) 1 dX5_route_315 (by decide) ?_
      refine j_iadd X (pc := 316) dX5_route_316 ?_
      refine j_iload X (pc := 317) 11 dX5_route_317 rfl ?_
      refine j_iload X (pc := 319) 8 dX5_route_319 rfl ?_
      refine j_iconst X (pc := 321) 4 dX5_route_321 (by decide) ?_
      refine j_irem X (pc := 322) dX5_route_322 hw (fun hw => ?_)
      refine j_icmp_ne X (pc := 323) 330 dX5_route_323 (by decide) hw (fun hw => ?_) (fun hw => ?_)
      · refine j_iconst X (pc := 326) 0 dX5_route_326 (by decide) ?_
        refine j_goto X (pc := 327) 333 dX5_route_327 (by decide) ?_
        refine j_lv [(0, vR x0), (4, vI x4), (5, vI x5), (6, vI x6), (7, vI x7), (8, vI x8), (9, vI x9), (10, vI x10), (11, vI x11), (14, vI ((4 * ((24 * (x10 + y273)) + (x9 + y263))) + x11))] [3, 4, 5, 6, 7, 8, 9, 10, 11, 0] rfl ?_
        refine j_cs (u' := 0) (v' := 0) (Nat.le_of_ble_eq_true rfl) (Nat.le_of_ble_eq_true rfl) ?_
        exact wk_X5_route_333 X er en hQ _ _ x0 x4 x5 x6 x7 x8 x9 x10 x11 ((4 * ((24 * (x10 + y273)) + (x9 + y263))) + x11) 0 (y314 + 1) h284 hZ195 (fun x7_ x11_ h_ hz => hz) hw
      · refine j_sipush X (pc := 330) 1000 dX5_route_330 (by decide) ?_
        refine j_lv [(0, vR x0), (4, vI x4), (5, vI x5), (6, vI x6), (7, vI x7), (8, vI x8), (9, vI x9), (10, vI x10), (11, vI x11), (14, vI ((4 * ((24 * (x10 + y273)) + (x9 + y263))) + x11))] [3, 4, 5, 6, 7, 8, 9, 10, 11, 0] rfl ?_
        refine j_cs (u' := 0) (v' := 0) (Nat.le_of_ble_eq_true rfl) (Nat.le_of_ble_eq_true rfl) ?_
        exact wk_X5_route_333 X er en hQ _ _ x0 x4 x5 x6 x7 x8 x9 x10 x11 ((4 * ((24 * (x10 + y273)) + (x9 + y263))) + x11) 1000 (y314 + 1) h284 hZ195 (fun x7_ x11_ h_ hz => hz) hw
theorem wk_X5_route_195 {x : CX} (X : Ok x cX5_route RX5 rm_X5_route 16) (er : xrt x = (Option.some Jvm.ClassFile.FieldType.int)) (en : xnm x = yX5_route.name) {P : Int32 → AH → Prop} (hQ : xr_i x P) (x0 : Option Nat) (x4 : Int32) (x5 : Int32) (x6 : Int32) (x7 : Int32) (h : AH) (hw : w_X5_route_195 P x0 x4 x5 x6 x7 h) : J x h 0 0 195 [(0, vR x0), (4, vI x4), (5, vI x5), (6, vI x6), (7, vI x7)] [] := by
  refine hw (fun x6 x7 h => J x h 0 0 195 [(0, vR x0), (4, vI x4), (5, vI x5), (6, vI x6), (7, vI x7)] []) (fun x6 x7 h hw => ?_)
  refine j_iload X (pc := 195) 4 dX5_route_195 rfl ?_
  refine j_if_le X (pc := 197) 411 dX5_route_197 (by decide) hw (fun hw => ?_) (fun hw => ?_)
  · refine j_ldc X (pc := 411) dX5_route_411 q2259 ?_
    refine j_istore X (pc := 413) [(8, vI 1000000000), (0, vR x0), (4, vI x4), (5, vI x5), (6, vI x6), (7, vI x7)] dX5_route_413 (Nat.le_of_ble_eq_true rfl) rfl ?_
    refine j_iconst X (pc := 415) 0 dX5_route_415 (by decide) ?_
    refine j_istore X (pc := 416) [(9, vI 0), (8, vI 1000000000), (0, vR x0), (4, vI x4), (5, vI x5), (6, vI x6), (7, vI x7)] dX5_route_416 (Nat.le_of_ble_eq_true rfl) rfl ?_
    refine j_lv [(0, vR x0), (4, vI x4), (5, vI x5), (8, vI 1000000000), (9, vI 0)] [2, 3, 4, 1, 0] rfl ?_
    refine j_cs (u' := 0) (v' := 0) (Nat.le_of_ble_eq_true rfl) (Nat.le_of_ble_eq_true rfl) ?_
    exact wk_X5_route_418 X er en hQ x0 x4 x5 1000000000 0 h hw
  · refine j_aload_n X (pc := 200) 0 dX5_route_200 rfl rfl ?_
    refine j_getq (ci := 4) X (pc := 201) in_X5 rfl (by decide) 29 (by decide) q1901 (Or.inl rfl) dX5_route_201 hw (fun y201 hw => ?_)
    refine j_iload X (pc := 204) 3 dX5_route_204 rfl ?_
    refine j_iald X (pc := 206) 0 rfl dX5_route_206 hw (fun y206 hw => ?_)
    refine j_istore X (pc := 207) [(8, vI y206), (0, vR x0), (4, vI x4), (5, vI x5), (6, vI x6), (7, vI x7)] dX5_route_207 (Nat.le_of_ble_eq_true rfl) rfl ?_
    refine j_iload X (pc := 209) 4 dX5_route_209 rfl ?_
    refine j_iconst X (pc := 211) 1 dX5_route_211 (by decide) ?_
    refine j_iadd X (pc := 212) dX5_route_212 ?_
    refine j_aload_n X (pc := 213) 1 dX5_route_213 rfl rfl ?_
    refine j_getq (ci := 4) X (pc := 214) in_X5 rfl (by decide) 29 (by decide) q1901 (Or.inl rfl) dX5_route_214 hw (fun y214 hw => ?_)
    refine j_alen X (pc := 217) dX5_route_217 hw (fun y217 hw => ?_)
    refine j_irem X (pc := 218) dX5_route_218 hw (fun hw => ?_)
    refine j_istore X (pc := 219) [(6, vI ((x6 + 1) - (x6 + 1) / y217 * y217)), (8, vI y206), (0, vR x0), (4, vI x4), (5, vI x5), (7, vI x7)] dX5_route_219 (Nat.le_of_ble_eq_true rfl) rfl ?_
    refine j_iinc X (pc := 221) 5 (x7 + (-1)) [(7, vI (x7 + (-1))), (6, vI ((x6 + 1) - (x6 + 1) / y217 * y217)), (8, vI y206), (0, vR x0), (4, vI x4), (5, vI x5)] dX5_route_221 rfl rfl (Nat.le_of_ble_eq_true rfl) rfl ?_
    refine j_aload_n X (pc := 224) 3 dX5_route_224 rfl rfl ?_
    refine j_getq (ci := 4) X (pc := 225) in_X5 rfl (by decide) 31 (by decide) q1903 (Or.inl rfl) dX5_route_225 hw (fun y225 hw => ?_)
    refine j_iload X (pc := 228) 2 dX5_route_228 rfl ?_
    refine j_iconst X (pc := 230) 0 dX5_route_230 (by decide) ?_
    refine j_zast X (pc := 231) 1 rfl rfl ⟨rfl, rfl⟩ dX5_route_231 hw (fun h231 hw => ?_)
    refine j_iload X (pc := 232) 2 dX5_route_232 rfl ?_
    refine j_iconst X (pc := 234) 4 dX5_route_234 (by decide) ?_
    refine j_idiv X (pc := 235) dX5_route_235 hw (fun hw => ?_)
    refine j_bipush X (pc := 236) 24 dX5_route_236 (by decide) ?_
    refine j_irem X (pc := 238) dX5_route_238 hw (fun hw => ?_)
    refine j_istore X (pc := 239) [(9, vI ((y206 / 4) - (y206 / 4) / 24 * 24)), (7, vI (x7 + (-1))), (6, vI ((x6 + 1) - (x6 + 1) / y217 * y217)), (8, vI y206), (0, vR x0), (4, vI x4), (5, vI x5)] dX5_route_239 (Nat.le_of_ble_eq_true rfl) rfl ?_
    refine j_iload X (pc := 241) 3 dX5_route_241 rfl ?_
    refine j_iconst X (pc := 243) 4 dX5_route_243 (by decide) ?_
    refine j_idiv X (pc := 244) dX5_route_244 hw (fun hw => ?_)
    refine j_bipush X (pc := 245) 24 dX5_route_245 (by decide) ?_
    refine j_idiv X (pc := 247) dX5_route_247 hw (fun hw => ?_)
    refine j_istore X (pc := 248) [(10, vI ((y206 / 4) / 24)), (9, vI ((y206 / 4) - (y206 / 4) / 24 * 24)), (7, vI (x7 + (-1))), (6, vI ((x6 + 1) - (x6 + 1) / y217 * y217)), (8, vI y206), (0, vR x0), (4, vI x4), (5, vI x5)] dX5_route_248 (Nat.le_of_ble_eq_true rfl) rfl ?_
    refine j_iconst X (pc := 250) 0 dX5_route_250 (by decide) ?_
    refine j_istore X (pc := 251) [(11, vI 0), (10, vI ((y206 / 4) / 24)), (9, vI ((y206 / 4) - (y206 / 4) / 24 * 24)), (7, vI (x7 + (-1))), (6, vI ((x6 + 1) - (x6 + 1) / y217 * y217)), (8, vI y206), (0, vR x0), (4, vI x4), (5, vI x5)] dX5_route_251 (Nat.le_of_ble_eq_true rfl) rfl ?_
    refine j_lv [(0, vR x0), (4, vI x4), (5, vI x5), (6, vI ((x6 + 1) - (x6 + 1) / y217 * y217)), (7, vI (x7 + (-1))), (8, vI y206), (9, vI ((y206 / 4) - (y206 / 4) / 24 * 24)), (10, vI ((y206 / 4) / 24)), (11, vI 0)] [6, 7, 8, 4, 3, 5, 2, 1, 0] rfl ?_
    refine j_cs (u' := 0) (v' := 0) (Nat.le_of_ble_eq_true rfl) (Nat.le_of_ble_eq_true rfl) ?_
    exact wk_X5_route_253 X er en hQ _ x0 x4 x5 ((x6 + 1) - (x6 + 1) / y217 * y217) (x7 + (-1)) y206 ((y206 / 4) - (y206 / 4) / 24 * 24) ((y206 / 4) / 24) 0 h231 (fun x6_ x7_ h_ hz => hz) hw
theorem wk_X5_route_142 {x : CX} (X : Ok x cX5_route RX5 rm_X5_route 16) (er : xrt x = (Option.some Jvm.ClassFile.FieldType.int)) (en : xnm x = yX5_route.name) {P : Int32 → AH → Prop} (hQ : xr_i x P) (x0 : Option Nat) (x2 : Int32) (x3 : Int32) (x4 : Int32) (x5 : Int32) (x6 : Int32) (x7 : Int32) (x8 : Int32) (h : AH) (hw : w_X5_route_142 P x0 x2 x3 x4 x5 x6 x7 x8 h) : J x h 0 0 142 [(0, vR x0), (2, vI x2), (3, vI x3), (4, vI x4), (5, vI x5), (6, vI x6), (7, vI x7), (8, vI x8)] [] := by
  refine hw (fun x7 x8 h => J x h 0 0 142 [(0, vR x0), (2, vI x2), (3, vI x3), (4, vI x4), (5, vI x5), (6, vI x6), (7, vI x7), (8, vI x8)] []) (fun x7 x8 h hw => ?_)
  refine j_iload X (pc := 142) 7 dX5_route_142 rfl ?_
  refine j_iconst X (pc := 144) 4 dX5_route_144 (by decide) ?_
  refine j_icmp_ge X (pc := 145) 195 dX5_route_145 (by decide) hw (fun hw => ?_) (fun hw => ?_)
  · refine j_lv [(0, vR x0), (4, vI x4), (5, vI x5), (6, vI x6), (7, vI x7)] [0, 3, 4, 5, 6] rfl ?_
    refine j_cs (u' := 0) (v' := 0) (Nat.le_of_ble_eq_true rfl) (Nat.le_of_ble_eq_true rfl) ?_
    exact wk_X5_route_195 X er en hQ x0 x4 x5 x6 x7 h hw
  · refine j_iconst X (pc := 148) 4 dX5_route_148 (by decide) ?_
    refine j_bipush X (pc := 149) 24 dX5_route_149 (by decide) ?_
    refine j_iload_n X (pc := 151) 2 dX5_route_151 rfl rfl ?_
    refine j_imul X (pc := 152) dX5_route_152 ?_
    refine j_iload_n X (pc := 153) 1 dX5_route_153 rfl rfl ?_
    refine j_iadd X (pc := 154) dX5_route_154 ?_
    refine j_imul X (pc := 155) dX5_route_155 ?_
    refine j_iload X (pc := 156) 7 dX5_route_156 rfl ?_
    refine j_iadd X (pc := 158) dX5_route_158 ?_
    refine j_istore X (pc := 159) [(9, vI ((4 * ((24 * x3) + x2)) + x8)), (0, vR x0), (2, vI x2), (3, vI x3), (4, vI x4), (5, vI x5), (6, vI x6), (7, vI x7), (8, vI x8)] dX5_route_159 (Nat.le_of_ble_eq_true rfl) rfl ?_
    refine j_aload_n X (pc := 161) 1 dX5_route_161 rfl rfl ?_
    refine j_getq (ci := 4) X (pc := 162) in_X5 rfl (by decide) 28 (by decide) q1900 (Or.inl rfl) dX5_route_162 hw (fun y162 hw => ?_)
    refine j_iload X (pc := 165) 0 dX5_route_165 rfl ?_
    refine j_iconst X (pc := 167) 1 dX5_route_167 (by decide) ?_
    refine j_iast X (pc := 168) 0 rfl rfl dX5_route_168 hw (fun h168 hw => ?_)
    refine j_aload_n X (pc := 169) 1 dX5_route_169 rfl rfl ?_
    refine j_getq (ci := 4) X (pc := 170) in_X5 rfl (by decide) 29 (by decide) q1901 (Or.inl rfl) dX5_route_170 hw (fun y170 hw => ?_)
    refine j_iload X (pc := 173) 7 dX5_route_173 rfl ?_
    refine j_iload X (pc := 175) 0 dX5_route_175 rfl ?_
    refine j_iast X (pc := 177) 0 rfl rfl dX5_route_177 hw (fun h177 hw => ?_)
    refine j_aload_n X (pc := 178) 1 dX5_route_178 rfl rfl ?_
    refine j_getq (ci := 4) X (pc := 179) in_X5 rfl (by decide) 31 (by decide) q1903 (Or.inl rfl) dX5_route_179 hw (fun y179 hw => ?_)
    refine j_iload X (pc := 182) 0 dX5_route_182 rfl ?_
    refine j_iconst X (pc := 184) 1 dX5_route_184 (by decide) ?_
    refine j_zast X (pc := 185) 1 rfl rfl ⟨rfl, rfl⟩ dX5_route_185 hw (fun h185 hw => ?_)
    refine j_iinc X (pc := 186) 7 (x7 + 1) [(7, vI (x7 + 1)), (9, vI ((4 * ((24 * x3) + x2)) + x8)), (0, vR x0), (2, vI x2), (3, vI x3), (4, vI x4), (5, vI x5), (6, vI x6), (8, vI x8)] dX5_route_186 rfl rfl (Nat.le_of_ble_eq_true rfl) rfl ?_
    refine j_iinc X (pc := 189) 8 (x8 + 1) [(8, vI (x8 + 1)), (7, vI (x7 + 1)), (9, vI ((4 * ((24 * x3) + x2)) + x8)), (0, vR x0), (2, vI x2), (3, vI x3), (4, vI x4), (5, vI x5), (6, vI x6)] dX5_route_189 rfl rfl (Nat.le_of_ble_eq_true rfl) rfl ?_
    refine j_goto X (pc := 192) 142 dX5_route_192 (by decide) ?_
    refine j_lv [(0, vR x0), (2, vI x2), (3, vI x3), (4, vI x4), (5, vI x5), (6, vI x6), (7, vI (x7 + 1)), (8, vI (x8 + 1))] [3, 4, 5, 6, 7, 8, 1, 0] rfl ?_
    refine j_cs (u' := 0) (v' := 0) (Nat.le_of_ble_eq_true rfl) (Nat.le_of_ble_eq_true rfl) ?_
    exact hw
theorem wk_X5_route_100 {x : CX} (X : Ok x cX5_route RX5 rm_X5_route 16) (er : xrt x = (Option.some Jvm.ClassFile.FieldType.int)) (en : xnm x = yX5_route.name) {P : Int32 → AH → Prop} (hQ : xr_i x P) (x0 : Option Nat) (x2 : Int32) (x3 : Int32) (x4 : Int32) (x5 : Int32) (x6 : Int32) (h : AH) (hw : w_X5_route_100 P x0 x2 x3 x4 x5 x6 h) : J x h 0 0 100 [(0, vR x0), (2, vI x2), (3, vI x3), (4, vI x4), (5, vI x5), (6, vI x6)] [] := by
  refine hw (fun x6 h => J x h 0 0 100 [(0, vR x0), (2, vI x2), (3, vI x3), (4, vI x4), (5, vI x5), (6, vI x6)] []) (fun x6 h hw => ?_)
  refine j_iload X (pc := 100) 5 dX5_route_100 rfl ?_
  refine j_aload_n X (pc := 102) 0 dX5_route_102 rfl rfl ?_
  refine j_getq (ci := 4) X (pc := 103) in_X5 rfl (by decide) 28 (by decide) q1900 (Or.inl rfl) dX5_route_103 hw (fun y103 hw => ?_)
  refine j_alen X (pc := 106) dX5_route_106 hw (fun y106 hw => ?_)
  refine j_icmp_ge X (pc := 107) 133 dX5_route_107 (by decide) hw (fun hw => ?_) (fun hw => ?_)
  · refine j_iconst X (pc := 133) 0 dX5_route_133 (by decide) ?_
    refine j_istore X (pc := 134) [(6, vI 0), (0, vR x0), (2, vI x2), (3, vI x3), (4, vI x4), (5, vI x5)] dX5_route_134 (Nat.le_of_ble_eq_true rfl) rfl ?_
    refine j_iconst X (pc := 136) 0 dX5_route_136 (by decide) ?_
    refine j_istore X (pc := 137) [(7, vI 0), (6, vI 0), (0, vR x0), (2, vI x2), (3, vI x3), (4, vI x4), (5, vI x5)] dX5_route_137 (Nat.le_of_ble_eq_true rfl) rfl ?_
    refine j_iconst X (pc := 139) 0 dX5_route_139 (by decide) ?_
    refine j_istore X (pc := 140) [(8, vI 0), (7, vI 0), (6, vI 0), (0, vR x0), (2, vI x2), (3, vI x3), (4, vI x4), (5, vI x5)] dX5_route_140 (Nat.le_of_ble_eq_true rfl) rfl ?_
    refine j_lv [(0, vR x0), (2, vI x2), (3, vI x3), (4, vI x4), (5, vI x5), (6, vI 0), (7, vI 0), (8, vI 0)] [3, 4, 5, 6, 7, 2, 1, 0] rfl ?_
    refine j_cs (u' := 0) (v' := 0) (Nat.le_of_ble_eq_true rfl) (Nat.le_of_ble_eq_true rfl) ?_
    exact wk_X5_route_142 X er en hQ x0 x2 x3 x4 x5 0 0 0 h hw
  · refine j_aload_n X (pc := 110) 0 dX5_route_110 rfl rfl ?_
    refine j_getq (ci := 4) X (pc := 111) in_X5 rfl (by decide) 28 (by decide) q1900 (Or.inl rfl) dX5_route_111 hw (fun y111 hw => ?_)
    refine j_iload X (pc := 114) 5 dX5_route_114 rfl ?_
    refine j_ldc X (pc := 116) dX5_route_116 q2259 ?_
    refine j_iast X (pc := 118) 0 rfl rfl dX5_route_118 hw (fun h118 hw => ?_)
    refine j_aload_n X (pc := 119) 0 dX5_route_119 rfl rfl ?_
    refine j_getq (ci := 4) X (pc := 120) in_X5 rfl (by decide) 31 (by decide) q1903 (Or.inl rfl) dX5_route_120 hw (fun y120 hw => ?_)
    refine j_iload X (pc := 123) 5 dX5_route_123 rfl ?_
    refine j_iconst X (pc := 125) 0 dX5_route_125 (by decide) ?_
    refine j_zast X (pc := 126) 1 rfl rfl ⟨rfl, rfl⟩ dX5_route_126 hw (fun h126 hw => ?_)
    refine j_iinc X (pc := 127) 5 (x6 + 1) [(6, vI (x6 + 1)), (0, vR x0), (2, vI x2), (3, vI x3), (4, vI x4), (5, vI x5)] dX5_route_127 rfl rfl (Nat.le_of_ble_eq_true rfl) rfl ?_
    refine j_goto X (pc := 130) 100 dX5_route_130 (by decide) ?_
    refine j_lv [(0, vR x0), (2, vI x2), (3, vI x3), (4, vI x4), (5, vI x5), (6, vI (x6 + 1))] [1, 2, 3, 4, 5, 0] rfl ?_
    refine j_cs (u' := 0) (v' := 0) (Nat.le_of_ble_eq_true rfl) (Nat.le_of_ble_eq_true rfl) ?_
    exact hw
theorem met_X5_route (l : Launch) (hlt : l.stackTraces = false) (G : GG) (h : AH) (a0 : Option Nat) (a1 : Int32) (P : Int32 → AH → Prop) (hw : w_X5_route a0 a1 h P) : ct_i l yX5_route (ws_ yX5_route cX5_route 16 (Option.some Jvm.ClassFile.FieldType.int)) rm_X5_route G h [vR a0, vI a1] P := by
  refine j_starti hlt [(0, vR a0), (1, vI a1)] (plainFor_of_name (by decide)) rfl rfl (fun x X eG er en hQ => ?_)
  subst eG
  refine j_aload_n X (pc := 0) 0 dX5_route_0 rfl rfl ?_
  obtain ⟨b9, c9, f9, hr9, ho9, hc9, hw⟩ := hw
  obtain rfl := List.mem_singleton.mp hc9
  refine j_callv (j_runV (n8 := 0) (As := []) (rest := []) X (pc := 1) hr9 (met_X5_shuts (xl x) X.hl (xG x) h a0 _ hw) ho9 (by decide) rfl q2243 q2245 qs63 q78 q2246 (by decide +kernel) dX5_route_1 rfl ⟨Nat.le_of_ble_eq_true rfl, Nat.le_of_ble_eq_true rfl⟩ (Nat.le_of_ble_eq_true rfl) ⟨Nat.le_of_ble_eq_true rfl, Nat.le_of_ble_eq_true rfl⟩) (fun h1 hw => ?_)
  refine j_aload_n X (pc := 4) 0 dX5_route_4 rfl rfl ?_
  refine j_aload_n X (pc := 5) 0 dX5_route_5 rfl rfl ?_
  refine j_getq (ci := 4) X (pc := 6) in_X5 rfl (by decide) 3 (by decide) q1875 (Or.inl rfl) dX5_route_6 hw (fun y6 hw => ?_)
  refine j_iload_n X (pc := 9) 1 dX5_route_9 rfl rfl ?_
  refine j_iald X (pc := 10) 0 rfl dX5_route_10 hw (fun y10 hw => ?_)
  refine j_aload_n X (pc := 11) 0 dX5_route_11 rfl rfl ?_
  refine j_getq (ci := 4) X (pc := 12) in_X5 rfl (by decide) 6 (by decide) q1878 (Or.inl rfl) dX5_route_12 hw (fun y12 hw => ?_)
  refine j_iload_n X (pc := 15) 1 dX5_route_15 rfl rfl ?_
  refine j_cald X (pc := 16) 4 rfl dX5_route_16 hw (fun y16 hw => ?_)
  obtain ⟨b9, c9, f9, hr9, ho9, hc9, hw⟩ := hw
  obtain rfl := List.mem_singleton.mp hc9
  refine j_calli (j_runV (n8 := 2) (As := [vI y10, vI y16]) (rest := []) X (pc := 17) hr9 (met_X5_endColumn (xl x) X.hl (xG x) h1 a0 y10 y16 _ hw) ho9 (by decide) rfl q2247 q2249 qs64 q78 q2250 (by decide +kernel) dX5_route_17 rfl ⟨Nat.le_of_ble_eq_true rfl, Nat.le_of_ble_eq_true rfl⟩ (Nat.le_of_ble_eq_true rfl) ⟨Nat.le_of_ble_eq_true rfl, Nat.le_of_ble_eq_true rfl⟩) (fun y17 h17 hw => ?_)
  refine j_istore_n X (pc := 20) [(2, vI y17), (0, vR a0), (1, vI a1)] dX5_route_20 rfl (Nat.le_of_ble_eq_true rfl) rfl ?_
  refine j_aload_n X (pc := 21) 1 dX5_route_21 rfl rfl ?_
  refine j_aload_n X (pc := 22) 1 dX5_route_22 rfl rfl ?_
  refine j_getq (ci := 4) X (pc := 23) in_X5 rfl (by decide) 3 (by decide) q1875 (Or.inl rfl) dX5_route_23 hw (fun y23 hw => ?_)
  refine j_iload_n X (pc := 26) 2 dX5_route_26 rfl rfl ?_
  refine j_iald X (pc := 27) 0 rfl dX5_route_27 hw (fun y27 hw => ?_)
  refine j_aload_n X (pc := 28) 1 dX5_route_28 rfl rfl ?_
  refine j_getq (ci := 4) X (pc := 29) in_X5 rfl (by decide) 6 (by decide) q1878 (Or.inl rfl) dX5_route_29 hw (fun y29 hw => ?_)
  refine j_iload_n X (pc := 32) 2 dX5_route_32 rfl rfl ?_
  refine j_cald X (pc := 33) 4 rfl dX5_route_33 hw (fun y33 hw => ?_)
  obtain ⟨b9, c9, f9, hr9, ho9, hc9, hw⟩ := hw
  obtain rfl := List.mem_singleton.mp hc9
  refine j_calli (j_runV (n8 := 2) (As := [vI y27, vI y33]) (rest := []) X (pc := 34) hr9 (met_X5_endRow (xl x) X.hl (xG x) h17 a0 y27 y33 _ hw) ho9 (by decide) rfl q2251 q2253 qs65 q78 q2254 (by decide +kernel) dX5_route_34 rfl ⟨Nat.le_of_ble_eq_true rfl, Nat.le_of_ble_eq_true rfl⟩ (Nat.le_of_ble_eq_true rfl) ⟨Nat.le_of_ble_eq_true rfl, Nat.le_of_ble_eq_true rfl⟩) (fun y34 h34 hw => ?_)
  refine j_istore_n X (pc := 37) [(3, vI y34), (2, vI y17), (0, vR a0), (1, vI a1)] dX5_route_37 rfl (Nat.le_of_ble_eq_true rfl) rfl ?_
  refine j_aload_n X (pc := 38) 2 dX5_route_38 rfl rfl ?_
  refine j_aload_n X (pc := 39) 2 dX5_route_39 rfl rfl ?_
  refine j_getq (ci := 4) X (pc := 40) in_X5 rfl (by decide) 4 (by decide) q1876 (Or.inl rfl) dX5_route_40 hw (fun y40 hw => ?_)
  refine j_iload_n X (pc := 43) 3 dX5_route_43 rfl rfl ?_
  refine j_iald X (pc := 44) 0 rfl dX5_route_44 hw (fun y44 hw => ?_)
  refine j_aload_n X (pc := 45) 2 dX5_route_45 rfl rfl ?_
  refine j_getq (ci := 4) X (pc := 46) in_X5 rfl (by decide) 7 (by decide) q1879 (Or.inl rfl) dX5_route_46 hw (fun y46 hw => ?_)
  refine j_iload_n X (pc := 49) 3 dX5_route_49 rfl rfl ?_
  refine j_cald X (pc := 50) 4 rfl dX5_route_50 hw (fun y50 hw => ?_)
  obtain ⟨b9, c9, f9, hr9, ho9, hc9, hw⟩ := hw
  obtain rfl := List.mem_singleton.mp hc9
  refine j_calli (j_runV (n8 := 2) (As := [vI y44, vI y50]) (rest := []) X (pc := 51) hr9 (met_X5_endColumn (xl x) X.hl (xG x) h34 a0 y44 y50 _ hw) ho9 (by decide) rfl q2247 q2249 qs64 q78 q2250 (by decide +kernel) dX5_route_51 rfl ⟨Nat.le_of_ble_eq_true rfl, Nat.le_of_ble_eq_true rfl⟩ (Nat.le_of_ble_eq_true rfl) ⟨Nat.le_of_ble_eq_true rfl, Nat.le_of_ble_eq_true rfl⟩) (fun y51 h51 hw => ?_)
  refine j_istore X (pc := 54) [(4, vI y51), (3, vI y34), (2, vI y17), (0, vR a0), (1, vI a1)] dX5_route_54 (Nat.le_of_ble_eq_true rfl) rfl ?_
  refine j_aload_n X (pc := 56) 3 dX5_route_56 rfl rfl ?_
  refine j_aload_n X (pc := 57) 3 dX5_route_57 rfl rfl ?_
  refine j_getq (ci := 4) X (pc := 58) in_X5 rfl (by decide) 4 (by decide) q1876 (Or.inl rfl) dX5_route_58 hw (fun y58 hw => ?_)
  refine j_iload_n X (pc := 61) 4 dX5_route_61 rfl rfl ?_
  refine j_iald X (pc := 62) 0 rfl dX5_route_62 hw (fun y62 hw => ?_)
  refine j_aload_n X (pc := 63) 3 dX5_route_63 rfl rfl ?_
  refine j_getq (ci := 4) X (pc := 64) in_X5 rfl (by decide) 7 (by decide) q1879 (Or.inl rfl) dX5_route_64 hw (fun y64 hw => ?_)
  refine j_iload_n X (pc := 67) 4 dX5_route_67 rfl rfl ?_
  refine j_cald X (pc := 68) 4 rfl dX5_route_68 hw (fun y68 hw => ?_)
  obtain ⟨b9, c9, f9, hr9, ho9, hc9, hw⟩ := hw
  obtain rfl := List.mem_singleton.mp hc9
  refine j_calli (j_runV (n8 := 2) (As := [vI y62, vI y68]) (rest := []) X (pc := 69) hr9 (met_X5_endRow (xl x) X.hl (xG x) h51 a0 y62 y68 _ hw) ho9 (by decide) rfl q2251 q2253 qs65 q78 q2254 (by decide +kernel) dX5_route_69 rfl ⟨Nat.le_of_ble_eq_true rfl, Nat.le_of_ble_eq_true rfl⟩ (Nat.le_of_ble_eq_true rfl) ⟨Nat.le_of_ble_eq_true rfl, Nat.le_of_ble_eq_true rfl⟩) (fun y69 h69 hw => ?_)
  refine j_istore X (pc := 72) [(5, vI y69), (4, vI y51), (3, vI y34), (2, vI y17), (0, vR a0), (1, vI a1)] dX5_route_72 (Nat.le_of_ble_eq_true rfl) rfl ?_
  refine j_aload_n X (pc := 74) 4 dX5_route_74 rfl rfl ?_
  refine j_iload_n X (pc := 75) 3 dX5_route_75 rfl rfl ?_
  refine j_iload_n X (pc := 76) 2 dX5_route_76 rfl rfl ?_
  obtain ⟨b9, c9, f9, hr9, ho9, hc9, hw⟩ := hw
  obtain rfl := List.mem_singleton.mp hc9
  refine j_calli (j_runV (n8 := 2) (As := [vI y17, vI y34]) (rest := []) X (pc := 77) hr9 (met_X5_isOpen (xl x) X.hl (xG x) h69 a0 y17 y34 _ hw) ho9 (by decide) rfl q2255 q2257 qs66 q78 q2258 (by decide +kernel) dX5_route_77 rfl ⟨Nat.le_of_ble_eq_true rfl, Nat.le_of_ble_eq_true rfl⟩ (Nat.le_of_ble_eq_true rfl) ⟨Nat.le_of_ble_eq_true rfl, Nat.le_of_ble_eq_true rfl⟩) (fun y77 h77 hw => ?_)
  refine j_if_eq X (pc := 80) 94 dX5_route_80 (by decide) hw (fun hw => ?_) (fun hw => ?_)
  · refine j_ldc X (pc := 94) dX5_route_94 q2259 ?_
    exact j_iret X (pc := 96) hQ er (Nat.le_of_ble_eq_true rfl) (Nat.le_of_ble_eq_true rfl) dX5_route_96 hw
  · refine j_aload_n X (pc := 83) 4 dX5_route_83 rfl rfl ?_
    refine j_iload X (pc := 84) 1 dX5_route_84 rfl ?_
    refine j_iload X (pc := 86) 0 dX5_route_86 rfl ?_
    obtain ⟨b9, c9, f9, hr9, ho9, hc9, hw⟩ := hw
    obtain rfl := List.mem_singleton.mp hc9
    refine j_calli (j_runV (n8 := 2) (As := [vI y51, vI y69]) (rest := []) X (pc := 88) hr9 (met_X5_isOpen (xl x) X.hl (xG x) h77 a0 y51 y69 _ hw) ho9 (by decide) rfl q2255 q2257 qs66 q78 q2258 (by decide +kernel) dX5_route_88 rfl ⟨Nat.le_of_ble_eq_true rfl, Nat.le_of_ble_eq_true rfl⟩ (Nat.le_of_ble_eq_true rfl) ⟨Nat.le_of_ble_eq_true rfl, Nat.le_of_ble_eq_true rfl⟩) (fun y88 h88 hw => ?_)
    refine j_if_ne X (pc := 91) 97 dX5_route_91 (by decide) hw (fun hw => ?_) (fun hw => ?_)
    · refine j_ldc X (pc := 94) dX5_route_94 q2259 ?_
      exact j_iret X (pc := 96) hQ er (Nat.le_of_ble_eq_true rfl) (Nat.le_of_ble_eq_true rfl) dX5_route_96 hw
    · refine j_iconst X (pc := 97) 0 dX5_route_97 (by decide) ?_
      refine j_istore X (pc := 98) [(6, vI 0), (5, vI y69), (4, vI y51), (3, vI y34), (2, vI y17), (0, vR a0), (1, vI a1)] dX5_route_98 (Nat.le_of_ble_eq_true rfl) rfl ?_
      refine j_lv [(0, vR a0), (2, vI y17), (3, vI y34), (4, vI y51), (5, vI y69), (6, vI 0)] [5, 4, 3, 2, 1, 0] rfl ?_
      refine j_cs (u' := 0) (v' := 0) (Nat.le_of_ble_eq_true rfl) (Nat.le_of_ble_eq_true rfl) ?_
      exact wk_X5_route_100 X er en hQ a0 y17 y34 y51 y69 0 h88 hw
abbrev cX5_asked : ByteArray := prog_19_method_74_code
def yX5_asked : MethodName := ⟨RX5, "asked", "(II)I"⟩
def dkwX5_asked_1 : List UInt8 := [42, 28, 182, 1, 5, 62, 29, 18, 251, 160, 0, 11, 42, 6, 182, 0, 172, 167, 0, 4, 29, 172]
abbrev dktX5_asked_1 : List UInt8 := dkwX5_asked_1 ++ []
def dkwX5_asked_0 : List UInt8 := [42, 27, 182, 0, 228, 153, 0, 5, 3, 172, 42, 28, 182, 0, 135, 154, 0, 9, 42, 5, 182, 0, 172, 172]
abbrev dktX5_asked_0 : List UInt8 := dkwX5_asked_0 ++ dktX5_asked_1
theorem dksX5_asked_0 : cX5_asked.data.toList.drop 0 = dktX5_asked_0 := by decide +kernel
theorem dksX5_asked_1 : cX5_asked.data.toList.drop 24 = dktX5_asked_1 := dk_seg dksX5_asked_0 24 rfl rfl
theorem dX5_asked_0 : decode cX5_asked 0 = .ok (.aload_n 0, 1) := dk_42 (dk_at dksX5_asked_0 0 rfl rfl)
theorem dX5_asked_1 : decode cX5_asked 1 = .ok (.iload_n 1, 1) := dk_27 (dk_at dksX5_asked_0 1 rfl rfl)
theorem dX5_asked_2 : decode cX5_asked 2 = .ok (.invokevirtual 228, 3) := dk_182 0 228 (dk_at dksX5_asked_0 2 rfl rfl)
theorem dX5_asked_5 : decode cX5_asked 5 = .ok (.ifCond .eq 5, 3) := dk_153 0 5 (dk_at dksX5_asked_0 5 rfl rfl)
theorem dX5_asked_8 : decode cX5_asked 8 = .ok (.iconst 0, 1) := dk_3 (dk_at dksX5_asked_0 8 rfl rfl)
theorem dX5_asked_9 : decode cX5_asked 9 = .ok (.ireturn, 1) := dk_172 (dk_at dksX5_asked_0 9 rfl rfl)
theorem dX5_asked_10 : decode cX5_asked 10 = .ok (.aload_n 0, 1) := dk_42 (dk_at dksX5_asked_0 10 rfl rfl)
theorem dX5_asked_11 : decode cX5_asked 11 = .ok (.iload_n 2, 1) := dk_28 (dk_at dksX5_asked_0 11 rfl rfl)
theorem dX5_asked_12 : decode cX5_asked 12 = .ok (.invokevirtual 135, 3) := dk_182 0 135 (dk_at dksX5_asked_0 12 rfl rfl)
theorem dX5_asked_15 : decode cX5_asked 15 = .ok (.ifCond .ne 9, 3) := dk_154 0 9 (dk_at dksX5_asked_0 15 rfl rfl)
theorem dX5_asked_18 : decode cX5_asked 18 = .ok (.aload_n 0, 1) := dk_42 (dk_at dksX5_asked_0 18 rfl rfl)
theorem dX5_asked_19 : decode cX5_asked 19 = .ok (.iconst 2, 1) := dk_5 (dk_at dksX5_asked_0 19 rfl rfl)
theorem dX5_asked_20 : decode cX5_asked 20 = .ok (.invokevirtual 172, 3) := dk_182 0 172 (dk_at dksX5_asked_0 20 rfl rfl)
theorem dX5_asked_23 : decode cX5_asked 23 = .ok (.ireturn, 1) := dk_172 (dk_at dksX5_asked_0 23 rfl rfl)
theorem dX5_asked_24 : decode cX5_asked 24 = .ok (.aload_n 0, 1) := dk_42 (dk_at dksX5_asked_1 0 rfl rfl)
theorem dX5_asked_25 : decode cX5_asked 25 = .ok (.iload_n 2, 1) := dk_28 (dk_at dksX5_asked_1 1 rfl rfl)
theorem dX5_asked_26 : decode cX5_asked 26 = .ok (.invokevirtual 261, 3) := dk_182 1 5 (dk_at dksX5_asked_1 2 rfl rfl)
theorem dX5_asked_29 : decode cX5_asked 29 = .ok (.istore_n 3, 1) := dk_62 (dk_at dksX5_asked_1 5 rfl rfl)
theorem dX5_asked_30 : decode cX5_asked 30 = .ok (.iload_n 3, 1) := dk_29 (dk_at dksX5_asked_1 6 rfl rfl)
theorem dX5_asked_31 : decode cX5_asked 31 = .ok (.ldc 251, 2) := dk_18 251 (dk_at dksX5_asked_1 7 rfl rfl)
theorem dX5_asked_33 : decode cX5_asked 33 = .ok (.if_icmp .ne 11, 3) := dk_160 0 11 (dk_at dksX5_asked_1 9 rfl rfl)
theorem dX5_asked_36 : decode cX5_asked 36 = .ok (.aload_n 0, 1) := dk_42 (dk_at dksX5_asked_1 12 rfl rfl)
theorem dX5_asked_37 : decode cX5_asked 37 = .ok (.iconst 3, 1) := dk_6 (dk_at dksX5_asked_1 13 rfl rfl)
theorem dX5_asked_38 : decode cX5_asked 38 = .ok (.invokevirtual 172, 3) := dk_182 0 172 (dk_at dksX5_asked_1 14 rfl rfl)
theorem dX5_asked_41 : decode cX5_asked 41 = .ok (.goto 4, 3) := dk_167 0 4 (dk_at dksX5_asked_1 17 rfl rfl)
theorem dX5_asked_44 : decode cX5_asked 44 = .ok (.iload_n 3, 1) := dk_29 (dk_at dksX5_asked_1 20 rfl rfl)
theorem dX5_asked_45 : decode cX5_asked 45 = .ok (.ireturn, 1) := dk_172 (dk_at dksX5_asked_1 21 rfl rfl)
theorem q2239 : (Jvm.Cond.methodLink "PlugboardModel" (261 : Nat) ({ cls := "PlugboardModel", name := "route", desc := "(I)I" } : Jvm.MethodName)) ∈ lw_all := lw_g (lw_at lw_m10 9 rfl) rfl
theorem q2241 : (Jvm.Cond.instanceMethod ({ cls := "PlugboardModel", name := "route", desc := "(I)I" } : Jvm.MethodName)) ∈ lw_all := lw_g (lw_at lw_m10 11 rfl) rfl
theorem q2242 : (Jvm.Cond.code ({ cls := "PlugboardModel", name := "route", desc := "(I)I" } : Jvm.MethodName) prog_19_method_73_code (16 : Nat) (Option.some Jvm.ClassFile.FieldType.int)) ∈ lw_all := lw_g (lw_at lw_m10 12 rfl) rfl
abbrev rm_X5_asked : Room := { frames := 4, cells := 0, slots := 0, locals := 103 }
def w_X5_asked (a0 : Option Nat) (a1 : Int32) (a2 : Int32) (h : AH) (P : Int32 → AH → Prop) : Prop :=
  is_c h a0 [4] (
  w_X5_isNobody a0 a1 h (fun y2 h2 =>
  ((y2 = 0 →
    is_c h2 a0 [4] (
    w_X5_isJoined a0 a2 h2 (fun y12 h12 =>
    ((y12 = 0 →
      is_c h12 a0 [4] (
      w_X5_fails a0 2 h12 (fun y20 h20 =>
      P y20 h20))) ∧
     (¬ y12 = 0 →
      is_c h12 a0 [4] (
      w_X5_route a0 a2 h12 (fun y26 h26 =>
      ((y26 = 1000000000 →
        is_c h26 a0 [4] (
        w_X5_fails a0 3 h26 (fun y38 h38 =>
        P y38 h38))) ∧
       (¬ y26 = 1000000000 →
        P y26 h26))))))))) ∧
   (¬ y2 = 0 →
    P 0 h2))))
theorem met_X5_asked (l : Launch) (hlt : l.stackTraces = false) (G : GG) (h : AH) (a0 : Option Nat) (a1 : Int32) (a2 : Int32) (P : Int32 → AH → Prop) (hw : w_X5_asked a0 a1 a2 h P) : ct_i l yX5_asked (ws_ yX5_asked cX5_asked 4 (Option.some Jvm.ClassFile.FieldType.int)) rm_X5_asked G h [vR a0, vI a1, vI a2] P := by
  refine j_starti hlt [(0, vR a0), (1, vI a1), (2, vI a2)] (plainFor_of_name (by decide)) rfl rfl (fun x X eG er en hQ => ?_)
  subst eG
  refine j_aload_n X (pc := 0) 0 dX5_asked_0 rfl rfl ?_
  refine j_iload_n X (pc := 1) 1 dX5_asked_1 rfl rfl ?_
  obtain ⟨b9, c9, f9, hr9, ho9, hc9, hw⟩ := hw
  obtain rfl := List.mem_singleton.mp hc9
  refine j_calli (j_runV (n8 := 1) (As := [vI a1]) (rest := []) X (pc := 2) hr9 (met_X5_isNobody (xl x) X.hl (xG x) h a0 a1 _ hw) ho9 (by decide) rfl q2170 q2172 qs58 q78 q2173 (by decide +kernel) dX5_asked_2 rfl ⟨Nat.le_of_ble_eq_true rfl, Nat.le_of_ble_eq_true rfl⟩ (Nat.le_of_ble_eq_true rfl) ⟨Nat.le_of_ble_eq_true rfl, Nat.le_of_ble_eq_true rfl⟩) (fun y2 h2 hw => ?_)
  refine j_if_eq X (pc := 5) 10 dX5_asked_5 (by decide) hw (fun hw => ?_) (fun hw => ?_)
  · refine j_aload_n X (pc := 10) 0 dX5_asked_10 rfl rfl ?_
    refine j_iload_n X (pc := 11) 2 dX5_asked_11 rfl rfl ?_
    obtain ⟨b9, c9, f9, hr9, ho9, hc9, hw⟩ := hw
    obtain rfl := List.mem_singleton.mp hc9
    refine j_calli (j_runV (n8 := 1) (As := [vI a2]) (rest := []) X (pc := 12) hr9 (met_X5_isJoined (xl x) X.hl (xG x) h2 a0 a2 _ hw) ho9 (by decide) rfl q2110 q2112 qs53 q78 q2113 (by decide +kernel) dX5_asked_12 rfl ⟨Nat.le_of_ble_eq_true rfl, Nat.le_of_ble_eq_true rfl⟩ (Nat.le_of_ble_eq_true rfl) ⟨Nat.le_of_ble_eq_true rfl, Nat.le_of_ble_eq_true rfl⟩) (fun y12 h12 hw => ?_)
    refine j_if_ne X (pc := 15) 24 dX5_asked_15 (by decide) hw (fun hw => ?_) (fun hw => ?_)
    · refine j_aload_n X (pc := 18) 0 dX5_asked_18 rfl rfl ?_
      refine j_iconst X (pc := 19) 2 dX5_asked_19 (by decide) ?_
      obtain ⟨b9, c9, f9, hr9, ho9, hc9, hw⟩ := hw
      obtain rfl := List.mem_singleton.mp hc9
      refine j_calli (j_runV (n8 := 1) (As := [vI 2]) (rest := []) X (pc := 20) hr9 (met_X5_fails (xl x) X.hl (xG x) h12 a0 2 _ hw) ho9 (by decide) rfl q1988 q1990 qs33 q78 q1991 (by decide +kernel) dX5_asked_20 rfl ⟨Nat.le_of_ble_eq_true rfl, Nat.le_of_ble_eq_true rfl⟩ (Nat.le_of_ble_eq_true rfl) ⟨Nat.le_of_ble_eq_true rfl, Nat.le_of_ble_eq_true rfl⟩) (fun y20 h20 hw => ?_)
      exact j_iret X (pc := 23) hQ er (Nat.le_of_ble_eq_true rfl) (Nat.le_of_ble_eq_true rfl) dX5_asked_23 hw
    · refine j_aload_n X (pc := 24) 0 dX5_asked_24 rfl rfl ?_
      refine j_iload_n X (pc := 25) 2 dX5_asked_25 rfl rfl ?_
      obtain ⟨b9, c9, f9, hr9, ho9, hc9, hw⟩ := hw
      obtain rfl := List.mem_singleton.mp hc9
      refine j_calli (j_runV (n8 := 1) (As := [vI a2]) (rest := []) X (pc := 26) hr9 (met_X5_route (xl x) X.hl (xG x) h12 a0 a2 _ hw) ho9 (by decide) rfl q2239 q2241 qs62 q78 q2242 (by decide +kernel) dX5_asked_26 rfl ⟨Nat.le_of_ble_eq_true rfl, Nat.le_of_ble_eq_true rfl⟩ (Nat.le_of_ble_eq_true rfl) ⟨Nat.le_of_ble_eq_true rfl, Nat.le_of_ble_eq_true rfl⟩) (fun y26 h26 hw => ?_)
      refine j_istore_n X (pc := 29) [(3, vI y26), (0, vR a0), (1, vI a1), (2, vI a2)] dX5_asked_29 rfl (Nat.le_of_ble_eq_true rfl) rfl ?_
      refine j_iload_n X (pc := 30) 0 dX5_asked_30 rfl rfl ?_
      refine j_ldc X (pc := 31) dX5_asked_31 q2259 ?_
      refine j_icmp_ne X (pc := 33) 44 dX5_asked_33 (by decide) hw (fun hw => ?_) (fun hw => ?_)
      · refine j_aload_n X (pc := 36) 1 dX5_asked_36 rfl rfl ?_
        refine j_iconst X (pc := 37) 3 dX5_asked_37 (by decide) ?_
        obtain ⟨b9, c9, f9, hr9, ho9, hc9, hw⟩ := hw
        obtain rfl := List.mem_singleton.mp hc9
        refine j_calli (j_runV (n8 := 1) (As := [vI 3]) (rest := []) X (pc := 38) hr9 (met_X5_fails (xl x) X.hl (xG x) h26 a0 3 _ hw) ho9 (by decide) rfl q1988 q1990 qs33 q78 q1991 (by decide +kernel) dX5_asked_38 rfl ⟨Nat.le_of_ble_eq_true rfl, Nat.le_of_ble_eq_true rfl⟩ (Nat.le_of_ble_eq_true rfl) ⟨Nat.le_of_ble_eq_true rfl, Nat.le_of_ble_eq_true rfl⟩) (fun y38 h38 hw => ?_)
        refine j_goto X (pc := 41) 45 dX5_asked_41 (by decide) ?_
        exact j_iret X (pc := 45) hQ er (Nat.le_of_ble_eq_true rfl) (Nat.le_of_ble_eq_true rfl) dX5_asked_45 hw
      · refine j_iload_n X (pc := 44) 0 dX5_asked_44 rfl rfl ?_
        exact j_iret X (pc := 45) hQ er (Nat.le_of_ble_eq_true rfl) (Nat.le_of_ble_eq_true rfl) dX5_asked_45 hw
  · refine j_iconst X (pc := 8) 0 dX5_asked_8 (by decide) ?_
    exact j_iret X (pc := 9) hQ er (Nat.le_of_ble_eq_true rfl) (Nat.le_of_ble_eq_true rfl) dX5_asked_9 hw
