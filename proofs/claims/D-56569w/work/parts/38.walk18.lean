/-! walks (printed): Plugboard, Plugboard.Orders, PlugboardLaw, PlugboardModel, java/lang/Integer, java/lang/Number, java/util/ArrayList -/
set_option maxRecDepth 100000
abbrev cX5_outcomeNow : ByteArray := prog_19_method_83_code
def yX5_outcomeNow : MethodName := ⟨RX5, "outcomeNow", "()I"⟩
def dkwX5_outcomeNow_2 : List UInt8 := [42, 28, 182, 0, 199, 182, 1, 18, 60, 132, 2, 1, 167, 255, 200, 27, 172]
abbrev dktX5_outcomeNow_2 : List UInt8 := dkwX5_outcomeNow_2 ++ []
def dkwX5_outcomeNow_1 : List UInt8 := [42, 42, 42, 27, 28, 182, 1, 18, 42, 28, 182, 0, 141, 182, 1, 18, 42, 28, 182, 0, 145, 182, 1, 18]
abbrev dktX5_outcomeNow_1 : List UInt8 := dkwX5_outcomeNow_1 ++ dktX5_outcomeNow_2
def dkwX5_outcomeNow_0 : List UInt8 := [3, 60, 3, 61, 28, 42, 180, 0, 119, 162, 0, 54, 42, 28, 182, 0, 125, 154, 0, 6, 167, 0, 37, 42]
abbrev dktX5_outcomeNow_0 : List UInt8 := dkwX5_outcomeNow_0 ++ dktX5_outcomeNow_1
theorem dksX5_outcomeNow_0 : cX5_outcomeNow.data.toList.drop 0 = dktX5_outcomeNow_0 := by decide +kernel
theorem dksX5_outcomeNow_1 : cX5_outcomeNow.data.toList.drop 24 = dktX5_outcomeNow_1 := dk_seg dksX5_outcomeNow_0 24 rfl rfl
theorem dksX5_outcomeNow_2 : cX5_outcomeNow.data.toList.drop 48 = dktX5_outcomeNow_2 := dk_seg dksX5_outcomeNow_1 24 rfl rfl
theorem dX5_outcomeNow_0 : decode cX5_outcomeNow 0 = .ok (.iconst 0, 1) := dk_3 (dk_at dksX5_outcomeNow_0 0 rfl rfl)
theorem dX5_outcomeNow_1 : decode cX5_outcomeNow 1 = .ok (.istore_n 1, 1) := dk_60 (dk_at dksX5_outcomeNow_0 1 rfl rfl)
theorem dX5_outcomeNow_2 : decode cX5_outcomeNow 2 = .ok (.iconst 0, 1) := dk_3 (dk_at dksX5_outcomeNow_0 2 rfl rfl)
theorem dX5_outcomeNow_3 : decode cX5_outcomeNow 3 = .ok (.istore_n 2, 1) := dk_61 (dk_at dksX5_outcomeNow_0 3 rfl rfl)
theorem dX5_outcomeNow_4 : decode cX5_outcomeNow 4 = .ok (.iload_n 2, 1) := dk_28 (dk_at dksX5_outcomeNow_0 4 rfl rfl)
theorem dX5_outcomeNow_5 : decode cX5_outcomeNow 5 = .ok (.aload_n 0, 1) := dk_42 (dk_at dksX5_outcomeNow_0 5 rfl rfl)
theorem dX5_outcomeNow_6 : decode cX5_outcomeNow 6 = .ok (.getfield 119, 3) := dk_180 0 119 (dk_at dksX5_outcomeNow_0 6 rfl rfl)
theorem dX5_outcomeNow_9 : decode cX5_outcomeNow 9 = .ok (.if_icmp .ge 54, 3) := dk_162 0 54 (dk_at dksX5_outcomeNow_0 9 rfl rfl)
theorem dX5_outcomeNow_12 : decode cX5_outcomeNow 12 = .ok (.aload_n 0, 1) := dk_42 (dk_at dksX5_outcomeNow_0 12 rfl rfl)
theorem dX5_outcomeNow_13 : decode cX5_outcomeNow 13 = .ok (.iload_n 2, 1) := dk_28 (dk_at dksX5_outcomeNow_0 13 rfl rfl)
theorem dX5_outcomeNow_14 : decode cX5_outcomeNow 14 = .ok (.invokevirtual 125, 3) := dk_182 0 125 (dk_at dksX5_outcomeNow_0 14 rfl rfl)
theorem dX5_outcomeNow_17 : decode cX5_outcomeNow 17 = .ok (.ifCond .ne 6, 3) := dk_154 0 6 (dk_at dksX5_outcomeNow_0 17 rfl rfl)
theorem dX5_outcomeNow_20 : decode cX5_outcomeNow 20 = .ok (.goto 37, 3) := dk_167 0 37 (dk_at dksX5_outcomeNow_0 20 rfl rfl)
theorem dX5_outcomeNow_23 : decode cX5_outcomeNow 23 = .ok (.aload_n 0, 1) := dk_42 (dk_at dksX5_outcomeNow_0 23 rfl rfl)
theorem dX5_outcomeNow_24 : decode cX5_outcomeNow 24 = .ok (.aload_n 0, 1) := dk_42 (dk_at dksX5_outcomeNow_1 0 rfl rfl)
theorem dX5_outcomeNow_25 : decode cX5_outcomeNow 25 = .ok (.aload_n 0, 1) := dk_42 (dk_at dksX5_outcomeNow_1 1 rfl rfl)
theorem dX5_outcomeNow_26 : decode cX5_outcomeNow 26 = .ok (.aload_n 0, 1) := dk_42 (dk_at dksX5_outcomeNow_1 2 rfl rfl)
theorem dX5_outcomeNow_27 : decode cX5_outcomeNow 27 = .ok (.iload_n 1, 1) := dk_27 (dk_at dksX5_outcomeNow_1 3 rfl rfl)
theorem dX5_outcomeNow_28 : decode cX5_outcomeNow 28 = .ok (.iload_n 2, 1) := dk_28 (dk_at dksX5_outcomeNow_1 4 rfl rfl)
theorem dX5_outcomeNow_29 : decode cX5_outcomeNow 29 = .ok (.invokevirtual 274, 3) := dk_182 1 18 (dk_at dksX5_outcomeNow_1 5 rfl rfl)
theorem dX5_outcomeNow_32 : decode cX5_outcomeNow 32 = .ok (.aload_n 0, 1) := dk_42 (dk_at dksX5_outcomeNow_1 8 rfl rfl)
theorem dX5_outcomeNow_33 : decode cX5_outcomeNow 33 = .ok (.iload_n 2, 1) := dk_28 (dk_at dksX5_outcomeNow_1 9 rfl rfl)
theorem dX5_outcomeNow_34 : decode cX5_outcomeNow 34 = .ok (.invokevirtual 141, 3) := dk_182 0 141 (dk_at dksX5_outcomeNow_1 10 rfl rfl)
theorem dX5_outcomeNow_37 : decode cX5_outcomeNow 37 = .ok (.invokevirtual 274, 3) := dk_182 1 18 (dk_at dksX5_outcomeNow_1 13 rfl rfl)
theorem dX5_outcomeNow_40 : decode cX5_outcomeNow 40 = .ok (.aload_n 0, 1) := dk_42 (dk_at dksX5_outcomeNow_1 16 rfl rfl)
theorem dX5_outcomeNow_41 : decode cX5_outcomeNow 41 = .ok (.iload_n 2, 1) := dk_28 (dk_at dksX5_outcomeNow_1 17 rfl rfl)
theorem dX5_outcomeNow_42 : decode cX5_outcomeNow 42 = .ok (.invokevirtual 145, 3) := dk_182 0 145 (dk_at dksX5_outcomeNow_1 18 rfl rfl)
theorem dX5_outcomeNow_45 : decode cX5_outcomeNow 45 = .ok (.invokevirtual 274, 3) := dk_182 1 18 (dk_at dksX5_outcomeNow_1 21 rfl rfl)
theorem dX5_outcomeNow_48 : decode cX5_outcomeNow 48 = .ok (.aload_n 0, 1) := dk_42 (dk_at dksX5_outcomeNow_2 0 rfl rfl)
theorem dX5_outcomeNow_49 : decode cX5_outcomeNow 49 = .ok (.iload_n 2, 1) := dk_28 (dk_at dksX5_outcomeNow_2 1 rfl rfl)
theorem dX5_outcomeNow_50 : decode cX5_outcomeNow 50 = .ok (.invokevirtual 199, 3) := dk_182 0 199 (dk_at dksX5_outcomeNow_2 2 rfl rfl)
theorem dX5_outcomeNow_53 : decode cX5_outcomeNow 53 = .ok (.invokevirtual 274, 3) := dk_182 1 18 (dk_at dksX5_outcomeNow_2 5 rfl rfl)
theorem dX5_outcomeNow_56 : decode cX5_outcomeNow 56 = .ok (.istore_n 1, 1) := dk_60 (dk_at dksX5_outcomeNow_2 8 rfl rfl)
theorem dX5_outcomeNow_57 : decode cX5_outcomeNow 57 = .ok (.iinc 2 1, 3) := dk_132 2 1 (dk_at dksX5_outcomeNow_2 9 rfl rfl)
theorem dX5_outcomeNow_60 : decode cX5_outcomeNow 60 = .ok (.goto (-56), 3) := dk_167 255 200 (dk_at dksX5_outcomeNow_2 12 rfl rfl)
theorem dX5_outcomeNow_63 : decode cX5_outcomeNow 63 = .ok (.iload_n 1, 1) := dk_27 (dk_at dksX5_outcomeNow_2 15 rfl rfl)
theorem dX5_outcomeNow_64 : decode cX5_outcomeNow 64 = .ok (.ireturn, 1) := dk_172 (dk_at dksX5_outcomeNow_2 16 rfl rfl)
theorem q2300 : (Jvm.Cond.methodLink "PlugboardModel" (274 : Nat) ({ cls := "PlugboardModel", name := "joins", desc := "(II)I" } : Jvm.MethodName)) ∈ lw_all := lw_g (lw_at lw_m10 70 rfl) rfl
theorem q2302 : (Jvm.Cond.instanceMethod ({ cls := "PlugboardModel", name := "joins", desc := "(II)I" } : Jvm.MethodName)) ∈ lw_all := lw_g (lw_at lw_m10 72 rfl) rfl
theorem q2303 : (Jvm.Cond.code ({ cls := "PlugboardModel", name := "joins", desc := "(II)I" } : Jvm.MethodName) prog_19_method_82_code (3 : Nat) (Option.some Jvm.ClassFile.FieldType.int)) ∈ lw_all := lw_g (lw_at lw_m10 73 rfl) rfl
abbrev rm_X5_outcomeNow : Room := { frames := 3, cells := 0, slots := 0, locals := 66 }
def w_X5_outcomeNow_4 (P : Int32 → AH → Prop) (x0 : Option Nat) (x1 : Int32) (x2 : Int32) (h : AH) : Prop :=
  ∀ Z4 : Int32 → Int32 → AH → Prop, (∀ x1 x2 h, (
      g_i h x0 4 8 fun y6 =>
      ((y6 ≤ x2 →
        P x1 h) ∧
       (¬ y6 ≤ x2 →
        is_c h x0 [4] (
        w_X5_isSeen x0 x2 h (fun y14 h14 =>
        ((y14 = 0 →
          Z4 x1 (x2 + 1) h14) ∧
         (¬ y14 = 0 →
          is_c h14 x0 [4] (
          w_X5_joins x0 x1 x2 h14 (fun y29 h29 =>
          is_c h29 x0 [4] (
          w_X5_column x0 x2 h29 (fun y34 h34 =>
          is_c h34 x0 [4] (
          w_X5_joins x0 y29 y34 h34 (fun y37 h37 =>
          is_c h37 x0 [4] (
          w_X5_row x0 x2 h37 (fun y42 h42 =>
          is_c h42 x0 [4] (
          w_X5_joins x0 y37 y42 h42 (fun y45 h45 =>
          is_c h45 x0 [4] (
          w_X5_rank x0 x2 h45 (fun y50 h50 =>
          is_c h50 x0 [4] (
          w_X5_joins x0 y45 y50 h50 (fun y53 h53 =>
          Z4 y53 (x2 + 1) h53)))))))))))))))))))))
      → Z4 x1 x2 h) → Z4 x1 x2 h
def w_X5_outcomeNow (a0 : Option Nat) (h : AH) (P : Int32 → AH → Prop) : Prop :=
  w_X5_outcomeNow_4 P a0 0 0 h
theorem wk_X5_outcomeNow_4 {x : CX} (X : Ok x cX5_outcomeNow RX5 rm_X5_outcomeNow 3) (er : xrt x = (Option.some Jvm.ClassFile.FieldType.int)) (en : xnm x = yX5_outcomeNow.name) {P : Int32 → AH → Prop} (hQ : xr_i x P) (x0 : Option Nat) (x1 : Int32) (x2 : Int32) (h : AH) (hw : w_X5_outcomeNow_4 P x0 x1 x2 h) : J x h 0 0 4 [(0, vR x0), (1, vI x1), (2, vI x2)] [] := by
  refine hw (fun x1 x2 h => J x h 0 0 4 [(0, vR x0), (1, vI x1), (2, vI x2)] []) (fun x1 x2 h hw => ?_)
  refine j_iload_n X (pc := 4) 2 dX5_outcomeNow_4 rfl rfl ?_
  refine j_aload_n X (pc := 5) 0 dX5_outcomeNow_5 rfl rfl ?_
  refine j_geti (ci := 4) X (pc := 6) in_X5 rfl (by decide) 8 (by decide) q1880 (Or.inl rfl) dX5_outcomeNow_6 hw (fun y6 hw => ?_)
  refine j_icmp_ge X (pc := 9) 63 dX5_outcomeNow_9 (by decide) hw (fun hw => ?_) (fun hw => ?_)
  · refine j_iload_n X (pc := 63) 1 dX5_outcomeNow_63 rfl rfl ?_
    exact j_iret X (pc := 64) hQ er (Nat.le_of_ble_eq_true rfl) (Nat.le_of_ble_eq_true rfl) dX5_outcomeNow_64 hw
  · refine j_aload_n X (pc := 12) 0 dX5_outcomeNow_12 rfl rfl ?_
    refine j_iload_n X (pc := 13) 2 dX5_outcomeNow_13 rfl rfl ?_
    obtain ⟨b9, c9, f9, hr9, ho9, hc9, hw⟩ := hw
    obtain rfl := List.mem_singleton.mp hc9
    refine j_calli (j_runV (n8 := 1) (As := [vI x2]) (rest := []) X (pc := 14) hr9 (met_X5_isSeen (xl x) X.hl (xG x) h x0 x2 _ hw) ho9 (by decide) rfl q2012 q2014 qs39 q78 q2015 (by decide +kernel) dX5_outcomeNow_14 rfl ⟨Nat.le_of_ble_eq_true rfl, Nat.le_of_ble_eq_true rfl⟩ (Nat.le_of_ble_eq_true rfl) ⟨Nat.le_of_ble_eq_true rfl, Nat.le_of_ble_eq_true rfl⟩) (fun y14 h14 hw => ?_)
    refine j_if_ne X (pc := 17) 23 dX5_outcomeNow_17 (by decide) hw (fun hw => ?_) (fun hw => ?_)
    · refine j_goto X (pc := 20) 57 dX5_outcomeNow_20 (by decide) ?_
      refine j_iinc X (pc := 57) 2 (x2 + 1) [(2, vI (x2 + 1)), (0, vR x0), (1, vI x1)] dX5_outcomeNow_57 rfl rfl (Nat.le_of_ble_eq_true rfl) rfl ?_
      refine j_goto X (pc := 60) 4 dX5_outcomeNow_60 (by decide) ?_
      refine j_lv [(0, vR x0), (1, vI x1), (2, vI (x2 + 1))] [1, 2, 0] rfl ?_
      refine j_cs (u' := 0) (v' := 0) (Nat.le_of_ble_eq_true rfl) (Nat.le_of_ble_eq_true rfl) ?_
      exact hw
    · refine j_aload_n X (pc := 23) 0 dX5_outcomeNow_23 rfl rfl ?_
      refine j_aload_n X (pc := 24) 0 dX5_outcomeNow_24 rfl rfl ?_
      refine j_aload_n X (pc := 25) 0 dX5_outcomeNow_25 rfl rfl ?_
      refine j_aload_n X (pc := 26) 0 dX5_outcomeNow_26 rfl rfl ?_
      refine j_iload_n X (pc := 27) 1 dX5_outcomeNow_27 rfl rfl ?_
      refine j_iload_n X (pc := 28) 2 dX5_outcomeNow_28 rfl rfl ?_
      obtain ⟨b9, c9, f9, hr9, ho9, hc9, hw⟩ := hw
      obtain rfl := List.mem_singleton.mp hc9
      refine j_calli (j_runV (n8 := 2) (As := [vI x1, vI x2]) (rest := [vR x0, vR x0, vR x0]) X (pc := 29) hr9 (met_X5_joins (xl x) X.hl (xG x) h14 x0 x1 x2 _ hw) ho9 (by decide) rfl q2300 q2302 qs69 q78 q2303 (by decide +kernel) dX5_outcomeNow_29 rfl ⟨Nat.le_of_ble_eq_true rfl, Nat.le_of_ble_eq_true rfl⟩ (Nat.le_of_ble_eq_true rfl) ⟨Nat.le_of_ble_eq_true rfl, Nat.le_of_ble_eq_true rfl⟩) (fun y29 h29 hw => ?_)
      refine j_aload_n X (pc := 32) 0 dX5_outcomeNow_32 rfl rfl ?_
      refine j_iload_n X (pc := 33) 2 dX5_outcomeNow_33 rfl rfl ?_
      obtain ⟨b9, c9, f9, hr9, ho9, hc9, hw⟩ := hw
      obtain rfl := List.mem_singleton.mp hc9
      refine j_calli (j_runV (n8 := 1) (As := [vI x2]) (rest := [vI y29, vR x0, vR x0, vR x0]) X (pc := 34) hr9 (met_X5_column (xl x) X.hl (xG x) h29 x0 x2 _ hw) ho9 (by decide) rfl q2047 q2049 qs46 q78 q2050 (by decide +kernel) dX5_outcomeNow_34 rfl ⟨Nat.le_of_ble_eq_true rfl, Nat.le_of_ble_eq_true rfl⟩ (Nat.le_of_ble_eq_true rfl) ⟨Nat.le_of_ble_eq_true rfl, Nat.le_of_ble_eq_true rfl⟩) (fun y34 h34 hw => ?_)
      obtain ⟨b9, c9, f9, hr9, ho9, hc9, hw⟩ := hw
      obtain rfl := List.mem_singleton.mp hc9
      refine j_calli (j_runV (n8 := 2) (As := [vI y29, vI y34]) (rest := [vR x0, vR x0]) X (pc := 37) hr9 (met_X5_joins (xl x) X.hl (xG x) h34 x0 y29 y34 _ hw) ho9 (by decide) rfl q2300 q2302 qs69 q78 q2303 (by decide +kernel) dX5_outcomeNow_37 rfl ⟨Nat.le_of_ble_eq_true rfl, Nat.le_of_ble_eq_true rfl⟩ (Nat.le_of_ble_eq_true rfl) ⟨Nat.le_of_ble_eq_true rfl, Nat.le_of_ble_eq_true rfl⟩) (fun y37 h37 hw => ?_)
      refine j_aload_n X (pc := 40) 0 dX5_outcomeNow_40 rfl rfl ?_
      refine j_iload_n X (pc := 41) 2 dX5_outcomeNow_41 rfl rfl ?_
      obtain ⟨b9, c9, f9, hr9, ho9, hc9, hw⟩ := hw
      obtain rfl := List.mem_singleton.mp hc9
      refine j_calli (j_runV (n8 := 1) (As := [vI x2]) (rest := [vI y37, vR x0, vR x0]) X (pc := 42) hr9 (met_X5_row (xl x) X.hl (xG x) h37 x0 x2 _ hw) ho9 (by decide) rfl q2051 q2053 qs47 q78 q2054 (by decide +kernel) dX5_outcomeNow_42 rfl ⟨Nat.le_of_ble_eq_true rfl, Nat.le_of_ble_eq_true rfl⟩ (Nat.le_of_ble_eq_true rfl) ⟨Nat.le_of_ble_eq_true rfl, Nat.le_of_ble_eq_true rfl⟩) (fun y42 h42 hw => ?_)
      obtain ⟨b9, c9, f9, hr9, ho9, hc9, hw⟩ := hw
      obtain rfl := List.mem_singleton.mp hc9
      refine j_calli (j_runV (n8 := 2) (As := [vI y37, vI y42]) (rest := [vR x0]) X (pc := 45) hr9 (met_X5_joins (xl x) X.hl (xG x) h42 x0 y37 y42 _ hw) ho9 (by decide) rfl q2300 q2302 qs69 q78 q2303 (by decide +kernel) dX5_outcomeNow_45 rfl ⟨Nat.le_of_ble_eq_true rfl, Nat.le_of_ble_eq_true rfl⟩ (Nat.le_of_ble_eq_true rfl) ⟨Nat.le_of_ble_eq_true rfl, Nat.le_of_ble_eq_true rfl⟩) (fun y45 h45 hw => ?_)
      refine j_aload_n X (pc := 48) 0 dX5_outcomeNow_48 rfl rfl ?_
      refine j_iload_n X (pc := 49) 2 dX5_outcomeNow_49 rfl rfl ?_
      obtain ⟨b9, c9, f9, hr9, ho9, hc9, hw⟩ := hw
      obtain rfl := List.mem_singleton.mp hc9
      refine j_calli (j_runV (n8 := 1) (As := [vI x2]) (rest := [vI y45, vR x0]) X (pc := 50) hr9 (met_X5_rank (xl x) X.hl (xG x) h45 x0 x2 _ hw) ho9 (by decide) rfl q2067 q2069 qs50 q78 q2070 (by decide +kernel) dX5_outcomeNow_50 rfl ⟨Nat.le_of_ble_eq_true rfl, Nat.le_of_ble_eq_true rfl⟩ (Nat.le_of_ble_eq_true rfl) ⟨Nat.le_of_ble_eq_true rfl, Nat.le_of_ble_eq_true rfl⟩) (fun y50 h50 hw => ?_)
      obtain ⟨b9, c9, f9, hr9, ho9, hc9, hw⟩ := hw
      obtain rfl := List.mem_singleton.mp hc9
      refine j_calli (j_runV (n8 := 2) (As := [vI y45, vI y50]) (rest := []) X (pc := 53) hr9 (met_X5_joins (xl x) X.hl (xG x) h50 x0 y45 y50 _ hw) ho9 (by decide) rfl q2300 q2302 qs69 q78 q2303 (by decide +kernel) dX5_outcomeNow_53 rfl ⟨Nat.le_of_ble_eq_true rfl, Nat.le_of_ble_eq_true rfl⟩ (Nat.le_of_ble_eq_true rfl) ⟨Nat.le_of_ble_eq_true rfl, Nat.le_of_ble_eq_true rfl⟩) (fun y53 h53 hw => ?_)
      refine j_istore_n X (pc := 56) [(1, vI y53), (0, vR x0), (2, vI x2)] dX5_outcomeNow_56 rfl (Nat.le_of_ble_eq_true rfl) rfl ?_
      refine j_iinc X (pc := 57) 2 (x2 + 1) [(2, vI (x2 + 1)), (1, vI y53), (0, vR x0)] dX5_outcomeNow_57 rfl rfl (Nat.le_of_ble_eq_true rfl) rfl ?_
      refine j_goto X (pc := 60) 4 dX5_outcomeNow_60 (by decide) ?_
      refine j_lv [(0, vR x0), (1, vI y53), (2, vI (x2 + 1))] [2, 1, 0] rfl ?_
      refine j_cs (u' := 0) (v' := 0) (Nat.le_of_ble_eq_true rfl) (Nat.le_of_ble_eq_true rfl) ?_
      exact hw
theorem met_X5_outcomeNow (l : Launch) (hlt : l.stackTraces = false) (G : GG) (h : AH) (a0 : Option Nat) (P : Int32 → AH → Prop) (hw : w_X5_outcomeNow a0 h P) : ct_i l yX5_outcomeNow (ws_ yX5_outcomeNow cX5_outcomeNow 3 (Option.some Jvm.ClassFile.FieldType.int)) rm_X5_outcomeNow G h [vR a0] P := by
  refine j_starti hlt [(0, vR a0)] (plainFor_of_name (by decide)) rfl rfl (fun x X eG er en hQ => ?_)
  subst eG
  refine j_iconst X (pc := 0) 0 dX5_outcomeNow_0 (by decide) ?_
  refine j_istore_n X (pc := 1) [(1, vI 0), (0, vR a0)] dX5_outcomeNow_1 rfl (Nat.le_of_ble_eq_true rfl) rfl ?_
  refine j_iconst X (pc := 2) 0 dX5_outcomeNow_2 (by decide) ?_
  refine j_istore_n X (pc := 3) [(2, vI 0), (1, vI 0), (0, vR a0)] dX5_outcomeNow_3 rfl (Nat.le_of_ble_eq_true rfl) rfl ?_
  refine j_lv [(0, vR a0), (1, vI 0), (2, vI 0)] [2, 1, 0] rfl ?_
  refine j_cs (u' := 0) (v' := 0) (Nat.le_of_ble_eq_true rfl) (Nat.le_of_ble_eq_true rfl) ?_
  exact wk_X5_outcomeNow_4 X er en hQ a0 0 0 h hw
abbrev cX16_init : ByteArray := prog_14_method_1_code
def yX16_init : MethodName := ⟨RX16, "<init>", "(LPlugboard;LPlugboard$Board;I)V"⟩
def dkwX16_init_4 : List UInt8 := [192, 0, 62, 182, 0, 64, 132, 4, 1, 167, 255, 225, 177]
abbrev dktX16_init_4 : List UInt8 := dkwX16_init_4 ++ []
def dkwX16_init_3 : List UInt8 := [54, 4, 21, 4, 42, 180, 0, 45, 162, 0, 28, 43, 180, 0, 49, 42, 180, 0, 28, 21, 4, 182, 0, 58]
abbrev dktX16_init_3 : List UInt8 := dkwX16_init_3 ++ dktX16_init_4
def dkwX16_init_2 : List UInt8 := [42, 180, 0, 28, 182, 0, 29, 42, 180, 0, 41, 190, 100, 181, 0, 45, 43, 180, 0, 49, 182, 0, 53, 3]
abbrev dktX16_init_2 : List UInt8 := dkwX16_init_2 ++ dktX16_init_3
def dkwX16_init_1 : List UInt8 := [180, 0, 22, 181, 0, 28, 42, 29, 42, 180, 0, 28, 182, 0, 29, 184, 0, 35, 188, 9, 181, 0, 41, 42]
abbrev dktX16_init_1 : List UInt8 := dkwX16_init_1 ++ dktX16_init_2
def dkwX16_init_0 : List UInt8 := [42, 43, 181, 0, 3, 42, 183, 0, 9, 42, 187, 0, 15, 89, 183, 0, 17, 181, 0, 18, 42, 44]
abbrev dktX16_init_0 : List UInt8 := dkwX16_init_0 ++ dktX16_init_1
theorem dksX16_init_0 : cX16_init.data.toList.drop 0 = dktX16_init_0 := by decide +kernel
theorem dksX16_init_1 : cX16_init.data.toList.drop 22 = dktX16_init_1 := dk_seg dksX16_init_0 22 rfl rfl
theorem dksX16_init_2 : cX16_init.data.toList.drop 46 = dktX16_init_2 := dk_seg dksX16_init_1 24 rfl rfl
theorem dksX16_init_3 : cX16_init.data.toList.drop 70 = dktX16_init_3 := dk_seg dksX16_init_2 24 rfl rfl
theorem dksX16_init_4 : cX16_init.data.toList.drop 94 = dktX16_init_4 := dk_seg dksX16_init_3 24 rfl rfl
theorem dX16_init_0 : decode cX16_init 0 = .ok (.aload_n 0, 1) := dk_42 (dk_at dksX16_init_0 0 rfl rfl)
theorem dX16_init_1 : decode cX16_init 1 = .ok (.aload_n 1, 1) := dk_43 (dk_at dksX16_init_0 1 rfl rfl)
theorem dX16_init_2 : decode cX16_init 2 = .ok (.putfield 3, 3) := dk_181 0 3 (dk_at dksX16_init_0 2 rfl rfl)
theorem dX16_init_5 : decode cX16_init 5 = .ok (.aload_n 0, 1) := dk_42 (dk_at dksX16_init_0 5 rfl rfl)
theorem dX16_init_6 : decode cX16_init 6 = .ok (.invokespecial 9, 3) := dk_183 0 9 (dk_at dksX16_init_0 6 rfl rfl)
theorem dX16_init_9 : decode cX16_init 9 = .ok (.aload_n 0, 1) := dk_42 (dk_at dksX16_init_0 9 rfl rfl)
theorem dX16_init_10 : decode cX16_init 10 = .ok (.new 15, 3) := dk_187 0 15 (dk_at dksX16_init_0 10 rfl rfl)
theorem dX16_init_13 : decode cX16_init 13 = .ok (.dup, 1) := dk_89 (dk_at dksX16_init_0 13 rfl rfl)
theorem dX16_init_14 : decode cX16_init 14 = .ok (.invokespecial 17, 3) := dk_183 0 17 (dk_at dksX16_init_0 14 rfl rfl)
theorem dX16_init_17 : decode cX16_init 17 = .ok (.putfield 18, 3) := dk_181 0 18 (dk_at dksX16_init_0 17 rfl rfl)
theorem dX16_init_20 : decode cX16_init 20 = .ok (.aload_n 0, 1) := dk_42 (dk_at dksX16_init_0 20 rfl rfl)
theorem dX16_init_21 : decode cX16_init 21 = .ok (.aload_n 2, 1) := dk_44 (dk_at dksX16_init_0 21 rfl rfl)
theorem dX16_init_22 : decode cX16_init 22 = .ok (.getfield 22, 3) := dk_180 0 22 (dk_at dksX16_init_1 0 rfl rfl)
theorem dX16_init_25 : decode cX16_init 25 = .ok (.putfield 28, 3) := dk_181 0 28 (dk_at dksX16_init_1 3 rfl rfl)
theorem dX16_init_28 : decode cX16_init 28 = .ok (.aload_n 0, 1) := dk_42 (dk_at dksX16_init_1 6 rfl rfl)
theorem dX16_init_29 : decode cX16_init 29 = .ok (.iload_n 3, 1) := dk_29 (dk_at dksX16_init_1 7 rfl rfl)
theorem dX16_init_30 : decode cX16_init 30 = .ok (.aload_n 0, 1) := dk_42 (dk_at dksX16_init_1 8 rfl rfl)
theorem dX16_init_31 : decode cX16_init 31 = .ok (.getfield 28, 3) := dk_180 0 28 (dk_at dksX16_init_1 9 rfl rfl)
theorem dX16_init_34 : decode cX16_init 34 = .ok (.invokevirtual 29, 3) := dk_182 0 29 (dk_at dksX16_init_1 12 rfl rfl)
theorem dX16_init_37 : decode cX16_init 37 = .ok (.invokestatic 35, 3) := dk_184 0 35 (dk_at dksX16_init_1 15 rfl rfl)
theorem dX16_init_40 : decode cX16_init 40 = .ok (.newarray .short, 2) := dk_188_9 (dk_at dksX16_init_1 18 rfl rfl)
theorem dX16_init_42 : decode cX16_init 42 = .ok (.putfield 41, 3) := dk_181 0 41 (dk_at dksX16_init_1 20 rfl rfl)
theorem dX16_init_45 : decode cX16_init 45 = .ok (.aload_n 0, 1) := dk_42 (dk_at dksX16_init_1 23 rfl rfl)
theorem dX16_init_46 : decode cX16_init 46 = .ok (.aload_n 0, 1) := dk_42 (dk_at dksX16_init_2 0 rfl rfl)
theorem dX16_init_47 : decode cX16_init 47 = .ok (.getfield 28, 3) := dk_180 0 28 (dk_at dksX16_init_2 1 rfl rfl)
theorem dX16_init_50 : decode cX16_init 50 = .ok (.invokevirtual 29, 3) := dk_182 0 29 (dk_at dksX16_init_2 4 rfl rfl)
theorem dX16_init_53 : decode cX16_init 53 = .ok (.aload_n 0, 1) := dk_42 (dk_at dksX16_init_2 7 rfl rfl)
theorem dX16_init_54 : decode cX16_init 54 = .ok (.getfield 41, 3) := dk_180 0 41 (dk_at dksX16_init_2 8 rfl rfl)
theorem dX16_init_57 : decode cX16_init 57 = .ok (.arraylength, 1) := dk_190 (dk_at dksX16_init_2 11 rfl rfl)
theorem dX16_init_58 : decode cX16_init 58 = .ok (.isub, 1) := dk_100 (dk_at dksX16_init_2 12 rfl rfl)
theorem dX16_init_59 : decode cX16_init 59 = .ok (.putfield 45, 3) := dk_181 0 45 (dk_at dksX16_init_2 13 rfl rfl)
theorem dX16_init_62 : decode cX16_init 62 = .ok (.aload_n 1, 1) := dk_43 (dk_at dksX16_init_2 16 rfl rfl)
theorem dX16_init_63 : decode cX16_init 63 = .ok (.getfield 49, 3) := dk_180 0 49 (dk_at dksX16_init_2 17 rfl rfl)
theorem dX16_init_66 : decode cX16_init 66 = .ok (.invokevirtual 53, 3) := dk_182 0 53 (dk_at dksX16_init_2 20 rfl rfl)
theorem dX16_init_69 : decode cX16_init 69 = .ok (.iconst 0, 1) := dk_3 (dk_at dksX16_init_2 23 rfl rfl)
theorem dX16_init_70 : decode cX16_init 70 = .ok (.istore 4, 2) := dk_54 4 (dk_at dksX16_init_3 0 rfl rfl)
theorem dX16_init_72 : decode cX16_init 72 = .ok (.iload 4, 2) := dk_21 4 (dk_at dksX16_init_3 2 rfl rfl)
theorem dX16_init_74 : decode cX16_init 74 = .ok (.aload_n 0, 1) := dk_42 (dk_at dksX16_init_3 4 rfl rfl)
theorem dX16_init_75 : decode cX16_init 75 = .ok (.getfield 45, 3) := dk_180 0 45 (dk_at dksX16_init_3 5 rfl rfl)
theorem dX16_init_78 : decode cX16_init 78 = .ok (.if_icmp .ge 28, 3) := dk_162 0 28 (dk_at dksX16_init_3 8 rfl rfl)
theorem dX16_init_81 : decode cX16_init 81 = .ok (.aload_n 1, 1) := dk_43 (dk_at dksX16_init_3 11 rfl rfl)
theorem dX16_init_82 : decode cX16_init 82 = .ok (.getfield 49, 3) := dk_180 0 49 (dk_at dksX16_init_3 12 rfl rfl)
theorem dX16_init_85 : decode cX16_init 85 = .ok (.aload_n 0, 1) := dk_42 (dk_at dksX16_init_3 15 rfl rfl)
theorem dX16_init_86 : decode cX16_init 86 = .ok (.getfield 28, 3) := dk_180 0 28 (dk_at dksX16_init_3 16 rfl rfl)
theorem dX16_init_89 : decode cX16_init 89 = .ok (.iload 4, 2) := dk_21 4 (dk_at dksX16_init_3 19 rfl rfl)
theorem dX16_init_91 : decode cX16_init 91 = .ok (.invokevirtual 58, 3) := dk_182 0 58 (dk_at dksX16_init_3 21 rfl rfl)
theorem dX16_init_94 : decode cX16_init 94 = .ok (.checkcast 62, 3) := dk_192 0 62 (dk_at dksX16_init_4 0 rfl rfl)
theorem dX16_init_97 : decode cX16_init 97 = .ok (.invokevirtual 64, 3) := dk_182 0 64 (dk_at dksX16_init_4 3 rfl rfl)
theorem dX16_init_100 : decode cX16_init 100 = .ok (.iinc 4 1, 3) := dk_132 4 1 (dk_at dksX16_init_4 6 rfl rfl)
theorem dX16_init_103 : decode cX16_init 103 = .ok (.goto (-31), 3) := dk_167 255 225 (dk_at dksX16_init_4 9 rfl rfl)
theorem dX16_init_106 : decode cX16_init 106 = .ok (.return_, 1) := dk_177 (dk_at dksX16_init_4 12 rfl rfl)
theorem q211 : (Jvm.Cond.fieldLinkNest "Plugboard$Orders" (22 : Nat) "Plugboard$Board" "known" "LPlugboard$Sequence;" "Plugboard") ∈ lw_tbl := lw_at lw_m1 141 rfl
theorem q246 : (Jvm.Cond.fieldLinkNest "Plugboard$Orders" (49 : Nat) "Plugboard" "ground" "LPlugboard$Fields;" "Plugboard") ∈ lw_tbl := lw_at lw_m1 176 rfl
theorem q1675 : (Jvm.Cond.methodLink "Plugboard$Orders" (9 : Nat) ({ cls := "java/lang/Object", name := "<init>", desc := "()V" } : Jvm.MethodName)) ∈ lw_all := lw_g (lw_at lw_m7 165 rfl) rfl
theorem q1676 : (Jvm.Cond.classLink "Plugboard$Orders" (15 : Nat) "java/util/ArrayList") ∈ lw_all := lw_g (lw_at lw_m7 166 rfl) rfl
theorem q1677 : (Jvm.Cond.methodLink "Plugboard$Orders" (17 : Nat) ({ cls := "java/util/ArrayList", name := "<init>", desc := "()V" } : Jvm.MethodName)) ∈ lw_all := lw_g (lw_at lw_m7 167 rfl) rfl
theorem q1678 : (Jvm.Cond.methodLink "Plugboard$Orders" (29 : Nat) ({ cls := "Plugboard$Sequence", name := "size", desc := "()I" } : Jvm.MethodName)) ∈ lw_all := lw_g (lw_at lw_m7 168 rfl) rfl
theorem q1679 : (Jvm.Cond.methodLink "Plugboard$Orders" (35 : Nat) ({ cls := "java/lang/Math", name := "min", desc := "(II)I" } : Jvm.MethodName)) ∈ lw_all := lw_g (lw_at lw_m7 169 rfl) rfl
theorem q1680 : (Jvm.Cond.methodLink "Plugboard$Orders" (53 : Nat) ({ cls := "Plugboard$Fields", name := "clear", desc := "()V" } : Jvm.MethodName)) ∈ lw_all := lw_g (lw_at lw_m7 170 rfl) rfl
theorem q1681 : (Jvm.Cond.methodLink "Plugboard$Orders" (58 : Nat) ({ cls := "Plugboard$Sequence", name := "at", desc := "(I)Ljava/lang/Object;" } : Jvm.MethodName)) ∈ lw_all := lw_g (lw_at lw_m7 171 rfl) rfl
theorem q1682 : (Jvm.Cond.classLink "Plugboard$Orders" (62 : Nat) "Plugboard$Operation") ∈ lw_all := lw_g (lw_at lw_m7 172 rfl) rfl
theorem q1683 : (Jvm.Cond.methodLink "Plugboard$Orders" (64 : Nat) ({ cls := "Plugboard$Fields", name := "write", desc := "(LPlugboard$Operation;)V" } : Jvm.MethodName)) ∈ lw_all := lw_g (lw_at lw_m7 173 rfl) rfl
theorem q1684 : (Jvm.Cond.fieldLink "Plugboard$Orders" (28 : Nat) "Plugboard$Orders" "known" "LPlugboard$Sequence;") ∈ lw_all := lw_g (lw_at lw_m7 174 rfl) rfl
theorem q1685 : (Jvm.Cond.fieldLink "Plugboard$Orders" (45 : Nat) "Plugboard$Orders" "first" "I") ∈ lw_all := lw_g (lw_at lw_m7 175 rfl) rfl
theorem q1686 : (Jvm.Cond.fieldLink "Plugboard$Orders" (41 : Nat) "Plugboard$Orders" "order" "[S") ∈ lw_all := lw_g (lw_at lw_m7 176 rfl) rfl
theorem q1687 : (Jvm.Cond.fieldLink "Plugboard$Orders" (18 : Nat) "Plugboard$Orders" "found" "Ljava/util/ArrayList;") ∈ lw_all := lw_g (lw_at lw_m7 177 rfl) rfl
theorem q1689 : (Jvm.Cond.fieldLink "Plugboard$Orders" (3 : Nat) "Plugboard$Orders" "this$0" "LPlugboard;") ∈ lw_all := lw_g (lw_at lw_m7 179 rfl) rfl
theorem q1701 : (Jvm.Cond.arrayClass Jvm.ClassFile.FieldType.short) ∈ lw_all := lw_g (lw_at lw_m7 191 rfl) rfl
abbrev rm_X16_init : Room := { frames := 4, cells := 2, slots := 11, locals := 85 }
def w_X16_init_72 (P : AH → Prop) (x0 : Option Nat) (x1 : Option Nat) (x4 : Int32) (h : AH) : Prop :=
  ∀ Z72 : Int32 → AH → Prop, (∀ x4 h, (
      g_i h x0 14 1 fun y75 =>
      ((y75 ≤ x4 →
        P h) ∧
       (¬ y75 ≤ x4 →
        g_q h x1 0 4 fun y82 =>
        g_q h x0 14 0 fun y86 =>
        is_c h y86 [3] (
        w_X4_at y86 x4 h (fun y91 h91 =>
        is_c h91 y91 [9] (
        is_c h91 y82 [1] (
        w_X2_write y82 y91 h91 (fun h97 =>
        Z72 (x4 + 1) h97))))))))
      → Z72 x4 h) → Z72 x4 h
def w_X16_init (a0 : Option Nat) (a1 : Option Nat) (a2 : Option Nat) (a3 : Int32) (h : AH) (P : AH → Prop) : Prop :=
  p_v h a0 14 4 (vR a1) fun h2 =>
  nn a0 (
  mk h2 (.inr (15, dvJ2)) fun q10 h10 =>
  w_J2_init (some q10) h10 (fun h14 =>
  p_v h14 a0 14 3 (vR (some q10)) fun h17 =>
  g_q h17 a2 2 2 fun y22 =>
  p_v h17 a0 14 0 (vR y22) fun h25 =>
  g_q h25 a0 14 0 fun y31 =>
  is_c h25 y31 [3] (
  w_X4_size y31 h25 (fun y34 h34 =>
  w_J14_min a3 y34 h34 (fun y37 h37 =>
  mk_i h37 3 y37 8 fun q40 h40 =>
  p_v h40 a0 14 2 (vR (some q40)) fun h42 =>
  g_q h42 a0 14 0 fun y47 =>
  is_c h42 y47 [3] (
  w_X4_size y47 h42 (fun y50 h50 =>
  g_q h50 a0 14 2 fun y54 =>
  n_a h50 y54 fun y57 =>
  p_v h50 a0 14 1 (vI (y50 - y57)) fun h59 =>
  g_q h59 a1 0 4 fun y63 =>
  is_c h59 y63 [1] (
  w_X2_clear y63 h59 (fun h66 =>
  w_X16_init_72 P a0 a1 0 h66)))))))))
theorem wk_X16_init_72 {x : CX} (X : Ok x cX16_init RX16 rm_X16_init 5) (er : xrt x = (Option.none : Option Jvm.ClassFile.FieldType)) (en : xnm x = yX16_init.name) {P : AH → Prop} (hQ : xr_v x P) (x0 : Option Nat) (x1 : Option Nat) (x4 : Int32) (h : AH) (hw : w_X16_init_72 P x0 x1 x4 h) : J x h 2 11 72 [(0, vR x0), (1, vR x1), (4, vI x4)] [] := by
  refine hw (fun x4 h => J x h 2 11 72 [(0, vR x0), (1, vR x1), (4, vI x4)] []) (fun x4 h hw => ?_)
  refine j_iload X (pc := 72) 2 dX16_init_72 rfl ?_
  refine j_aload_n X (pc := 74) 0 dX16_init_74 rfl rfl ?_
  refine j_geti (ci := 14) X (pc := 75) in_X16 rfl (by decide) 1 (by decide) q1685 (Or.inl rfl) dX16_init_75 hw (fun y75 hw => ?_)
  refine j_icmp_ge X (pc := 78) 106 dX16_init_78 (by decide) hw (fun hw => ?_) (fun hw => ?_)
  · exact j_vret X (pc := 106) hQ er (Nat.le_of_ble_eq_true rfl) (Nat.le_of_ble_eq_true rfl) dX16_init_106 hw
  · refine j_aload_n X (pc := 81) 1 dX16_init_81 rfl rfl ?_
    refine j_getqN (ci := 0) X (pc := 82) in_X1 rfl (by decide) 4 (by decide) q246 (Or.inl rfl) dX16_init_82 hw (fun y82 hw => ?_)
    refine j_aload_n X (pc := 85) 0 dX16_init_85 rfl rfl ?_
    refine j_getq (ci := 14) X (pc := 86) in_X16 rfl (by decide) 0 (by decide) q1684 (Or.inl rfl) dX16_init_86 hw (fun y86 hw => ?_)
    refine j_iload X (pc := 89) 2 dX16_init_89 rfl ?_
    obtain ⟨b9, c9, f9, hr9, ho9, hc9, hw⟩ := hw
    obtain rfl := List.mem_singleton.mp hc9
    refine j_callq (j_runV (n8 := 1) (As := [vI x4]) (rest := [vR y82]) X (pc := 91) hr9 (met_X4_at (xl x) X.hl (xG x) h y86 x4 _ hw) ho9 (by decide) rfl q1681 q762 q763 q77 q764 (by decide +kernel) dX16_init_91 rfl ⟨Nat.le_of_ble_eq_true rfl, Nat.le_of_ble_eq_true rfl⟩ (Nat.le_of_ble_eq_true rfl) ⟨Nat.le_of_ble_eq_true rfl, Nat.le_of_ble_eq_true rfl⟩) (fun y91 h91 hw => ?_)
    refine j_chk X (pc := 94) (L := [9]) q1682 (by intro ci hci; obtain rfl := List.mem_singleton.mp hci; exact ⟨by decide, _, _, _, rfl, Or.inl rfl⟩) dX16_init_94 hw (fun hw => ?_)
    obtain ⟨b9, c9, f9, hr9, ho9, hc9, hw⟩ := hw
    obtain rfl := List.mem_singleton.mp hc9
    refine j_callv (j_runV (n8 := 1) (As := [vR y91]) (rest := []) X (pc := 97) hr9 (met_X2_write (xl x) X.hl (xG x) h91 y82 y91 _ hw) ho9 (by decide) rfl q1683 q1061 q1062 q75 q1063 (by decide +kernel) dX16_init_97 rfl ⟨Nat.le_of_ble_eq_true rfl, Nat.le_of_ble_eq_true rfl⟩ (Nat.le_of_ble_eq_true rfl) ⟨Nat.le_of_ble_eq_true rfl, Nat.le_of_ble_eq_true rfl⟩) (fun h97 hw => ?_)
    refine j_iinc X (pc := 100) 2 (x4 + 1) [(4, vI (x4 + 1)), (0, vR x0), (1, vR x1)] dX16_init_100 rfl rfl (Nat.le_of_ble_eq_true rfl) rfl ?_
    refine j_goto X (pc := 103) 72 dX16_init_103 (by decide) ?_
    refine j_lv [(0, vR x0), (1, vR x1), (4, vI (x4 + 1))] [1, 2, 0] rfl ?_
    refine j_cs (u' := 2) (v' := 11) (Nat.le_of_ble_eq_true rfl) (Nat.le_of_ble_eq_true rfl) ?_
    exact hw
theorem met_X16_init (l : Launch) (hlt : l.stackTraces = false) (G : GG) (h : AH) (a0 : Option Nat) (a1 : Option Nat) (a2 : Option Nat) (a3 : Int32) (P : AH → Prop) (hw : w_X16_init a0 a1 a2 a3 h P) : ct_v l yX16_init (ws_ yX16_init cX16_init 5 (Option.none : Option Jvm.ClassFile.FieldType)) rm_X16_init G h [vR a0, vR a1, vR a2, vI a3] P := by
  refine j_startv hlt [(0, vR a0), (1, vR a1), (2, vR a2), (3, vI a3)] (plainFor_of_name (by decide)) rfl rfl (fun x X eG er en hQ => ?_)
  subst eG
  refine j_aload_n X (pc := 0) 0 dX16_init_0 rfl rfl ?_
  refine j_aload_n X (pc := 1) 1 dX16_init_1 rfl rfl ?_
  refine j_putF (ci := 14) X (pc := 2) in_X16 rfl (by decide) 4 (by decide) q1689 (Or.inl rfl) tyX16 tyX16_ok nmX16 rfl en rfl rfl (ty := (.object "Plugboard")) (tyX16_ok 4 (by decide)) (rt_nar _ rfl _) (rt_fit _ rfl _) dX16_init_2 hw (fun h2 hw => ?_)
  refine j_aload_n X (pc := 5) 0 dX16_init_5 rfl rfl ?_
  obtain ⟨b9, hr9, hw⟩ := hw
  refine j_obj X (pc := 6) hr9 q1675 q125 q126 dX16_init_6 ⟨Nat.le_of_ble_eq_true rfl, Nat.le_of_ble_eq_true rfl⟩ ?_
  refine j_aload_n X (pc := 9) 0 dX16_init_9 rfl rfl ?_
  refine j_new (ci := 15) X (pc := 10) in_J2 rfl (by decide) tyJ2 tyJ2_ok q1676 q128 q74 (fs := dvJ2) dfJ2 (Nat.le_of_ble_eq_true rfl) (Nat.le_of_ble_eq_true rfl) dX16_init_10 hw (fun q10 h10 hw => ?_)
  refine j_dup X (pc := 13) dX16_init_13 rfl ?_
  refine j_callv (j_runI (n8 := 0) (As := []) (rest := [vR (some q10), vR a0]) X (pc := 14) rfl (met_J2_init (xl x) X.hl (xG x) h10 (some q10) _ hw) q1677 q130 q74 q131 (by decide +kernel) dX16_init_14 rfl ⟨Nat.le_of_ble_eq_true rfl, Nat.le_of_ble_eq_true rfl⟩ (Nat.le_of_ble_eq_true rfl) ⟨Nat.le_of_ble_eq_true rfl, Nat.le_of_ble_eq_true rfl⟩) (fun h14 hw => ?_)
  refine j_putF (ci := 14) X (pc := 17) in_X16 rfl (by decide) 3 (by decide) q1687 (Or.inl rfl) tyX16 tyX16_ok nmX16 rfl en rfl rfl (ty := (.object "java/util/ArrayList")) (tyX16_ok 3 (by decide)) (rt_nar _ rfl _) (rt_fit _ rfl _) dX16_init_17 hw (fun h17 hw => ?_)
  refine j_aload_n X (pc := 20) 0 dX16_init_20 rfl rfl ?_
  refine j_aload_n X (pc := 21) 2 dX16_init_21 rfl rfl ?_
  refine j_getqN (ci := 2) X (pc := 22) in_X3 rfl (by decide) 2 (by decide) q211 (Or.inl rfl) dX16_init_22 hw (fun y22 hw => ?_)
  refine j_putF (ci := 14) X (pc := 25) in_X16 rfl (by decide) 0 (by decide) q1684 (Or.inl rfl) tyX16 tyX16_ok nmX16 rfl en rfl rfl (ty := (.object "Plugboard$Sequence")) (tyX16_ok 0 (by decide)) (rt_nar _ rfl _) (rt_fit _ rfl _) dX16_init_25 hw (fun h25 hw => ?_)
  refine j_aload_n X (pc := 28) 0 dX16_init_28 rfl rfl ?_
  refine j_iload_n X (pc := 29) 3 dX16_init_29 rfl rfl ?_
  refine j_aload_n X (pc := 30) 0 dX16_init_30 rfl rfl ?_
  refine j_getq (ci := 14) X (pc := 31) in_X16 rfl (by decide) 0 (by decide) q1684 (Or.inl rfl) dX16_init_31 hw (fun y31 hw => ?_)
  obtain ⟨b9, c9, f9, hr9, ho9, hc9, hw⟩ := hw
  obtain rfl := List.mem_singleton.mp hc9
  refine j_calli (j_runV (n8 := 0) (As := []) (rest := [vI a3, vR a0]) X (pc := 34) hr9 (met_X4_size (xl x) X.hl (xG x) h25 y31 _ hw) ho9 (by decide) rfl q1678 q757 q758 q77 q759 (by decide +kernel) dX16_init_34 rfl ⟨Nat.le_of_ble_eq_true rfl, Nat.le_of_ble_eq_true rfl⟩ (Nat.le_of_ble_eq_true rfl) ⟨Nat.le_of_ble_eq_true rfl, Nat.le_of_ble_eq_true rfl⟩) (fun y34 h34 hw => ?_)
  refine j_calli (j_runS (n8 := 2) (As := [vI a3, vI y34]) (rest := [vR a0]) X (pc := 37) (met_J14_min (xl x) X.hl (xG x) h34 a3 y34 _ hw) q1679 q670 q92 q671 (by decide +kernel) dX16_init_37 rfl ⟨Nat.le_of_ble_eq_true rfl, Nat.le_of_ble_eq_true rfl⟩ (Nat.le_of_ble_eq_true rfl) ⟨Nat.le_of_ble_eq_true rfl, Nat.le_of_ble_eq_true rfl⟩) (fun y37 h37 hw => ?_)
  refine j_newS X (pc := 40) 8 dX16_init_40 q1701 (by decide) (Nat.le_of_ble_eq_true rfl) (Nat.le_of_ble_eq_true rfl) hw (fun q40 h40 hw => ?_)
  refine j_putF (ci := 14) X (pc := 42) in_X16 rfl (by decide) 2 (by decide) q1686 (Or.inl rfl) tyX16 tyX16_ok nmX16 rfl en rfl rfl (ty := (.array .short)) (tyX16_ok 2 (by decide)) (rt_nar _ rfl _) (rt_fit _ rfl _) dX16_init_42 hw (fun h42 hw => ?_)
  refine j_aload_n X (pc := 45) 0 dX16_init_45 rfl rfl ?_
  refine j_aload_n X (pc := 46) 0 dX16_init_46 rfl rfl ?_
  refine j_getq (ci := 14) X (pc := 47) in_X16 rfl (by decide) 0 (by decide) q1684 (Or.inl rfl) dX16_init_47 hw (fun y47 hw => ?_)
  obtain ⟨b9, c9, f9, hr9, ho9, hc9, hw⟩ := hw
  obtain rfl := List.mem_singleton.mp hc9
  refine j_calli (j_runV (n8 := 0) (As := []) (rest := [vR a0]) X (pc := 50) hr9 (met_X4_size (xl x) X.hl (xG x) h42 y47 _ hw) ho9 (by decide) rfl q1678 q757 q758 q77 q759 (by decide +kernel) dX16_init_50 rfl ⟨Nat.le_of_ble_eq_true rfl, Nat.le_of_ble_eq_true rfl⟩ (Nat.le_of_ble_eq_true rfl) ⟨Nat.le_of_ble_eq_true rfl, Nat.le_of_ble_eq_true rfl⟩) (fun y50 h50 hw => ?_)
  refine j_aload_n X (pc := 53) 0 dX16_init_53 rfl rfl ?_
  refine j_getq (ci := 14) X (pc := 54) in_X16 rfl (by decide) 2 (by decide) q1686 (Or.inl rfl) dX16_init_54 hw (fun y54 hw => ?_)
  refine j_alen X (pc := 57) dX16_init_57 hw (fun y57 hw => ?_)
  refine j_isub X (pc := 58) dX16_init_58 ?_
  refine j_putF (ci := 14) X (pc := 59) in_X16 rfl (by decide) 1 (by decide) q1685 (Or.inl rfl) tyX16 tyX16_ok nmX16 rfl en rfl rfl (ty := .int) (tyX16_ok 1 (by decide)) rfl rfl dX16_init_59 hw (fun h59 hw => ?_)
  refine j_aload_n X (pc := 62) 1 dX16_init_62 rfl rfl ?_
  refine j_getqN (ci := 0) X (pc := 63) in_X1 rfl (by decide) 4 (by decide) q246 (Or.inl rfl) dX16_init_63 hw (fun y63 hw => ?_)
  obtain ⟨b9, c9, f9, hr9, ho9, hc9, hw⟩ := hw
  obtain rfl := List.mem_singleton.mp hc9
  refine j_callv (j_runV (n8 := 0) (As := []) (rest := []) X (pc := 66) hr9 (met_X2_clear (xl x) X.hl (xG x) h59 y63 _ hw) ho9 (by decide) rfl q1680 q203 q204 q75 q205 (by decide +kernel) dX16_init_66 rfl ⟨Nat.le_of_ble_eq_true rfl, Nat.le_of_ble_eq_true rfl⟩ (Nat.le_of_ble_eq_true rfl) ⟨Nat.le_of_ble_eq_true rfl, Nat.le_of_ble_eq_true rfl⟩) (fun h66 hw => ?_)
  refine j_iconst X (pc := 69) 0 dX16_init_69 (by decide) ?_
  refine j_istore X (pc := 70) [(4, vI 0), (0, vR a0), (1, vR a1), (2, vR a2), (3, vI a3)] dX16_init_70 (Nat.le_of_ble_eq_true rfl) rfl ?_
  refine j_lv [(0, vR a0), (1, vR a1), (4, vI 0)] [1, 2, 0] rfl ?_
  refine j_cs (u' := 2) (v' := 11) (Nat.le_of_ble_eq_true rfl) (Nat.le_of_ble_eq_true rfl) ?_
  exact wk_X16_init_72 X er en hQ a0 a1 0 h66 hw
abbrev cJ12_init : ByteArray := prog_39_method_1_code
def yJ12_init : MethodName := ⟨RJ12, "<init>", "()V"⟩
theorem dJ12_init_0 : decode cJ12_init 0 = .ok (.aload_n 0, 1) := by decide +kernel
theorem dJ12_init_1 : decode cJ12_init 1 = .ok (.invokespecial 1, 3) := by decide +kernel
theorem dJ12_init_4 : decode cJ12_init 4 = .ok (.return_, 1) := by decide +kernel
theorem q1731 : (Jvm.Cond.methodLink "java/lang/Number" (1 : Nat) ({ cls := "java/lang/Object", name := "<init>", desc := "()V" } : Jvm.MethodName)) ∈ lw_all := lw_g (lw_at lw_m7 221 rfl) rfl
abbrev rm_J12_init : Room := { frames := 1, cells := 0, slots := 0, locals := 12 }
def w_J12_init (a0 : Option Nat) (h : AH) (P : AH → Prop) : Prop :=
  nn a0 (
  P h)
theorem met_J12_init (l : Launch) (hlt : l.stackTraces = false) (G : GG) (h : AH) (a0 : Option Nat) (P : AH → Prop) (hw : w_J12_init a0 h P) : ct_v l yJ12_init (ws_ yJ12_init cJ12_init 1 (Option.none : Option Jvm.ClassFile.FieldType)) rm_J12_init G h [vR a0] P := by
  refine j_startv hlt [(0, vR a0)] (plainFor_of_name (by decide)) rfl rfl (fun x X eG er en hQ => ?_)
  subst eG
  refine j_aload_n X (pc := 0) 0 dJ12_init_0 rfl rfl ?_
  obtain ⟨b9, hr9, hw⟩ := hw
  refine j_obj X (pc := 1) hr9 q1731 q125 q126 dJ12_init_1 ⟨Nat.le_of_ble_eq_true rfl, Nat.le_of_ble_eq_true rfl⟩ ?_
  exact j_vret X (pc := 4) hQ er (Nat.le_of_ble_eq_true rfl) (Nat.le_of_ble_eq_true rfl) dJ12_init_4 hw
abbrev cJ23_init : ByteArray := prog_35_method_23_code
def yJ23_init : MethodName := ⟨RJ23, "<init>", "(I)V"⟩
def dkwJ23_init_0 : List UInt8 := [42, 183, 0, 202, 42, 27, 181, 0, 205, 177]
abbrev dktJ23_init_0 : List UInt8 := dkwJ23_init_0 ++ []
theorem dksJ23_init_0 : cJ23_init.data.toList.drop 0 = dktJ23_init_0 := by decide +kernel
theorem dJ23_init_0 : decode cJ23_init 0 = .ok (.aload_n 0, 1) := dk_42 (dk_at dksJ23_init_0 0 rfl rfl)
theorem dJ23_init_1 : decode cJ23_init 1 = .ok (.invokespecial 202, 3) := dk_183 0 202 (dk_at dksJ23_init_0 1 rfl rfl)
theorem dJ23_init_4 : decode cJ23_init 4 = .ok (.aload_n 0, 1) := dk_42 (dk_at dksJ23_init_0 4 rfl rfl)
theorem dJ23_init_5 : decode cJ23_init 5 = .ok (.iload_n 1, 1) := dk_27 (dk_at dksJ23_init_0 5 rfl rfl)
theorem dJ23_init_6 : decode cJ23_init 6 = .ok (.putfield 205, 3) := dk_181 0 205 (dk_at dksJ23_init_0 6 rfl rfl)
theorem dJ23_init_9 : decode cJ23_init 9 = .ok (.return_, 1) := dk_177 (dk_at dksJ23_init_0 9 rfl rfl)
theorem q90 : (Jvm.Cond.initialized "java/lang/Number") ∈ lw_all := lw_g (lw_at lw_m1 20 rfl) rfl
theorem q1728 : (Jvm.Cond.methodLink "java/lang/Integer" (202 : Nat) ({ cls := "java/lang/Number", name := "<init>", desc := "()V" } : Jvm.MethodName)) ∈ lw_all := lw_g (lw_at lw_m7 218 rfl) rfl
theorem q1729 : (Jvm.Cond.instanceMethod ({ cls := "java/lang/Number", name := "<init>", desc := "()V" } : Jvm.MethodName)) ∈ lw_all := lw_g (lw_at lw_m7 219 rfl) rfl
theorem q1730 : (Jvm.Cond.code ({ cls := "java/lang/Number", name := "<init>", desc := "()V" } : Jvm.MethodName) prog_39_method_1_code (1 : Nat) (Option.none : Option Jvm.ClassFile.FieldType)) ∈ lw_all := lw_g (lw_at lw_m7 220 rfl) rfl
theorem q1732 : (Jvm.Cond.fieldLink "java/lang/Integer" (205 : Nat) "java/lang/Integer" "value" "I") ∈ lw_all := lw_g (lw_at lw_m7 222 rfl) rfl
abbrev rm_J23_init : Room := { frames := 2, cells := 0, slots := 0, locals := 32 }
def w_J23_init (a0 : Option Nat) (a1 : Int32) (h : AH) (P : AH → Prop) : Prop :=
  nn a0 (
  w_J12_init a0 h (fun h1 =>
  p_v h1 a0 16 0 (vI a1) fun h6 =>
  P h6))
theorem met_J23_init (l : Launch) (hlt : l.stackTraces = false) (G : GG) (h : AH) (a0 : Option Nat) (a1 : Int32) (P : AH → Prop) (hw : w_J23_init a0 a1 h P) : ct_v l yJ23_init (ws_ yJ23_init cJ23_init 2 (Option.none : Option Jvm.ClassFile.FieldType)) rm_J23_init G h [vR a0, vI a1] P := by
  refine j_startv hlt [(0, vR a0), (1, vI a1)] (plainFor_of_name (by decide)) rfl rfl (fun x X eG er en hQ => ?_)
  subst eG
  refine j_aload_n X (pc := 0) 0 dJ23_init_0 rfl rfl ?_
  obtain ⟨b9, hr9, hw⟩ := hw
  refine j_callv (j_runI (n8 := 0) (As := []) (rest := []) X (pc := 1) hr9 (met_J12_init (xl x) X.hl (xG x) h a0 _ hw) q1728 q1729 q90 q1730 (by decide +kernel) dJ23_init_1 rfl ⟨Nat.le_of_ble_eq_true rfl, Nat.le_of_ble_eq_true rfl⟩ (Nat.le_of_ble_eq_true rfl) ⟨Nat.le_of_ble_eq_true rfl, Nat.le_of_ble_eq_true rfl⟩) (fun h1 hw => ?_)
  refine j_aload_n X (pc := 4) 0 dJ23_init_4 rfl rfl ?_
  refine j_iload_n X (pc := 5) 1 dJ23_init_5 rfl rfl ?_
  refine j_putF (ci := 16) X (pc := 6) in_J23 rfl (by decide) 0 (by decide) q1732 (Or.inl rfl) tyJ23 tyJ23_ok nmJ23 rfl en rfl rfl (ty := .int) (tyJ23_ok 0 (by decide)) rfl rfl dJ23_init_6 hw (fun h6 hw => ?_)
  exact j_vret X (pc := 9) hQ er (Nat.le_of_ble_eq_true rfl) (Nat.le_of_ble_eq_true rfl) dJ23_init_9 hw
abbrev cJ23_valueOf : ByteArray := prog_35_method_22_code
def yJ23_valueOf : MethodName := ⟨RJ23, "valueOf", "(I)Ljava/lang/Integer;"⟩
def dkwJ23_valueOf_1 : List UInt8 := [187, 0, 1, 89, 26, 183, 0, 199, 176]
abbrev dktJ23_valueOf_1 : List UInt8 := dkwJ23_valueOf_1 ++ []
def dkwJ23_valueOf_0 : List UInt8 := [26, 16, 128, 161, 0, 20, 26, 178, 0, 191, 163, 0, 13, 178, 0, 195, 26, 17, 0, 128, 96, 50, 176]
abbrev dktJ23_valueOf_0 : List UInt8 := dkwJ23_valueOf_0 ++ dktJ23_valueOf_1
theorem dksJ23_valueOf_0 : cJ23_valueOf.data.toList.drop 0 = dktJ23_valueOf_0 := by decide +kernel
theorem dksJ23_valueOf_1 : cJ23_valueOf.data.toList.drop 23 = dktJ23_valueOf_1 := dk_seg dksJ23_valueOf_0 23 rfl rfl
theorem dJ23_valueOf_0 : decode cJ23_valueOf 0 = .ok (.iload_n 0, 1) := dk_26 (dk_at dksJ23_valueOf_0 0 rfl rfl)
theorem dJ23_valueOf_1 : decode cJ23_valueOf 1 = .ok (.bipush (-128), 2) := dk_16 128 (dk_at dksJ23_valueOf_0 1 rfl rfl)
theorem dJ23_valueOf_3 : decode cJ23_valueOf 3 = .ok (.if_icmp .lt 20, 3) := dk_161 0 20 (dk_at dksJ23_valueOf_0 3 rfl rfl)
theorem dJ23_valueOf_6 : decode cJ23_valueOf 6 = .ok (.iload_n 0, 1) := dk_26 (dk_at dksJ23_valueOf_0 6 rfl rfl)
theorem dJ23_valueOf_7 : decode cJ23_valueOf 7 = .ok (.getstatic 191, 3) := dk_178 0 191 (dk_at dksJ23_valueOf_0 7 rfl rfl)
theorem dJ23_valueOf_10 : decode cJ23_valueOf 10 = .ok (.if_icmp .gt 13, 3) := dk_163 0 13 (dk_at dksJ23_valueOf_0 10 rfl rfl)
theorem dJ23_valueOf_13 : decode cJ23_valueOf 13 = .ok (.getstatic 195, 3) := dk_178 0 195 (dk_at dksJ23_valueOf_0 13 rfl rfl)
theorem dJ23_valueOf_16 : decode cJ23_valueOf 16 = .ok (.iload_n 0, 1) := dk_26 (dk_at dksJ23_valueOf_0 16 rfl rfl)
theorem dJ23_valueOf_17 : decode cJ23_valueOf 17 = .ok (.sipush 128, 3) := dk_17 0 128 (dk_at dksJ23_valueOf_0 17 rfl rfl)
theorem dJ23_valueOf_20 : decode cJ23_valueOf 20 = .ok (.iadd, 1) := dk_96 (dk_at dksJ23_valueOf_0 20 rfl rfl)
theorem dJ23_valueOf_21 : decode cJ23_valueOf 21 = .ok (.aaload, 1) := dk_50 (dk_at dksJ23_valueOf_0 21 rfl rfl)
theorem dJ23_valueOf_22 : decode cJ23_valueOf 22 = .ok (.areturn, 1) := dk_176 (dk_at dksJ23_valueOf_0 22 rfl rfl)
theorem dJ23_valueOf_23 : decode cJ23_valueOf 23 = .ok (.new 1, 3) := dk_187 0 1 (dk_at dksJ23_valueOf_1 0 rfl rfl)
theorem dJ23_valueOf_26 : decode cJ23_valueOf 26 = .ok (.dup, 1) := dk_89 (dk_at dksJ23_valueOf_1 3 rfl rfl)
theorem dJ23_valueOf_27 : decode cJ23_valueOf 27 = .ok (.iload_n 0, 1) := dk_26 (dk_at dksJ23_valueOf_1 4 rfl rfl)
theorem dJ23_valueOf_28 : decode cJ23_valueOf 28 = .ok (.invokespecial 199, 3) := dk_183 0 199 (dk_at dksJ23_valueOf_1 5 rfl rfl)
theorem dJ23_valueOf_31 : decode cJ23_valueOf 31 = .ok (.areturn, 1) := dk_176 (dk_at dksJ23_valueOf_1 8 rfl rfl)
theorem q108 : (Jvm.Cond.initialized "java/lang/Integer") ∈ lw_all := lw_g (lw_at lw_m1 38 rfl) rfl
theorem q1719 : (Jvm.Cond.fieldLink "java/lang/Integer" (191 : Nat) "java/lang/Integer$IntegerCache" "high" "I") ∈ lw_all := lw_g (lw_at lw_m7 209 rfl) rfl
theorem q1721 : (Jvm.Cond.fieldLink "java/lang/Integer" (195 : Nat) "java/lang/Integer$IntegerCache" "cache" "[Ljava/lang/Integer;") ∈ lw_all := lw_g (lw_at lw_m7 211 rfl) rfl
theorem q1723 : (Jvm.Cond.classLink "java/lang/Integer" (1 : Nat) "java/lang/Integer") ∈ lw_all := lw_g (lw_at lw_m7 213 rfl) rfl
theorem q1724 : (Jvm.Cond.instantiable "java/lang/Integer" (1 : Nat)) ∈ lw_all := lw_g (lw_at lw_m7 214 rfl) rfl
theorem q1725 : (Jvm.Cond.methodLink "java/lang/Integer" (199 : Nat) ({ cls := "java/lang/Integer", name := "<init>", desc := "(I)V" } : Jvm.MethodName)) ∈ lw_all := lw_g (lw_at lw_m7 215 rfl) rfl
theorem q1726 : (Jvm.Cond.instanceMethod ({ cls := "java/lang/Integer", name := "<init>", desc := "(I)V" } : Jvm.MethodName)) ∈ lw_all := lw_g (lw_at lw_m7 216 rfl) rfl
theorem q1727 : (Jvm.Cond.code ({ cls := "java/lang/Integer", name := "<init>", desc := "(I)V" } : Jvm.MethodName) prog_35_method_23_code (2 : Nat) (Option.none : Option Jvm.ClassFile.FieldType)) ∈ lw_all := lw_g (lw_at lw_m7 217 rfl) rfl
abbrev rm_J23_valueOf : Room := { frames := 3, cells := 1, slots := 1, locals := 53 }
def w_J23_valueOf (a0 : Int32) (h : AH) (P : Option Nat → AH → Prop) : Prop :=
  ((a0 < (-128) →
    mk h (.inr (16, dvJ23)) fun q23 h23 =>
    w_J23_init (some q23) a0 h23 (fun h28 =>
    P (some q23) h28)) ∧
   (¬ a0 < (-128) →
    ((127 < a0 →
      mk h (.inr (16, dvJ23)) fun q23 h23 =>
      w_J23_init (some q23) a0 h23 (fun h28 =>
      P (some q23) h28)) ∧
     (¬ 127 < a0 →
      l_q h (some (h.2 1)) (a0 + 128) fun y21 =>
      P y21 h))))
theorem met_J23_valueOf (l : Launch) (hlt : l.stackTraces = false) (G : GG) (h : AH) (a0 : Int32) (P : Option Nat → AH → Prop) (hw : w_J23_valueOf a0 h P) : ct_q l yJ23_valueOf (ws_ yJ23_valueOf cJ23_valueOf 1 (Option.some (Jvm.ClassFile.FieldType.object "java/lang/Integer"))) rm_J23_valueOf G h [vI a0] P := by
  refine j_startq hlt [(0, vI a0)] (plainFor_of_name (by decide)) rfl rfl (fun x X eG er en hQ => ?_)
  subst eG
  refine j_iload_n X (pc := 0) 0 dJ23_valueOf_0 rfl rfl ?_
  refine j_bipush X (pc := 1) (-128) dJ23_valueOf_1 (by decide) ?_
  refine j_icmp_lt X (pc := 3) 23 dJ23_valueOf_3 (by decide) hw (fun hw => ?_) (fun hw => ?_)
  · refine j_new (ci := 16) X (pc := 23) in_J23 rfl (by decide) tyJ23 tyJ23_ok q1723 q1724 q108 (fs := dvJ23) dfJ23 (Nat.le_of_ble_eq_true rfl) (Nat.le_of_ble_eq_true rfl) dJ23_valueOf_23 hw (fun q23 h23 hw => ?_)
    refine j_dup X (pc := 26) dJ23_valueOf_26 rfl ?_
    refine j_iload_n X (pc := 27) 0 dJ23_valueOf_27 rfl rfl ?_
    refine j_callv (j_runI (n8 := 1) (As := [vI a0]) (rest := [vR (some q23)]) X (pc := 28) rfl (met_J23_init (xl x) X.hl (xG x) h23 (some q23) a0 _ hw) q1725 q1726 q108 q1727 (by decide +kernel) dJ23_valueOf_28 rfl ⟨Nat.le_of_ble_eq_true rfl, Nat.le_of_ble_eq_true rfl⟩ (Nat.le_of_ble_eq_true rfl) ⟨Nat.le_of_ble_eq_true rfl, Nat.le_of_ble_eq_true rfl⟩) (fun h28 hw => ?_)
    exact j_aret X (pc := 31) (ty := (.object "java/lang/Integer")) hQ er (Or.inl ⟨_, rfl⟩) (Nat.le_of_ble_eq_true rfl) (Nat.le_of_ble_eq_true rfl) dJ23_valueOf_31 hw
  · refine j_iload_n X (pc := 6) 0 dJ23_valueOf_6 rfl rfl ?_
    refine j_gsHigh X (pc := 7) q1719 dJ23_valueOf_7 ?_
    refine j_icmp_gt X (pc := 10) 23 dJ23_valueOf_10 (by decide) hw (fun hw => ?_) (fun hw => ?_)
    · refine j_new (ci := 16) X (pc := 23) in_J23 rfl (by decide) tyJ23 tyJ23_ok q1723 q1724 q108 (fs := dvJ23) dfJ23 (Nat.le_of_ble_eq_true rfl) (Nat.le_of_ble_eq_true rfl) dJ23_valueOf_23 hw (fun q23 h23 hw => ?_)
      refine j_dup X (pc := 26) dJ23_valueOf_26 rfl ?_
      refine j_iload_n X (pc := 27) 0 dJ23_valueOf_27 rfl rfl ?_
      refine j_callv (j_runI (n8 := 1) (As := [vI a0]) (rest := [vR (some q23)]) X (pc := 28) rfl (met_J23_init (xl x) X.hl (xG x) h23 (some q23) a0 _ hw) q1725 q1726 q108 q1727 (by decide +kernel) dJ23_valueOf_28 rfl ⟨Nat.le_of_ble_eq_true rfl, Nat.le_of_ble_eq_true rfl⟩ (Nat.le_of_ble_eq_true rfl) ⟨Nat.le_of_ble_eq_true rfl, Nat.le_of_ble_eq_true rfl⟩) (fun h28 hw => ?_)
      exact j_aret X (pc := 31) (ty := (.object "java/lang/Integer")) hQ er (Or.inl ⟨_, rfl⟩) (Nat.le_of_ble_eq_true rfl) (Nat.le_of_ble_eq_true rfl) dJ23_valueOf_31 hw
    · refine j_gsCache X (pc := 13) q1721 dJ23_valueOf_13 ?_
      refine j_iload_n X (pc := 16) 0 dJ23_valueOf_16 rfl rfl ?_
      refine j_sipush X (pc := 17) 128 dJ23_valueOf_17 (by decide) ?_
      refine j_iadd X (pc := 20) dJ23_valueOf_20 ?_
      refine j_aald X (pc := 21) dJ23_valueOf_21 hw (fun y21 hw => ?_)
      exact j_aret X (pc := 22) (ty := (.object "java/lang/Integer")) hQ er (Or.inl ⟨_, rfl⟩) (Nat.le_of_ble_eq_true rfl) (Nat.le_of_ble_eq_true rfl) dJ23_valueOf_22 hw
abbrev cJ23_intValue : ByteArray := prog_35_method_27_code
def yJ23_intValue : MethodName := ⟨RJ23, "intValue", "()I"⟩
theorem dJ23_intValue_0 : decode cJ23_intValue 0 = .ok (.aload_n 0, 1) := by decide +kernel
theorem dJ23_intValue_1 : decode cJ23_intValue 1 = .ok (.getfield 205, 3) := by decide +kernel
theorem dJ23_intValue_4 : decode cJ23_intValue 4 = .ok (.ireturn, 1) := by decide +kernel
abbrev rm_J23_intValue : Room := { frames := 0, cells := 0, slots := 0, locals := 0 }
def w_J23_intValue (a0 : Option Nat) (h : AH) (P : Int32 → AH → Prop) : Prop :=
  g_iN h a0 0 fun y1 =>
  P y1 h
theorem met_J23_intValue (l : Launch) (hlt : l.stackTraces = false) (G : GG) (h : AH) (a0 : Option Nat) (P : Int32 → AH → Prop) (hw : w_J23_intValue a0 h P) : ct_i l yJ23_intValue (ws_ yJ23_intValue cJ23_intValue 1 (Option.some Jvm.ClassFile.FieldType.int)) rm_J23_intValue G h [vR a0] P := by
  refine j_starti hlt [(0, vR a0)] (plainFor_of_name (by decide)) rfl rfl (fun x X eG er en hQ => ?_)
  subst eG
  refine j_aload_n X (pc := 0) 0 dJ23_intValue_0 rfl rfl ?_
  refine j_getiN0 X (pc := 1) q1732 dJ23_intValue_1 hw (fun y1 hw => ?_)
  exact j_iret X (pc := 4) hQ er (Nat.le_of_ble_eq_true rfl) (Nat.le_of_ble_eq_true rfl) dJ23_intValue_4 hw
abbrev cJ23_equals : ByteArray := prog_35_method_34_code
def yJ23_equals : MethodName := ⟨RJ23, "equals", "(Ljava/lang/Object;)Z"⟩
def dkwJ23_equals_1 : List UInt8 := [167, 0, 4, 3, 172, 3, 172]
abbrev dktJ23_equals_1 : List UInt8 := dkwJ23_equals_1 ++ []
def dkwJ23_equals_0 : List UInt8 := [43, 193, 0, 1, 153, 0, 23, 42, 180, 0, 205, 43, 192, 0, 1, 182, 0, 211, 160, 0, 7, 4]
abbrev dktJ23_equals_0 : List UInt8 := dkwJ23_equals_0 ++ dktJ23_equals_1
theorem dksJ23_equals_0 : cJ23_equals.data.toList.drop 0 = dktJ23_equals_0 := by decide +kernel
theorem dksJ23_equals_1 : cJ23_equals.data.toList.drop 22 = dktJ23_equals_1 := dk_seg dksJ23_equals_0 22 rfl rfl
theorem dJ23_equals_0 : decode cJ23_equals 0 = .ok (.aload_n 1, 1) := dk_43 (dk_at dksJ23_equals_0 0 rfl rfl)
theorem dJ23_equals_1 : decode cJ23_equals 1 = .ok (.instanceof 1, 3) := dk_193 0 1 (dk_at dksJ23_equals_0 1 rfl rfl)
theorem dJ23_equals_4 : decode cJ23_equals 4 = .ok (.ifCond .eq 23, 3) := dk_153 0 23 (dk_at dksJ23_equals_0 4 rfl rfl)
theorem dJ23_equals_7 : decode cJ23_equals 7 = .ok (.aload_n 0, 1) := dk_42 (dk_at dksJ23_equals_0 7 rfl rfl)
theorem dJ23_equals_8 : decode cJ23_equals 8 = .ok (.getfield 205, 3) := dk_180 0 205 (dk_at dksJ23_equals_0 8 rfl rfl)
theorem dJ23_equals_11 : decode cJ23_equals 11 = .ok (.aload_n 1, 1) := dk_43 (dk_at dksJ23_equals_0 11 rfl rfl)
theorem dJ23_equals_12 : decode cJ23_equals 12 = .ok (.checkcast 1, 3) := dk_192 0 1 (dk_at dksJ23_equals_0 12 rfl rfl)
theorem dJ23_equals_15 : decode cJ23_equals 15 = .ok (.invokevirtual 211, 3) := dk_182 0 211 (dk_at dksJ23_equals_0 15 rfl rfl)
theorem dJ23_equals_18 : decode cJ23_equals 18 = .ok (.if_icmp .ne 7, 3) := dk_160 0 7 (dk_at dksJ23_equals_0 18 rfl rfl)
theorem dJ23_equals_21 : decode cJ23_equals 21 = .ok (.iconst 1, 1) := dk_4 (dk_at dksJ23_equals_0 21 rfl rfl)
theorem dJ23_equals_22 : decode cJ23_equals 22 = .ok (.goto 4, 3) := dk_167 0 4 (dk_at dksJ23_equals_1 0 rfl rfl)
theorem dJ23_equals_25 : decode cJ23_equals 25 = .ok (.iconst 0, 1) := dk_3 (dk_at dksJ23_equals_1 3 rfl rfl)
theorem dJ23_equals_26 : decode cJ23_equals 26 = .ok (.ireturn, 1) := dk_172 (dk_at dksJ23_equals_1 4 rfl rfl)
theorem dJ23_equals_27 : decode cJ23_equals 27 = .ok (.iconst 0, 1) := dk_3 (dk_at dksJ23_equals_1 5 rfl rfl)
theorem dJ23_equals_28 : decode cJ23_equals 28 = .ok (.ireturn, 1) := dk_172 (dk_at dksJ23_equals_1 6 rfl rfl)
theorem q1767 : (Jvm.Cond.methodLink "java/lang/Integer" (211 : Nat) ({ cls := "java/lang/Integer", name := "intValue", desc := "()I" } : Jvm.MethodName)) ∈ lw_all := lw_g (lw_at lw_m8 17 rfl) rfl
theorem q1768 : (Jvm.Cond.instanceMethod ({ cls := "java/lang/Integer", name := "intValue", desc := "()I" } : Jvm.MethodName)) ∈ lw_all := lw_g (lw_at lw_m8 18 rfl) rfl
theorem q1769 : (Jvm.Cond.selects "java/lang/Integer" ({ cls := "java/lang/Integer", name := "intValue", desc := "()I" } : Jvm.MethodName) ({ cls := "java/lang/Integer", name := "intValue", desc := "()I" } : Jvm.MethodName)) ∈ lw_all := lw_g (lw_at lw_m8 19 rfl) rfl
theorem q1770 : (Jvm.Cond.code ({ cls := "java/lang/Integer", name := "intValue", desc := "()I" } : Jvm.MethodName) prog_35_method_27_code (1 : Nat) (Option.some Jvm.ClassFile.FieldType.int)) ∈ lw_all := lw_g (lw_at lw_m8 20 rfl) rfl
abbrev rm_J23_equals : Room := { frames := 1, cells := 0, slots := 0, locals := 20 }
def w_J23_equals (a0 : Option Nat) (a1 : Option Nat) (h : AH) (P : Int32 → AH → Prop) : Prop :=
  is_c h a1 [16, 17] (
  (((1 : Int32) = 0 →
    P 0 h) ∧
   (¬ (1 : Int32) = 0 →
    g_iN h a0 0 fun y8 =>
    is_c h a1 [16, 17] (
    is_c h a1 [16, 17] (
    w_J23_intValue a1 h (fun y15 h15 =>
    ((y8 = y15 →
      P 1 h15) ∧
     (¬ y8 = y15 →
      P 0 h15))))))))
theorem met_J23_equals (l : Launch) (hlt : l.stackTraces = false) (G : GG) (h : AH) (a0 : Option Nat) (a1 : Option Nat) (P : Int32 → AH → Prop) (hw : w_J23_equals a0 a1 h P) : ct_i l yJ23_equals (ws_ yJ23_equals cJ23_equals 2 (Option.some Jvm.ClassFile.FieldType.boolean)) rm_J23_equals G h [vR a0, vR a1] P := by
  refine j_starti hlt [(0, vR a0), (1, vR a1)] (plainFor_of_name (by decide)) rfl rfl (fun x X eG er en hQ => ?_)
  subst eG
  refine j_aload_n X (pc := 0) 1 dJ23_equals_0 rfl rfl ?_
  refine j_instI X (pc := 1) q1723 dJ23_equals_1 hw (fun hw => ?_)
  refine j_if_eq X (pc := 4) 27 dJ23_equals_4 (by decide) hw (fun hw => ?_) (fun hw => ?_)
  · refine j_iconst X (pc := 27) 0 dJ23_equals_27 (by decide) ?_
    exact j_zret X (pc := 28) (ty := .boolean) hQ er rfl (Nat.le_of_ble_eq_true rfl) (Nat.le_of_ble_eq_true rfl) dJ23_equals_28 hw
  · refine j_aload_n X (pc := 7) 0 dJ23_equals_7 rfl rfl ?_
    refine j_getiN0 X (pc := 8) q1732 dJ23_equals_8 hw (fun y8 hw => ?_)
    refine j_aload_n X (pc := 11) 1 dJ23_equals_11 rfl rfl ?_
    refine j_chk X (pc := 12) (L := [16, 17]) q1723 (by intro ci hci; simp only [List.mem_cons, List.not_mem_nil, or_false] at hci; rcases hci with rfl | rfl <;> first | exact ⟨by decide, _, _, _, rfl, Or.inl rfl⟩ | exact ⟨by decide, _, _, _, rfl, Or.inl rfl⟩) dJ23_equals_12 hw (fun hw => ?_)
    obtain ⟨b9, c9, f9, hr9, ho9, hc9, hw⟩ := hw
    simp only [List.mem_cons, List.not_mem_nil, or_false] at hc9
    refine j_calli (j_runV (n8 := 0) (As := []) (rest := [vI y8]) X (pc := 15) hr9 (met_J23_intValue (xl x) X.hl (xG x) h a1 _ hw) ho9 (by rcases hc9 with rfl | rfl <;> decide) (C := "java/lang/Integer") (T := TJ23) (N := 1) (by rcases hc9 with rfl | rfl <;> rfl) q1767 q1768 q1769 q108 q1770 (by decide +kernel) dJ23_equals_15 rfl ⟨Nat.le_of_ble_eq_true rfl, Nat.le_of_ble_eq_true rfl⟩ (Nat.le_of_ble_eq_true rfl) ⟨Nat.le_of_ble_eq_true rfl, Nat.le_of_ble_eq_true rfl⟩) (fun y15 h15 hw => ?_)
    refine j_icmp_ne X (pc := 18) 25 dJ23_equals_18 (by decide) hw (fun hw => ?_) (fun hw => ?_)
    · refine j_iconst X (pc := 21) 1 dJ23_equals_21 (by decide) ?_
      refine j_goto X (pc := 22) 26 dJ23_equals_22 (by decide) ?_
      exact j_zret X (pc := 26) (ty := .boolean) hQ er rfl (Nat.le_of_ble_eq_true rfl) (Nat.le_of_ble_eq_true rfl) dJ23_equals_26 hw
    · refine j_iconst X (pc := 25) 0 dJ23_equals_25 (by decide) ?_
      exact j_zret X (pc := 26) (ty := .boolean) hQ er rfl (Nat.le_of_ble_eq_true rfl) (Nat.le_of_ble_eq_true rfl) dJ23_equals_26 hw
abbrev cJ2_indexOfRange : ByteArray := prog_54_method_12_code
def yJ2_indexOfRange : MethodName := ⟨RJ2, "indexOfRange", "(Ljava/lang/Object;II)I"⟩
def dkwJ2_indexOfRange_2 : List UInt8 := [43, 25, 4, 21, 5, 50, 182, 0, 93, 153, 0, 6, 21, 5, 172, 132, 5, 1, 167, 255, 232, 2, 172]
abbrev dktJ2_indexOfRange_2 : List UInt8 := dkwJ2_indexOfRange_2 ++ []
def dkwJ2_indexOfRange_1 : List UInt8 := [199, 0, 6, 21, 5, 172, 132, 5, 1, 167, 255, 236, 167, 0, 33, 28, 54, 5, 21, 5, 29, 162, 0, 24]
abbrev dktJ2_indexOfRange_1 : List UInt8 := dkwJ2_indexOfRange_1 ++ dktJ2_indexOfRange_2
def dkwJ2_indexOfRange_0 : List UInt8 := [42, 180, 0, 9, 58, 4, 43, 199, 0, 32, 28, 54, 5, 21, 5, 29, 162, 0, 20, 25, 4, 21, 5, 50]
abbrev dktJ2_indexOfRange_0 : List UInt8 := dkwJ2_indexOfRange_0 ++ dktJ2_indexOfRange_1
theorem dksJ2_indexOfRange_0 : cJ2_indexOfRange.data.toList.drop 0 = dktJ2_indexOfRange_0 := by decide +kernel
theorem dksJ2_indexOfRange_1 : cJ2_indexOfRange.data.toList.drop 24 = dktJ2_indexOfRange_1 := dk_seg dksJ2_indexOfRange_0 24 rfl rfl
theorem dksJ2_indexOfRange_2 : cJ2_indexOfRange.data.toList.drop 48 = dktJ2_indexOfRange_2 := dk_seg dksJ2_indexOfRange_1 24 rfl rfl
theorem dJ2_indexOfRange_0 : decode cJ2_indexOfRange 0 = .ok (.aload_n 0, 1) := dk_42 (dk_at dksJ2_indexOfRange_0 0 rfl rfl)
theorem dJ2_indexOfRange_1 : decode cJ2_indexOfRange 1 = .ok (.getfield 9, 3) := dk_180 0 9 (dk_at dksJ2_indexOfRange_0 1 rfl rfl)
theorem dJ2_indexOfRange_4 : decode cJ2_indexOfRange 4 = .ok (.astore 4, 2) := dk_58 4 (dk_at dksJ2_indexOfRange_0 4 rfl rfl)
theorem dJ2_indexOfRange_6 : decode cJ2_indexOfRange 6 = .ok (.aload_n 1, 1) := dk_43 (dk_at dksJ2_indexOfRange_0 6 rfl rfl)
theorem dJ2_indexOfRange_7 : decode cJ2_indexOfRange 7 = .ok (.ifnonnull 32, 3) := dk_199 0 32 (dk_at dksJ2_indexOfRange_0 7 rfl rfl)
theorem dJ2_indexOfRange_10 : decode cJ2_indexOfRange 10 = .ok (.iload_n 2, 1) := dk_28 (dk_at dksJ2_indexOfRange_0 10 rfl rfl)
theorem dJ2_indexOfRange_11 : decode cJ2_indexOfRange 11 = .ok (.istore 5, 2) := dk_54 5 (dk_at dksJ2_indexOfRange_0 11 rfl rfl)
theorem dJ2_indexOfRange_13 : decode cJ2_indexOfRange 13 = .ok (.iload 5, 2) := dk_21 5 (dk_at dksJ2_indexOfRange_0 13 rfl rfl)
theorem dJ2_indexOfRange_15 : decode cJ2_indexOfRange 15 = .ok (.iload_n 3, 1) := dk_29 (dk_at dksJ2_indexOfRange_0 15 rfl rfl)
theorem dJ2_indexOfRange_16 : decode cJ2_indexOfRange 16 = .ok (.if_icmp .ge 20, 3) := dk_162 0 20 (dk_at dksJ2_indexOfRange_0 16 rfl rfl)
theorem dJ2_indexOfRange_19 : decode cJ2_indexOfRange 19 = .ok (.aload 4, 2) := dk_25 4 (dk_at dksJ2_indexOfRange_0 19 rfl rfl)
theorem dJ2_indexOfRange_21 : decode cJ2_indexOfRange 21 = .ok (.iload 5, 2) := dk_21 5 (dk_at dksJ2_indexOfRange_0 21 rfl rfl)
theorem dJ2_indexOfRange_23 : decode cJ2_indexOfRange 23 = .ok (.aaload, 1) := dk_50 (dk_at dksJ2_indexOfRange_0 23 rfl rfl)
theorem dJ2_indexOfRange_24 : decode cJ2_indexOfRange 24 = .ok (.ifnonnull 6, 3) := dk_199 0 6 (dk_at dksJ2_indexOfRange_1 0 rfl rfl)
theorem dJ2_indexOfRange_27 : decode cJ2_indexOfRange 27 = .ok (.iload 5, 2) := dk_21 5 (dk_at dksJ2_indexOfRange_1 3 rfl rfl)
theorem dJ2_indexOfRange_29 : decode cJ2_indexOfRange 29 = .ok (.ireturn, 1) := dk_172 (dk_at dksJ2_indexOfRange_1 5 rfl rfl)
theorem dJ2_indexOfRange_30 : decode cJ2_indexOfRange 30 = .ok (.iinc 5 1, 3) := dk_132 5 1 (dk_at dksJ2_indexOfRange_1 6 rfl rfl)
theorem dJ2_indexOfRange_33 : decode cJ2_indexOfRange 33 = .ok (.goto (-20), 3) := dk_167 255 236 (dk_at dksJ2_indexOfRange_1 9 rfl rfl)
theorem dJ2_indexOfRange_36 : decode cJ2_indexOfRange 36 = .ok (.goto 33, 3) := dk_167 0 33 (dk_at dksJ2_indexOfRange_1 12 rfl rfl)
theorem dJ2_indexOfRange_39 : decode cJ2_indexOfRange 39 = .ok (.iload_n 2, 1) := dk_28 (dk_at dksJ2_indexOfRange_1 15 rfl rfl)
theorem dJ2_indexOfRange_40 : decode cJ2_indexOfRange 40 = .ok (.istore 5, 2) := dk_54 5 (dk_at dksJ2_indexOfRange_1 16 rfl rfl)
theorem dJ2_indexOfRange_42 : decode cJ2_indexOfRange 42 = .ok (.iload 5, 2) := dk_21 5 (dk_at dksJ2_indexOfRange_1 18 rfl rfl)
theorem dJ2_indexOfRange_44 : decode cJ2_indexOfRange 44 = .ok (.iload_n 3, 1) := dk_29 (dk_at dksJ2_indexOfRange_1 20 rfl rfl)
theorem dJ2_indexOfRange_45 : decode cJ2_indexOfRange 45 = .ok (.if_icmp .ge 24, 3) := dk_162 0 24 (dk_at dksJ2_indexOfRange_1 21 rfl rfl)
theorem dJ2_indexOfRange_48 : decode cJ2_indexOfRange 48 = .ok (.aload_n 1, 1) := dk_43 (dk_at dksJ2_indexOfRange_2 0 rfl rfl)
theorem dJ2_indexOfRange_49 : decode cJ2_indexOfRange 49 = .ok (.aload 4, 2) := dk_25 4 (dk_at dksJ2_indexOfRange_2 1 rfl rfl)
theorem dJ2_indexOfRange_51 : decode cJ2_indexOfRange 51 = .ok (.iload 5, 2) := dk_21 5 (dk_at dksJ2_indexOfRange_2 3 rfl rfl)
theorem dJ2_indexOfRange_53 : decode cJ2_indexOfRange 53 = .ok (.aaload, 1) := dk_50 (dk_at dksJ2_indexOfRange_2 5 rfl rfl)
theorem dJ2_indexOfRange_54 : decode cJ2_indexOfRange 54 = .ok (.invokevirtual 93, 3) := dk_182 0 93 (dk_at dksJ2_indexOfRange_2 6 rfl rfl)
theorem dJ2_indexOfRange_57 : decode cJ2_indexOfRange 57 = .ok (.ifCond .eq 6, 3) := dk_153 0 6 (dk_at dksJ2_indexOfRange_2 9 rfl rfl)
theorem dJ2_indexOfRange_60 : decode cJ2_indexOfRange 60 = .ok (.iload 5, 2) := dk_21 5 (dk_at dksJ2_indexOfRange_2 12 rfl rfl)
theorem dJ2_indexOfRange_62 : decode cJ2_indexOfRange 62 = .ok (.ireturn, 1) := dk_172 (dk_at dksJ2_indexOfRange_2 14 rfl rfl)
theorem dJ2_indexOfRange_63 : decode cJ2_indexOfRange 63 = .ok (.iinc 5 1, 3) := dk_132 5 1 (dk_at dksJ2_indexOfRange_2 15 rfl rfl)
theorem dJ2_indexOfRange_66 : decode cJ2_indexOfRange 66 = .ok (.goto (-24), 3) := dk_167 255 232 (dk_at dksJ2_indexOfRange_2 18 rfl rfl)
theorem dJ2_indexOfRange_69 : decode cJ2_indexOfRange 69 = .ok (.iconst (-1), 1) := dk_2 (dk_at dksJ2_indexOfRange_2 21 rfl rfl)
theorem dJ2_indexOfRange_70 : decode cJ2_indexOfRange 70 = .ok (.ireturn, 1) := dk_172 (dk_at dksJ2_indexOfRange_2 22 rfl rfl)
theorem q1748 : (Jvm.Cond.declares ({ cls := "java/lang/Object", name := "equals", desc := "(Ljava/lang/Object;)Z" } : Jvm.MethodName)) ∈ lw_tbl := lw_at lw_m7 238 rfl
theorem q1749 : (Jvm.Cond.methodLink "java/util/ArrayList" (93 : Nat) ({ cls := "java/lang/Object", name := "equals", desc := "(Ljava/lang/Object;)Z" } : Jvm.MethodName)) ∈ lw_all := lw_g (lw_at lw_m7 239 rfl) rfl
theorem q1751 : (Jvm.Cond.sameMethod "java/lang/Object" "java/lang/Object" "equals" "(Ljava/lang/Object;)Z") ∈ lw_all := lw_g (lw_at lw_m8 1 rfl) rfl
theorem q1765 : (Jvm.Cond.instanceMethod ({ cls := "java/lang/Integer", name := "equals", desc := "(Ljava/lang/Object;)Z" } : Jvm.MethodName)) ∈ lw_all := lw_g (lw_at lw_m8 15 rfl) rfl
theorem q1766 : (Jvm.Cond.code ({ cls := "java/lang/Integer", name := "equals", desc := "(Ljava/lang/Object;)Z" } : Jvm.MethodName) prog_35_method_34_code (2 : Nat) (Option.some Jvm.ClassFile.FieldType.boolean)) ∈ lw_all := lw_g (lw_at lw_m8 16 rfl) rfl
theorem q1792 : (Jvm.Cond.selects "java/lang/Integer" ({ cls := "java/lang/Object", name := "equals", desc := "(Ljava/lang/Object;)Z" } : Jvm.MethodName) ({ cls := "java/lang/Integer", name := "equals", desc := "(Ljava/lang/Object;)Z" } : Jvm.MethodName)) ∈ lw_all := lw_g (lw_at lw_m8 42 rfl) rfl
abbrev rm_J2_indexOfRange : Room := { frames := 2, cells := 0, slots := 0, locals := 41 }
def w_J2_indexOfRange_13 (P : Int32 → AH → Prop) (x3 : Int32) (x4 : Option Nat) (x5 : Int32) (h : AH) : Prop :=
  ∀ Z13 : Int32 → Prop, (∀ x5, (
      ((x3 ≤ x5 →
        P (-1) h) ∧
       (¬ x3 ≤ x5 →
        l_q h x4 x5 fun y23 =>
        ((y23 = (none : Option Nat) →
          P x5 h) ∧
         (¬ y23 = (none : Option Nat) →
          Z13 (x5 + 1))))))
      → Z13 x5) → Z13 x5
def w_J2_indexOfRange_42 (P : Int32 → AH → Prop) (x1 : Option Nat) (x3 : Int32) (x4 : Option Nat) (x5 : Int32) (h : AH) : Prop :=
  ∀ Z42 : Int32 → AH → Prop, (∀ x5 h, (
      ((x3 ≤ x5 →
        P (-1) h) ∧
       (¬ x3 ≤ x5 →
        l_q h x4 x5 fun y53 =>
        is_c h x1 [16, 17] (
        w_J23_equals x1 y53 h (fun y54 h54 =>
        ((y54 = 0 →
          Z42 (x5 + 1) h54) ∧
         (¬ y54 = 0 →
          P x5 h54)))))))
      → Z42 x5 h) → Z42 x5 h
def w_J2_indexOfRange (a0 : Option Nat) (a1 : Option Nat) (a2 : Int32) (a3 : Int32) (h : AH) (P : Int32 → AH → Prop) : Prop :=
  g_q h a0 15 1 fun y1 =>
  ((a1 = (none : Option Nat) →
    w_J2_indexOfRange_13 P a3 y1 a2 h) ∧
   (¬ a1 = (none : Option Nat) →
    w_J2_indexOfRange_42 P a1 a3 y1 a2 h))
theorem wk_J2_indexOfRange_13 {x : CX} (X : Ok x cJ2_indexOfRange RJ2 rm_J2_indexOfRange 6) (er : xrt x = (Option.some Jvm.ClassFile.FieldType.int)) (en : xnm x = yJ2_indexOfRange.name) {P : Int32 → AH → Prop} (hQ : xr_i x P) (x3 : Int32) (x4 : Option Nat) (x5 : Int32) (h : AH) (hw : w_J2_indexOfRange_13 P x3 x4 x5 h) : J x h 0 0 13 [(3, vI x3), (4, vR x4), (5, vI x5)] [] := by
  refine hw (fun x5 => J x h 0 0 13 [(3, vI x3), (4, vR x4), (5, vI x5)] []) (fun x5 hw => ?_)
  refine j_iload X (pc := 13) 2 dJ2_indexOfRange_13 rfl ?_
  refine j_iload_n X (pc := 15) 0 dJ2_indexOfRange_15 rfl rfl ?_
  refine j_icmp_ge X (pc := 16) 36 dJ2_indexOfRange_16 (by decide) hw (fun hw => ?_) (fun hw => ?_)
  · refine j_goto X (pc := 36) 69 dJ2_indexOfRange_36 (by decide) ?_
    refine j_iconst X (pc := 69) (-1) dJ2_indexOfRange_69 (by decide) ?_
    exact j_iret X (pc := 70) hQ er (Nat.le_of_ble_eq_true rfl) (Nat.le_of_ble_eq_true rfl) dJ2_indexOfRange_70 hw
  · refine j_aload X (pc := 19) 1 dJ2_indexOfRange_19 rfl ?_
    refine j_iload X (pc := 21) 2 dJ2_indexOfRange_21 rfl ?_
    refine j_aald X (pc := 23) dJ2_indexOfRange_23 hw (fun y23 hw => ?_)
    refine j_ifnonnull X (pc := 24) 30 dJ2_indexOfRange_24 (by decide) hw (fun hw => ?_) (fun hw => ?_)
    · refine j_iload X (pc := 27) 2 dJ2_indexOfRange_27 rfl ?_
      exact j_iret X (pc := 29) hQ er (Nat.le_of_ble_eq_true rfl) (Nat.le_of_ble_eq_true rfl) dJ2_indexOfRange_29 hw
    · refine j_iinc X (pc := 30) 2 (x5 + 1) [(5, vI (x5 + 1)), (3, vI x3), (4, vR x4)] dJ2_indexOfRange_30 rfl rfl (Nat.le_of_ble_eq_true rfl) rfl ?_
      refine j_goto X (pc := 33) 13 dJ2_indexOfRange_33 (by decide) ?_
      refine j_lv [(3, vI x3), (4, vR x4), (5, vI (x5 + 1))] [1, 2, 0] rfl ?_
      refine j_cs (u' := 0) (v' := 0) (Nat.le_of_ble_eq_true rfl) (Nat.le_of_ble_eq_true rfl) ?_
      exact hw
theorem wk_J2_indexOfRange_42 {x : CX} (X : Ok x cJ2_indexOfRange RJ2 rm_J2_indexOfRange 6) (er : xrt x = (Option.some Jvm.ClassFile.FieldType.int)) (en : xnm x = yJ2_indexOfRange.name) {P : Int32 → AH → Prop} (hQ : xr_i x P) (x1 : Option Nat) (x3 : Int32) (x4 : Option Nat) (x5 : Int32) (h : AH) (hw : w_J2_indexOfRange_42 P x1 x3 x4 x5 h) : J x h 0 0 42 [(1, vR x1), (3, vI x3), (4, vR x4), (5, vI x5)] [] := by
  refine hw (fun x5 h => J x h 0 0 42 [(1, vR x1), (3, vI x3), (4, vR x4), (5, vI x5)] []) (fun x5 h hw => ?_)
  refine j_iload X (pc := 42) 3 dJ2_indexOfRange_42 rfl ?_
  refine j_iload_n X (pc := 44) 1 dJ2_indexOfRange_44 rfl rfl ?_
  refine j_icmp_ge X (pc := 45) 69 dJ2_indexOfRange_45 (by decide) hw (fun hw => ?_) (fun hw => ?_)
  · refine j_iconst X (pc := 69) (-1) dJ2_indexOfRange_69 (by decide) ?_
    exact j_iret X (pc := 70) hQ er (Nat.le_of_ble_eq_true rfl) (Nat.le_of_ble_eq_true rfl) dJ2_indexOfRange_70 hw
  · refine j_aload_n X (pc := 48) 0 dJ2_indexOfRange_48 rfl rfl ?_
    refine j_aload X (pc := 49) 2 dJ2_indexOfRange_49 rfl ?_
    refine j_iload X (pc := 51) 3 dJ2_indexOfRange_51 rfl ?_
    refine j_aald X (pc := 53) dJ2_indexOfRange_53 hw (fun y53 hw => ?_)
    obtain ⟨b9, c9, f9, hr9, ho9, hc9, hw⟩ := hw
    simp only [List.mem_cons, List.not_mem_nil, or_false] at hc9
    refine j_calli (j_runA (n8 := 1) (As := [vR y53]) (rest := []) X (pc := 54) hr9 (met_J23_equals (xl x) X.hl (xG x) h x1 y53 _ hw) ho9 (by rcases hc9 with rfl | rfl <;> decide) (C := "java/lang/Integer") (T := TJ23) (N := 1) (by rcases hc9 with rfl | rfl <;> rfl) q1749 q1751 q1792 q1765 q108 q1766 q1748 (by decide +kernel) dJ2_indexOfRange_54 rfl ⟨Nat.le_of_ble_eq_true rfl, Nat.le_of_ble_eq_true rfl⟩ (Nat.le_of_ble_eq_true rfl) ⟨Nat.le_of_ble_eq_true rfl, Nat.le_of_ble_eq_true rfl⟩) (fun y54 h54 hw => ?_)
    refine j_if_eq X (pc := 57) 63 dJ2_indexOfRange_57 (by decide) hw (fun hw => ?_) (fun hw => ?_)
    · refine j_iinc X (pc := 63) 3 (x5 + 1) [(5, vI (x5 + 1)), (1, vR x1), (3, vI x3), (4, vR x4)] dJ2_indexOfRange_63 rfl rfl (Nat.le_of_ble_eq_true rfl) rfl ?_
      refine j_goto X (pc := 66) 42 dJ2_indexOfRange_66 (by decide) ?_
      refine j_lv [(1, vR x1), (3, vI x3), (4, vR x4), (5, vI (x5 + 1))] [1, 2, 3, 0] rfl ?_
      refine j_cs (u' := 0) (v' := 0) (Nat.le_of_ble_eq_true rfl) (Nat.le_of_ble_eq_true rfl) ?_
      exact hw
    · refine j_iload X (pc := 60) 3 dJ2_indexOfRange_60 rfl ?_
      exact j_iret X (pc := 62) hQ er (Nat.le_of_ble_eq_true rfl) (Nat.le_of_ble_eq_true rfl) dJ2_indexOfRange_62 hw
theorem met_J2_indexOfRange (l : Launch) (hlt : l.stackTraces = false) (G : GG) (h : AH) (a0 : Option Nat) (a1 : Option Nat) (a2 : Int32) (a3 : Int32) (P : Int32 → AH → Prop) (hw : w_J2_indexOfRange a0 a1 a2 a3 h P) : ct_i l yJ2_indexOfRange (ws_ yJ2_indexOfRange cJ2_indexOfRange 6 (Option.some Jvm.ClassFile.FieldType.int)) rm_J2_indexOfRange G h [vR a0, vR a1, vI a2, vI a3] P := by
  refine j_starti hlt [(0, vR a0), (1, vR a1), (2, vI a2), (3, vI a3)] (plainFor_of_name (by decide)) rfl rfl (fun x X eG er en hQ => ?_)
  subst eG
  refine j_aload_n X (pc := 0) 0 dJ2_indexOfRange_0 rfl rfl ?_
  refine j_getq (ci := 15) X (pc := 1) in_J2 rfl (by decide) 1 (by decide) q141 (Or.inl rfl) dJ2_indexOfRange_1 hw (fun y1 hw => ?_)
  refine j_astore X (pc := 4) [(4, vR y1), (0, vR a0), (1, vR a1), (2, vI a2), (3, vI a3)] dJ2_indexOfRange_4 (Nat.le_of_ble_eq_true rfl) rfl ?_
  refine j_aload_n X (pc := 6) 2 dJ2_indexOfRange_6 rfl rfl ?_
  refine j_ifnonnull X (pc := 7) 39 dJ2_indexOfRange_7 (by decide) hw (fun hw => ?_) (fun hw => ?_)
  · refine j_iload_n X (pc := 10) 3 dJ2_indexOfRange_10 rfl rfl ?_
    refine j_istore X (pc := 11) [(5, vI a2), (4, vR y1), (0, vR a0), (1, vR a1), (2, vI a2), (3, vI a3)] dJ2_indexOfRange_11 (Nat.le_of_ble_eq_true rfl) rfl ?_
    refine j_lv [(3, vI a3), (4, vR y1), (5, vI a2)] [5, 1, 0] rfl ?_
    refine j_cs (u' := 0) (v' := 0) (Nat.le_of_ble_eq_true rfl) (Nat.le_of_ble_eq_true rfl) ?_
    exact wk_J2_indexOfRange_13 X er en hQ a3 y1 a2 h hw
  · refine j_iload_n X (pc := 39) 3 dJ2_indexOfRange_39 rfl rfl ?_
    refine j_istore X (pc := 40) [(5, vI a2), (4, vR y1), (0, vR a0), (1, vR a1), (2, vI a2), (3, vI a3)] dJ2_indexOfRange_40 (Nat.le_of_ble_eq_true rfl) rfl ?_
    refine j_lv [(1, vR a1), (3, vI a3), (4, vR y1), (5, vI a2)] [3, 5, 1, 0] rfl ?_
    refine j_cs (u' := 0) (v' := 0) (Nat.le_of_ble_eq_true rfl) (Nat.le_of_ble_eq_true rfl) ?_
    exact wk_J2_indexOfRange_42 X er en hQ a1 a3 y1 a2 h hw
abbrev cJ2_indexOf : ByteArray := prog_54_method_11_code
def yJ2_indexOf : MethodName := ⟨RJ2, "indexOf", "(Ljava/lang/Object;)I"⟩
def dkwJ2_indexOf_0 : List UInt8 := [42, 43, 3, 42, 180, 0, 48, 182, 0, 89, 172]
abbrev dktJ2_indexOf_0 : List UInt8 := dkwJ2_indexOf_0 ++ []
theorem dksJ2_indexOf_0 : cJ2_indexOf.data.toList.drop 0 = dktJ2_indexOf_0 := by decide +kernel
theorem dJ2_indexOf_0 : decode cJ2_indexOf 0 = .ok (.aload_n 0, 1) := dk_42 (dk_at dksJ2_indexOf_0 0 rfl rfl)
theorem dJ2_indexOf_1 : decode cJ2_indexOf 1 = .ok (.aload_n 1, 1) := dk_43 (dk_at dksJ2_indexOf_0 1 rfl rfl)
theorem dJ2_indexOf_2 : decode cJ2_indexOf 2 = .ok (.iconst 0, 1) := dk_3 (dk_at dksJ2_indexOf_0 2 rfl rfl)
theorem dJ2_indexOf_3 : decode cJ2_indexOf 3 = .ok (.aload_n 0, 1) := dk_42 (dk_at dksJ2_indexOf_0 3 rfl rfl)
theorem dJ2_indexOf_4 : decode cJ2_indexOf 4 = .ok (.getfield 48, 3) := dk_180 0 48 (dk_at dksJ2_indexOf_0 4 rfl rfl)
theorem dJ2_indexOf_7 : decode cJ2_indexOf 7 = .ok (.invokevirtual 89, 3) := dk_182 0 89 (dk_at dksJ2_indexOf_0 7 rfl rfl)
theorem dJ2_indexOf_10 : decode cJ2_indexOf 10 = .ok (.ireturn, 1) := dk_172 (dk_at dksJ2_indexOf_0 10 rfl rfl)
theorem q1744 : (Jvm.Cond.methodLink "java/util/ArrayList" (89 : Nat) ({ cls := "java/util/ArrayList", name := "indexOfRange", desc := "(Ljava/lang/Object;II)I" } : Jvm.MethodName)) ∈ lw_all := lw_g (lw_at lw_m7 234 rfl) rfl
theorem q1745 : (Jvm.Cond.instanceMethod ({ cls := "java/util/ArrayList", name := "indexOfRange", desc := "(Ljava/lang/Object;II)I" } : Jvm.MethodName)) ∈ lw_all := lw_g (lw_at lw_m7 235 rfl) rfl
theorem q1746 : (Jvm.Cond.selects "java/util/ArrayList" ({ cls := "java/util/ArrayList", name := "indexOfRange", desc := "(Ljava/lang/Object;II)I" } : Jvm.MethodName) ({ cls := "java/util/ArrayList", name := "indexOfRange", desc := "(Ljava/lang/Object;II)I" } : Jvm.MethodName)) ∈ lw_all := lw_g (lw_at lw_m7 236 rfl) rfl
theorem q1747 : (Jvm.Cond.code ({ cls := "java/util/ArrayList", name := "indexOfRange", desc := "(Ljava/lang/Object;II)I" } : Jvm.MethodName) prog_54_method_12_code (6 : Nat) (Option.some Jvm.ClassFile.FieldType.int)) ∈ lw_all := lw_g (lw_at lw_m7 237 rfl) rfl
abbrev rm_J2_indexOf : Room := { frames := 3, cells := 0, slots := 0, locals := 66 }
def w_J2_indexOf (a0 : Option Nat) (a1 : Option Nat) (h : AH) (P : Int32 → AH → Prop) : Prop :=
  g_i h a0 15 2 fun y4 =>
  is_c h a0 [15] (
  w_J2_indexOfRange a0 a1 0 y4 h (fun y7 h7 =>
  P y7 h7))
theorem met_J2_indexOf (l : Launch) (hlt : l.stackTraces = false) (G : GG) (h : AH) (a0 : Option Nat) (a1 : Option Nat) (P : Int32 → AH → Prop) (hw : w_J2_indexOf a0 a1 h P) : ct_i l yJ2_indexOf (ws_ yJ2_indexOf cJ2_indexOf 2 (Option.some Jvm.ClassFile.FieldType.int)) rm_J2_indexOf G h [vR a0, vR a1] P := by
  refine j_starti hlt [(0, vR a0), (1, vR a1)] (plainFor_of_name (by decide)) rfl rfl (fun x X eG er en hQ => ?_)
  subst eG
  refine j_aload_n X (pc := 0) 0 dJ2_indexOf_0 rfl rfl ?_
  refine j_aload_n X (pc := 1) 1 dJ2_indexOf_1 rfl rfl ?_
  refine j_iconst X (pc := 2) 0 dJ2_indexOf_2 (by decide) ?_
  refine j_aload_n X (pc := 3) 0 dJ2_indexOf_3 rfl rfl ?_
  refine j_geti (ci := 15) X (pc := 4) in_J2 rfl (by decide) 2 (by decide) q144 (Or.inl rfl) dJ2_indexOf_4 hw (fun y4 hw => ?_)
  obtain ⟨b9, c9, f9, hr9, ho9, hc9, hw⟩ := hw
  obtain rfl := List.mem_singleton.mp hc9
  refine j_calli (j_runV (n8 := 3) (As := [vR a1, vI 0, vI y4]) (rest := []) X (pc := 7) hr9 (met_J2_indexOfRange (xl x) X.hl (xG x) h a0 a1 0 y4 _ hw) ho9 (by decide) rfl q1744 q1745 q1746 q74 q1747 (by decide +kernel) dJ2_indexOf_7 rfl ⟨Nat.le_of_ble_eq_true rfl, Nat.le_of_ble_eq_true rfl⟩ (Nat.le_of_ble_eq_true rfl) ⟨Nat.le_of_ble_eq_true rfl, Nat.le_of_ble_eq_true rfl⟩) (fun y7 h7 hw => ?_)
  exact j_iret X (pc := 10) hQ er (Nat.le_of_ble_eq_true rfl) (Nat.le_of_ble_eq_true rfl) dJ2_indexOf_10 hw
abbrev cJ2_contains : ByteArray := prog_54_method_10_code
def yJ2_contains : MethodName := ⟨RJ2, "contains", "(Ljava/lang/Object;)Z"⟩
def dkwJ2_contains_0 : List UInt8 := [42, 43, 182, 0, 85, 155, 0, 7, 4, 167, 0, 4, 3, 172]
abbrev dktJ2_contains_0 : List UInt8 := dkwJ2_contains_0 ++ []
theorem dksJ2_contains_0 : cJ2_contains.data.toList.drop 0 = dktJ2_contains_0 := by decide +kernel
theorem dJ2_contains_0 : decode cJ2_contains 0 = .ok (.aload_n 0, 1) := dk_42 (dk_at dksJ2_contains_0 0 rfl rfl)
theorem dJ2_contains_1 : decode cJ2_contains 1 = .ok (.aload_n 1, 1) := dk_43 (dk_at dksJ2_contains_0 1 rfl rfl)
theorem dJ2_contains_2 : decode cJ2_contains 2 = .ok (.invokevirtual 85, 3) := dk_182 0 85 (dk_at dksJ2_contains_0 2 rfl rfl)
theorem dJ2_contains_5 : decode cJ2_contains 5 = .ok (.ifCond .lt 7, 3) := dk_155 0 7 (dk_at dksJ2_contains_0 5 rfl rfl)
theorem dJ2_contains_8 : decode cJ2_contains 8 = .ok (.iconst 1, 1) := dk_4 (dk_at dksJ2_contains_0 8 rfl rfl)
theorem dJ2_contains_9 : decode cJ2_contains 9 = .ok (.goto 4, 3) := dk_167 0 4 (dk_at dksJ2_contains_0 9 rfl rfl)
theorem dJ2_contains_12 : decode cJ2_contains 12 = .ok (.iconst 0, 1) := dk_3 (dk_at dksJ2_contains_0 12 rfl rfl)
theorem dJ2_contains_13 : decode cJ2_contains 13 = .ok (.ireturn, 1) := dk_172 (dk_at dksJ2_contains_0 13 rfl rfl)
theorem q1740 : (Jvm.Cond.methodLink "java/util/ArrayList" (85 : Nat) ({ cls := "java/util/ArrayList", name := "indexOf", desc := "(Ljava/lang/Object;)I" } : Jvm.MethodName)) ∈ lw_all := lw_g (lw_at lw_m7 230 rfl) rfl
theorem q1741 : (Jvm.Cond.instanceMethod ({ cls := "java/util/ArrayList", name := "indexOf", desc := "(Ljava/lang/Object;)I" } : Jvm.MethodName)) ∈ lw_all := lw_g (lw_at lw_m7 231 rfl) rfl
theorem q1742 : (Jvm.Cond.selects "java/util/ArrayList" ({ cls := "java/util/ArrayList", name := "indexOf", desc := "(Ljava/lang/Object;)I" } : Jvm.MethodName) ({ cls := "java/util/ArrayList", name := "indexOf", desc := "(Ljava/lang/Object;)I" } : Jvm.MethodName)) ∈ lw_all := lw_g (lw_at lw_m7 232 rfl) rfl
theorem q1743 : (Jvm.Cond.code ({ cls := "java/util/ArrayList", name := "indexOf", desc := "(Ljava/lang/Object;)I" } : Jvm.MethodName) prog_54_method_11_code (2 : Nat) (Option.some Jvm.ClassFile.FieldType.int)) ∈ lw_all := lw_g (lw_at lw_m7 233 rfl) rfl
abbrev rm_J2_contains : Room := { frames := 4, cells := 0, slots := 0, locals := 87 }
def w_J2_contains (a0 : Option Nat) (a1 : Option Nat) (h : AH) (P : Int32 → AH → Prop) : Prop :=
  is_c h a0 [15] (
  w_J2_indexOf a0 a1 h (fun y2 h2 =>
  ((y2 < 0 →
    P 0 h2) ∧
   (¬ y2 < 0 →
    P 1 h2))))
theorem met_J2_contains (l : Launch) (hlt : l.stackTraces = false) (G : GG) (h : AH) (a0 : Option Nat) (a1 : Option Nat) (P : Int32 → AH → Prop) (hw : w_J2_contains a0 a1 h P) : ct_i l yJ2_contains (ws_ yJ2_contains cJ2_contains 2 (Option.some Jvm.ClassFile.FieldType.boolean)) rm_J2_contains G h [vR a0, vR a1] P := by
  refine j_starti hlt [(0, vR a0), (1, vR a1)] (plainFor_of_name (by decide)) rfl rfl (fun x X eG er en hQ => ?_)
  subst eG
  refine j_aload_n X (pc := 0) 0 dJ2_contains_0 rfl rfl ?_
  refine j_aload_n X (pc := 1) 1 dJ2_contains_1 rfl rfl ?_
  obtain ⟨b9, c9, f9, hr9, ho9, hc9, hw⟩ := hw
  obtain rfl := List.mem_singleton.mp hc9
  refine j_calli (j_runV (n8 := 1) (As := [vR a1]) (rest := []) X (pc := 2) hr9 (met_J2_indexOf (xl x) X.hl (xG x) h a0 a1 _ hw) ho9 (by decide) rfl q1740 q1741 q1742 q74 q1743 (by decide +kernel) dJ2_contains_2 rfl ⟨Nat.le_of_ble_eq_true rfl, Nat.le_of_ble_eq_true rfl⟩ (Nat.le_of_ble_eq_true rfl) ⟨Nat.le_of_ble_eq_true rfl, Nat.le_of_ble_eq_true rfl⟩) (fun y2 h2 hw => ?_)
  refine j_if_lt X (pc := 5) 12 dJ2_contains_5 (by decide) hw (fun hw => ?_) (fun hw => ?_)
  · refine j_iconst X (pc := 12) 0 dJ2_contains_12 (by decide) ?_
    exact j_zret X (pc := 13) (ty := .boolean) hQ er rfl (Nat.le_of_ble_eq_true rfl) (Nat.le_of_ble_eq_true rfl) dJ2_contains_13 hw
  · refine j_iconst X (pc := 8) 1 dJ2_contains_8 (by decide) ?_
    refine j_goto X (pc := 9) 13 dJ2_contains_9 (by decide) ?_
    exact j_zret X (pc := 13) (ty := .boolean) hQ er rfl (Nat.le_of_ble_eq_true rfl) (Nat.le_of_ble_eq_true rfl) dJ2_contains_13 hw
abbrev cX1_areAlike : ByteArray := prog_1_method_82_code
def yX1_areAlike : MethodName := ⟨RX1, "areAlike", "(II)Z"⟩
def dkwX1_areAlike_2 : List UInt8 := [172, 132, 5, 1, 167, 255, 226, 4, 172]
abbrev dktX1_areAlike_2 : List UInt8 := dkwX1_areAlike_2 ++ []
def dkwX1_areAlike_1 : List UInt8 := [16, 93, 162, 0, 29, 45, 180, 0, 139, 21, 5, 46, 25, 4, 180, 0, 139, 21, 5, 46, 159, 0, 5, 3]
abbrev dktX1_areAlike_1 : List UInt8 := dkwX1_areAlike_1 ++ dktX1_areAlike_2
def dkwX1_areAlike_0 : List UInt8 := [42, 27, 182, 0, 199, 180, 0, 136, 78, 42, 28, 182, 0, 199, 180, 0, 136, 58, 4, 3, 54, 5, 21, 5]
abbrev dktX1_areAlike_0 : List UInt8 := dkwX1_areAlike_0 ++ dktX1_areAlike_1
theorem dksX1_areAlike_0 : cX1_areAlike.data.toList.drop 0 = dktX1_areAlike_0 := by decide +kernel
theorem dksX1_areAlike_1 : cX1_areAlike.data.toList.drop 24 = dktX1_areAlike_1 := dk_seg dksX1_areAlike_0 24 rfl rfl
theorem dksX1_areAlike_2 : cX1_areAlike.data.toList.drop 48 = dktX1_areAlike_2 := dk_seg dksX1_areAlike_1 24 rfl rfl
theorem dX1_areAlike_0 : decode cX1_areAlike 0 = .ok (.aload_n 0, 1) := dk_42 (dk_at dksX1_areAlike_0 0 rfl rfl)
theorem dX1_areAlike_1 : decode cX1_areAlike 1 = .ok (.iload_n 1, 1) := dk_27 (dk_at dksX1_areAlike_0 1 rfl rfl)
theorem dX1_areAlike_2 : decode cX1_areAlike 2 = .ok (.invokevirtual 199, 3) := dk_182 0 199 (dk_at dksX1_areAlike_0 2 rfl rfl)
theorem dX1_areAlike_5 : decode cX1_areAlike 5 = .ok (.getfield 136, 3) := dk_180 0 136 (dk_at dksX1_areAlike_0 5 rfl rfl)
theorem dX1_areAlike_8 : decode cX1_areAlike 8 = .ok (.astore_n 3, 1) := dk_78 (dk_at dksX1_areAlike_0 8 rfl rfl)
theorem dX1_areAlike_9 : decode cX1_areAlike 9 = .ok (.aload_n 0, 1) := dk_42 (dk_at dksX1_areAlike_0 9 rfl rfl)
theorem dX1_areAlike_10 : decode cX1_areAlike 10 = .ok (.iload_n 2, 1) := dk_28 (dk_at dksX1_areAlike_0 10 rfl rfl)
theorem dX1_areAlike_11 : decode cX1_areAlike 11 = .ok (.invokevirtual 199, 3) := dk_182 0 199 (dk_at dksX1_areAlike_0 11 rfl rfl)
theorem dX1_areAlike_14 : decode cX1_areAlike 14 = .ok (.getfield 136, 3) := dk_180 0 136 (dk_at dksX1_areAlike_0 14 rfl rfl)
theorem dX1_areAlike_17 : decode cX1_areAlike 17 = .ok (.astore 4, 2) := dk_58 4 (dk_at dksX1_areAlike_0 17 rfl rfl)
theorem dX1_areAlike_19 : decode cX1_areAlike 19 = .ok (.iconst 0, 1) := dk_3 (dk_at dksX1_areAlike_0 19 rfl rfl)
theorem dX1_areAlike_20 : decode cX1_areAlike 20 = .ok (.istore 5, 2) := dk_54 5 (dk_at dksX1_areAlike_0 20 rfl rfl)
theorem dX1_areAlike_22 : decode cX1_areAlike 22 = .ok (.iload 5, 2) := dk_21 5 (dk_at dksX1_areAlike_0 22 rfl rfl)
theorem dX1_areAlike_24 : decode cX1_areAlike 24 = .ok (.bipush 93, 2) := dk_16 93 (dk_at dksX1_areAlike_1 0 rfl rfl)
theorem dX1_areAlike_26 : decode cX1_areAlike 26 = .ok (.if_icmp .ge 29, 3) := dk_162 0 29 (dk_at dksX1_areAlike_1 2 rfl rfl)
theorem dX1_areAlike_29 : decode cX1_areAlike 29 = .ok (.aload_n 3, 1) := dk_45 (dk_at dksX1_areAlike_1 5 rfl rfl)
theorem dX1_areAlike_30 : decode cX1_areAlike 30 = .ok (.getfield 139, 3) := dk_180 0 139 (dk_at dksX1_areAlike_1 6 rfl rfl)
theorem dX1_areAlike_33 : decode cX1_areAlike 33 = .ok (.iload 5, 2) := dk_21 5 (dk_at dksX1_areAlike_1 9 rfl rfl)
theorem dX1_areAlike_35 : decode cX1_areAlike 35 = .ok (.iaload, 1) := dk_46 (dk_at dksX1_areAlike_1 11 rfl rfl)
theorem dX1_areAlike_36 : decode cX1_areAlike 36 = .ok (.aload 4, 2) := dk_25 4 (dk_at dksX1_areAlike_1 12 rfl rfl)
theorem dX1_areAlike_38 : decode cX1_areAlike 38 = .ok (.getfield 139, 3) := dk_180 0 139 (dk_at dksX1_areAlike_1 14 rfl rfl)
theorem dX1_areAlike_41 : decode cX1_areAlike 41 = .ok (.iload 5, 2) := dk_21 5 (dk_at dksX1_areAlike_1 17 rfl rfl)
theorem dX1_areAlike_43 : decode cX1_areAlike 43 = .ok (.iaload, 1) := dk_46 (dk_at dksX1_areAlike_1 19 rfl rfl)
theorem dX1_areAlike_44 : decode cX1_areAlike 44 = .ok (.if_icmp .eq 5, 3) := dk_159 0 5 (dk_at dksX1_areAlike_1 20 rfl rfl)
theorem dX1_areAlike_47 : decode cX1_areAlike 47 = .ok (.iconst 0, 1) := dk_3 (dk_at dksX1_areAlike_1 23 rfl rfl)
theorem dX1_areAlike_48 : decode cX1_areAlike 48 = .ok (.ireturn, 1) := dk_172 (dk_at dksX1_areAlike_2 0 rfl rfl)
theorem dX1_areAlike_49 : decode cX1_areAlike 49 = .ok (.iinc 5 1, 3) := dk_132 5 1 (dk_at dksX1_areAlike_2 1 rfl rfl)
theorem dX1_areAlike_52 : decode cX1_areAlike 52 = .ok (.goto (-30), 3) := dk_167 255 226 (dk_at dksX1_areAlike_2 4 rfl rfl)
theorem dX1_areAlike_55 : decode cX1_areAlike 55 = .ok (.iconst 1, 1) := dk_4 (dk_at dksX1_areAlike_2 7 rfl rfl)
theorem dX1_areAlike_56 : decode cX1_areAlike 56 = .ok (.ireturn, 1) := dk_172 (dk_at dksX1_areAlike_2 8 rfl rfl)
abbrev rm_X1_areAlike : Room := { frames := 9, cells := 4, slots := 14, locals := 146 }
def w_X1_areAlike_22 (P : Int32 → AH → Prop) (PX : String → AH → Prop) (x3 : Option Nat) (x4 : Option Nat) (x5 : Int32) (h : AH) : Prop :=
  ∀ Z22 : Int32 → Prop, (∀ x5, (
      ((93 ≤ x5 →
        P 1 h) ∧
       (¬ 93 ≤ x5 →
        g_q h x3 1 0 fun y30 =>
        l_i h y30 0 x5 fun y35 =>
        g_q h x4 1 0 fun y38 =>
        l_i h y38 0 x5 fun y43 =>
        ((y35 = y43 →
          Z22 (x5 + 1)) ∧
         (¬ y35 = y43 →
          P 0 h)))))
      → Z22 x5) → Z22 x5
def w_X1_areAlike (a0 : Option Nat) (a1 : Int32) (a2 : Int32) (h : AH) (P : Int32 → AH → Prop) (PX : String → AH → Prop) : Prop :=
  is_c h a0 [0] (
  w_X1_board a0 a1 h (fun y2 h2 =>
  g_q h2 y2 2 1 fun y5 =>
  is_c h2 a0 [0] (
  w_X1_board a0 a2 h2 (fun y11 h11 =>
  g_q h11 y11 2 1 fun y14 =>
  w_X1_areAlike_22 P PX y5 y14 0 h11) PX)) PX)
theorem wk_X1_areAlike_22 {x : CX} (X : Ok x cX1_areAlike RX1 rm_X1_areAlike 6) (er : xrt x = (Option.some Jvm.ClassFile.FieldType.boolean)) (en : xnm x = yX1_areAlike.name) {P : Int32 → AH → Prop} {PX : String → AH → Prop} (hQ : xr_i x P) (hT : xt_ x PX) (hex : ∀ z ∈ x.2.2.2.2.2.2.2.2.2.1.exceptionTable.toList, False) (x3 : Option Nat) (x4 : Option Nat) (x5 : Int32) (h : AH) (hw : w_X1_areAlike_22 P PX x3 x4 x5 h) : J x h 4 14 22 [(3, vR x3), (4, vR x4), (5, vI x5)] [] := by
  refine hw (fun x5 => J x h 4 14 22 [(3, vR x3), (4, vR x4), (5, vI x5)] []) (fun x5 hw => ?_)
  refine j_iload X (pc := 22) 2 dX1_areAlike_22 rfl ?_
  refine j_bipush X (pc := 24) 93 dX1_areAlike_24 (by decide) ?_
  refine j_icmp_ge X (pc := 26) 55 dX1_areAlike_26 (by decide) hw (fun hw => ?_) (fun hw => ?_)
  · refine j_iconst X (pc := 55) 1 dX1_areAlike_55 (by decide) ?_
    exact j_zret X (pc := 56) (ty := .boolean) hQ er rfl (Nat.le_of_ble_eq_true rfl) (Nat.le_of_ble_eq_true rfl) dX1_areAlike_56 hw
  · refine j_aload_n X (pc := 29) 0 dX1_areAlike_29 rfl rfl ?_
    refine j_getqN (ci := 1) X (pc := 30) in_X2 rfl (by decide) 0 (by decide) q168 (Or.inl rfl) dX1_areAlike_30 hw (fun y30 hw => ?_)
    refine j_iload X (pc := 33) 2 dX1_areAlike_33 rfl ?_
    refine j_iald X (pc := 35) 0 rfl dX1_areAlike_35 hw (fun y35 hw => ?_)
    refine j_aload X (pc := 36) 1 dX1_areAlike_36 rfl ?_
    refine j_getqN (ci := 1) X (pc := 38) in_X2 rfl (by decide) 0 (by decide) q168 (Or.inl rfl) dX1_areAlike_38 hw (fun y38 hw => ?_)
    refine j_iload X (pc := 41) 2 dX1_areAlike_41 rfl ?_
    refine j_iald X (pc := 43) 0 rfl dX1_areAlike_43 hw (fun y43 hw => ?_)
    refine j_icmp_eq X (pc := 44) 49 dX1_areAlike_44 (by decide) hw (fun hw => ?_) (fun hw => ?_)
    · refine j_iinc X (pc := 49) 2 (x5 + 1) [(5, vI (x5 + 1)), (3, vR x3), (4, vR x4)] dX1_areAlike_49 rfl rfl (Nat.le_of_ble_eq_true rfl) rfl ?_
      refine j_goto X (pc := 52) 22 dX1_areAlike_52 (by decide) ?_
      refine j_lv [(3, vR x3), (4, vR x4), (5, vI (x5 + 1))] [1, 2, 0] rfl ?_
      refine j_cs (u' := 4) (v' := 14) (Nat.le_of_ble_eq_true rfl) (Nat.le_of_ble_eq_true rfl) ?_
      exact hw
    · refine j_iconst X (pc := 47) 0 dX1_areAlike_47 (by decide) ?_
      exact j_zret X (pc := 48) (ty := .boolean) hQ er rfl (Nat.le_of_ble_eq_true rfl) (Nat.le_of_ble_eq_true rfl) dX1_areAlike_48 hw
theorem met_X1_areAlike (l : Launch) (hlt : l.stackTraces = false) (G : GG) (h : AH) (a0 : Option Nat) (a1 : Int32) (a2 : Int32) (P : Int32 → AH → Prop) (PX : String → AH → Prop) (hw : w_X1_areAlike a0 a1 a2 h P PX) : cx_i l yX1_areAlike (ws_ yX1_areAlike cX1_areAlike 6 (Option.some Jvm.ClassFile.FieldType.boolean)) rm_X1_areAlike G h [vR a0, vI a1, vI a2] P PX := by
  refine j_startXi hlt [(0, vR a0), (1, vI a1), (2, vI a2)] (by decide) rfl rfl (fun x X eG er en hQ hT hex => ?_)
  subst eG
  refine j_aload_n X (pc := 0) 0 dX1_areAlike_0 rfl rfl ?_
  refine j_iload_n X (pc := 1) 1 dX1_areAlike_1 rfl rfl ?_
  obtain ⟨b9, c9, f9, hr9, ho9, hc9, hw⟩ := hw
  obtain rfl := List.mem_singleton.mp hc9
  refine j_callXq (j_runVX (n8 := 1) (As := [vI a1]) (rest := []) X (pc := 2) hr9 (met_X1_board (xl x) X.hl (xG x) h a0 a1 _ _ hw) ho9 (by decide) rfl q297 q299 qs0 q71 q300 (by decide +kernel) dX1_areAlike_2 rfl ⟨Nat.le_of_ble_eq_true rfl, Nat.le_of_ble_eq_true rfl⟩ (Nat.le_of_ble_eq_true rfl) ⟨Nat.le_of_ble_eq_true rfl, Nat.le_of_ble_eq_true rfl⟩) (fun E h9 hx => j_out X hT hex (Nat.le_of_ble_eq_true rfl) (Nat.le_of_ble_eq_true rfl) hx) (fun y2 h2 hw => ?_)
  refine j_getqN (ci := 2) X (pc := 5) in_X3 rfl (by decide) 1 (by decide) q210 (Or.inl rfl) dX1_areAlike_5 hw (fun y5 hw => ?_)
  refine j_astore_n X (pc := 8) [(3, vR y5), (0, vR a0), (1, vI a1), (2, vI a2)] dX1_areAlike_8 rfl (Nat.le_of_ble_eq_true rfl) rfl ?_
  refine j_aload_n X (pc := 9) 1 dX1_areAlike_9 rfl rfl ?_
  refine j_iload_n X (pc := 10) 3 dX1_areAlike_10 rfl rfl ?_
  obtain ⟨b9, c9, f9, hr9, ho9, hc9, hw⟩ := hw
  obtain rfl := List.mem_singleton.mp hc9
  refine j_callXq (j_runVX (n8 := 1) (As := [vI a2]) (rest := []) X (pc := 11) hr9 (met_X1_board (xl x) X.hl (xG x) h2 a0 a2 _ _ hw) ho9 (by decide) rfl q297 q299 qs0 q71 q300 (by decide +kernel) dX1_areAlike_11 rfl ⟨Nat.le_of_ble_eq_true rfl, Nat.le_of_ble_eq_true rfl⟩ (Nat.le_of_ble_eq_true rfl) ⟨Nat.le_of_ble_eq_true rfl, Nat.le_of_ble_eq_true rfl⟩) (fun E h9 hx => j_out X hT hex (Nat.le_of_ble_eq_true rfl) (Nat.le_of_ble_eq_true rfl) hx) (fun y11 h11 hw => ?_)
  refine j_getqN (ci := 2) X (pc := 14) in_X3 rfl (by decide) 1 (by decide) q210 (Or.inl rfl) dX1_areAlike_14 hw (fun y14 hw => ?_)
  refine j_astore X (pc := 17) [(4, vR y14), (3, vR y5), (0, vR a0), (1, vI a1), (2, vI a2)] dX1_areAlike_17 (Nat.le_of_ble_eq_true rfl) rfl ?_
  refine j_iconst X (pc := 19) 0 dX1_areAlike_19 (by decide) ?_
  refine j_istore X (pc := 20) [(5, vI 0), (4, vR y14), (3, vR y5), (0, vR a0), (1, vI a1), (2, vI a2)] dX1_areAlike_20 (Nat.le_of_ble_eq_true rfl) rfl ?_
  refine j_lv [(3, vR y5), (4, vR y14), (5, vI 0)] [2, 1, 0] rfl ?_
  refine j_cs (u' := 4) (v' := 14) (Nat.le_of_ble_eq_true rfl) (Nat.le_of_ble_eq_true rfl) ?_
  exact wk_X1_areAlike_22 X er en hQ hT hex y5 y14 0 h11 hw
abbrev cX0_areAlike : ByteArray := method_43_code
def yX0_areAlike : MethodName := ⟨RX0, "areAlike", "(LPlugboard;II[J)I"⟩
def dkwX0_areAlike_1 : List UInt8 := [3, 172]
abbrev dktX0_areAlike_1 : List UInt8 := dkwX0_areAlike_1 ++ []
def dkwX0_areAlike_0 : List UInt8 := [45, 3, 42, 27, 28, 182, 0, 148, 153, 0, 7, 10, 167, 0, 4, 9, 80, 167, 0, 7, 58, 4, 4, 172]
abbrev dktX0_areAlike_0 : List UInt8 := dkwX0_areAlike_0 ++ dktX0_areAlike_1
theorem dksX0_areAlike_0 : cX0_areAlike.data.toList.drop 0 = dktX0_areAlike_0 := by decide +kernel
theorem dksX0_areAlike_1 : cX0_areAlike.data.toList.drop 24 = dktX0_areAlike_1 := dk_seg dksX0_areAlike_0 24 rfl rfl
theorem dX0_areAlike_0 : decode cX0_areAlike 0 = .ok (.aload_n 3, 1) := dk_45 (dk_at dksX0_areAlike_0 0 rfl rfl)
theorem dX0_areAlike_1 : decode cX0_areAlike 1 = .ok (.iconst 0, 1) := dk_3 (dk_at dksX0_areAlike_0 1 rfl rfl)
theorem dX0_areAlike_2 : decode cX0_areAlike 2 = .ok (.aload_n 0, 1) := dk_42 (dk_at dksX0_areAlike_0 2 rfl rfl)
theorem dX0_areAlike_3 : decode cX0_areAlike 3 = .ok (.iload_n 1, 1) := dk_27 (dk_at dksX0_areAlike_0 3 rfl rfl)
theorem dX0_areAlike_4 : decode cX0_areAlike 4 = .ok (.iload_n 2, 1) := dk_28 (dk_at dksX0_areAlike_0 4 rfl rfl)
theorem dX0_areAlike_5 : decode cX0_areAlike 5 = .ok (.invokevirtual 148, 3) := dk_182 0 148 (dk_at dksX0_areAlike_0 5 rfl rfl)
theorem dX0_areAlike_8 : decode cX0_areAlike 8 = .ok (.ifCond .eq 7, 3) := dk_153 0 7 (dk_at dksX0_areAlike_0 8 rfl rfl)
theorem dX0_areAlike_11 : decode cX0_areAlike 11 = .ok (.lconst 1, 1) := dk_10 (dk_at dksX0_areAlike_0 11 rfl rfl)
theorem dX0_areAlike_12 : decode cX0_areAlike 12 = .ok (.goto 4, 3) := dk_167 0 4 (dk_at dksX0_areAlike_0 12 rfl rfl)
theorem dX0_areAlike_15 : decode cX0_areAlike 15 = .ok (.lconst 0, 1) := dk_9 (dk_at dksX0_areAlike_0 15 rfl rfl)
theorem dX0_areAlike_16 : decode cX0_areAlike 16 = .ok (.lastore, 1) := dk_80 (dk_at dksX0_areAlike_0 16 rfl rfl)
theorem dX0_areAlike_17 : decode cX0_areAlike 17 = .ok (.goto 7, 3) := dk_167 0 7 (dk_at dksX0_areAlike_0 17 rfl rfl)
theorem dX0_areAlike_20 : decode cX0_areAlike 20 = .ok (.astore 4, 2) := dk_58 4 (dk_at dksX0_areAlike_0 20 rfl rfl)
theorem dX0_areAlike_22 : decode cX0_areAlike 22 = .ok (.iconst 1, 1) := dk_4 (dk_at dksX0_areAlike_0 22 rfl rfl)
theorem dX0_areAlike_23 : decode cX0_areAlike 23 = .ok (.ireturn, 1) := dk_172 (dk_at dksX0_areAlike_0 23 rfl rfl)
theorem dX0_areAlike_24 : decode cX0_areAlike 24 = .ok (.iconst 0, 1) := dk_3 (dk_at dksX0_areAlike_1 0 rfl rfl)
theorem dX0_areAlike_25 : decode cX0_areAlike 25 = .ok (.ireturn, 1) := dk_172 (dk_at dksX0_areAlike_1 1 rfl rfl)
theorem q1802 : (Jvm.Cond.methodLink "PlugboardLaw" (148 : Nat) ({ cls := "Plugboard", name := "areAlike", desc := "(II)Z" } : Jvm.MethodName)) ∈ lw_all := lw_g (lw_at lw_m8 52 rfl) rfl
theorem q1803 : (Jvm.Cond.instanceMethod ({ cls := "Plugboard", name := "areAlike", desc := "(II)Z" } : Jvm.MethodName)) ∈ lw_all := lw_g (lw_at lw_m8 53 rfl) rfl
theorem q1804 : (Jvm.Cond.selects "Plugboard" ({ cls := "Plugboard", name := "areAlike", desc := "(II)Z" } : Jvm.MethodName) ({ cls := "Plugboard", name := "areAlike", desc := "(II)Z" } : Jvm.MethodName)) ∈ lw_all := lw_g (lw_at lw_m8 54 rfl) rfl
theorem q1805 : (Jvm.Cond.code ({ cls := "Plugboard", name := "areAlike", desc := "(II)Z" } : Jvm.MethodName) prog_1_method_82_code (6 : Nat) (Option.some Jvm.ClassFile.FieldType.boolean)) ∈ lw_all := lw_g (lw_at lw_m8 55 rfl) rfl
abbrev rm_X0_areAlike : Room := { frames := 10, cells := 4, slots := 14, locals := 171 }
def w_X0_areAlike (a0 : Option Nat) (a1 : Int32) (a2 : Int32) (a3 : Option Nat) (h : AH) (P : Int32 → AH → Prop) : Prop :=
  is_c h a0 [0] (
  w_X1_areAlike a0 a1 a2 h (fun y5 h5 =>
  ((y5 = 0 →
    s_L h5 a3 0 0 fun h16 =>
    P 0 h16) ∧
   (¬ y5 = 0 →
    s_L h5 a3 0 1 fun h16 =>
    P 0 h16)))
    (fun E9 h9 => (E9 = "java/lang/IllegalArgumentException" ∧ ∀ q9 : Nat,
    P 1 h9)))
theorem met_X0_areAlike (l : Launch) (hlt : l.stackTraces = false) (G : GG) (h : AH) (a0 : Option Nat) (a1 : Int32) (a2 : Int32) (a3 : Option Nat) (P : Int32 → AH → Prop) (hw : w_X0_areAlike a0 a1 a2 a3 h P) : ct_i l yX0_areAlike (wsW_ yX0_areAlike cX0_areAlike 5 (Option.some Jvm.ClassFile.FieldType.int) [((0 : Nat), (17 : Nat), (20 : Nat), (13 : Nat))]) rm_X0_areAlike G h [vR a0, vI a1, vI a2, vR a3] P := by
  refine j_startWi hlt [(0, vR a0), (1, vI a1), (2, vI a2), (3, vR a3)] (by decide) rfl rfl (fun x X eG er en hQ hex => ?_)
  subst eG
  refine j_aload_n X (pc := 0) 3 dX0_areAlike_0 rfl rfl ?_
  refine j_iconst X (pc := 1) 0 dX0_areAlike_1 (by decide) ?_
  refine j_aload_n X (pc := 2) 0 dX0_areAlike_2 rfl rfl ?_
  refine j_iload_n X (pc := 3) 1 dX0_areAlike_3 rfl rfl ?_
  refine j_iload_n X (pc := 4) 2 dX0_areAlike_4 rfl rfl ?_
  obtain ⟨b9, c9, f9, hr9, ho9, hc9, hw⟩ := hw
  obtain rfl := List.mem_singleton.mp hc9
  refine j_callXi (j_runVX (n8 := 2) (As := [vI a1, vI a2]) (rest := [vI 0, vR a3]) X (pc := 5) hr9 (met_X1_areAlike (xl x) X.hl (xG x) h a0 a1 a2 _ _ hw) ho9 (by decide) rfl q1802 q1803 q1804 q71 q1805 (by decide +kernel) dX0_areAlike_5 rfl ⟨Nat.le_of_ble_eq_true rfl, Nat.le_of_ble_eq_true rfl⟩ (Nat.le_of_ble_eq_true rfl) ⟨Nat.le_of_ble_eq_true rfl, Nat.le_of_ble_eq_true rfl⟩) ?_ (fun y5 h5 hw => ?_)
  · intro E9 h9 hx
    obtain ⟨rfl, hw⟩ := hx
    refine j_catch X (pc := 5) "java/lang/IllegalArgumentException" hex [] [] ⟨0, 17, 20, 13⟩ rfl (by intro y hy; cases hy) (by decide) (by decide) q291 q312 (fun q9 => ?_)
    have hw := hw q9
    refine j_astore X (pc := 20) [(4, vR (some q9)), (0, vR a0), (1, vI a1), (2, vI a2), (3, vR a3)] dX0_areAlike_20 (Nat.le_of_ble_eq_true rfl) rfl ?_
    refine j_iconst X (pc := 22) 1 dX0_areAlike_22 (by decide) ?_
    exact j_iret X (pc := 23) hQ er (Nat.le_of_ble_eq_true rfl) (Nat.le_of_ble_eq_true rfl) dX0_areAlike_23 hw
  refine j_if_eq X (pc := 8) 15 dX0_areAlike_8 (by decide) hw (fun hw => ?_) (fun hw => ?_)
  · refine j_lconst X (pc := 15) 0 dX0_areAlike_15 (by decide) ?_
    refine j_last X (pc := 16) dX0_areAlike_16 hw (fun h16 hw => ?_)
    refine j_goto X (pc := 17) 24 dX0_areAlike_17 (by decide) ?_
    refine j_iconst X (pc := 24) 0 dX0_areAlike_24 (by decide) ?_
    exact j_iret X (pc := 25) hQ er (Nat.le_of_ble_eq_true rfl) (Nat.le_of_ble_eq_true rfl) dX0_areAlike_25 hw
  · refine j_lconst X (pc := 11) 1 dX0_areAlike_11 (by decide) ?_
    refine j_goto X (pc := 12) 16 dX0_areAlike_12 (by decide) ?_
    refine j_last X (pc := 16) dX0_areAlike_16 hw (fun h16 hw => ?_)
    refine j_goto X (pc := 17) 24 dX0_areAlike_17 (by decide) ?_
    refine j_iconst X (pc := 24) 0 dX0_areAlike_24 (by decide) ?_
    exact j_iret X (pc := 25) hQ er (Nat.le_of_ble_eq_true rfl) (Nat.le_of_ble_eq_true rfl) dX0_areAlike_25 hw
abbrev cX5_areAlike : ByteArray := prog_19_method_87_code
def yX5_areAlike : MethodName := ⟨RX5, "areAlike", "(II)Z"⟩
def dkwX5_areAlike_4 : List UInt8 := [167, 255, 230, 4, 172]
abbrev dktX5_areAlike_4 : List UInt8 := dkwX5_areAlike_4 ++ []
def dkwX5_areAlike_3 : List UInt8 := [16, 93, 162, 0, 25, 45, 21, 4, 46, 42, 180, 0, 67, 21, 4, 46, 159, 0, 5, 3, 172, 132, 4, 1]
abbrev dktX5_areAlike_3 : List UInt8 := dkwX5_areAlike_3 ++ dktX5_areAlike_4
def dkwX5_areAlike_2 : List UInt8 := [42, 180, 0, 67, 21, 4, 46, 79, 132, 4, 1, 167, 255, 235, 42, 28, 182, 0, 161, 3, 54, 4, 21, 4]
abbrev dktX5_areAlike_2 : List UInt8 := dkwX5_areAlike_2 ++ dktX5_areAlike_3
def dkwX5_areAlike_1 : List UInt8 := [172, 42, 27, 182, 0, 161, 16, 93, 188, 10, 78, 3, 54, 4, 21, 4, 16, 93, 162, 0, 20, 45, 21, 4]
abbrev dktX5_areAlike_1 : List UInt8 := dkwX5_areAlike_1 ++ dktX5_areAlike_2
def dkwX5_areAlike_0 : List UInt8 := [42, 3, 181, 0, 97, 27, 184, 0, 165, 153, 0, 10, 28, 184, 0, 165, 154, 0, 9, 42, 4, 182, 0, 219]
abbrev dktX5_areAlike_0 : List UInt8 := dkwX5_areAlike_0 ++ dktX5_areAlike_1
theorem dksX5_areAlike_0 : cX5_areAlike.data.toList.drop 0 = dktX5_areAlike_0 := by decide +kernel
theorem dksX5_areAlike_1 : cX5_areAlike.data.toList.drop 24 = dktX5_areAlike_1 := dk_seg dksX5_areAlike_0 24 rfl rfl
theorem dksX5_areAlike_2 : cX5_areAlike.data.toList.drop 48 = dktX5_areAlike_2 := dk_seg dksX5_areAlike_1 24 rfl rfl
theorem dksX5_areAlike_3 : cX5_areAlike.data.toList.drop 72 = dktX5_areAlike_3 := dk_seg dksX5_areAlike_2 24 rfl rfl
theorem dksX5_areAlike_4 : cX5_areAlike.data.toList.drop 96 = dktX5_areAlike_4 := dk_seg dksX5_areAlike_3 24 rfl rfl
theorem dX5_areAlike_0 : decode cX5_areAlike 0 = .ok (.aload_n 0, 1) := dk_42 (dk_at dksX5_areAlike_0 0 rfl rfl)
theorem dX5_areAlike_1 : decode cX5_areAlike 1 = .ok (.iconst 0, 1) := dk_3 (dk_at dksX5_areAlike_0 1 rfl rfl)
theorem dX5_areAlike_2 : decode cX5_areAlike 2 = .ok (.putfield 97, 3) := dk_181 0 97 (dk_at dksX5_areAlike_0 2 rfl rfl)
theorem dX5_areAlike_5 : decode cX5_areAlike 5 = .ok (.iload_n 1, 1) := dk_27 (dk_at dksX5_areAlike_0 5 rfl rfl)
theorem dX5_areAlike_6 : decode cX5_areAlike 6 = .ok (.invokestatic 165, 3) := dk_184 0 165 (dk_at dksX5_areAlike_0 6 rfl rfl)
theorem dX5_areAlike_9 : decode cX5_areAlike 9 = .ok (.ifCond .eq 10, 3) := dk_153 0 10 (dk_at dksX5_areAlike_0 9 rfl rfl)
theorem dX5_areAlike_12 : decode cX5_areAlike 12 = .ok (.iload_n 2, 1) := dk_28 (dk_at dksX5_areAlike_0 12 rfl rfl)
theorem dX5_areAlike_13 : decode cX5_areAlike 13 = .ok (.invokestatic 165, 3) := dk_184 0 165 (dk_at dksX5_areAlike_0 13 rfl rfl)
theorem dX5_areAlike_16 : decode cX5_areAlike 16 = .ok (.ifCond .ne 9, 3) := dk_154 0 9 (dk_at dksX5_areAlike_0 16 rfl rfl)
theorem dX5_areAlike_19 : decode cX5_areAlike 19 = .ok (.aload_n 0, 1) := dk_42 (dk_at dksX5_areAlike_0 19 rfl rfl)
theorem dX5_areAlike_20 : decode cX5_areAlike 20 = .ok (.iconst 1, 1) := dk_4 (dk_at dksX5_areAlike_0 20 rfl rfl)
theorem dX5_areAlike_21 : decode cX5_areAlike 21 = .ok (.invokevirtual 219, 3) := dk_182 0 219 (dk_at dksX5_areAlike_0 21 rfl rfl)
theorem dX5_areAlike_24 : decode cX5_areAlike 24 = .ok (.ireturn, 1) := dk_172 (dk_at dksX5_areAlike_1 0 rfl rfl)
theorem dX5_areAlike_25 : decode cX5_areAlike 25 = .ok (.aload_n 0, 1) := dk_42 (dk_at dksX5_areAlike_1 1 rfl rfl)
theorem dX5_areAlike_26 : decode cX5_areAlike 26 = .ok (.iload_n 1, 1) := dk_27 (dk_at dksX5_areAlike_1 2 rfl rfl)
theorem dX5_areAlike_27 : decode cX5_areAlike 27 = .ok (.invokevirtual 161, 3) := dk_182 0 161 (dk_at dksX5_areAlike_1 3 rfl rfl)
theorem dX5_areAlike_30 : decode cX5_areAlike 30 = .ok (.bipush 93, 2) := dk_16 93 (dk_at dksX5_areAlike_1 6 rfl rfl)
theorem dX5_areAlike_32 : decode cX5_areAlike 32 = .ok (.newarray .int, 2) := dk_188_10 (dk_at dksX5_areAlike_1 8 rfl rfl)
theorem dX5_areAlike_34 : decode cX5_areAlike 34 = .ok (.astore_n 3, 1) := dk_78 (dk_at dksX5_areAlike_1 10 rfl rfl)
theorem dX5_areAlike_35 : decode cX5_areAlike 35 = .ok (.iconst 0, 1) := dk_3 (dk_at dksX5_areAlike_1 11 rfl rfl)
theorem dX5_areAlike_36 : decode cX5_areAlike 36 = .ok (.istore 4, 2) := dk_54 4 (dk_at dksX5_areAlike_1 12 rfl rfl)
theorem dX5_areAlike_38 : decode cX5_areAlike 38 = .ok (.iload 4, 2) := dk_21 4 (dk_at dksX5_areAlike_1 14 rfl rfl)
theorem dX5_areAlike_40 : decode cX5_areAlike 40 = .ok (.bipush 93, 2) := dk_16 93 (dk_at dksX5_areAlike_1 16 rfl rfl)
theorem dX5_areAlike_42 : decode cX5_areAlike 42 = .ok (.if_icmp .ge 20, 3) := dk_162 0 20 (dk_at dksX5_areAlike_1 18 rfl rfl)
theorem dX5_areAlike_45 : decode cX5_areAlike 45 = .ok (.aload_n 3, 1) := dk_45 (dk_at dksX5_areAlike_1 21 rfl rfl)
theorem dX5_areAlike_46 : decode cX5_areAlike 46 = .ok (.iload 4, 2) := dk_21 4 (dk_at dksX5_areAlike_1 22 rfl rfl)
theorem dX5_areAlike_48 : decode cX5_areAlike 48 = .ok (.aload_n 0, 1) := dk_42 (dk_at dksX5_areAlike_2 0 rfl rfl)
theorem dX5_areAlike_49 : decode cX5_areAlike 49 = .ok (.getfield 67, 3) := dk_180 0 67 (dk_at dksX5_areAlike_2 1 rfl rfl)
theorem dX5_areAlike_52 : decode cX5_areAlike 52 = .ok (.iload 4, 2) := dk_21 4 (dk_at dksX5_areAlike_2 4 rfl rfl)
theorem dX5_areAlike_54 : decode cX5_areAlike 54 = .ok (.iaload, 1) := dk_46 (dk_at dksX5_areAlike_2 6 rfl rfl)
theorem dX5_areAlike_55 : decode cX5_areAlike 55 = .ok (.iastore, 1) := dk_79 (dk_at dksX5_areAlike_2 7 rfl rfl)
theorem dX5_areAlike_56 : decode cX5_areAlike 56 = .ok (.iinc 4 1, 3) := dk_132 4 1 (dk_at dksX5_areAlike_2 8 rfl rfl)
theorem dX5_areAlike_59 : decode cX5_areAlike 59 = .ok (.goto (-21), 3) := dk_167 255 235 (dk_at dksX5_areAlike_2 11 rfl rfl)
theorem dX5_areAlike_62 : decode cX5_areAlike 62 = .ok (.aload_n 0, 1) := dk_42 (dk_at dksX5_areAlike_2 14 rfl rfl)
theorem dX5_areAlike_63 : decode cX5_areAlike 63 = .ok (.iload_n 2, 1) := dk_28 (dk_at dksX5_areAlike_2 15 rfl rfl)
theorem dX5_areAlike_64 : decode cX5_areAlike 64 = .ok (.invokevirtual 161, 3) := dk_182 0 161 (dk_at dksX5_areAlike_2 16 rfl rfl)
theorem dX5_areAlike_67 : decode cX5_areAlike 67 = .ok (.iconst 0, 1) := dk_3 (dk_at dksX5_areAlike_2 19 rfl rfl)
theorem dX5_areAlike_68 : decode cX5_areAlike 68 = .ok (.istore 4, 2) := dk_54 4 (dk_at dksX5_areAlike_2 20 rfl rfl)
theorem dX5_areAlike_70 : decode cX5_areAlike 70 = .ok (.iload 4, 2) := dk_21 4 (dk_at dksX5_areAlike_2 22 rfl rfl)
theorem dX5_areAlike_72 : decode cX5_areAlike 72 = .ok (.bipush 93, 2) := dk_16 93 (dk_at dksX5_areAlike_3 0 rfl rfl)
theorem dX5_areAlike_74 : decode cX5_areAlike 74 = .ok (.if_icmp .ge 25, 3) := dk_162 0 25 (dk_at dksX5_areAlike_3 2 rfl rfl)
theorem dX5_areAlike_77 : decode cX5_areAlike 77 = .ok (.aload_n 3, 1) := dk_45 (dk_at dksX5_areAlike_3 5 rfl rfl)
theorem dX5_areAlike_78 : decode cX5_areAlike 78 = .ok (.iload 4, 2) := dk_21 4 (dk_at dksX5_areAlike_3 6 rfl rfl)
theorem dX5_areAlike_80 : decode cX5_areAlike 80 = .ok (.iaload, 1) := dk_46 (dk_at dksX5_areAlike_3 8 rfl rfl)
theorem dX5_areAlike_81 : decode cX5_areAlike 81 = .ok (.aload_n 0, 1) := dk_42 (dk_at dksX5_areAlike_3 9 rfl rfl)
theorem dX5_areAlike_82 : decode cX5_areAlike 82 = .ok (.getfield 67, 3) := dk_180 0 67 (dk_at dksX5_areAlike_3 10 rfl rfl)
theorem dX5_areAlike_85 : decode cX5_areAlike 85 = .ok (.iload 4, 2) := dk_21 4 (dk_at dksX5_areAlike_3 13 rfl rfl)
theorem dX5_areAlike_87 : decode cX5_areAlike 87 = .ok (.iaload, 1) := dk_46 (dk_at dksX5_areAlike_3 15 rfl rfl)
theorem dX5_areAlike_88 : decode cX5_areAlike 88 = .ok (.if_icmp .eq 5, 3) := dk_159 0 5 (dk_at dksX5_areAlike_3 16 rfl rfl)
theorem dX5_areAlike_91 : decode cX5_areAlike 91 = .ok (.iconst 0, 1) := dk_3 (dk_at dksX5_areAlike_3 19 rfl rfl)
theorem dX5_areAlike_92 : decode cX5_areAlike 92 = .ok (.ireturn, 1) := dk_172 (dk_at dksX5_areAlike_3 20 rfl rfl)
theorem dX5_areAlike_93 : decode cX5_areAlike 93 = .ok (.iinc 4 1, 3) := dk_132 4 1 (dk_at dksX5_areAlike_3 21 rfl rfl)
theorem dX5_areAlike_96 : decode cX5_areAlike 96 = .ok (.goto (-26), 3) := dk_167 255 230 (dk_at dksX5_areAlike_4 0 rfl rfl)
theorem dX5_areAlike_99 : decode cX5_areAlike 99 = .ok (.iconst 1, 1) := dk_4 (dk_at dksX5_areAlike_4 3 rfl rfl)
theorem dX5_areAlike_100 : decode cX5_areAlike 100 = .ok (.ireturn, 1) := dk_172 (dk_at dksX5_areAlike_4 4 rfl rfl)
abbrev rm_X5_areAlike : Room := { frames := 3, cells := 1, slots := 93, locals := 66 }
def w_X5_areAlike_70 (P : Int32 → AH → Prop) (x0 : Option Nat) (x3 : Option Nat) (x4 : Int32) (h : AH) : Prop :=
  ∀ Z70 : Int32 → Prop, (∀ x4, (
      ((93 ≤ x4 →
        P 1 h) ∧
       (¬ 93 ≤ x4 →
        l_i h x3 0 x4 fun y80 =>
        g_q h x0 4 21 fun y82 =>
        l_i h y82 0 x4 fun y87 =>
        ((y80 = y87 →
          Z70 (x4 + 1)) ∧
         (¬ y80 = y87 →
          P 0 h)))))
      → Z70 x4) → Z70 x4
def w_X5_areAlike_38 (P : Int32 → AH → Prop) (x0 : Option Nat) (x2 : Int32) (x3 : Option Nat) (x4 : Int32) (h : AH) : Prop :=
  ∀ Z38 : Int32 → AH → Prop, (∀ x4 h, (
      ((93 ≤ x4 →
        is_c h x0 [4] (
        w_X5_builds x0 x2 h (fun h64 =>
        w_X5_areAlike_70 P x0 x3 0 h64))) ∧
       (¬ 93 ≤ x4 →
        g_q h x0 4 21 fun y49 =>
        l_i h y49 0 x4 fun y54 =>
        s_i h x3 0 x4 y54 fun h55 =>
        Z38 (x4 + 1) h55)))
      → Z38 x4 h) → Z38 x4 h
def w_X5_areAlike (a0 : Option Nat) (a1 : Int32) (a2 : Int32) (h : AH) (P : Int32 → AH → Prop) : Prop :=
  p_v h a0 4 0 (vI 0) fun h2 =>
  w_X5_isUser a1 h2 (fun y6 h6 =>
  ((y6 = 0 →
    is_c h6 a0 [4] (
    w_X5_isWrong a0 1 h6 (fun y21 h21 =>
    nrw .boolean y21 ∧
    P y21 h21))) ∧
   (¬ y6 = 0 →
    w_X5_isUser a2 h6 (fun y13 h13 =>
    ((y13 = 0 →
      is_c h13 a0 [4] (
      w_X5_isWrong a0 1 h13 (fun y21 h21 =>
      nrw .boolean y21 ∧
      P y21 h21))) ∧
     (¬ y13 = 0 →
      is_c h13 a0 [4] (
      w_X5_builds a0 a1 h13 (fun h27 =>
      mk_i h27 0 93 93 fun q32 h32 =>
      w_X5_areAlike_38 P a0 a2 (some q32) 0 h32))))))))
theorem wk_X5_areAlike_70 {x : CX} (X : Ok x cX5_areAlike RX5 rm_X5_areAlike 5) (er : xrt x = (Option.some Jvm.ClassFile.FieldType.boolean)) (en : xnm x = yX5_areAlike.name) {P : Int32 → AH → Prop} (hQ : xr_i x P) (x0 : Option Nat) (x3 : Option Nat) (x4 : Int32) (h : AH) (hw : w_X5_areAlike_70 P x0 x3 x4 h) : J x h 1 93 70 [(0, vR x0), (3, vR x3), (4, vI x4)] [] := by
  refine hw (fun x4 => J x h 1 93 70 [(0, vR x0), (3, vR x3), (4, vI x4)] []) (fun x4 hw => ?_)
  refine j_iload X (pc := 70) 2 dX5_areAlike_70 rfl ?_
  refine j_bipush X (pc := 72) 93 dX5_areAlike_72 (by decide) ?_
  refine j_icmp_ge X (pc := 74) 99 dX5_areAlike_74 (by decide) hw (fun hw => ?_) (fun hw => ?_)
  · refine j_iconst X (pc := 99) 1 dX5_areAlike_99 (by decide) ?_
    exact j_zret X (pc := 100) (ty := .boolean) hQ er rfl (Nat.le_of_ble_eq_true rfl) (Nat.le_of_ble_eq_true rfl) dX5_areAlike_100 hw
  · refine j_aload_n X (pc := 77) 1 dX5_areAlike_77 rfl rfl ?_
    refine j_iload X (pc := 78) 2 dX5_areAlike_78 rfl ?_
    refine j_iald X (pc := 80) 0 rfl dX5_areAlike_80 hw (fun y80 hw => ?_)
    refine j_aload_n X (pc := 81) 0 dX5_areAlike_81 rfl rfl ?_
    refine j_getq (ci := 4) X (pc := 82) in_X5 rfl (by decide) 21 (by decide) q1893 (Or.inl rfl) dX5_areAlike_82 hw (fun y82 hw => ?_)
    refine j_iload X (pc := 85) 2 dX5_areAlike_85 rfl ?_
    refine j_iald X (pc := 87) 0 rfl dX5_areAlike_87 hw (fun y87 hw => ?_)
    refine j_icmp_eq X (pc := 88) 93 dX5_areAlike_88 (by decide) hw (fun hw => ?_) (fun hw => ?_)
    · refine j_iinc X (pc := 93) 2 (x4 + 1) [(4, vI (x4 + 1)), (0, vR x0), (3, vR x3)] dX5_areAlike_93 rfl rfl (Nat.le_of_ble_eq_true rfl) rfl ?_
      refine j_goto X (pc := 96) 70 dX5_areAlike_96 (by decide) ?_
      refine j_lv [(0, vR x0), (3, vR x3), (4, vI (x4 + 1))] [1, 2, 0] rfl ?_
      refine j_cs (u' := 1) (v' := 93) (Nat.le_of_ble_eq_true rfl) (Nat.le_of_ble_eq_true rfl) ?_
      exact hw
    · refine j_iconst X (pc := 91) 0 dX5_areAlike_91 (by decide) ?_
      exact j_zret X (pc := 92) (ty := .boolean) hQ er rfl (Nat.le_of_ble_eq_true rfl) (Nat.le_of_ble_eq_true rfl) dX5_areAlike_92 hw
theorem wk_X5_areAlike_38 {x : CX} (X : Ok x cX5_areAlike RX5 rm_X5_areAlike 5) (er : xrt x = (Option.some Jvm.ClassFile.FieldType.boolean)) (en : xnm x = yX5_areAlike.name) {P : Int32 → AH → Prop} (hQ : xr_i x P) (x0 : Option Nat) (x2 : Int32) (x3 : Option Nat) (x4 : Int32) (h : AH) (hw : w_X5_areAlike_38 P x0 x2 x3 x4 h) : J x h 1 93 38 [(0, vR x0), (2, vI x2), (3, vR x3), (4, vI x4)] [] := by
  refine hw (fun x4 h => J x h 1 93 38 [(0, vR x0), (2, vI x2), (3, vR x3), (4, vI x4)] []) (fun x4 h hw => ?_)
  refine j_iload X (pc := 38) 3 dX5_areAlike_38 rfl ?_
  refine j_bipush X (pc := 40) 93 dX5_areAlike_40 (by decide) ?_
  refine j_icmp_ge X (pc := 42) 62 dX5_areAlike_42 (by decide) hw (fun hw => ?_) (fun hw => ?_)
  · refine j_aload_n X (pc := 62) 0 dX5_areAlike_62 rfl rfl ?_
    refine j_iload_n X (pc := 63) 1 dX5_areAlike_63 rfl rfl ?_
    obtain ⟨b9, c9, f9, hr9, ho9, hc9, hw⟩ := hw
    obtain rfl := List.mem_singleton.mp hc9
    refine j_callv (j_runV (n8 := 1) (As := [vI x2]) (rest := []) X (pc := 64) hr9 (met_X5_builds (xl x) X.hl (xG x) h x0 x2 _ hw) ho9 (by decide) rfl q1992 q1994 qs34 q78 q1995 (by decide +kernel) dX5_areAlike_64 rfl ⟨Nat.le_of_ble_eq_true rfl, Nat.le_of_ble_eq_true rfl⟩ (Nat.le_of_ble_eq_true rfl) ⟨Nat.le_of_ble_eq_true rfl, Nat.le_of_ble_eq_true rfl⟩) (fun h64 hw => ?_)
    refine j_iconst X (pc := 67) 0 dX5_areAlike_67 (by decide) ?_
    refine j_istore X (pc := 68) [(4, vI 0), (0, vR x0), (2, vI x2), (3, vR x3)] dX5_areAlike_68 (Nat.le_of_ble_eq_true rfl) rfl ?_
    refine j_lv [(0, vR x0), (3, vR x3), (4, vI 0)] [1, 3, 0] rfl ?_
    refine j_cs (u' := 1) (v' := 93) (Nat.le_of_ble_eq_true rfl) (Nat.le_of_ble_eq_true rfl) ?_
    exact wk_X5_areAlike_70 X er en hQ x0 x3 0 h64 hw
  · refine j_aload_n X (pc := 45) 2 dX5_areAlike_45 rfl rfl ?_
    refine j_iload X (pc := 46) 3 dX5_areAlike_46 rfl ?_
    refine j_aload_n X (pc := 48) 0 dX5_areAlike_48 rfl rfl ?_
    refine j_getq (ci := 4) X (pc := 49) in_X5 rfl (by decide) 21 (by decide) q1893 (Or.inl rfl) dX5_areAlike_49 hw (fun y49 hw => ?_)
    refine j_iload X (pc := 52) 3 dX5_areAlike_52 rfl ?_
    refine j_iald X (pc := 54) 0 rfl dX5_areAlike_54 hw (fun y54 hw => ?_)
    refine j_iast X (pc := 55) 0 rfl rfl dX5_areAlike_55 hw (fun h55 hw => ?_)
    refine j_iinc X (pc := 56) 3 (x4 + 1) [(4, vI (x4 + 1)), (0, vR x0), (2, vI x2), (3, vR x3)] dX5_areAlike_56 rfl rfl (Nat.le_of_ble_eq_true rfl) rfl ?_
    refine j_goto X (pc := 59) 38 dX5_areAlike_59 (by decide) ?_
    refine j_lv [(0, vR x0), (2, vI x2), (3, vR x3), (4, vI (x4 + 1))] [1, 2, 3, 0] rfl ?_
    refine j_cs (u' := 1) (v' := 93) (Nat.le_of_ble_eq_true rfl) (Nat.le_of_ble_eq_true rfl) ?_
    exact hw
theorem met_X5_areAlike (l : Launch) (hlt : l.stackTraces = false) (G : GG) (h : AH) (a0 : Option Nat) (a1 : Int32) (a2 : Int32) (P : Int32 → AH → Prop) (hw : w_X5_areAlike a0 a1 a2 h P) : ct_i l yX5_areAlike (ws_ yX5_areAlike cX5_areAlike 5 (Option.some Jvm.ClassFile.FieldType.boolean)) rm_X5_areAlike G h [vR a0, vI a1, vI a2] P := by
  refine j_starti hlt [(0, vR a0), (1, vI a1), (2, vI a2)] (plainFor_of_name (by decide)) rfl rfl (fun x X eG er en hQ => ?_)
  subst eG
  refine j_aload_n X (pc := 0) 0 dX5_areAlike_0 rfl rfl ?_
  refine j_iconst X (pc := 1) 0 dX5_areAlike_1 (by decide) ?_
  refine j_put (ci := 4) X (pc := 2) in_X5 rfl (by decide) 0 (by decide) q1872 (Or.inl rfl) tyX5 tyX5_ok nmX5 rfl rfl (ty := .int) (tyX5_ok 0 (by decide)) rfl rfl dX5_areAlike_2 hw (fun h2 hw => ?_)
  refine j_iload_n X (pc := 5) 1 dX5_areAlike_5 rfl rfl ?_
  refine j_calli (j_runS (n8 := 1) (As := [vI a1]) (rest := []) X (pc := 6) (met_X5_isUser (xl x) X.hl (xG x) h2 a1 _ hw) q1978 q1979 q78 q1980 (by decide +kernel) dX5_areAlike_6 rfl ⟨Nat.le_of_ble_eq_true rfl, Nat.le_of_ble_eq_true rfl⟩ (Nat.le_of_ble_eq_true rfl) ⟨Nat.le_of_ble_eq_true rfl, Nat.le_of_ble_eq_true rfl⟩) (fun y6 h6 hw => ?_)
  refine j_if_eq X (pc := 9) 19 dX5_areAlike_9 (by decide) hw (fun hw => ?_) (fun hw => ?_)
  · refine j_aload_n X (pc := 19) 0 dX5_areAlike_19 rfl rfl ?_
    refine j_iconst X (pc := 20) 1 dX5_areAlike_20 (by decide) ?_
    obtain ⟨b9, c9, f9, hr9, ho9, hc9, hw⟩ := hw
    obtain rfl := List.mem_singleton.mp hc9
    refine j_calli (j_runV (n8 := 1) (As := [vI 1]) (rest := []) X (pc := 21) hr9 (met_X5_isWrong (xl x) X.hl (xG x) h6 a0 1 _ hw) ho9 (by decide) rfl q2126 q2128 qs55 q78 q2129 (by decide +kernel) dX5_areAlike_21 rfl ⟨Nat.le_of_ble_eq_true rfl, Nat.le_of_ble_eq_true rfl⟩ (Nat.le_of_ble_eq_true rfl) ⟨Nat.le_of_ble_eq_true rfl, Nat.le_of_ble_eq_true rfl⟩) (fun y21 h21 hw => ?_)
    exact j_zret X (pc := 24) (ty := .boolean) hQ er hw.1.1 (Nat.le_of_ble_eq_true rfl) (Nat.le_of_ble_eq_true rfl) dX5_areAlike_24 hw.2
  · refine j_iload_n X (pc := 12) 2 dX5_areAlike_12 rfl rfl ?_
    refine j_calli (j_runS (n8 := 1) (As := [vI a2]) (rest := []) X (pc := 13) (met_X5_isUser (xl x) X.hl (xG x) h6 a2 _ hw) q1978 q1979 q78 q1980 (by decide +kernel) dX5_areAlike_13 rfl ⟨Nat.le_of_ble_eq_true rfl, Nat.le_of_ble_eq_true rfl⟩ (Nat.le_of_ble_eq_true rfl) ⟨Nat.le_of_ble_eq_true rfl, Nat.le_of_ble_eq_true rfl⟩) (fun y13 h13 hw => ?_)
    refine j_if_ne X (pc := 16) 25 dX5_areAlike_16 (by decide) hw (fun hw => ?_) (fun hw => ?_)
    · refine j_aload_n X (pc := 19) 0 dX5_areAlike_19 rfl rfl ?_
      refine j_iconst X (pc := 20) 1 dX5_areAlike_20 (by decide) ?_
      obtain ⟨b9, c9, f9, hr9, ho9, hc9, hw⟩ := hw
      obtain rfl := List.mem_singleton.mp hc9
      refine j_calli (j_runV (n8 := 1) (As := [vI 1]) (rest := []) X (pc := 21) hr9 (met_X5_isWrong (xl x) X.hl (xG x) h13 a0 1 _ hw) ho9 (by decide) rfl q2126 q2128 qs55 q78 q2129 (by decide +kernel) dX5_areAlike_21 rfl ⟨Nat.le_of_ble_eq_true rfl, Nat.le_of_ble_eq_true rfl⟩ (Nat.le_of_ble_eq_true rfl) ⟨Nat.le_of_ble_eq_true rfl, Nat.le_of_ble_eq_true rfl⟩) (fun y21 h21 hw => ?_)
      exact j_zret X (pc := 24) (ty := .boolean) hQ er hw.1.1 (Nat.le_of_ble_eq_true rfl) (Nat.le_of_ble_eq_true rfl) dX5_areAlike_24 hw.2
    · refine j_aload_n X (pc := 25) 0 dX5_areAlike_25 rfl rfl ?_
      refine j_iload_n X (pc := 26) 1 dX5_areAlike_26 rfl rfl ?_
      obtain ⟨b9, c9, f9, hr9, ho9, hc9, hw⟩ := hw
      obtain rfl := List.mem_singleton.mp hc9
      refine j_callv (j_runV (n8 := 1) (As := [vI a1]) (rest := []) X (pc := 27) hr9 (met_X5_builds (xl x) X.hl (xG x) h13 a0 a1 _ hw) ho9 (by decide) rfl q1992 q1994 qs34 q78 q1995 (by decide +kernel) dX5_areAlike_27 rfl ⟨Nat.le_of_ble_eq_true rfl, Nat.le_of_ble_eq_true rfl⟩ (Nat.le_of_ble_eq_true rfl) ⟨Nat.le_of_ble_eq_true rfl, Nat.le_of_ble_eq_true rfl⟩) (fun h27 hw => ?_)
      refine j_bipush X (pc := 30) 93 dX5_areAlike_30 (by decide) ?_
      refine j_newI X (pc := 32) 93 dX5_areAlike_32 q180 (by decide) (Nat.le_of_ble_eq_true rfl) (Nat.le_of_ble_eq_true rfl) hw (fun q32 h32 hw => ?_)
      refine j_astore_n X (pc := 34) [(3, vR (some q32)), (0, vR a0), (1, vI a1), (2, vI a2)] dX5_areAlike_34 rfl (Nat.le_of_ble_eq_true rfl) rfl ?_
      refine j_iconst X (pc := 35) 0 dX5_areAlike_35 (by decide) ?_
      refine j_istore X (pc := 36) [(4, vI 0), (3, vR (some q32)), (0, vR a0), (1, vI a1), (2, vI a2)] dX5_areAlike_36 (Nat.le_of_ble_eq_true rfl) rfl ?_
      refine j_lv [(0, vR a0), (2, vI a2), (3, vR (some q32)), (4, vI 0)] [2, 4, 1, 0] rfl ?_
      refine j_cs (u' := 1) (v' := 93) (Nat.le_of_ble_eq_true rfl) (Nat.le_of_ble_eq_true rfl) ?_
      exact wk_X5_areAlike_38 X er en hQ a0 a2 (some q32) 0 h32 hw
abbrev cX1_countFrames : ByteArray := prog_1_method_83_code
def yX1_countFrames : MethodName := ⟨RX1, "countFrames", "(LPlugboard$Board;)I"⟩
def dkwX1_countFrames_2 : List UInt8 := [167, 0, 8, 58, 5, 167, 255, 223, 167, 255, 220, 28, 172]
abbrev dktX1_countFrames_2 : List UInt8 := dkwX1_countFrames_2 ++ []
def dkwX1_countFrames_1 : List UInt8 := [153, 0, 33, 45, 185, 0, 185, 1, 0, 192, 0, 124, 58, 4, 43, 28, 25, 4, 83, 132, 2, 1]
abbrev dktX1_countFrames_1 : List UInt8 := dkwX1_countFrames_1 ++ dktX1_countFrames_2
def dkwX1_countFrames_0 : List UInt8 := [16, 12, 189, 0, 217, 76, 3, 61, 42, 182, 0, 169, 185, 0, 173, 1, 0, 78, 45, 185, 0, 179, 1, 0]
abbrev dktX1_countFrames_0 : List UInt8 := dkwX1_countFrames_0 ++ dktX1_countFrames_1
theorem dksX1_countFrames_0 : cX1_countFrames.data.toList.drop 0 = dktX1_countFrames_0 := by decide +kernel
theorem dksX1_countFrames_1 : cX1_countFrames.data.toList.drop 24 = dktX1_countFrames_1 := dk_seg dksX1_countFrames_0 24 rfl rfl
theorem dksX1_countFrames_2 : cX1_countFrames.data.toList.drop 46 = dktX1_countFrames_2 := dk_seg dksX1_countFrames_1 22 rfl rfl
theorem dX1_countFrames_0 : decode cX1_countFrames 0 = .ok (.bipush 12, 2) := dk_16 12 (dk_at dksX1_countFrames_0 0 rfl rfl)
theorem dX1_countFrames_2 : decode cX1_countFrames 2 = .ok (.anewarray 217, 3) := dk_189 0 217 (dk_at dksX1_countFrames_0 2 rfl rfl)
theorem dX1_countFrames_5 : decode cX1_countFrames 5 = .ok (.astore_n 1, 1) := dk_76 (dk_at dksX1_countFrames_0 5 rfl rfl)
theorem dX1_countFrames_6 : decode cX1_countFrames 6 = .ok (.iconst 0, 1) := dk_3 (dk_at dksX1_countFrames_0 6 rfl rfl)
theorem dX1_countFrames_7 : decode cX1_countFrames 7 = .ok (.istore_n 2, 1) := dk_61 (dk_at dksX1_countFrames_0 7 rfl rfl)
theorem dX1_countFrames_8 : decode cX1_countFrames 8 = .ok (.aload_n 0, 1) := dk_42 (dk_at dksX1_countFrames_0 8 rfl rfl)
theorem dX1_countFrames_9 : decode cX1_countFrames 9 = .ok (.invokevirtual 169, 3) := dk_182 0 169 (dk_at dksX1_countFrames_0 9 rfl rfl)
theorem dX1_countFrames_12 : decode cX1_countFrames 12 = .ok (.invokeinterface 173 1, 5) := by decide +kernel
theorem dX1_countFrames_17 : decode cX1_countFrames 17 = .ok (.astore_n 3, 1) := dk_78 (dk_at dksX1_countFrames_0 17 rfl rfl)
theorem dX1_countFrames_18 : decode cX1_countFrames 18 = .ok (.aload_n 3, 1) := dk_45 (dk_at dksX1_countFrames_0 18 rfl rfl)
theorem dX1_countFrames_19 : decode cX1_countFrames 19 = .ok (.invokeinterface 179 1, 5) := by decide +kernel
theorem dX1_countFrames_24 : decode cX1_countFrames 24 = .ok (.ifCond .eq 33, 3) := dk_153 0 33 (dk_at dksX1_countFrames_1 0 rfl rfl)
theorem dX1_countFrames_27 : decode cX1_countFrames 27 = .ok (.aload_n 3, 1) := dk_45 (dk_at dksX1_countFrames_1 3 rfl rfl)
theorem dX1_countFrames_28 : decode cX1_countFrames 28 = .ok (.invokeinterface 185 1, 5) := by decide +kernel
theorem dX1_countFrames_33 : decode cX1_countFrames 33 = .ok (.checkcast 124, 3) := dk_192 0 124 (dk_at dksX1_countFrames_1 9 rfl rfl)
theorem dX1_countFrames_36 : decode cX1_countFrames 36 = .ok (.astore 4, 2) := dk_58 4 (dk_at dksX1_countFrames_1 12 rfl rfl)
theorem dX1_countFrames_38 : decode cX1_countFrames 38 = .ok (.aload_n 1, 1) := dk_43 (dk_at dksX1_countFrames_1 14 rfl rfl)
theorem dX1_countFrames_39 : decode cX1_countFrames 39 = .ok (.iload_n 2, 1) := dk_28 (dk_at dksX1_countFrames_1 15 rfl rfl)
theorem dX1_countFrames_40 : decode cX1_countFrames 40 = .ok (.aload 4, 2) := dk_25 4 (dk_at dksX1_countFrames_1 16 rfl rfl)
theorem dX1_countFrames_42 : decode cX1_countFrames 42 = .ok (.aastore, 1) := dk_83 (dk_at dksX1_countFrames_1 18 rfl rfl)
theorem dX1_countFrames_43 : decode cX1_countFrames 43 = .ok (.iinc 2 1, 3) := dk_132 2 1 (dk_at dksX1_countFrames_1 19 rfl rfl)
theorem dX1_countFrames_46 : decode cX1_countFrames 46 = .ok (.goto 8, 3) := dk_167 0 8 (dk_at dksX1_countFrames_2 0 rfl rfl)
theorem dX1_countFrames_49 : decode cX1_countFrames 49 = .ok (.astore 5, 2) := dk_58 5 (dk_at dksX1_countFrames_2 3 rfl rfl)
theorem dX1_countFrames_51 : decode cX1_countFrames 51 = .ok (.goto (-33), 3) := dk_167 255 223 (dk_at dksX1_countFrames_2 5 rfl rfl)
theorem dX1_countFrames_54 : decode cX1_countFrames 54 = .ok (.goto (-36), 3) := dk_167 255 220 (dk_at dksX1_countFrames_2 8 rfl rfl)
theorem dX1_countFrames_57 : decode cX1_countFrames 57 = .ok (.iload_n 2, 1) := dk_28 (dk_at dksX1_countFrames_2 11 rfl rfl)
theorem dX1_countFrames_58 : decode cX1_countFrames 58 = .ok (.ireturn, 1) := dk_172 (dk_at dksX1_countFrames_2 12 rfl rfl)
theorem q1835 : (Jvm.Cond.classLink "Plugboard" (461 : Nat) "java/lang/ArrayStoreException") ∈ lw_all := lw_g (lw_at lw_m8 85 rfl) rfl
theorem q1847 : (Jvm.Cond.castable "java/lang/ArrayStoreException" "java/lang/ArrayStoreException") ∈ lw_tbl := lw_at lw_m8 97 rfl
abbrev rm_X1_countFrames : Room := { frames := 7, cells := 100, slots := 1000, locals := 10240 }
def w_X1_countFrames_18 (P : Int32 → AH → Prop) (x1 : Option Nat) (x2 : Int32) (x3 : Option Nat) (u9 : Nat) (v9 : Nat) (h : AH) : Prop :=
  ∀ Z18 : Int32 → Nat → Nat → AH → Prop, (∀ x2 u9 v9 h, (
      is_c h x3 [6] (
      u9 + 0 ≤ 100 ∧ v9 + 0 ≤ 1000 ∧
      w_X7_hasNext x3 h (fun y19 h19 =>
      ((y19 = 0 →
        u9 ≤ 100 ∧ v9 ≤ 1000 ∧
        P x2 h19) ∧
       (¬ y19 = 0 →
        is_c h19 x3 [6] (
        u9 + 0 ≤ 100 ∧ v9 + 0 ≤ 1000 ∧
        w_X7_next x3 h19 (fun y28 h28 =>
        is_c h28 y28 [7, 8] (
        u9 + 3 ≤ 100 ∧ v9 + 25 ≤ 1000 ∧
        s_F h28 x1 x2 y28 (fun h42 =>
        Z18 (x2 + 1) u9 v9 h42)
          (∀ q9 : Nat,
          Z18 x2 (u9 + 3) (v9 + 25) h28)))))))))
      → Z18 x2 u9 v9 h) → Z18 x2 u9 v9 h
def w_X1_countFrames (a0 : Option Nat) (h : AH) (P : Int32 → AH → Prop) : Prop :=
  mk_q h 12 12 12 fun q2 h2 =>
  is_c h2 a0 [2] (
  w_X3_seen a0 h2 (fun y9 h9 =>
  is_c h9 y9 [5] (
  w_X6_iterator y9 h9 (fun y12 h12 =>
  w_X1_countFrames_18 P (some q2) 0 y12 3 15 h12))))
theorem wk_X1_countFrames_18 {x : CX} (X : Ok x cX1_countFrames RX1 rm_X1_countFrames 6) (er : xrt x = (Option.some Jvm.ClassFile.FieldType.int)) (en : xnm x = yX1_countFrames.name) {P : Int32 → AH → Prop} (hQ : xr_i x P) (hex : x.2.2.2.2.2.2.2.2.2.1.exceptionTable.toList = tableOf [((38 : Nat), (46 : Nat), (49 : Nat), (461 : Nat))]) (x1 : Option Nat) (x2 : Int32) (x3 : Option Nat) (u9 : Nat) (v9 : Nat) (h : AH) (hw : w_X1_countFrames_18 P x1 x2 x3 u9 v9 h) : J x h u9 v9 18 [(1, vR x1), (2, vI x2), (3, vR x3)] [] := by
  refine hw (fun x2 u9 v9 h => J x h u9 v9 18 [(1, vR x1), (2, vI x2), (3, vR x3)] []) (fun x2 u9 v9 h hw => ?_)
  refine j_aload_n X (pc := 18) 2 dX1_countFrames_18 rfl rfl ?_
  obtain ⟨b9, c9, f9, hr9, ho9, hc9, hw⟩ := hw
  obtain rfl := List.mem_singleton.mp hc9
  obtain ⟨hu9, hv9, hw⟩ := hw
  refine j_call5i (j_runF (n8 := 0) (As := []) (rest := []) X (pc := 19) hr9 (met_X7_hasNext (xl x) X.hl (xG x) h x3 _ hw) ho9 (by decide) rfl q481 q485 q487 q85 q489 (fun U hU => kt_F2 hU) (by decide +kernel) dX1_countFrames_19 rfl ⟨Nat.le_of_ble_eq_true rfl, Nat.le_of_ble_eq_true rfl⟩ (Nat.le_of_ble_eq_true rfl) ⟨hu9, hv9⟩) (fun y19 h19 hw => ?_)
  refine j_if_eq X (pc := 24) 57 dX1_countFrames_24 (by decide) hw (fun hw => ?_) (fun hw => ?_)
  · refine j_iload_n X (pc := 57) 1 dX1_countFrames_57 rfl rfl ?_
    obtain ⟨hu9, hv9, hw⟩ := hw
    exact j_iret X (pc := 58) hQ er hu9 hv9 dX1_countFrames_58 hw
  · refine j_aload_n X (pc := 27) 2 dX1_countFrames_27 rfl rfl ?_
    obtain ⟨b9, c9, f9, hr9, ho9, hc9, hw⟩ := hw
    obtain rfl := List.mem_singleton.mp hc9
    obtain ⟨hu9, hv9, hw⟩ := hw
    refine j_call5q (j_runF (n8 := 0) (As := []) (rest := []) X (pc := 28) hr9 (met_X7_next (xl x) X.hl (xG x) h19 x3 _ hw) ho9 (by decide) rfl q499 q502 q504 q85 q506 (fun U hU => kt_F3 hU) (by decide +kernel) dX1_countFrames_28 rfl ⟨Nat.le_of_ble_eq_true rfl, Nat.le_of_ble_eq_true rfl⟩ (Nat.le_of_ble_eq_true rfl) ⟨hu9, hv9⟩) (fun y28 h28 hw => ?_)
    refine j_chk X (pc := 33) (L := [7, 8]) q550 (by intro ci hci; simp only [List.mem_cons, List.not_mem_nil, or_false] at hci; rcases hci with rfl | rfl <;> first | exact ⟨by decide, _, _, _, rfl, Or.inr q2343⟩ | exact ⟨by decide, _, _, _, rfl, Or.inr q2344⟩) dX1_countFrames_33 hw (fun hw => ?_)
    refine j_astore X (pc := 36) [(4, vR y28), (1, vR x1), (2, vI x2), (3, vR x3)] dX1_countFrames_36 (Nat.le_of_ble_eq_true rfl) rfl ?_
    refine j_aload_n X (pc := 38) 1 dX1_countFrames_38 rfl rfl ?_
    refine j_iload_n X (pc := 39) 2 dX1_countFrames_39 rfl rfl ?_
    refine j_aload X (pc := 40) 0 dX1_countFrames_40 rfl ?_
    obtain ⟨hu9, hv9, hw⟩ := hw
    refine j_aastF X (pc := 42) ⟨Nat.le_of_ble_eq_true rfl, Nat.le_of_ble_eq_true rfl⟩ hu9 hv9 dX1_countFrames_42 hw (fun h42 hw => ?_) (fun hw => j_catch X (pc := 42) "java/lang/ArrayStoreException" hex [] [] ⟨38, 46, 49, 461⟩ rfl (by intro y hy; cases hy) (by decide) (by decide) q1835 q1847 (fun q9 => ?_))
    rotate_left
    · have hw := hw q9
      refine j_astore X (pc := 49) [(5, vR (some q9)), (4, vR y28), (1, vR x1), (2, vI x2), (3, vR x3)] dX1_countFrames_49 (Nat.le_of_ble_eq_true rfl) rfl ?_
      refine j_goto X (pc := 51) 18 dX1_countFrames_51 (by decide) ?_
      refine j_lv [(1, vR x1), (2, vI x2), (3, vR x3)] [2, 3, 4] rfl ?_
      exact hw
    refine j_iinc X (pc := 43) 2 (x2 + 1) [(2, vI (x2 + 1)), (4, vR y28), (1, vR x1), (3, vR x3)] dX1_countFrames_43 rfl rfl (Nat.le_of_ble_eq_true rfl) rfl ?_
    refine j_goto X (pc := 46) 54 dX1_countFrames_46 (by decide) ?_
    refine j_goto X (pc := 54) 18 dX1_countFrames_54 (by decide) ?_
    refine j_lv [(1, vR x1), (2, vI (x2 + 1)), (3, vR x3)] [2, 0, 3] rfl ?_
    exact hw
theorem met_X1_countFrames (l : Launch) (hlt : l.stackTraces = false) (G : GG) (h : AH) (a0 : Option Nat) (P : Int32 → AH → Prop) (hw : w_X1_countFrames a0 h P) : ct_i l yX1_countFrames (wsW_ yX1_countFrames cX1_countFrames 6 (Option.some Jvm.ClassFile.FieldType.int) [((38 : Nat), (46 : Nat), (49 : Nat), (461 : Nat))]) rm_X1_countFrames G h [vR a0] P := by
  refine j_startWi hlt [(0, vR a0)] (by decide) rfl rfl (fun x X eG er en hQ hex => ?_)
  subst eG
  refine j_bipush X (pc := 0) 12 dX1_countFrames_0 (by decide) ?_
  refine j_newQ X (pc := 2) 12 rfl (by decide) 12 dX1_countFrames_2 q566 (fun U hU => kt_12 hU) (by decide) (Nat.le_of_ble_eq_true rfl) (Nat.le_of_ble_eq_true rfl) hw (fun q2 h2 hw => ?_)
  refine j_astore_n X (pc := 5) [(1, vR (some q2)), (0, vR a0)] dX1_countFrames_5 rfl (Nat.le_of_ble_eq_true rfl) rfl ?_
  refine j_iconst X (pc := 6) 0 dX1_countFrames_6 (by decide) ?_
  refine j_istore_n X (pc := 7) [(2, vI 0), (1, vR (some q2)), (0, vR a0)] dX1_countFrames_7 rfl (Nat.le_of_ble_eq_true rfl) rfl ?_
  refine j_aload_n X (pc := 8) 2 dX1_countFrames_8 rfl rfl ?_
  obtain ⟨b9, c9, f9, hr9, ho9, hc9, hw⟩ := hw
  obtain rfl := List.mem_singleton.mp hc9
  refine j_callq (j_runV (n8 := 0) (As := []) (rest := []) X (pc := 9) hr9 (met_X3_seen (xl x) X.hl (xG x) h2 a0 _ hw) ho9 (by decide) rfl q418 q419 q420 q76 q421 (by decide +kernel) dX1_countFrames_9 rfl ⟨Nat.le_of_ble_eq_true rfl, Nat.le_of_ble_eq_true rfl⟩ (Nat.le_of_ble_eq_true rfl) ⟨Nat.le_of_ble_eq_true rfl, Nat.le_of_ble_eq_true rfl⟩) (fun y9 h9 hw => ?_)
  obtain ⟨b9, c9, f9, hr9, ho9, hc9, hw⟩ := hw
  obtain rfl := List.mem_singleton.mp hc9
  refine j_call5q (j_runF (n8 := 0) (As := []) (rest := []) X (pc := 12) hr9 (met_X6_iterator (xl x) X.hl (xG x) h9 y9 _ hw) ho9 (by decide) rfl q433 q437 q439 q84 q441 (fun U hU => kt_F1 hU) (by decide +kernel) dX1_countFrames_12 rfl ⟨Nat.le_of_ble_eq_true rfl, Nat.le_of_ble_eq_true rfl⟩ (Nat.le_of_ble_eq_true rfl) ⟨Nat.le_of_ble_eq_true rfl, Nat.le_of_ble_eq_true rfl⟩) (fun y12 h12 hw => ?_)
  refine j_astore_n X (pc := 17) [(3, vR y12), (2, vI 0), (1, vR (some q2)), (0, vR a0)] dX1_countFrames_17 rfl (Nat.le_of_ble_eq_true rfl) rfl ?_
  refine j_lv [(1, vR (some q2)), (2, vI 0), (3, vR y12)] [2, 1, 0] rfl ?_
  exact wk_X1_countFrames_18 X er en hQ hex (some q2) 0 y12 3 15 h12 hw
abbrev cX1_frameShare : ByteArray := prog_1_method_84_code
def yX1_frameShare : MethodName := ⟨RX1, "frameShare", "(I)F"⟩
def dkwX1_frameShare_1 : List UInt8 := [184, 1, 210, 134, 29, 134, 110, 174]
abbrev dktX1_frameShare_1 : List UInt8 := dkwX1_frameShare_1 ++ []
def dkwX1_frameShare_0 : List UInt8 := [42, 27, 182, 0, 199, 77, 44, 182, 0, 210, 62, 29, 154, 0, 11, 187, 1, 207, 89, 183, 1, 209, 191, 44]
abbrev dktX1_frameShare_0 : List UInt8 := dkwX1_frameShare_0 ++ dktX1_frameShare_1
theorem dksX1_frameShare_0 : cX1_frameShare.data.toList.drop 0 = dktX1_frameShare_0 := by decide +kernel
theorem dksX1_frameShare_1 : cX1_frameShare.data.toList.drop 24 = dktX1_frameShare_1 := dk_seg dksX1_frameShare_0 24 rfl rfl
theorem dX1_frameShare_0 : decode cX1_frameShare 0 = .ok (.aload_n 0, 1) := dk_42 (dk_at dksX1_frameShare_0 0 rfl rfl)
theorem dX1_frameShare_1 : decode cX1_frameShare 1 = .ok (.iload_n 1, 1) := dk_27 (dk_at dksX1_frameShare_0 1 rfl rfl)
theorem dX1_frameShare_2 : decode cX1_frameShare 2 = .ok (.invokevirtual 199, 3) := dk_182 0 199 (dk_at dksX1_frameShare_0 2 rfl rfl)
theorem dX1_frameShare_5 : decode cX1_frameShare 5 = .ok (.astore_n 2, 1) := dk_77 (dk_at dksX1_frameShare_0 5 rfl rfl)
theorem dX1_frameShare_6 : decode cX1_frameShare 6 = .ok (.aload_n 2, 1) := dk_44 (dk_at dksX1_frameShare_0 6 rfl rfl)
theorem dX1_frameShare_7 : decode cX1_frameShare 7 = .ok (.invokevirtual 210, 3) := dk_182 0 210 (dk_at dksX1_frameShare_0 7 rfl rfl)
theorem dX1_frameShare_10 : decode cX1_frameShare 10 = .ok (.istore_n 3, 1) := dk_62 (dk_at dksX1_frameShare_0 10 rfl rfl)
theorem dX1_frameShare_11 : decode cX1_frameShare 11 = .ok (.iload_n 3, 1) := dk_29 (dk_at dksX1_frameShare_0 11 rfl rfl)
theorem dX1_frameShare_12 : decode cX1_frameShare 12 = .ok (.ifCond .ne 11, 3) := dk_154 0 11 (dk_at dksX1_frameShare_0 12 rfl rfl)
theorem dX1_frameShare_15 : decode cX1_frameShare 15 = .ok (.new 463, 3) := dk_187 1 207 (dk_at dksX1_frameShare_0 15 rfl rfl)
theorem dX1_frameShare_18 : decode cX1_frameShare 18 = .ok (.dup, 1) := dk_89 (dk_at dksX1_frameShare_0 18 rfl rfl)
theorem dX1_frameShare_19 : decode cX1_frameShare 19 = .ok (.invokespecial 465, 3) := dk_183 1 209 (dk_at dksX1_frameShare_0 19 rfl rfl)
theorem dX1_frameShare_22 : decode cX1_frameShare 22 = .ok (.athrow, 1) := dk_191 (dk_at dksX1_frameShare_0 22 rfl rfl)
theorem dX1_frameShare_23 : decode cX1_frameShare 23 = .ok (.aload_n 2, 1) := dk_44 (dk_at dksX1_frameShare_0 23 rfl rfl)
theorem dX1_frameShare_24 : decode cX1_frameShare 24 = .ok (.invokestatic 466, 3) := dk_184 1 210 (dk_at dksX1_frameShare_1 0 rfl rfl)
theorem dX1_frameShare_27 : decode cX1_frameShare 27 = .ok (.i2f, 1) := dk_134 (dk_at dksX1_frameShare_1 3 rfl rfl)
theorem dX1_frameShare_28 : decode cX1_frameShare 28 = .ok (.iload_n 3, 1) := dk_29 (dk_at dksX1_frameShare_1 4 rfl rfl)
theorem dX1_frameShare_29 : decode cX1_frameShare 29 = .ok (.i2f, 1) := dk_134 (dk_at dksX1_frameShare_1 5 rfl rfl)
theorem dX1_frameShare_30 : decode cX1_frameShare 30 = .ok (.fdiv, 1) := dk_110 (dk_at dksX1_frameShare_1 6 rfl rfl)
theorem dX1_frameShare_31 : decode cX1_frameShare 31 = .ok (.freturn, 1) := dk_174 (dk_at dksX1_frameShare_1 7 rfl rfl)
theorem q117 : (Jvm.Cond.initialized "java/lang/ArithmeticException") ∈ lw_all := lw_g (lw_at lw_m1 47 rfl) rfl
theorem q1827 : (Jvm.Cond.classLink "Plugboard" (463 : Nat) "java/lang/ArithmeticException") ∈ lw_all := lw_g (lw_at lw_m8 77 rfl) rfl
theorem q1832 : (Jvm.Cond.methodLink "Plugboard" (466 : Nat) ({ cls := "Plugboard", name := "countFrames", desc := "(LPlugboard$Board;)I" } : Jvm.MethodName)) ∈ lw_all := lw_g (lw_at lw_m8 82 rfl) rfl
theorem q1833 : (Jvm.Cond.static ({ cls := "Plugboard", name := "countFrames", desc := "(LPlugboard$Board;)I" } : Jvm.MethodName)) ∈ lw_all := lw_g (lw_at lw_m8 83 rfl) rfl
theorem q1834 : (Jvm.Cond.codeWith ({ cls := "Plugboard", name := "countFrames", desc := "(LPlugboard$Board;)I" } : Jvm.MethodName) prog_1_method_83_code (6 : Nat) (Option.some Jvm.ClassFile.FieldType.int) [((38 : Nat), (46 : Nat), (49 : Nat), (461 : Nat))]) ∈ lw_all := lw_g (lw_at lw_m8 84 rfl) rfl
abbrev rm_X1_frameShare : Room := { frames := 9, cells := 102, slots := 1007, locals := 10265 }
theorem at_X1_frameShare_15 : ∀ w ∈ vx_at0 RX1 465 "java/lang/ArithmeticException" ["java/lang/RuntimeException", "java/lang/Exception"], w ∈ lw_tbl := ah_in _ [79, 332, 341, 350, 353, 355, 333, 334, 125, 126, 335, 340, 351, 368, 322, 369, 324, 370, 326, 336, 338, 328, 1829, 1830, 1831, 360, 313, 360, 361, 362, 363, 315, 363, 364, 365, 333, 317, 1828, 1810, 1821, 1822, 343, 1816, 1817, 1819, 1815, 366, 330, 1814] (by decide +kernel)
def w_X1_frameShare (a0 : Option Nat) (a1 : Int32) (h : AH) (P : UInt32 → AH → Prop) (PX : String → AH → Prop) : Prop :=
  is_c h a0 [0] (
  w_X1_board a0 a1 h (fun y2 h2 =>
  is_c h2 y2 [2] (
  w_X3_countSeen y2 h2 (fun y7 h7 =>
  ((y7 = 0 →
    PX "java/lang/ArithmeticException" h7) ∧
   (¬ y7 = 0 →
    w_X1_countFrames y2 h7 (fun y24 h24 =>
    vf_n32 (FP.fdiv (FP.i2f y24) (FP.i2f y7)) ∧
    P (FP.fdiv (FP.i2f y24) (FP.i2f y7)) h24)))))) PX)
theorem met_X1_frameShare (l : Launch) (hlt : l.stackTraces = false) (G : GG) (h : AH) (a0 : Option Nat) (a1 : Int32) (P : UInt32 → AH → Prop) (PX : String → AH → Prop) (hw : w_X1_frameShare a0 a1 h P PX) : cx_f l yX1_frameShare (ws_ yX1_frameShare cX1_frameShare 4 (Option.some Jvm.ClassFile.FieldType.float)) rm_X1_frameShare G h [vR a0, vI a1] P PX := by
  refine j_startXf hlt [(0, vR a0), (1, vI a1)] (by decide) rfl rfl (fun x X eG er en hQ hT hex => ?_)
  subst eG
  refine j_aload_n X (pc := 0) 0 dX1_frameShare_0 rfl rfl ?_
  refine j_iload_n X (pc := 1) 1 dX1_frameShare_1 rfl rfl ?_
  obtain ⟨b9, c9, f9, hr9, ho9, hc9, hw⟩ := hw
  obtain rfl := List.mem_singleton.mp hc9
  refine j_callXq (j_runVX (n8 := 1) (As := [vI a1]) (rest := []) X (pc := 2) hr9 (met_X1_board (xl x) X.hl (xG x) h a0 a1 _ _ hw) ho9 (by decide) rfl q297 q299 qs0 q71 q300 (by decide +kernel) dX1_frameShare_2 rfl ⟨Nat.le_of_ble_eq_true rfl, Nat.le_of_ble_eq_true rfl⟩ (Nat.le_of_ble_eq_true rfl) ⟨Nat.le_of_ble_eq_true rfl, Nat.le_of_ble_eq_true rfl⟩) (fun E h9 hx => j_out X hT hex (Nat.le_of_ble_eq_true rfl) (Nat.le_of_ble_eq_true rfl) hx) (fun y2 h2 hw => ?_)
  refine j_astore_n X (pc := 5) [(2, vR y2), (0, vR a0), (1, vI a1)] dX1_frameShare_5 rfl (Nat.le_of_ble_eq_true rfl) rfl ?_
  refine j_aload_n X (pc := 6) 0 dX1_frameShare_6 rfl rfl ?_
  obtain ⟨b9, c9, f9, hr9, ho9, hc9, hw⟩ := hw
  obtain rfl := List.mem_singleton.mp hc9
  refine j_calli (j_runV (n8 := 0) (As := []) (rest := []) X (pc := 7) hr9 (met_X3_countSeen (xl x) X.hl (xG x) h2 y2 _ hw) ho9 (by decide) rfl q404 q405 q406 q76 q407 (by decide +kernel) dX1_frameShare_7 rfl ⟨Nat.le_of_ble_eq_true rfl, Nat.le_of_ble_eq_true rfl⟩ (Nat.le_of_ble_eq_true rfl) ⟨Nat.le_of_ble_eq_true rfl, Nat.le_of_ble_eq_true rfl⟩) (fun y7 h7 hw => ?_)
  refine j_istore_n X (pc := 10) [(3, vI y7), (2, vR y2), (0, vR a0), (1, vI a1)] dX1_frameShare_10 rfl (Nat.le_of_ble_eq_true rfl) rfl ?_
  refine j_iload_n X (pc := 11) 0 dX1_frameShare_11 rfl rfl ?_
  refine j_if_ne X (pc := 12) 23 dX1_frameShare_12 (by decide) hw (fun hw => ?_) (fun hw => ?_)
  · exact j_throw X (pc := 15) (names := ["java/lang/RuntimeException", "java/lang/Exception"]) hT hex (by decide +kernel) (by decide +kernel) q1827 q117 at_X1_frameShare_15 (by decide +kernel) dX1_frameShare_15 dX1_frameShare_18 dX1_frameShare_19 dX1_frameShare_22 ⟨Nat.le_of_ble_eq_true rfl, Nat.le_of_ble_eq_true rfl⟩ (Nat.le_of_ble_eq_true rfl) (Nat.le_of_ble_eq_true rfl) hw
  · refine j_aload_n X (pc := 23) 1 dX1_frameShare_23 rfl rfl ?_
    refine j_calli (j_runSW (n8 := 1) (As := [vR y2]) (rest := []) X (pc := 24) (met_X1_countFrames (xl x) X.hl (xG x) h7 y2 _ hw) q1832 q1833 q71 q1834 (by decide +kernel) dX1_frameShare_24 rfl ⟨Nat.le_of_ble_eq_true rfl, Nat.le_of_ble_eq_true rfl⟩ (Nat.le_of_ble_eq_true rfl) ⟨Nat.le_of_ble_eq_true rfl, Nat.le_of_ble_eq_true rfl⟩) (fun y24 h24 hw => ?_)
    refine j_i2f X (pc := 27) dX1_frameShare_27 ?_
    refine j_iload_n X (pc := 28) 0 dX1_frameShare_28 rfl rfl ?_
    refine j_i2f X (pc := 29) dX1_frameShare_29 ?_
    refine j_fdiv X (pc := 30) dX1_frameShare_30 hw (fun hw => ?_)
    exact j_fret X (pc := 31) hQ er (Nat.le_of_ble_eq_true rfl) (Nat.le_of_ble_eq_true rfl) dX1_frameShare_31 hw
abbrev cX0_frameShare : ByteArray := method_44_code
def yX0_frameShare : MethodName := ⟨RX0, "frameShare", "(LPlugboard;I[D)I"⟩
def dkwX0_frameShare_0 : List UInt8 := [44, 3, 42, 27, 182, 0, 151, 141, 82, 167, 0, 9, 78, 4, 172, 78, 5, 172, 3, 172]
abbrev dktX0_frameShare_0 : List UInt8 := dkwX0_frameShare_0 ++ []
theorem dksX0_frameShare_0 : cX0_frameShare.data.toList.drop 0 = dktX0_frameShare_0 := by decide +kernel
theorem dX0_frameShare_0 : decode cX0_frameShare 0 = .ok (.aload_n 2, 1) := dk_44 (dk_at dksX0_frameShare_0 0 rfl rfl)
theorem dX0_frameShare_1 : decode cX0_frameShare 1 = .ok (.iconst 0, 1) := dk_3 (dk_at dksX0_frameShare_0 1 rfl rfl)
theorem dX0_frameShare_2 : decode cX0_frameShare 2 = .ok (.aload_n 0, 1) := dk_42 (dk_at dksX0_frameShare_0 2 rfl rfl)
theorem dX0_frameShare_3 : decode cX0_frameShare 3 = .ok (.iload_n 1, 1) := dk_27 (dk_at dksX0_frameShare_0 3 rfl rfl)
theorem dX0_frameShare_4 : decode cX0_frameShare 4 = .ok (.invokevirtual 151, 3) := dk_182 0 151 (dk_at dksX0_frameShare_0 4 rfl rfl)
theorem dX0_frameShare_7 : decode cX0_frameShare 7 = .ok (.f2d, 1) := dk_141 (dk_at dksX0_frameShare_0 7 rfl rfl)
theorem dX0_frameShare_8 : decode cX0_frameShare 8 = .ok (.dastore, 1) := dk_82 (dk_at dksX0_frameShare_0 8 rfl rfl)
theorem dX0_frameShare_9 : decode cX0_frameShare 9 = .ok (.goto 9, 3) := dk_167 0 9 (dk_at dksX0_frameShare_0 9 rfl rfl)
theorem dX0_frameShare_12 : decode cX0_frameShare 12 = .ok (.astore_n 3, 1) := dk_78 (dk_at dksX0_frameShare_0 12 rfl rfl)
theorem dX0_frameShare_13 : decode cX0_frameShare 13 = .ok (.iconst 1, 1) := dk_4 (dk_at dksX0_frameShare_0 13 rfl rfl)
theorem dX0_frameShare_14 : decode cX0_frameShare 14 = .ok (.ireturn, 1) := dk_172 (dk_at dksX0_frameShare_0 14 rfl rfl)
theorem dX0_frameShare_15 : decode cX0_frameShare 15 = .ok (.astore_n 3, 1) := dk_78 (dk_at dksX0_frameShare_0 15 rfl rfl)
theorem dX0_frameShare_16 : decode cX0_frameShare 16 = .ok (.iconst 2, 1) := dk_5 (dk_at dksX0_frameShare_0 16 rfl rfl)
theorem dX0_frameShare_17 : decode cX0_frameShare 17 = .ok (.ireturn, 1) := dk_172 (dk_at dksX0_frameShare_0 17 rfl rfl)
theorem dX0_frameShare_18 : decode cX0_frameShare 18 = .ok (.iconst 0, 1) := dk_3 (dk_at dksX0_frameShare_0 18 rfl rfl)
theorem dX0_frameShare_19 : decode cX0_frameShare 19 = .ok (.ireturn, 1) := dk_172 (dk_at dksX0_frameShare_0 19 rfl rfl)
theorem q1809 : (Jvm.Cond.classLink "PlugboardLaw" (155 : Nat) "java/lang/ArithmeticException") ∈ lw_all := lw_g (lw_at lw_m8 59 rfl) rfl
theorem q1821 : (Jvm.Cond.castable "java/lang/ArithmeticException" "java/lang/ArithmeticException") ∈ lw_tbl := lw_at lw_m8 71 rfl
theorem q1823 : (Jvm.Cond.methodLink "PlugboardLaw" (151 : Nat) ({ cls := "Plugboard", name := "frameShare", desc := "(I)F" } : Jvm.MethodName)) ∈ lw_all := lw_g (lw_at lw_m8 73 rfl) rfl
theorem q1824 : (Jvm.Cond.instanceMethod ({ cls := "Plugboard", name := "frameShare", desc := "(I)F" } : Jvm.MethodName)) ∈ lw_all := lw_g (lw_at lw_m8 74 rfl) rfl
theorem q1825 : (Jvm.Cond.selects "Plugboard" ({ cls := "Plugboard", name := "frameShare", desc := "(I)F" } : Jvm.MethodName) ({ cls := "Plugboard", name := "frameShare", desc := "(I)F" } : Jvm.MethodName)) ∈ lw_all := lw_g (lw_at lw_m8 75 rfl) rfl
theorem q1826 : (Jvm.Cond.code ({ cls := "Plugboard", name := "frameShare", desc := "(I)F" } : Jvm.MethodName) prog_1_method_84_code (4 : Nat) (Option.some Jvm.ClassFile.FieldType.float)) ∈ lw_all := lw_g (lw_at lw_m8 76 rfl) rfl
abbrev rm_X0_frameShare : Room := { frames := 10, cells := 102, slots := 1007, locals := 10288 }
def w_X0_frameShare (a0 : Option Nat) (a1 : Int32) (a2 : Option Nat) (h : AH) (P : Int32 → AH → Prop) : Prop :=
  is_c h a0 [0] (
  w_X1_frameShare a0 a1 h (fun y4 h4 =>
  vf_n64 (FP.f2d y4) ∧
  s_D h4 a2 0 (FP.f2d y4) fun h8 =>
  P 0 h8)
    (fun E9 h9 => (E9 = "java/lang/IllegalArgumentException" ∧ ∀ q9 : Nat,
    P 1 h9) ∨
    (E9 = "java/lang/ArithmeticException" ∧ ∀ q9 : Nat,
    P 2 h9)))
theorem met_X0_frameShare (l : Launch) (hlt : l.stackTraces = false) (G : GG) (h : AH) (a0 : Option Nat) (a1 : Int32) (a2 : Option Nat) (P : Int32 → AH → Prop) (hw : w_X0_frameShare a0 a1 a2 h P) : ct_i l yX0_frameShare (wsW_ yX0_frameShare cX0_frameShare 4 (Option.some Jvm.ClassFile.FieldType.int) [((0 : Nat), (9 : Nat), (12 : Nat), (13 : Nat)), ((0 : Nat), (9 : Nat), (15 : Nat), (155 : Nat))]) rm_X0_frameShare G h [vR a0, vI a1, vR a2] P := by
  refine j_startWi hlt [(0, vR a0), (1, vI a1), (2, vR a2)] (by decide) rfl rfl (fun x X eG er en hQ hex => ?_)
  subst eG
  refine j_aload_n X (pc := 0) 2 dX0_frameShare_0 rfl rfl ?_
  refine j_iconst X (pc := 1) 0 dX0_frameShare_1 (by decide) ?_
  refine j_aload_n X (pc := 2) 0 dX0_frameShare_2 rfl rfl ?_
  refine j_iload_n X (pc := 3) 1 dX0_frameShare_3 rfl rfl ?_
  obtain ⟨b9, c9, f9, hr9, ho9, hc9, hw⟩ := hw
  obtain rfl := List.mem_singleton.mp hc9
  refine j_callXf (j_runVX (n8 := 1) (As := [vI a1]) (rest := [vI 0, vR a2]) X (pc := 4) hr9 (met_X1_frameShare (xl x) X.hl (xG x) h a0 a1 _ _ hw) ho9 (by decide) rfl q1823 q1824 q1825 q71 q1826 (by decide +kernel) dX0_frameShare_4 rfl ⟨Nat.le_of_ble_eq_true rfl, Nat.le_of_ble_eq_true rfl⟩ (Nat.le_of_ble_eq_true rfl) ⟨Nat.le_of_ble_eq_true rfl, Nat.le_of_ble_eq_true rfl⟩) ?_ (fun y4 h4 hw => ?_)
  · intro E9 h9 hx
    rcases hx with ⟨rfl, hw⟩ | ⟨rfl, hw⟩
    · refine j_catch X (pc := 4) "java/lang/IllegalArgumentException" hex [] [⟨0, 9, 15, 155⟩] ⟨0, 9, 12, 13⟩ rfl (by intro y hy; cases hy) (by decide) (by decide) q291 q312 (fun q9 => ?_)
      have hw := hw q9
      refine j_astore_n X (pc := 12) [(3, vR (some q9)), (0, vR a0), (1, vI a1), (2, vR a2)] dX0_frameShare_12 rfl (Nat.le_of_ble_eq_true rfl) rfl ?_
      refine j_iconst X (pc := 13) 1 dX0_frameShare_13 (by decide) ?_
      exact j_iret X (pc := 14) hQ er (Nat.le_of_ble_eq_true rfl) (Nat.le_of_ble_eq_true rfl) dX0_frameShare_14 hw
    · refine j_catch X (pc := 4) "java/lang/ArithmeticException" hex [⟨0, 9, 12, 13⟩] [] ⟨0, 9, 15, 155⟩ rfl (by intro y hy; simp only [List.mem_cons, List.not_mem_nil, or_false] at hy; subst hy; exact Or.inr ⟨by decide, "java/lang/IllegalArgumentException", q291, by decide +kernel⟩) (by decide) (by decide) q1809 q1821 (fun q9 => ?_)
      have hw := hw q9
      refine j_astore_n X (pc := 15) [(3, vR (some q9)), (0, vR a0), (1, vI a1), (2, vR a2)] dX0_frameShare_15 rfl (Nat.le_of_ble_eq_true rfl) rfl ?_
      refine j_iconst X (pc := 16) 2 dX0_frameShare_16 (by decide) ?_
      exact j_iret X (pc := 17) hQ er (Nat.le_of_ble_eq_true rfl) (Nat.le_of_ble_eq_true rfl) dX0_frameShare_17 hw
  refine j_f2d X (pc := 7) dX0_frameShare_7 hw (fun hw => ?_)
  refine j_dast X (pc := 8) dX0_frameShare_8 hw (fun h8 hw => ?_)
  refine j_goto X (pc := 9) 18 dX0_frameShare_9 (by decide) ?_
  refine j_iconst X (pc := 18) 0 dX0_frameShare_18 (by decide) ?_
  exact j_iret X (pc := 19) hQ er (Nat.le_of_ble_eq_true rfl) (Nat.le_of_ble_eq_true rfl) dX0_frameShare_19 hw
