/-! walks (printed): Plugboard, PlugboardLaw, PlugboardModel -/
set_option maxRecDepth 100000
abbrev cX5_frameShare : ByteArray := prog_19_method_88_code
def yX5_frameShare : MethodName := ⟨RX5, "frameShare", "(I)F"⟩
def dkwX5_frameShare_3 : List UInt8 := [42, 182, 0, 209, 134, 110, 174]
abbrev dktX5_frameShare_3 : List UInt8 := dkwX5_frameShare_3 ++ []
def dkwX5_frameShare_2 : List UInt8 := [132, 3, 1, 167, 255, 220, 42, 182, 0, 209, 154, 0, 12, 42, 5, 182, 0, 172, 134, 167, 0, 11, 28, 134]
abbrev dktX5_frameShare_2 : List UInt8 := dkwX5_frameShare_2 ++ dktX5_frameShare_3
def dkwX5_frameShare_1 : List UInt8 := [29, 182, 0, 125, 153, 0, 16, 42, 180, 0, 22, 29, 51, 153, 0, 7, 4, 167, 0, 4, 3, 96, 61]
abbrev dktX5_frameShare_1 : List UInt8 := dkwX5_frameShare_1 ++ dktX5_frameShare_2
def dkwX5_frameShare_0 : List UInt8 := [42, 27, 182, 0, 228, 153, 0, 5, 11, 174, 3, 61, 3, 62, 29, 42, 180, 0, 119, 162, 0, 34, 28, 42]
abbrev dktX5_frameShare_0 : List UInt8 := dkwX5_frameShare_0 ++ dktX5_frameShare_1
theorem dksX5_frameShare_0 : cX5_frameShare.data.toList.drop 0 = dktX5_frameShare_0 := by decide +kernel
theorem dksX5_frameShare_1 : cX5_frameShare.data.toList.drop 24 = dktX5_frameShare_1 := dk_seg dksX5_frameShare_0 24 rfl rfl
theorem dksX5_frameShare_2 : cX5_frameShare.data.toList.drop 47 = dktX5_frameShare_2 := dk_seg dksX5_frameShare_1 23 rfl rfl
theorem dksX5_frameShare_3 : cX5_frameShare.data.toList.drop 71 = dktX5_frameShare_3 := dk_seg dksX5_frameShare_2 24 rfl rfl
theorem dX5_frameShare_0 : decode cX5_frameShare 0 = .ok (.aload_n 0, 1) := dk_42 (dk_at dksX5_frameShare_0 0 rfl rfl)
theorem dX5_frameShare_1 : decode cX5_frameShare 1 = .ok (.iload_n 1, 1) := dk_27 (dk_at dksX5_frameShare_0 1 rfl rfl)
theorem dX5_frameShare_2 : decode cX5_frameShare 2 = .ok (.invokevirtual 228, 3) := dk_182 0 228 (dk_at dksX5_frameShare_0 2 rfl rfl)
theorem dX5_frameShare_5 : decode cX5_frameShare 5 = .ok (.ifCond .eq 5, 3) := dk_153 0 5 (dk_at dksX5_frameShare_0 5 rfl rfl)
theorem dX5_frameShare_8 : decode cX5_frameShare 8 = .ok (.fconst 0, 1) := dk_11 (dk_at dksX5_frameShare_0 8 rfl rfl)
theorem dX5_frameShare_9 : decode cX5_frameShare 9 = .ok (.freturn, 1) := dk_174 (dk_at dksX5_frameShare_0 9 rfl rfl)
theorem dX5_frameShare_10 : decode cX5_frameShare 10 = .ok (.iconst 0, 1) := dk_3 (dk_at dksX5_frameShare_0 10 rfl rfl)
theorem dX5_frameShare_11 : decode cX5_frameShare 11 = .ok (.istore_n 2, 1) := dk_61 (dk_at dksX5_frameShare_0 11 rfl rfl)
theorem dX5_frameShare_12 : decode cX5_frameShare 12 = .ok (.iconst 0, 1) := dk_3 (dk_at dksX5_frameShare_0 12 rfl rfl)
theorem dX5_frameShare_13 : decode cX5_frameShare 13 = .ok (.istore_n 3, 1) := dk_62 (dk_at dksX5_frameShare_0 13 rfl rfl)
theorem dX5_frameShare_14 : decode cX5_frameShare 14 = .ok (.iload_n 3, 1) := dk_29 (dk_at dksX5_frameShare_0 14 rfl rfl)
theorem dX5_frameShare_15 : decode cX5_frameShare 15 = .ok (.aload_n 0, 1) := dk_42 (dk_at dksX5_frameShare_0 15 rfl rfl)
theorem dX5_frameShare_16 : decode cX5_frameShare 16 = .ok (.getfield 119, 3) := dk_180 0 119 (dk_at dksX5_frameShare_0 16 rfl rfl)
theorem dX5_frameShare_19 : decode cX5_frameShare 19 = .ok (.if_icmp .ge 34, 3) := dk_162 0 34 (dk_at dksX5_frameShare_0 19 rfl rfl)
theorem dX5_frameShare_22 : decode cX5_frameShare 22 = .ok (.iload_n 2, 1) := dk_28 (dk_at dksX5_frameShare_0 22 rfl rfl)
theorem dX5_frameShare_23 : decode cX5_frameShare 23 = .ok (.aload_n 0, 1) := dk_42 (dk_at dksX5_frameShare_0 23 rfl rfl)
theorem dX5_frameShare_24 : decode cX5_frameShare 24 = .ok (.iload_n 3, 1) := dk_29 (dk_at dksX5_frameShare_1 0 rfl rfl)
theorem dX5_frameShare_25 : decode cX5_frameShare 25 = .ok (.invokevirtual 125, 3) := dk_182 0 125 (dk_at dksX5_frameShare_1 1 rfl rfl)
theorem dX5_frameShare_28 : decode cX5_frameShare 28 = .ok (.ifCond .eq 16, 3) := dk_153 0 16 (dk_at dksX5_frameShare_1 4 rfl rfl)
theorem dX5_frameShare_31 : decode cX5_frameShare 31 = .ok (.aload_n 0, 1) := dk_42 (dk_at dksX5_frameShare_1 7 rfl rfl)
theorem dX5_frameShare_32 : decode cX5_frameShare 32 = .ok (.getfield 22, 3) := dk_180 0 22 (dk_at dksX5_frameShare_1 8 rfl rfl)
theorem dX5_frameShare_35 : decode cX5_frameShare 35 = .ok (.iload_n 3, 1) := dk_29 (dk_at dksX5_frameShare_1 11 rfl rfl)
theorem dX5_frameShare_36 : decode cX5_frameShare 36 = .ok (.baload, 1) := dk_51 (dk_at dksX5_frameShare_1 12 rfl rfl)
theorem dX5_frameShare_37 : decode cX5_frameShare 37 = .ok (.ifCond .eq 7, 3) := dk_153 0 7 (dk_at dksX5_frameShare_1 13 rfl rfl)
theorem dX5_frameShare_40 : decode cX5_frameShare 40 = .ok (.iconst 1, 1) := dk_4 (dk_at dksX5_frameShare_1 16 rfl rfl)
theorem dX5_frameShare_41 : decode cX5_frameShare 41 = .ok (.goto 4, 3) := dk_167 0 4 (dk_at dksX5_frameShare_1 17 rfl rfl)
theorem dX5_frameShare_44 : decode cX5_frameShare 44 = .ok (.iconst 0, 1) := dk_3 (dk_at dksX5_frameShare_1 20 rfl rfl)
theorem dX5_frameShare_45 : decode cX5_frameShare 45 = .ok (.iadd, 1) := dk_96 (dk_at dksX5_frameShare_1 21 rfl rfl)
theorem dX5_frameShare_46 : decode cX5_frameShare 46 = .ok (.istore_n 2, 1) := dk_61 (dk_at dksX5_frameShare_1 22 rfl rfl)
theorem dX5_frameShare_47 : decode cX5_frameShare 47 = .ok (.iinc 3 1, 3) := dk_132 3 1 (dk_at dksX5_frameShare_2 0 rfl rfl)
theorem dX5_frameShare_50 : decode cX5_frameShare 50 = .ok (.goto (-36), 3) := dk_167 255 220 (dk_at dksX5_frameShare_2 3 rfl rfl)
theorem dX5_frameShare_53 : decode cX5_frameShare 53 = .ok (.aload_n 0, 1) := dk_42 (dk_at dksX5_frameShare_2 6 rfl rfl)
theorem dX5_frameShare_54 : decode cX5_frameShare 54 = .ok (.invokevirtual 209, 3) := dk_182 0 209 (dk_at dksX5_frameShare_2 7 rfl rfl)
theorem dX5_frameShare_57 : decode cX5_frameShare 57 = .ok (.ifCond .ne 12, 3) := dk_154 0 12 (dk_at dksX5_frameShare_2 10 rfl rfl)
theorem dX5_frameShare_60 : decode cX5_frameShare 60 = .ok (.aload_n 0, 1) := dk_42 (dk_at dksX5_frameShare_2 13 rfl rfl)
theorem dX5_frameShare_61 : decode cX5_frameShare 61 = .ok (.iconst 2, 1) := dk_5 (dk_at dksX5_frameShare_2 14 rfl rfl)
theorem dX5_frameShare_62 : decode cX5_frameShare 62 = .ok (.invokevirtual 172, 3) := dk_182 0 172 (dk_at dksX5_frameShare_2 15 rfl rfl)
theorem dX5_frameShare_65 : decode cX5_frameShare 65 = .ok (.i2f, 1) := dk_134 (dk_at dksX5_frameShare_2 18 rfl rfl)
theorem dX5_frameShare_66 : decode cX5_frameShare 66 = .ok (.goto 11, 3) := dk_167 0 11 (dk_at dksX5_frameShare_2 19 rfl rfl)
theorem dX5_frameShare_69 : decode cX5_frameShare 69 = .ok (.iload_n 2, 1) := dk_28 (dk_at dksX5_frameShare_2 22 rfl rfl)
theorem dX5_frameShare_70 : decode cX5_frameShare 70 = .ok (.i2f, 1) := dk_134 (dk_at dksX5_frameShare_2 23 rfl rfl)
theorem dX5_frameShare_71 : decode cX5_frameShare 71 = .ok (.aload_n 0, 1) := dk_42 (dk_at dksX5_frameShare_3 0 rfl rfl)
theorem dX5_frameShare_72 : decode cX5_frameShare 72 = .ok (.invokevirtual 209, 3) := dk_182 0 209 (dk_at dksX5_frameShare_3 1 rfl rfl)
theorem dX5_frameShare_75 : decode cX5_frameShare 75 = .ok (.i2f, 1) := dk_134 (dk_at dksX5_frameShare_3 4 rfl rfl)
theorem dX5_frameShare_76 : decode cX5_frameShare 76 = .ok (.fdiv, 1) := dk_110 (dk_at dksX5_frameShare_3 5 rfl rfl)
theorem dX5_frameShare_77 : decode cX5_frameShare 77 = .ok (.freturn, 1) := dk_174 (dk_at dksX5_frameShare_3 6 rfl rfl)
abbrev rm_X5_frameShare : Room := { frames := 4, cells := 0, slots := 0, locals := 87 }
def w_X5_frameShare_14 (P : UInt32 → AH → Prop) (x0 : Option Nat) (x2 : Int32) (x3 : Int32) (h : AH) : Prop :=
  ∀ Z14 : Int32 → Int32 → AH → Prop, (∀ x2 x3 h, (
      g_i h x0 4 8 fun y16 =>
      ((y16 ≤ x3 →
        is_c h x0 [4] (
        w_X5_seenMany x0 h (fun y54 h54 =>
        ((y54 = 0 →
          is_c h54 x0 [4] (
          w_X5_fails x0 2 h54 (fun y62 h62 =>
          P (FP.i2f y62) h62))) ∧
         (¬ y54 = 0 →
          is_c h54 x0 [4] (
          w_X5_seenMany x0 h54 (fun y72 h72 =>
          vf_n32 (FP.fdiv (FP.i2f x2) (FP.i2f y72)) ∧
          P (FP.fdiv (FP.i2f x2) (FP.i2f y72)) h72))))))) ∧
       (¬ y16 ≤ x3 →
        is_c h x0 [4] (
        w_X5_isSeen x0 x3 h (fun y25 h25 =>
        ((y25 = 0 →
          Z14 (x2 + 0) (x3 + 1) h25) ∧
         (¬ y25 = 0 →
          g_q h25 x0 4 5 fun y32 =>
          l_i h25 y32 1 x3 fun y36 =>
          ((y36 = 0 →
            Z14 (x2 + 0) (x3 + 1) h25) ∧
           (¬ y36 = 0 →
            Z14 (x2 + 1) (x3 + 1) h25)))))))))
      → Z14 x2 x3 h) → Z14 x2 x3 h
def w_X5_frameShare (a0 : Option Nat) (a1 : Int32) (h : AH) (P : UInt32 → AH → Prop) : Prop :=
  is_c h a0 [4] (
  w_X5_isNobody a0 a1 h (fun y2 h2 =>
  ((y2 = 0 →
    w_X5_frameShare_14 P a0 0 0 h2) ∧
   (¬ y2 = 0 →
    P FP.fconst0 h2))))
theorem wk_X5_frameShare_14 {x : CX} (X : Ok x cX5_frameShare RX5 rm_X5_frameShare 4) (er : xrt x = (Option.some Jvm.ClassFile.FieldType.float)) (en : xnm x = yX5_frameShare.name) {P : UInt32 → AH → Prop} (hQ : xr_f x P) (x0 : Option Nat) (x2 : Int32) (x3 : Int32) (h : AH) (hw : w_X5_frameShare_14 P x0 x2 x3 h) : J x h 0 0 14 [(0, vR x0), (2, vI x2), (3, vI x3)] [] := by
  refine hw (fun x2 x3 h => J x h 0 0 14 [(0, vR x0), (2, vI x2), (3, vI x3)] []) (fun x2 x3 h hw => ?_)
  refine j_iload_n X (pc := 14) 2 dX5_frameShare_14 rfl rfl ?_
  refine j_aload_n X (pc := 15) 0 dX5_frameShare_15 rfl rfl ?_
  refine j_geti (ci := 4) X (pc := 16) in_X5 rfl (by decide) 8 (by decide) q1880 (Or.inl rfl) dX5_frameShare_16 hw (fun y16 hw => ?_)
  refine j_icmp_ge X (pc := 19) 53 dX5_frameShare_19 (by decide) hw (fun hw => ?_) (fun hw => ?_)
  · refine j_aload_n X (pc := 53) 0 dX5_frameShare_53 rfl rfl ?_
    obtain ⟨b9, c9, f9, hr9, ho9, hc9, hw⟩ := hw
    obtain rfl := List.mem_singleton.mp hc9
    refine j_calli (j_runV (n8 := 0) (As := []) (rest := []) X (pc := 54) hr9 (met_X5_seenMany (xl x) X.hl (xG x) h x0 _ hw) ho9 (by decide) rfl q2087 q2089 qs52 q78 q2090 (by decide +kernel) dX5_frameShare_54 rfl ⟨Nat.le_of_ble_eq_true rfl, Nat.le_of_ble_eq_true rfl⟩ (Nat.le_of_ble_eq_true rfl) ⟨Nat.le_of_ble_eq_true rfl, Nat.le_of_ble_eq_true rfl⟩) (fun y54 h54 hw => ?_)
    refine j_if_ne X (pc := 57) 69 dX5_frameShare_57 (by decide) hw (fun hw => ?_) (fun hw => ?_)
    · refine j_aload_n X (pc := 60) 0 dX5_frameShare_60 rfl rfl ?_
      refine j_iconst X (pc := 61) 2 dX5_frameShare_61 (by decide) ?_
      obtain ⟨b9, c9, f9, hr9, ho9, hc9, hw⟩ := hw
      obtain rfl := List.mem_singleton.mp hc9
      refine j_calli (j_runV (n8 := 1) (As := [vI 2]) (rest := []) X (pc := 62) hr9 (met_X5_fails (xl x) X.hl (xG x) h54 x0 2 _ hw) ho9 (by decide) rfl q1988 q1990 qs33 q78 q1991 (by decide +kernel) dX5_frameShare_62 rfl ⟨Nat.le_of_ble_eq_true rfl, Nat.le_of_ble_eq_true rfl⟩ (Nat.le_of_ble_eq_true rfl) ⟨Nat.le_of_ble_eq_true rfl, Nat.le_of_ble_eq_true rfl⟩) (fun y62 h62 hw => ?_)
      refine j_i2f X (pc := 65) dX5_frameShare_65 ?_
      refine j_goto X (pc := 66) 77 dX5_frameShare_66 (by decide) ?_
      exact j_fret X (pc := 77) hQ er (Nat.le_of_ble_eq_true rfl) (Nat.le_of_ble_eq_true rfl) dX5_frameShare_77 hw
    · refine j_iload_n X (pc := 69) 1 dX5_frameShare_69 rfl rfl ?_
      refine j_i2f X (pc := 70) dX5_frameShare_70 ?_
      refine j_aload_n X (pc := 71) 0 dX5_frameShare_71 rfl rfl ?_
      obtain ⟨b9, c9, f9, hr9, ho9, hc9, hw⟩ := hw
      obtain rfl := List.mem_singleton.mp hc9
      refine j_calli (j_runV (n8 := 0) (As := []) (rest := [vF (FP.i2f x2)]) X (pc := 72) hr9 (met_X5_seenMany (xl x) X.hl (xG x) h54 x0 _ hw) ho9 (by decide) rfl q2087 q2089 qs52 q78 q2090 (by decide +kernel) dX5_frameShare_72 rfl ⟨Nat.le_of_ble_eq_true rfl, Nat.le_of_ble_eq_true rfl⟩ (Nat.le_of_ble_eq_true rfl) ⟨Nat.le_of_ble_eq_true rfl, Nat.le_of_ble_eq_true rfl⟩) (fun y72 h72 hw => ?_)
      refine j_i2f X (pc := 75) dX5_frameShare_75 ?_
      refine j_fdiv X (pc := 76) dX5_frameShare_76 hw (fun hw => ?_)
      exact j_fret X (pc := 77) hQ er (Nat.le_of_ble_eq_true rfl) (Nat.le_of_ble_eq_true rfl) dX5_frameShare_77 hw
  · refine j_iload_n X (pc := 22) 1 dX5_frameShare_22 rfl rfl ?_
    refine j_aload_n X (pc := 23) 0 dX5_frameShare_23 rfl rfl ?_
    refine j_iload_n X (pc := 24) 2 dX5_frameShare_24 rfl rfl ?_
    obtain ⟨b9, c9, f9, hr9, ho9, hc9, hw⟩ := hw
    obtain rfl := List.mem_singleton.mp hc9
    refine j_calli (j_runV (n8 := 1) (As := [vI x3]) (rest := [vI x2]) X (pc := 25) hr9 (met_X5_isSeen (xl x) X.hl (xG x) h x0 x3 _ hw) ho9 (by decide) rfl q2012 q2014 qs39 q78 q2015 (by decide +kernel) dX5_frameShare_25 rfl ⟨Nat.le_of_ble_eq_true rfl, Nat.le_of_ble_eq_true rfl⟩ (Nat.le_of_ble_eq_true rfl) ⟨Nat.le_of_ble_eq_true rfl, Nat.le_of_ble_eq_true rfl⟩) (fun y25 h25 hw => ?_)
    refine j_if_eq X (pc := 28) 44 dX5_frameShare_28 (by decide) hw (fun hw => ?_) (fun hw => ?_)
    · refine j_iconst X (pc := 44) 0 dX5_frameShare_44 (by decide) ?_
      refine j_iadd X (pc := 45) dX5_frameShare_45 ?_
      refine j_istore_n X (pc := 46) [(2, vI (x2 + 0)), (0, vR x0), (3, vI x3)] dX5_frameShare_46 rfl (Nat.le_of_ble_eq_true rfl) rfl ?_
      refine j_iinc X (pc := 47) 2 (x3 + 1) [(3, vI (x3 + 1)), (2, vI (x2 + 0)), (0, vR x0)] dX5_frameShare_47 rfl rfl (Nat.le_of_ble_eq_true rfl) rfl ?_
      refine j_goto X (pc := 50) 14 dX5_frameShare_50 (by decide) ?_
      refine j_lv [(0, vR x0), (2, vI (x2 + 0)), (3, vI (x3 + 1))] [2, 1, 0] rfl ?_
      refine j_cs (u' := 0) (v' := 0) (Nat.le_of_ble_eq_true rfl) (Nat.le_of_ble_eq_true rfl) ?_
      exact hw
    · refine j_aload_n X (pc := 31) 0 dX5_frameShare_31 rfl rfl ?_
      refine j_getq (ci := 4) X (pc := 32) in_X5 rfl (by decide) 5 (by decide) q1877 (Or.inl rfl) dX5_frameShare_32 hw (fun y32 hw => ?_)
      refine j_iload_n X (pc := 35) 2 dX5_frameShare_35 rfl rfl ?_
      refine j_zald X (pc := 36) 1 rfl dX5_frameShare_36 hw (fun y36 hw => ?_)
      refine j_if_eq X (pc := 37) 44 dX5_frameShare_37 (by decide) hw (fun hw => ?_) (fun hw => ?_)
      · refine j_iconst X (pc := 44) 0 dX5_frameShare_44 (by decide) ?_
        refine j_iadd X (pc := 45) dX5_frameShare_45 ?_
        refine j_istore_n X (pc := 46) [(2, vI (x2 + 0)), (0, vR x0), (3, vI x3)] dX5_frameShare_46 rfl (Nat.le_of_ble_eq_true rfl) rfl ?_
        refine j_iinc X (pc := 47) 2 (x3 + 1) [(3, vI (x3 + 1)), (2, vI (x2 + 0)), (0, vR x0)] dX5_frameShare_47 rfl rfl (Nat.le_of_ble_eq_true rfl) rfl ?_
        refine j_goto X (pc := 50) 14 dX5_frameShare_50 (by decide) ?_
        refine j_lv [(0, vR x0), (2, vI (x2 + 0)), (3, vI (x3 + 1))] [2, 1, 0] rfl ?_
        refine j_cs (u' := 0) (v' := 0) (Nat.le_of_ble_eq_true rfl) (Nat.le_of_ble_eq_true rfl) ?_
        exact hw
      · refine j_iconst X (pc := 40) 1 dX5_frameShare_40 (by decide) ?_
        refine j_goto X (pc := 41) 45 dX5_frameShare_41 (by decide) ?_
        refine j_iadd X (pc := 45) dX5_frameShare_45 ?_
        refine j_istore_n X (pc := 46) [(2, vI (x2 + 1)), (0, vR x0), (3, vI x3)] dX5_frameShare_46 rfl (Nat.le_of_ble_eq_true rfl) rfl ?_
        refine j_iinc X (pc := 47) 2 (x3 + 1) [(3, vI (x3 + 1)), (2, vI (x2 + 1)), (0, vR x0)] dX5_frameShare_47 rfl rfl (Nat.le_of_ble_eq_true rfl) rfl ?_
        refine j_goto X (pc := 50) 14 dX5_frameShare_50 (by decide) ?_
        refine j_lv [(0, vR x0), (2, vI (x2 + 1)), (3, vI (x3 + 1))] [2, 1, 0] rfl ?_
        refine j_cs (u' := 0) (v' := 0) (Nat.le_of_ble_eq_true rfl) (Nat.le_of_ble_eq_true rfl) ?_
        exact hw
theorem met_X5_frameShare (l : Launch) (hlt : l.stackTraces = false) (G : GG) (h : AH) (a0 : Option Nat) (a1 : Int32) (P : UInt32 → AH → Prop) (hw : w_X5_frameShare a0 a1 h P) : ct_f l yX5_frameShare (ws_ yX5_frameShare cX5_frameShare 4 (Option.some Jvm.ClassFile.FieldType.float)) rm_X5_frameShare G h [vR a0, vI a1] P := by
  refine j_startf hlt [(0, vR a0), (1, vI a1)] (plainFor_of_name (by decide)) rfl rfl (fun x X eG er en hQ => ?_)
  subst eG
  refine j_aload_n X (pc := 0) 0 dX5_frameShare_0 rfl rfl ?_
  refine j_iload_n X (pc := 1) 1 dX5_frameShare_1 rfl rfl ?_
  obtain ⟨b9, c9, f9, hr9, ho9, hc9, hw⟩ := hw
  obtain rfl := List.mem_singleton.mp hc9
  refine j_calli (j_runV (n8 := 1) (As := [vI a1]) (rest := []) X (pc := 2) hr9 (met_X5_isNobody (xl x) X.hl (xG x) h a0 a1 _ hw) ho9 (by decide) rfl q2170 q2172 qs58 q78 q2173 (by decide +kernel) dX5_frameShare_2 rfl ⟨Nat.le_of_ble_eq_true rfl, Nat.le_of_ble_eq_true rfl⟩ (Nat.le_of_ble_eq_true rfl) ⟨Nat.le_of_ble_eq_true rfl, Nat.le_of_ble_eq_true rfl⟩) (fun y2 h2 hw => ?_)
  refine j_if_eq X (pc := 5) 10 dX5_frameShare_5 (by decide) hw (fun hw => ?_) (fun hw => ?_)
  · refine j_iconst X (pc := 10) 0 dX5_frameShare_10 (by decide) ?_
    refine j_istore_n X (pc := 11) [(2, vI 0), (0, vR a0), (1, vI a1)] dX5_frameShare_11 rfl (Nat.le_of_ble_eq_true rfl) rfl ?_
    refine j_iconst X (pc := 12) 0 dX5_frameShare_12 (by decide) ?_
    refine j_istore_n X (pc := 13) [(3, vI 0), (2, vI 0), (0, vR a0), (1, vI a1)] dX5_frameShare_13 rfl (Nat.le_of_ble_eq_true rfl) rfl ?_
    refine j_lv [(0, vR a0), (2, vI 0), (3, vI 0)] [2, 1, 0] rfl ?_
    refine j_cs (u' := 0) (v' := 0) (Nat.le_of_ble_eq_true rfl) (Nat.le_of_ble_eq_true rfl) ?_
    exact wk_X5_frameShare_14 X er en hQ a0 0 0 h2 hw
  · refine j_fconst0 X (pc := 8) dX5_frameShare_8 ?_
    exact j_fret X (pc := 9) hQ er (Nat.le_of_ble_eq_true rfl) (Nat.le_of_ble_eq_true rfl) dX5_frameShare_9 hw
abbrev cX1_meanRoute : ByteArray := prog_1_method_85_code
def yX1_meanRoute : MethodName := ⟨RX1, "meanRoute", "(I)D"⟩
def dkwX1_meanRoute_5 : List UInt8 := [183, 1, 209, 191, 29, 135, 21, 4, 135, 111, 175]
abbrev dktX1_meanRoute_5 : List UInt8 := dkwX1_meanRoute_5 ++ []
def dkwX1_meanRoute_4 : List UInt8 := [167, 0, 4, 3, 96, 54, 4, 132, 5, 1, 167, 255, 168, 21, 4, 154, 0, 11, 187, 1, 207, 89]
abbrev dktX1_meanRoute_4 : List UInt8 := dkwX1_meanRoute_4 ++ dktX1_meanRoute_5
def dkwX1_meanRoute_3 : List UInt8 := [21, 6, 17, 3, 232, 112, 167, 0, 4, 3, 96, 62, 21, 4, 21, 6, 19, 1, 134, 162, 0, 7, 4]
abbrev dktX1_meanRoute_3 : List UInt8 := dkwX1_meanRoute_3 ++ dktX1_meanRoute_4
def dkwX1_meanRoute_2 : List UInt8 := [192, 1, 38, 182, 1, 165, 167, 0, 6, 19, 1, 134, 54, 6, 29, 21, 6, 19, 1, 134, 162, 0, 12]
abbrev dktX1_meanRoute_2 : List UInt8 := dkwX1_meanRoute_2 ++ dktX1_meanRoute_3
def dkwX1_meanRoute_1 : List UInt8 := [162, 0, 82, 44, 21, 5, 182, 1, 43, 153, 0, 23, 42, 44, 42, 180, 0, 59, 21, 5, 182, 0, 121]
abbrev dktX1_meanRoute_1 : List UInt8 := dkwX1_meanRoute_1 ++ dktX1_meanRoute_2
def dkwX1_meanRoute_0 : List UInt8 := [42, 27, 182, 0, 199, 77, 3, 62, 3, 54, 4, 3, 54, 5, 21, 5, 42, 180, 0, 59, 182, 0, 126]
abbrev dktX1_meanRoute_0 : List UInt8 := dkwX1_meanRoute_0 ++ dktX1_meanRoute_1
theorem dksX1_meanRoute_0 : cX1_meanRoute.data.toList.drop 0 = dktX1_meanRoute_0 := by decide +kernel
theorem dksX1_meanRoute_1 : cX1_meanRoute.data.toList.drop 23 = dktX1_meanRoute_1 := dk_seg dksX1_meanRoute_0 23 rfl rfl
theorem dksX1_meanRoute_2 : cX1_meanRoute.data.toList.drop 46 = dktX1_meanRoute_2 := dk_seg dksX1_meanRoute_1 23 rfl rfl
theorem dksX1_meanRoute_3 : cX1_meanRoute.data.toList.drop 69 = dktX1_meanRoute_3 := dk_seg dksX1_meanRoute_2 23 rfl rfl
theorem dksX1_meanRoute_4 : cX1_meanRoute.data.toList.drop 92 = dktX1_meanRoute_4 := dk_seg dksX1_meanRoute_3 23 rfl rfl
theorem dksX1_meanRoute_5 : cX1_meanRoute.data.toList.drop 114 = dktX1_meanRoute_5 := dk_seg dksX1_meanRoute_4 22 rfl rfl
theorem dX1_meanRoute_0 : decode cX1_meanRoute 0 = .ok (.aload_n 0, 1) := dk_42 (dk_at dksX1_meanRoute_0 0 rfl rfl)
theorem dX1_meanRoute_1 : decode cX1_meanRoute 1 = .ok (.iload_n 1, 1) := dk_27 (dk_at dksX1_meanRoute_0 1 rfl rfl)
theorem dX1_meanRoute_2 : decode cX1_meanRoute 2 = .ok (.invokevirtual 199, 3) := dk_182 0 199 (dk_at dksX1_meanRoute_0 2 rfl rfl)
theorem dX1_meanRoute_5 : decode cX1_meanRoute 5 = .ok (.astore_n 2, 1) := dk_77 (dk_at dksX1_meanRoute_0 5 rfl rfl)
theorem dX1_meanRoute_6 : decode cX1_meanRoute 6 = .ok (.iconst 0, 1) := dk_3 (dk_at dksX1_meanRoute_0 6 rfl rfl)
theorem dX1_meanRoute_7 : decode cX1_meanRoute 7 = .ok (.istore_n 3, 1) := dk_62 (dk_at dksX1_meanRoute_0 7 rfl rfl)
theorem dX1_meanRoute_8 : decode cX1_meanRoute 8 = .ok (.iconst 0, 1) := dk_3 (dk_at dksX1_meanRoute_0 8 rfl rfl)
theorem dX1_meanRoute_9 : decode cX1_meanRoute 9 = .ok (.istore 4, 2) := dk_54 4 (dk_at dksX1_meanRoute_0 9 rfl rfl)
theorem dX1_meanRoute_11 : decode cX1_meanRoute 11 = .ok (.iconst 0, 1) := dk_3 (dk_at dksX1_meanRoute_0 11 rfl rfl)
theorem dX1_meanRoute_12 : decode cX1_meanRoute 12 = .ok (.istore 5, 2) := dk_54 5 (dk_at dksX1_meanRoute_0 12 rfl rfl)
theorem dX1_meanRoute_14 : decode cX1_meanRoute 14 = .ok (.iload 5, 2) := dk_21 5 (dk_at dksX1_meanRoute_0 14 rfl rfl)
theorem dX1_meanRoute_16 : decode cX1_meanRoute 16 = .ok (.aload_n 0, 1) := dk_42 (dk_at dksX1_meanRoute_0 16 rfl rfl)
theorem dX1_meanRoute_17 : decode cX1_meanRoute 17 = .ok (.getfield 59, 3) := dk_180 0 59 (dk_at dksX1_meanRoute_0 17 rfl rfl)
theorem dX1_meanRoute_20 : decode cX1_meanRoute 20 = .ok (.invokevirtual 126, 3) := dk_182 0 126 (dk_at dksX1_meanRoute_0 20 rfl rfl)
theorem dX1_meanRoute_23 : decode cX1_meanRoute 23 = .ok (.if_icmp .ge 82, 3) := dk_162 0 82 (dk_at dksX1_meanRoute_1 0 rfl rfl)
theorem dX1_meanRoute_26 : decode cX1_meanRoute 26 = .ok (.aload_n 2, 1) := dk_44 (dk_at dksX1_meanRoute_1 3 rfl rfl)
theorem dX1_meanRoute_27 : decode cX1_meanRoute 27 = .ok (.iload 5, 2) := dk_21 5 (dk_at dksX1_meanRoute_1 4 rfl rfl)
theorem dX1_meanRoute_29 : decode cX1_meanRoute 29 = .ok (.invokevirtual 299, 3) := dk_182 1 43 (dk_at dksX1_meanRoute_1 6 rfl rfl)
theorem dX1_meanRoute_32 : decode cX1_meanRoute 32 = .ok (.ifCond .eq 23, 3) := dk_153 0 23 (dk_at dksX1_meanRoute_1 9 rfl rfl)
theorem dX1_meanRoute_35 : decode cX1_meanRoute 35 = .ok (.aload_n 0, 1) := dk_42 (dk_at dksX1_meanRoute_1 12 rfl rfl)
theorem dX1_meanRoute_36 : decode cX1_meanRoute 36 = .ok (.aload_n 2, 1) := dk_44 (dk_at dksX1_meanRoute_1 13 rfl rfl)
theorem dX1_meanRoute_37 : decode cX1_meanRoute 37 = .ok (.aload_n 0, 1) := dk_42 (dk_at dksX1_meanRoute_1 14 rfl rfl)
theorem dX1_meanRoute_38 : decode cX1_meanRoute 38 = .ok (.getfield 59, 3) := dk_180 0 59 (dk_at dksX1_meanRoute_1 15 rfl rfl)
theorem dX1_meanRoute_41 : decode cX1_meanRoute 41 = .ok (.iload 5, 2) := dk_21 5 (dk_at dksX1_meanRoute_1 18 rfl rfl)
theorem dX1_meanRoute_43 : decode cX1_meanRoute 43 = .ok (.invokevirtual 121, 3) := dk_182 0 121 (dk_at dksX1_meanRoute_1 20 rfl rfl)
theorem dX1_meanRoute_46 : decode cX1_meanRoute 46 = .ok (.checkcast 294, 3) := dk_192 1 38 (dk_at dksX1_meanRoute_2 0 rfl rfl)
theorem dX1_meanRoute_49 : decode cX1_meanRoute 49 = .ok (.invokevirtual 421, 3) := dk_182 1 165 (dk_at dksX1_meanRoute_2 3 rfl rfl)
theorem dX1_meanRoute_52 : decode cX1_meanRoute 52 = .ok (.goto 6, 3) := dk_167 0 6 (dk_at dksX1_meanRoute_2 6 rfl rfl)
theorem dX1_meanRoute_55 : decode cX1_meanRoute 55 = .ok (.ldc_w 390, 3) := dk_19 1 134 (dk_at dksX1_meanRoute_2 9 rfl rfl)
theorem dX1_meanRoute_58 : decode cX1_meanRoute 58 = .ok (.istore 6, 2) := dk_54 6 (dk_at dksX1_meanRoute_2 12 rfl rfl)
theorem dX1_meanRoute_60 : decode cX1_meanRoute 60 = .ok (.iload_n 3, 1) := dk_29 (dk_at dksX1_meanRoute_2 14 rfl rfl)
theorem dX1_meanRoute_61 : decode cX1_meanRoute 61 = .ok (.iload 6, 2) := dk_21 6 (dk_at dksX1_meanRoute_2 15 rfl rfl)
theorem dX1_meanRoute_63 : decode cX1_meanRoute 63 = .ok (.ldc_w 390, 3) := dk_19 1 134 (dk_at dksX1_meanRoute_2 17 rfl rfl)
theorem dX1_meanRoute_66 : decode cX1_meanRoute 66 = .ok (.if_icmp .ge 12, 3) := dk_162 0 12 (dk_at dksX1_meanRoute_2 20 rfl rfl)
theorem dX1_meanRoute_69 : decode cX1_meanRoute 69 = .ok (.iload 6, 2) := dk_21 6 (dk_at dksX1_meanRoute_3 0 rfl rfl)
theorem dX1_meanRoute_71 : decode cX1_meanRoute 71 = .ok (.sipush 1000, 3) := dk_17 3 232 (dk_at dksX1_meanRoute_3 2 rfl rfl)
theorem dX1_meanRoute_74 : decode cX1_meanRoute 74 = .ok (.irem, 1) := dk_112 (dk_at dksX1_meanRoute_3 5 rfl rfl)
theorem dX1_meanRoute_75 : decode cX1_meanRoute 75 = .ok (.goto 4, 3) := dk_167 0 4 (dk_at dksX1_meanRoute_3 6 rfl rfl)
theorem dX1_meanRoute_78 : decode cX1_meanRoute 78 = .ok (.iconst 0, 1) := dk_3 (dk_at dksX1_meanRoute_3 9 rfl rfl)
theorem dX1_meanRoute_79 : decode cX1_meanRoute 79 = .ok (.iadd, 1) := dk_96 (dk_at dksX1_meanRoute_3 10 rfl rfl)
theorem dX1_meanRoute_80 : decode cX1_meanRoute 80 = .ok (.istore_n 3, 1) := dk_62 (dk_at dksX1_meanRoute_3 11 rfl rfl)
theorem dX1_meanRoute_81 : decode cX1_meanRoute 81 = .ok (.iload 4, 2) := dk_21 4 (dk_at dksX1_meanRoute_3 12 rfl rfl)
theorem dX1_meanRoute_83 : decode cX1_meanRoute 83 = .ok (.iload 6, 2) := dk_21 6 (dk_at dksX1_meanRoute_3 14 rfl rfl)
theorem dX1_meanRoute_85 : decode cX1_meanRoute 85 = .ok (.ldc_w 390, 3) := dk_19 1 134 (dk_at dksX1_meanRoute_3 16 rfl rfl)
theorem dX1_meanRoute_88 : decode cX1_meanRoute 88 = .ok (.if_icmp .ge 7, 3) := dk_162 0 7 (dk_at dksX1_meanRoute_3 19 rfl rfl)
theorem dX1_meanRoute_91 : decode cX1_meanRoute 91 = .ok (.iconst 1, 1) := dk_4 (dk_at dksX1_meanRoute_3 22 rfl rfl)
theorem dX1_meanRoute_92 : decode cX1_meanRoute 92 = .ok (.goto 4, 3) := dk_167 0 4 (dk_at dksX1_meanRoute_4 0 rfl rfl)
theorem dX1_meanRoute_95 : decode cX1_meanRoute 95 = .ok (.iconst 0, 1) := dk_3 (dk_at dksX1_meanRoute_4 3 rfl rfl)
theorem dX1_meanRoute_96 : decode cX1_meanRoute 96 = .ok (.iadd, 1) := dk_96 (dk_at dksX1_meanRoute_4 4 rfl rfl)
theorem dX1_meanRoute_97 : decode cX1_meanRoute 97 = .ok (.istore 4, 2) := dk_54 4 (dk_at dksX1_meanRoute_4 5 rfl rfl)
theorem dX1_meanRoute_99 : decode cX1_meanRoute 99 = .ok (.iinc 5 1, 3) := dk_132 5 1 (dk_at dksX1_meanRoute_4 7 rfl rfl)
theorem dX1_meanRoute_102 : decode cX1_meanRoute 102 = .ok (.goto (-88), 3) := dk_167 255 168 (dk_at dksX1_meanRoute_4 10 rfl rfl)
theorem dX1_meanRoute_105 : decode cX1_meanRoute 105 = .ok (.iload 4, 2) := dk_21 4 (dk_at dksX1_meanRoute_4 13 rfl rfl)
theorem dX1_meanRoute_107 : decode cX1_meanRoute 107 = .ok (.ifCond .ne 11, 3) := dk_154 0 11 (dk_at dksX1_meanRoute_4 15 rfl rfl)
theorem dX1_meanRoute_110 : decode cX1_meanRoute 110 = .ok (.new 463, 3) := dk_187 1 207 (dk_at dksX1_meanRoute_4 18 rfl rfl)
theorem dX1_meanRoute_113 : decode cX1_meanRoute 113 = .ok (.dup, 1) := dk_89 (dk_at dksX1_meanRoute_4 21 rfl rfl)
theorem dX1_meanRoute_114 : decode cX1_meanRoute 114 = .ok (.invokespecial 465, 3) := dk_183 1 209 (dk_at dksX1_meanRoute_5 0 rfl rfl)
theorem dX1_meanRoute_117 : decode cX1_meanRoute 117 = .ok (.athrow, 1) := dk_191 (dk_at dksX1_meanRoute_5 3 rfl rfl)
theorem dX1_meanRoute_118 : decode cX1_meanRoute 118 = .ok (.iload_n 3, 1) := dk_29 (dk_at dksX1_meanRoute_5 4 rfl rfl)
theorem dX1_meanRoute_119 : decode cX1_meanRoute 119 = .ok (.i2d, 1) := dk_135 (dk_at dksX1_meanRoute_5 5 rfl rfl)
theorem dX1_meanRoute_120 : decode cX1_meanRoute 120 = .ok (.iload 4, 2) := dk_21 4 (dk_at dksX1_meanRoute_5 6 rfl rfl)
theorem dX1_meanRoute_122 : decode cX1_meanRoute 122 = .ok (.i2d, 1) := dk_135 (dk_at dksX1_meanRoute_5 8 rfl rfl)
theorem dX1_meanRoute_123 : decode cX1_meanRoute 123 = .ok (.ddiv, 1) := dk_111 (dk_at dksX1_meanRoute_5 9 rfl rfl)
theorem dX1_meanRoute_124 : decode cX1_meanRoute 124 = .ok (.dreturn, 1) := dk_175 (dk_at dksX1_meanRoute_5 10 rfl rfl)
abbrev rm_X1_meanRoute : Room := { frames := 9, cells := 3, slots := 13, locals := 146 }
def w_X1_meanRoute_79 (P : UInt64 → AH → Prop) (PX : String → AH → Prop) (Z14 : Int32 → Int32 → Int32 → AH → Prop) (x0 : Option Nat) (x2 : Option Nat) (x4 : Int32) (x5 : Int32) (x6 : Int32) (t0 : Int32) (t1 : Int32) (h : AH) : Prop :=
  ((1000000 ≤ x6 →
    Z14 (t1 + t0) (x4 + 0) (x5 + 1) h) ∧
   (¬ 1000000 ≤ x6 →
    Z14 (t1 + t0) (x4 + 1) (x5 + 1) h))
def w_X1_meanRoute_58 (P : UInt64 → AH → Prop) (PX : String → AH → Prop) (Z14 : Int32 → Int32 → Int32 → AH → Prop) (x0 : Option Nat) (x2 : Option Nat) (x3 : Int32) (x4 : Int32) (x5 : Int32) (t0 : Int32) (h : AH) : Prop :=
  ((1000000 ≤ t0 →
    w_X1_meanRoute_79 P PX Z14 x0 x2 x4 x5 t0 0 x3 h) ∧
   (¬ 1000000 ≤ t0 →
    ¬ (1000 : Int32) = 0 ∧
    w_X1_meanRoute_79 P PX Z14 x0 x2 x4 x5 t0 (t0 - t0 / 1000 * 1000) x3 h))
def w_X1_meanRoute_14 (P : UInt64 → AH → Prop) (PX : String → AH → Prop) (x0 : Option Nat) (x2 : Option Nat) (x3 : Int32) (x4 : Int32) (x5 : Int32) (h : AH) : Prop :=
  ∀ Z14 : Int32 → Int32 → Int32 → AH → Prop, (∀ x3 x4 x5 h, (
      g_q h x0 0 1 fun y17 =>
      is_c h y17 [15] (
      w_J2_size y17 h (fun y20 h20 =>
      ((y20 ≤ x5 →
        ((x4 = 0 →
          PX "java/lang/ArithmeticException" h20) ∧
         (¬ x4 = 0 →
          vf_n64 (FP.ddiv (FP.i2d x3) (FP.i2d x4)) ∧
          P (FP.ddiv (FP.i2d x3) (FP.i2d x4)) h20))) ∧
       (¬ y20 ≤ x5 →
        is_c h20 x2 [2] (
        w_X3_seesConnector x2 x5 h20 (fun y29 h29 =>
        ((y29 = 0 →
          w_X1_meanRoute_58 P PX Z14 x0 x2 x3 x4 x5 1000000 h29) ∧
         (¬ y29 = 0 →
          g_q h29 x0 0 1 fun y38 =>
          is_c h29 y38 [15] (
          w_J2_get y38 x5 h29 (fun y43 h43 =>
          is_c h43 y43 [13] (
          is_c h43 x0 [0] (
          w_X1_route x0 x2 y43 h43 (fun y49 h49 =>
          w_X1_meanRoute_58 P PX Z14 x0 x2 x3 x4 x5 y49 h49))))))))))))))
      → Z14 x3 x4 x5 h) → Z14 x3 x4 x5 h
theorem at_X1_meanRoute_110 : ∀ w ∈ vx_at0 RX1 465 "java/lang/ArithmeticException" ["java/lang/RuntimeException", "java/lang/Exception"], w ∈ lw_tbl := ah_in _ [79, 332, 341, 350, 353, 355, 333, 334, 125, 126, 335, 340, 351, 368, 322, 369, 324, 370, 326, 336, 338, 328, 1829, 1830, 1831, 360, 313, 360, 361, 362, 363, 315, 363, 364, 365, 333, 317, 1828, 1810, 1821, 1822, 343, 1816, 1817, 1819, 1815, 366, 330, 1814] (by decide +kernel)
def w_X1_meanRoute (a0 : Option Nat) (a1 : Int32) (h : AH) (P : UInt64 → AH → Prop) (PX : String → AH → Prop) : Prop :=
  is_c h a0 [0] (
  w_X1_board a0 a1 h (fun y2 h2 =>
  w_X1_meanRoute_14 P PX a0 y2 0 0 0 h2) PX)
theorem wk_X1_meanRoute_79 {x : CX} (X : Ok x cX1_meanRoute RX1 rm_X1_meanRoute 7) (er : xrt x = (Option.some Jvm.ClassFile.FieldType.double)) (en : xnm x = yX1_meanRoute.name) {P : UInt64 → AH → Prop} {PX : String → AH → Prop} (hQ : xr_d x P) (hT : xt_ x PX) (hex : ∀ z ∈ x.2.2.2.2.2.2.2.2.2.1.exceptionTable.toList, False) (Z14 : Int32 → Int32 → Int32 → AH → Prop) (x0 : Option Nat) (x2 : Option Nat) (x4 : Int32) (x5 : Int32) (x6 : Int32) (t0 : Int32) (t1 : Int32) (h : AH) (hZ14 : ∀ x3 x4 x5 h, Z14 x3 x4 x5 h → J x h 2 7 14 [(0, vR x0), (2, vR x2), (3, vI x3), (4, vI x4), (5, vI x5)] []) (hw : w_X1_meanRoute_79 P PX Z14 x0 x2 x4 x5 x6 t0 t1 h) : J x h 2 7 79 [(0, vR x0), (2, vR x2), (4, vI x4), (5, vI x5), (6, vI x6)] [vI t0, vI t1] := by
  refine j_iadd X (pc := 79) dX1_meanRoute_79 ?_
  refine j_istore_n X (pc := 80) [(3, vI (t1 + t0)), (0, vR x0), (2, vR x2), (4, vI x4), (5, vI x5), (6, vI x6)] dX1_meanRoute_80 rfl (Nat.le_of_ble_eq_true rfl) rfl ?_
  refine j_iload X (pc := 81) 3 dX1_meanRoute_81 rfl ?_
  refine j_iload X (pc := 83) 5 dX1_meanRoute_83 rfl ?_
  refine j_ldcw X (pc := 85) dX1_meanRoute_85 q1549 ?_
  refine j_icmp_ge X (pc := 88) 95 dX1_meanRoute_88 (by decide) hw (fun hw => ?_) (fun hw => ?_)
  · refine j_iconst X (pc := 95) 0 dX1_meanRoute_95 (by decide) ?_
    refine j_iadd X (pc := 96) dX1_meanRoute_96 ?_
    refine j_istore X (pc := 97) [(4, vI (x4 + 0)), (3, vI (t1 + t0)), (0, vR x0), (2, vR x2), (5, vI x5), (6, vI x6)] dX1_meanRoute_97 (Nat.le_of_ble_eq_true rfl) rfl ?_
    refine j_iinc X (pc := 99) 4 (x5 + 1) [(5, vI (x5 + 1)), (4, vI (x4 + 0)), (3, vI (t1 + t0)), (0, vR x0), (2, vR x2), (6, vI x6)] dX1_meanRoute_99 rfl rfl (Nat.le_of_ble_eq_true rfl) rfl ?_
    refine j_goto X (pc := 102) 14 dX1_meanRoute_102 (by decide) ?_
    refine j_lv [(0, vR x0), (2, vR x2), (3, vI (t1 + t0)), (4, vI (x4 + 0)), (5, vI (x5 + 1))] [3, 4, 2, 1, 0] rfl ?_
    refine j_cs (u' := 2) (v' := 7) (Nat.le_of_ble_eq_true rfl) (Nat.le_of_ble_eq_true rfl) ?_
    exact hZ14 (t1 + t0) (x4 + 0) (x5 + 1) h hw
  · refine j_iconst X (pc := 91) 1 dX1_meanRoute_91 (by decide) ?_
    refine j_goto X (pc := 92) 96 dX1_meanRoute_92 (by decide) ?_
    refine j_iadd X (pc := 96) dX1_meanRoute_96 ?_
    refine j_istore X (pc := 97) [(4, vI (x4 + 1)), (3, vI (t1 + t0)), (0, vR x0), (2, vR x2), (5, vI x5), (6, vI x6)] dX1_meanRoute_97 (Nat.le_of_ble_eq_true rfl) rfl ?_
    refine j_iinc X (pc := 99) 4 (x5 + 1) [(5, vI (x5 + 1)), (4, vI (x4 + 1)), (3, vI (t1 + t0)), (0, vR x0), (2, vR x2), (6, vI x6)] dX1_meanRoute_99 rfl rfl (Nat.le_of_ble_eq_true rfl) rfl ?_
    refine j_goto X (pc := 102) 14 dX1_meanRoute_102 (by decide) ?_
    refine j_lv [(0, vR x0), (2, vR x2), (3, vI (t1 + t0)), (4, vI (x4 + 1)), (5, vI (x5 + 1))] [3, 4, 2, 1, 0] rfl ?_
    refine j_cs (u' := 2) (v' := 7) (Nat.le_of_ble_eq_true rfl) (Nat.le_of_ble_eq_true rfl) ?_
    exact hZ14 (t1 + t0) (x4 + 1) (x5 + 1) h hw
theorem wk_X1_meanRoute_58 {x : CX} (X : Ok x cX1_meanRoute RX1 rm_X1_meanRoute 7) (er : xrt x = (Option.some Jvm.ClassFile.FieldType.double)) (en : xnm x = yX1_meanRoute.name) {P : UInt64 → AH → Prop} {PX : String → AH → Prop} (hQ : xr_d x P) (hT : xt_ x PX) (hex : ∀ z ∈ x.2.2.2.2.2.2.2.2.2.1.exceptionTable.toList, False) (Z14 : Int32 → Int32 → Int32 → AH → Prop) (x0 : Option Nat) (x2 : Option Nat) (x3 : Int32) (x4 : Int32) (x5 : Int32) (t0 : Int32) (h : AH) (hZ14 : ∀ x3 x4 x5 h, Z14 x3 x4 x5 h → J x h 2 7 14 [(0, vR x0), (2, vR x2), (3, vI x3), (4, vI x4), (5, vI x5)] []) (hw : w_X1_meanRoute_58 P PX Z14 x0 x2 x3 x4 x5 t0 h) : J x h 2 7 58 [(0, vR x0), (2, vR x2), (3, vI x3), (4, vI x4), (5, vI x5)] [vI t0] := by
  refine j_istore X (pc := 58) [(6, vI t0), (0, vR x0), (2, vR x2), (3, vI x3), (4, vI x4), (5, vI x5)] dX1_meanRoute_58 (Nat.le_of_ble_eq_true rfl) rfl ?_
  refine j_iload_n X (pc := 60) 3 dX1_meanRoute_60 rfl rfl ?_
  refine j_iload X (pc := 61) 0 dX1_meanRoute_61 rfl ?_
  refine j_ldcw X (pc := 63) dX1_meanRoute_63 q1549 ?_
  refine j_icmp_ge X (pc := 66) 78 dX1_meanRoute_66 (by decide) hw (fun hw => ?_) (fun hw => ?_)
  · refine j_iconst X (pc := 78) 0 dX1_meanRoute_78 (by decide) ?_
    refine j_lv [(0, vR x0), (2, vR x2), (4, vI x4), (5, vI x5), (6, vI t0)] [1, 2, 4, 5, 0] rfl ?_
    refine j_cs (u' := 2) (v' := 7) (Nat.le_of_ble_eq_true rfl) (Nat.le_of_ble_eq_true rfl) ?_
    exact wk_X1_meanRoute_79 X er en hQ hT hex _ x0 x2 x4 x5 t0 0 x3 h hZ14 hw
  · refine j_iload X (pc := 69) 0 dX1_meanRoute_69 rfl ?_
    refine j_sipush X (pc := 71) 1000 dX1_meanRoute_71 (by decide) ?_
    refine j_irem X (pc := 74) dX1_meanRoute_74 hw (fun hw => ?_)
    refine j_goto X (pc := 75) 79 dX1_meanRoute_75 (by decide) ?_
    refine j_lv [(0, vR x0), (2, vR x2), (4, vI x4), (5, vI x5), (6, vI t0)] [1, 2, 4, 5, 0] rfl ?_
    refine j_cs (u' := 2) (v' := 7) (Nat.le_of_ble_eq_true rfl) (Nat.le_of_ble_eq_true rfl) ?_
    exact wk_X1_meanRoute_79 X er en hQ hT hex _ x0 x2 x4 x5 t0 (t0 - t0 / 1000 * 1000) x3 h hZ14 hw
theorem wk_X1_meanRoute_14 {x : CX} (X : Ok x cX1_meanRoute RX1 rm_X1_meanRoute 7) (er : xrt x = (Option.some Jvm.ClassFile.FieldType.double)) (en : xnm x = yX1_meanRoute.name) {P : UInt64 → AH → Prop} {PX : String → AH → Prop} (hQ : xr_d x P) (hT : xt_ x PX) (hex : ∀ z ∈ x.2.2.2.2.2.2.2.2.2.1.exceptionTable.toList, False) (x0 : Option Nat) (x2 : Option Nat) (x3 : Int32) (x4 : Int32) (x5 : Int32) (h : AH) (hw : w_X1_meanRoute_14 P PX x0 x2 x3 x4 x5 h) : J x h 2 7 14 [(0, vR x0), (2, vR x2), (3, vI x3), (4, vI x4), (5, vI x5)] [] := by
  refine hw (fun x3 x4 x5 h => J x h 2 7 14 [(0, vR x0), (2, vR x2), (3, vI x3), (4, vI x4), (5, vI x5)] []) (fun x3 x4 x5 h hw => ?_)
  refine j_iload X (pc := 14) 4 dX1_meanRoute_14 rfl ?_
  refine j_aload_n X (pc := 16) 0 dX1_meanRoute_16 rfl rfl ?_
  refine j_getq (ci := 0) X (pc := 17) in_X1 rfl (by decide) 1 (by decide) q242 (Or.inl rfl) dX1_meanRoute_17 hw (fun y17 hw => ?_)
  obtain ⟨b9, c9, f9, hr9, ho9, hc9, hw⟩ := hw
  obtain rfl := List.mem_singleton.mp hc9
  refine j_calli (j_runV (n8 := 0) (As := []) (rest := [vI x5]) X (pc := 20) hr9 (met_J2_size (xl x) X.hl (xG x) h y17 _ hw) ho9 (by decide) rfl q284 q285 q286 q74 q287 (by decide +kernel) dX1_meanRoute_20 rfl ⟨Nat.le_of_ble_eq_true rfl, Nat.le_of_ble_eq_true rfl⟩ (Nat.le_of_ble_eq_true rfl) ⟨Nat.le_of_ble_eq_true rfl, Nat.le_of_ble_eq_true rfl⟩) (fun y20 h20 hw => ?_)
  refine j_icmp_ge X (pc := 23) 105 dX1_meanRoute_23 (by decide) hw (fun hw => ?_) (fun hw => ?_)
  · refine j_iload X (pc := 105) 3 dX1_meanRoute_105 rfl ?_
    refine j_if_ne X (pc := 107) 118 dX1_meanRoute_107 (by decide) hw (fun hw => ?_) (fun hw => ?_)
    · exact j_throw X (pc := 110) (names := ["java/lang/RuntimeException", "java/lang/Exception"]) hT hex (by decide +kernel) (by decide +kernel) q1827 q117 at_X1_meanRoute_110 (by decide +kernel) dX1_meanRoute_110 dX1_meanRoute_113 dX1_meanRoute_114 dX1_meanRoute_117 ⟨Nat.le_of_ble_eq_true rfl, Nat.le_of_ble_eq_true rfl⟩ (Nat.le_of_ble_eq_true rfl) (Nat.le_of_ble_eq_true rfl) hw
    · refine j_iload_n X (pc := 118) 2 dX1_meanRoute_118 rfl rfl ?_
      refine j_i2d X (pc := 119) dX1_meanRoute_119 ?_
      refine j_iload X (pc := 120) 3 dX1_meanRoute_120 rfl ?_
      refine j_i2d X (pc := 122) dX1_meanRoute_122 ?_
      refine j_ddiv X (pc := 123) dX1_meanRoute_123 hw (fun hw => ?_)
      exact j_dret X (pc := 124) hQ er (Nat.le_of_ble_eq_true rfl) (Nat.le_of_ble_eq_true rfl) dX1_meanRoute_124 hw
  · refine j_aload_n X (pc := 26) 1 dX1_meanRoute_26 rfl rfl ?_
    refine j_iload X (pc := 27) 4 dX1_meanRoute_27 rfl ?_
    obtain ⟨b9, c9, f9, hr9, ho9, hc9, hw⟩ := hw
    obtain rfl := List.mem_singleton.mp hc9
    refine j_calli (j_runV (n8 := 1) (As := [vI x5]) (rest := []) X (pc := 29) hr9 (met_X3_seesConnector (xl x) X.hl (xG x) h20 x2 x5 _ hw) ho9 (by decide) rfl q1297 q1298 q1299 q76 q1300 (by decide +kernel) dX1_meanRoute_29 rfl ⟨Nat.le_of_ble_eq_true rfl, Nat.le_of_ble_eq_true rfl⟩ (Nat.le_of_ble_eq_true rfl) ⟨Nat.le_of_ble_eq_true rfl, Nat.le_of_ble_eq_true rfl⟩) (fun y29 h29 hw => ?_)
    refine j_if_eq X (pc := 32) 55 dX1_meanRoute_32 (by decide) hw (fun hw => ?_) (fun hw => ?_)
    · refine j_ldcw X (pc := 55) dX1_meanRoute_55 q1549 ?_
      refine j_cs (u' := 2) (v' := 7) (Nat.le_of_ble_eq_true rfl) (Nat.le_of_ble_eq_true rfl) ?_
      exact wk_X1_meanRoute_58 X er en hQ hT hex _ x0 x2 x3 x4 x5 1000000 h29 (fun x3_ x4_ x5_ h_ hz => hz) hw
    · refine j_aload_n X (pc := 35) 0 dX1_meanRoute_35 rfl rfl ?_
      refine j_aload_n X (pc := 36) 1 dX1_meanRoute_36 rfl rfl ?_
      refine j_aload_n X (pc := 37) 0 dX1_meanRoute_37 rfl rfl ?_
      refine j_getq (ci := 0) X (pc := 38) in_X1 rfl (by decide) 1 (by decide) q242 (Or.inl rfl) dX1_meanRoute_38 hw (fun y38 hw => ?_)
      refine j_iload X (pc := 41) 4 dX1_meanRoute_41 rfl ?_
      obtain ⟨b9, c9, f9, hr9, ho9, hc9, hw⟩ := hw
      obtain rfl := List.mem_singleton.mp hc9
      refine j_callq (j_runV (n8 := 1) (As := [vI x5]) (rest := [vR x2, vR x0]) X (pc := 43) hr9 (met_J2_get (xl x) X.hl (xG x) h29 y38 x5 _ hw) ho9 (by decide) rfl q1074 q512 q513 q74 q514 (by decide +kernel) dX1_meanRoute_43 rfl ⟨Nat.le_of_ble_eq_true rfl, Nat.le_of_ble_eq_true rfl⟩ (Nat.le_of_ble_eq_true rfl) ⟨Nat.le_of_ble_eq_true rfl, Nat.le_of_ble_eq_true rfl⟩) (fun y43 h43 hw => ?_)
      refine j_chk X (pc := 46) (L := [13]) q1270 (by intro ci hci; obtain rfl := List.mem_singleton.mp hci; exact ⟨by decide, _, _, _, rfl, Or.inl rfl⟩) dX1_meanRoute_46 hw (fun hw => ?_)
      obtain ⟨b9, c9, f9, hr9, ho9, hc9, hw⟩ := hw
      obtain rfl := List.mem_singleton.mp hc9
      refine j_calli (j_runV (n8 := 2) (As := [vR x2, vR y43]) (rest := []) X (pc := 49) hr9 (met_X1_route (xl x) X.hl (xG x) h43 x0 x2 y43 _ hw) ho9 (by decide) rfl q1527 q1529 qs19 q71 q1530 (by decide +kernel) dX1_meanRoute_49 rfl ⟨Nat.le_of_ble_eq_true rfl, Nat.le_of_ble_eq_true rfl⟩ (Nat.le_of_ble_eq_true rfl) ⟨Nat.le_of_ble_eq_true rfl, Nat.le_of_ble_eq_true rfl⟩) (fun y49 h49 hw => ?_)
      refine j_goto X (pc := 52) 58 dX1_meanRoute_52 (by decide) ?_
      refine j_cs (u' := 2) (v' := 7) (Nat.le_of_ble_eq_true rfl) (Nat.le_of_ble_eq_true rfl) ?_
      exact wk_X1_meanRoute_58 X er en hQ hT hex _ x0 x2 x3 x4 x5 y49 h49 (fun x3_ x4_ x5_ h_ hz => hz) hw
theorem met_X1_meanRoute (l : Launch) (hlt : l.stackTraces = false) (G : GG) (h : AH) (a0 : Option Nat) (a1 : Int32) (P : UInt64 → AH → Prop) (PX : String → AH → Prop) (hw : w_X1_meanRoute a0 a1 h P PX) : cx_d l yX1_meanRoute (ws_ yX1_meanRoute cX1_meanRoute 7 (Option.some Jvm.ClassFile.FieldType.double)) rm_X1_meanRoute G h [vR a0, vI a1] P PX := by
  refine j_startXd hlt [(0, vR a0), (1, vI a1)] (by decide) rfl rfl (fun x X eG er en hQ hT hex => ?_)
  subst eG
  refine j_aload_n X (pc := 0) 0 dX1_meanRoute_0 rfl rfl ?_
  refine j_iload_n X (pc := 1) 1 dX1_meanRoute_1 rfl rfl ?_
  obtain ⟨b9, c9, f9, hr9, ho9, hc9, hw⟩ := hw
  obtain rfl := List.mem_singleton.mp hc9
  refine j_callXq (j_runVX (n8 := 1) (As := [vI a1]) (rest := []) X (pc := 2) hr9 (met_X1_board (xl x) X.hl (xG x) h a0 a1 _ _ hw) ho9 (by decide) rfl q297 q299 qs0 q71 q300 (by decide +kernel) dX1_meanRoute_2 rfl ⟨Nat.le_of_ble_eq_true rfl, Nat.le_of_ble_eq_true rfl⟩ (Nat.le_of_ble_eq_true rfl) ⟨Nat.le_of_ble_eq_true rfl, Nat.le_of_ble_eq_true rfl⟩) (fun E h9 hx => j_out X hT hex (Nat.le_of_ble_eq_true rfl) (Nat.le_of_ble_eq_true rfl) hx) (fun y2 h2 hw => ?_)
  refine j_astore_n X (pc := 5) [(2, vR y2), (0, vR a0), (1, vI a1)] dX1_meanRoute_5 rfl (Nat.le_of_ble_eq_true rfl) rfl ?_
  refine j_iconst X (pc := 6) 0 dX1_meanRoute_6 (by decide) ?_
  refine j_istore_n X (pc := 7) [(3, vI 0), (2, vR y2), (0, vR a0), (1, vI a1)] dX1_meanRoute_7 rfl (Nat.le_of_ble_eq_true rfl) rfl ?_
  refine j_iconst X (pc := 8) 0 dX1_meanRoute_8 (by decide) ?_
  refine j_istore X (pc := 9) [(4, vI 0), (3, vI 0), (2, vR y2), (0, vR a0), (1, vI a1)] dX1_meanRoute_9 (Nat.le_of_ble_eq_true rfl) rfl ?_
  refine j_iconst X (pc := 11) 0 dX1_meanRoute_11 (by decide) ?_
  refine j_istore X (pc := 12) [(5, vI 0), (4, vI 0), (3, vI 0), (2, vR y2), (0, vR a0), (1, vI a1)] dX1_meanRoute_12 (Nat.le_of_ble_eq_true rfl) rfl ?_
  refine j_lv [(0, vR a0), (2, vR y2), (3, vI 0), (4, vI 0), (5, vI 0)] [4, 3, 2, 1, 0] rfl ?_
  refine j_cs (u' := 2) (v' := 7) (Nat.le_of_ble_eq_true rfl) (Nat.le_of_ble_eq_true rfl) ?_
  exact wk_X1_meanRoute_14 X er en hQ hT hex a0 y2 0 0 0 h2 hw
abbrev cX0_meanRoute : ByteArray := method_45_code
def yX0_meanRoute : MethodName := ⟨RX0, "meanRoute", "(LPlugboard;I[D)I"⟩
def dkwX0_meanRoute_0 : List UInt8 := [44, 3, 42, 27, 182, 0, 157, 82, 167, 0, 9, 78, 4, 172, 78, 5, 172, 3, 172]
abbrev dktX0_meanRoute_0 : List UInt8 := dkwX0_meanRoute_0 ++ []
theorem dksX0_meanRoute_0 : cX0_meanRoute.data.toList.drop 0 = dktX0_meanRoute_0 := by decide +kernel
theorem dX0_meanRoute_0 : decode cX0_meanRoute 0 = .ok (.aload_n 2, 1) := dk_44 (dk_at dksX0_meanRoute_0 0 rfl rfl)
theorem dX0_meanRoute_1 : decode cX0_meanRoute 1 = .ok (.iconst 0, 1) := dk_3 (dk_at dksX0_meanRoute_0 1 rfl rfl)
theorem dX0_meanRoute_2 : decode cX0_meanRoute 2 = .ok (.aload_n 0, 1) := dk_42 (dk_at dksX0_meanRoute_0 2 rfl rfl)
theorem dX0_meanRoute_3 : decode cX0_meanRoute 3 = .ok (.iload_n 1, 1) := dk_27 (dk_at dksX0_meanRoute_0 3 rfl rfl)
theorem dX0_meanRoute_4 : decode cX0_meanRoute 4 = .ok (.invokevirtual 157, 3) := dk_182 0 157 (dk_at dksX0_meanRoute_0 4 rfl rfl)
theorem dX0_meanRoute_7 : decode cX0_meanRoute 7 = .ok (.dastore, 1) := dk_82 (dk_at dksX0_meanRoute_0 7 rfl rfl)
theorem dX0_meanRoute_8 : decode cX0_meanRoute 8 = .ok (.goto 9, 3) := dk_167 0 9 (dk_at dksX0_meanRoute_0 8 rfl rfl)
theorem dX0_meanRoute_11 : decode cX0_meanRoute 11 = .ok (.astore_n 3, 1) := dk_78 (dk_at dksX0_meanRoute_0 11 rfl rfl)
theorem dX0_meanRoute_12 : decode cX0_meanRoute 12 = .ok (.iconst 1, 1) := dk_4 (dk_at dksX0_meanRoute_0 12 rfl rfl)
theorem dX0_meanRoute_13 : decode cX0_meanRoute 13 = .ok (.ireturn, 1) := dk_172 (dk_at dksX0_meanRoute_0 13 rfl rfl)
theorem dX0_meanRoute_14 : decode cX0_meanRoute 14 = .ok (.astore_n 3, 1) := dk_78 (dk_at dksX0_meanRoute_0 14 rfl rfl)
theorem dX0_meanRoute_15 : decode cX0_meanRoute 15 = .ok (.iconst 2, 1) := dk_5 (dk_at dksX0_meanRoute_0 15 rfl rfl)
theorem dX0_meanRoute_16 : decode cX0_meanRoute 16 = .ok (.ireturn, 1) := dk_172 (dk_at dksX0_meanRoute_0 16 rfl rfl)
theorem dX0_meanRoute_17 : decode cX0_meanRoute 17 = .ok (.iconst 0, 1) := dk_3 (dk_at dksX0_meanRoute_0 17 rfl rfl)
theorem dX0_meanRoute_18 : decode cX0_meanRoute 18 = .ok (.ireturn, 1) := dk_172 (dk_at dksX0_meanRoute_0 18 rfl rfl)
theorem q1853 : (Jvm.Cond.methodLink "PlugboardLaw" (157 : Nat) ({ cls := "Plugboard", name := "meanRoute", desc := "(I)D" } : Jvm.MethodName)) ∈ lw_all := lw_g (lw_at lw_m8 103 rfl) rfl
theorem q1854 : (Jvm.Cond.instanceMethod ({ cls := "Plugboard", name := "meanRoute", desc := "(I)D" } : Jvm.MethodName)) ∈ lw_all := lw_g (lw_at lw_m8 104 rfl) rfl
theorem q1855 : (Jvm.Cond.selects "Plugboard" ({ cls := "Plugboard", name := "meanRoute", desc := "(I)D" } : Jvm.MethodName) ({ cls := "Plugboard", name := "meanRoute", desc := "(I)D" } : Jvm.MethodName)) ∈ lw_all := lw_g (lw_at lw_m8 105 rfl) rfl
theorem q1856 : (Jvm.Cond.code ({ cls := "Plugboard", name := "meanRoute", desc := "(I)D" } : Jvm.MethodName) prog_1_method_85_code (7 : Nat) (Option.some Jvm.ClassFile.FieldType.double)) ∈ lw_all := lw_g (lw_at lw_m8 106 rfl) rfl
abbrev rm_X0_meanRoute : Room := { frames := 10, cells := 3, slots := 13, locals := 172 }
def w_X0_meanRoute (a0 : Option Nat) (a1 : Int32) (a2 : Option Nat) (h : AH) (P : Int32 → AH → Prop) : Prop :=
  is_c h a0 [0] (
  w_X1_meanRoute a0 a1 h (fun y4 h4 =>
  s_D h4 a2 0 y4 fun h7 =>
  P 0 h7)
    (fun E9 h9 => (E9 = "java/lang/IllegalArgumentException" ∧ ∀ q9 : Nat,
    P 1 h9) ∨
    (E9 = "java/lang/ArithmeticException" ∧ ∀ q9 : Nat,
    P 2 h9)))
theorem met_X0_meanRoute (l : Launch) (hlt : l.stackTraces = false) (G : GG) (h : AH) (a0 : Option Nat) (a1 : Int32) (a2 : Option Nat) (P : Int32 → AH → Prop) (hw : w_X0_meanRoute a0 a1 a2 h P) : ct_i l yX0_meanRoute (wsW_ yX0_meanRoute cX0_meanRoute 4 (Option.some Jvm.ClassFile.FieldType.int) [((0 : Nat), (8 : Nat), (11 : Nat), (13 : Nat)), ((0 : Nat), (8 : Nat), (14 : Nat), (155 : Nat))]) rm_X0_meanRoute G h [vR a0, vI a1, vR a2] P := by
  refine j_startWi hlt [(0, vR a0), (1, vI a1), (2, vR a2)] (by decide) rfl rfl (fun x X eG er en hQ hex => ?_)
  subst eG
  refine j_aload_n X (pc := 0) 2 dX0_meanRoute_0 rfl rfl ?_
  refine j_iconst X (pc := 1) 0 dX0_meanRoute_1 (by decide) ?_
  refine j_aload_n X (pc := 2) 0 dX0_meanRoute_2 rfl rfl ?_
  refine j_iload_n X (pc := 3) 1 dX0_meanRoute_3 rfl rfl ?_
  obtain ⟨b9, c9, f9, hr9, ho9, hc9, hw⟩ := hw
  obtain rfl := List.mem_singleton.mp hc9
  refine j_callXd (j_runVX (n8 := 1) (As := [vI a1]) (rest := [vI 0, vR a2]) X (pc := 4) hr9 (met_X1_meanRoute (xl x) X.hl (xG x) h a0 a1 _ _ hw) ho9 (by decide) rfl q1853 q1854 q1855 q71 q1856 (by decide +kernel) dX0_meanRoute_4 rfl ⟨Nat.le_of_ble_eq_true rfl, Nat.le_of_ble_eq_true rfl⟩ (Nat.le_of_ble_eq_true rfl) ⟨Nat.le_of_ble_eq_true rfl, Nat.le_of_ble_eq_true rfl⟩) ?_ (fun y4 h4 hw => ?_)
  · intro E9 h9 hx
    rcases hx with ⟨rfl, hw⟩ | ⟨rfl, hw⟩
    · refine j_catch X (pc := 4) "java/lang/IllegalArgumentException" hex [] [⟨0, 8, 14, 155⟩] ⟨0, 8, 11, 13⟩ rfl (by intro y hy; cases hy) (by decide) (by decide) q291 q312 (fun q9 => ?_)
      have hw := hw q9
      refine j_astore_n X (pc := 11) [(3, vR (some q9)), (0, vR a0), (1, vI a1), (2, vR a2)] dX0_meanRoute_11 rfl (Nat.le_of_ble_eq_true rfl) rfl ?_
      refine j_iconst X (pc := 12) 1 dX0_meanRoute_12 (by decide) ?_
      exact j_iret X (pc := 13) hQ er (Nat.le_of_ble_eq_true rfl) (Nat.le_of_ble_eq_true rfl) dX0_meanRoute_13 hw
    · refine j_catch X (pc := 4) "java/lang/ArithmeticException" hex [⟨0, 8, 11, 13⟩] [] ⟨0, 8, 14, 155⟩ rfl (by intro y hy; simp only [List.mem_cons, List.not_mem_nil, or_false] at hy; subst hy; exact Or.inr ⟨by decide, "java/lang/IllegalArgumentException", q291, by decide +kernel⟩) (by decide) (by decide) q1809 q1821 (fun q9 => ?_)
      have hw := hw q9
      refine j_astore_n X (pc := 14) [(3, vR (some q9)), (0, vR a0), (1, vI a1), (2, vR a2)] dX0_meanRoute_14 rfl (Nat.le_of_ble_eq_true rfl) rfl ?_
      refine j_iconst X (pc := 15) 2 dX0_meanRoute_15 (by decide) ?_
      exact j_iret X (pc := 16) hQ er (Nat.le_of_ble_eq_true rfl) (Nat.le_of_ble_eq_true rfl) dX0_meanRoute_16 hw
  refine j_dast X (pc := 7) dX0_meanRoute_7 hw (fun h7 hw => ?_)
  refine j_goto X (pc := 8) 17 dX0_meanRoute_8 (by decide) ?_
  refine j_iconst X (pc := 17) 0 dX0_meanRoute_17 (by decide) ?_
  exact j_iret X (pc := 18) hQ er (Nat.le_of_ble_eq_true rfl) (Nat.le_of_ble_eq_true rfl) dX0_meanRoute_18 hw
abbrev cX5_meanRoute : ByteArray := prog_19_method_89_code
def yX5_meanRoute : MethodName := ⟨RX5, "meanRoute", "(I)D"⟩
def dkwX5_meanRoute_4 : List UInt8 := [175]
abbrev dktX5_meanRoute_4 : List UInt8 := dkwX5_meanRoute_4 ++ []
def dkwX5_meanRoute_3 : List UInt8 := [132, 4, 1, 167, 255, 200, 28, 154, 0, 12, 42, 5, 182, 0, 172, 135, 167, 0, 8, 29, 135, 28, 135, 111]
abbrev dktX5_meanRoute_3 : List UInt8 := dkwX5_meanRoute_3 ++ dktX5_meanRoute_4
def dkwX5_meanRoute_2 : List UInt8 := [54, 5, 21, 5, 18, 251, 160, 0, 6, 167, 0, 15, 132, 2, 1, 29, 21, 5, 17, 3, 232, 112, 96, 62]
abbrev dktX5_meanRoute_2 : List UInt8 := dkwX5_meanRoute_2 ++ dktX5_meanRoute_3
def dkwX5_meanRoute_1 : List UInt8 := [162, 0, 53, 42, 21, 4, 182, 0, 135, 153, 0, 12, 42, 21, 4, 182, 1, 5, 167, 0, 5, 18, 251]
abbrev dktX5_meanRoute_1 : List UInt8 := dkwX5_meanRoute_1 ++ dktX5_meanRoute_2
def dkwX5_meanRoute_0 : List UInt8 := [42, 27, 182, 0, 228, 153, 0, 5, 14, 175, 3, 61, 3, 62, 3, 54, 4, 21, 4, 42, 180, 0, 122]
abbrev dktX5_meanRoute_0 : List UInt8 := dkwX5_meanRoute_0 ++ dktX5_meanRoute_1
theorem dksX5_meanRoute_0 : cX5_meanRoute.data.toList.drop 0 = dktX5_meanRoute_0 := by decide +kernel
theorem dksX5_meanRoute_1 : cX5_meanRoute.data.toList.drop 23 = dktX5_meanRoute_1 := dk_seg dksX5_meanRoute_0 23 rfl rfl
theorem dksX5_meanRoute_2 : cX5_meanRoute.data.toList.drop 46 = dktX5_meanRoute_2 := dk_seg dksX5_meanRoute_1 23 rfl rfl
theorem dksX5_meanRoute_3 : cX5_meanRoute.data.toList.drop 70 = dktX5_meanRoute_3 := dk_seg dksX5_meanRoute_2 24 rfl rfl
theorem dksX5_meanRoute_4 : cX5_meanRoute.data.toList.drop 94 = dktX5_meanRoute_4 := dk_seg dksX5_meanRoute_3 24 rfl rfl
theorem dX5_meanRoute_0 : decode cX5_meanRoute 0 = .ok (.aload_n 0, 1) := dk_42 (dk_at dksX5_meanRoute_0 0 rfl rfl)
theorem dX5_meanRoute_1 : decode cX5_meanRoute 1 = .ok (.iload_n 1, 1) := dk_27 (dk_at dksX5_meanRoute_0 1 rfl rfl)
theorem dX5_meanRoute_2 : decode cX5_meanRoute 2 = .ok (.invokevirtual 228, 3) := dk_182 0 228 (dk_at dksX5_meanRoute_0 2 rfl rfl)
theorem dX5_meanRoute_5 : decode cX5_meanRoute 5 = .ok (.ifCond .eq 5, 3) := dk_153 0 5 (dk_at dksX5_meanRoute_0 5 rfl rfl)
theorem dX5_meanRoute_8 : decode cX5_meanRoute 8 = .ok (.dconst 0, 1) := dk_14 (dk_at dksX5_meanRoute_0 8 rfl rfl)
theorem dX5_meanRoute_9 : decode cX5_meanRoute 9 = .ok (.dreturn, 1) := dk_175 (dk_at dksX5_meanRoute_0 9 rfl rfl)
theorem dX5_meanRoute_10 : decode cX5_meanRoute 10 = .ok (.iconst 0, 1) := dk_3 (dk_at dksX5_meanRoute_0 10 rfl rfl)
theorem dX5_meanRoute_11 : decode cX5_meanRoute 11 = .ok (.istore_n 2, 1) := dk_61 (dk_at dksX5_meanRoute_0 11 rfl rfl)
theorem dX5_meanRoute_12 : decode cX5_meanRoute 12 = .ok (.iconst 0, 1) := dk_3 (dk_at dksX5_meanRoute_0 12 rfl rfl)
theorem dX5_meanRoute_13 : decode cX5_meanRoute 13 = .ok (.istore_n 3, 1) := dk_62 (dk_at dksX5_meanRoute_0 13 rfl rfl)
theorem dX5_meanRoute_14 : decode cX5_meanRoute 14 = .ok (.iconst 0, 1) := dk_3 (dk_at dksX5_meanRoute_0 14 rfl rfl)
theorem dX5_meanRoute_15 : decode cX5_meanRoute 15 = .ok (.istore 4, 2) := dk_54 4 (dk_at dksX5_meanRoute_0 15 rfl rfl)
theorem dX5_meanRoute_17 : decode cX5_meanRoute 17 = .ok (.iload 4, 2) := dk_21 4 (dk_at dksX5_meanRoute_0 17 rfl rfl)
theorem dX5_meanRoute_19 : decode cX5_meanRoute 19 = .ok (.aload_n 0, 1) := dk_42 (dk_at dksX5_meanRoute_0 19 rfl rfl)
theorem dX5_meanRoute_20 : decode cX5_meanRoute 20 = .ok (.getfield 122, 3) := dk_180 0 122 (dk_at dksX5_meanRoute_0 20 rfl rfl)
theorem dX5_meanRoute_23 : decode cX5_meanRoute 23 = .ok (.if_icmp .ge 53, 3) := dk_162 0 53 (dk_at dksX5_meanRoute_1 0 rfl rfl)
theorem dX5_meanRoute_26 : decode cX5_meanRoute 26 = .ok (.aload_n 0, 1) := dk_42 (dk_at dksX5_meanRoute_1 3 rfl rfl)
theorem dX5_meanRoute_27 : decode cX5_meanRoute 27 = .ok (.iload 4, 2) := dk_21 4 (dk_at dksX5_meanRoute_1 4 rfl rfl)
theorem dX5_meanRoute_29 : decode cX5_meanRoute 29 = .ok (.invokevirtual 135, 3) := dk_182 0 135 (dk_at dksX5_meanRoute_1 6 rfl rfl)
theorem dX5_meanRoute_32 : decode cX5_meanRoute 32 = .ok (.ifCond .eq 12, 3) := dk_153 0 12 (dk_at dksX5_meanRoute_1 9 rfl rfl)
theorem dX5_meanRoute_35 : decode cX5_meanRoute 35 = .ok (.aload_n 0, 1) := dk_42 (dk_at dksX5_meanRoute_1 12 rfl rfl)
theorem dX5_meanRoute_36 : decode cX5_meanRoute 36 = .ok (.iload 4, 2) := dk_21 4 (dk_at dksX5_meanRoute_1 13 rfl rfl)
theorem dX5_meanRoute_38 : decode cX5_meanRoute 38 = .ok (.invokevirtual 261, 3) := dk_182 1 5 (dk_at dksX5_meanRoute_1 15 rfl rfl)
theorem dX5_meanRoute_41 : decode cX5_meanRoute 41 = .ok (.goto 5, 3) := dk_167 0 5 (dk_at dksX5_meanRoute_1 18 rfl rfl)
theorem dX5_meanRoute_44 : decode cX5_meanRoute 44 = .ok (.ldc 251, 2) := dk_18 251 (dk_at dksX5_meanRoute_1 21 rfl rfl)
theorem dX5_meanRoute_46 : decode cX5_meanRoute 46 = .ok (.istore 5, 2) := dk_54 5 (dk_at dksX5_meanRoute_2 0 rfl rfl)
theorem dX5_meanRoute_48 : decode cX5_meanRoute 48 = .ok (.iload 5, 2) := dk_21 5 (dk_at dksX5_meanRoute_2 2 rfl rfl)
theorem dX5_meanRoute_50 : decode cX5_meanRoute 50 = .ok (.ldc 251, 2) := dk_18 251 (dk_at dksX5_meanRoute_2 4 rfl rfl)
theorem dX5_meanRoute_52 : decode cX5_meanRoute 52 = .ok (.if_icmp .ne 6, 3) := dk_160 0 6 (dk_at dksX5_meanRoute_2 6 rfl rfl)
theorem dX5_meanRoute_55 : decode cX5_meanRoute 55 = .ok (.goto 15, 3) := dk_167 0 15 (dk_at dksX5_meanRoute_2 9 rfl rfl)
theorem dX5_meanRoute_58 : decode cX5_meanRoute 58 = .ok (.iinc 2 1, 3) := dk_132 2 1 (dk_at dksX5_meanRoute_2 12 rfl rfl)
theorem dX5_meanRoute_61 : decode cX5_meanRoute 61 = .ok (.iload_n 3, 1) := dk_29 (dk_at dksX5_meanRoute_2 15 rfl rfl)
theorem dX5_meanRoute_62 : decode cX5_meanRoute 62 = .ok (.iload 5, 2) := dk_21 5 (dk_at dksX5_meanRoute_2 16 rfl rfl)
theorem dX5_meanRoute_64 : decode cX5_meanRoute 64 = .ok (.sipush 1000, 3) := dk_17 3 232 (dk_at dksX5_meanRoute_2 18 rfl rfl)
theorem dX5_meanRoute_67 : decode cX5_meanRoute 67 = .ok (.irem, 1) := dk_112 (dk_at dksX5_meanRoute_2 21 rfl rfl)
theorem dX5_meanRoute_68 : decode cX5_meanRoute 68 = .ok (.iadd, 1) := dk_96 (dk_at dksX5_meanRoute_2 22 rfl rfl)
theorem dX5_meanRoute_69 : decode cX5_meanRoute 69 = .ok (.istore_n 3, 1) := dk_62 (dk_at dksX5_meanRoute_2 23 rfl rfl)
theorem dX5_meanRoute_70 : decode cX5_meanRoute 70 = .ok (.iinc 4 1, 3) := dk_132 4 1 (dk_at dksX5_meanRoute_3 0 rfl rfl)
theorem dX5_meanRoute_73 : decode cX5_meanRoute 73 = .ok (.goto (-56), 3) := dk_167 255 200 (dk_at dksX5_meanRoute_3 3 rfl rfl)
theorem dX5_meanRoute_76 : decode cX5_meanRoute 76 = .ok (.iload_n 2, 1) := dk_28 (dk_at dksX5_meanRoute_3 6 rfl rfl)
theorem dX5_meanRoute_77 : decode cX5_meanRoute 77 = .ok (.ifCond .ne 12, 3) := dk_154 0 12 (dk_at dksX5_meanRoute_3 7 rfl rfl)
theorem dX5_meanRoute_80 : decode cX5_meanRoute 80 = .ok (.aload_n 0, 1) := dk_42 (dk_at dksX5_meanRoute_3 10 rfl rfl)
theorem dX5_meanRoute_81 : decode cX5_meanRoute 81 = .ok (.iconst 2, 1) := dk_5 (dk_at dksX5_meanRoute_3 11 rfl rfl)
theorem dX5_meanRoute_82 : decode cX5_meanRoute 82 = .ok (.invokevirtual 172, 3) := dk_182 0 172 (dk_at dksX5_meanRoute_3 12 rfl rfl)
theorem dX5_meanRoute_85 : decode cX5_meanRoute 85 = .ok (.i2d, 1) := dk_135 (dk_at dksX5_meanRoute_3 15 rfl rfl)
theorem dX5_meanRoute_86 : decode cX5_meanRoute 86 = .ok (.goto 8, 3) := dk_167 0 8 (dk_at dksX5_meanRoute_3 16 rfl rfl)
theorem dX5_meanRoute_89 : decode cX5_meanRoute 89 = .ok (.iload_n 3, 1) := dk_29 (dk_at dksX5_meanRoute_3 19 rfl rfl)
theorem dX5_meanRoute_90 : decode cX5_meanRoute 90 = .ok (.i2d, 1) := dk_135 (dk_at dksX5_meanRoute_3 20 rfl rfl)
theorem dX5_meanRoute_91 : decode cX5_meanRoute 91 = .ok (.iload_n 2, 1) := dk_28 (dk_at dksX5_meanRoute_3 21 rfl rfl)
theorem dX5_meanRoute_92 : decode cX5_meanRoute 92 = .ok (.i2d, 1) := dk_135 (dk_at dksX5_meanRoute_3 22 rfl rfl)
theorem dX5_meanRoute_93 : decode cX5_meanRoute 93 = .ok (.ddiv, 1) := dk_111 (dk_at dksX5_meanRoute_3 23 rfl rfl)
theorem dX5_meanRoute_94 : decode cX5_meanRoute 94 = .ok (.dreturn, 1) := dk_175 (dk_at dksX5_meanRoute_4 0 rfl rfl)
abbrev rm_X5_meanRoute : Room := { frames := 4, cells := 0, slots := 0, locals := 103 }
def w_X5_meanRoute_46 (P : UInt64 → AH → Prop) (Z17 : Int32 → Int32 → Int32 → AH → Prop) (x0 : Option Nat) (x2 : Int32) (x3 : Int32) (x4 : Int32) (t0 : Int32) (h : AH) : Prop :=
  ((t0 = 1000000000 →
    Z17 x2 x3 (x4 + 1) h) ∧
   (¬ t0 = 1000000000 →
    ¬ (1000 : Int32) = 0 ∧
    Z17 (x2 + 1) (x3 + (t0 - t0 / 1000 * 1000)) (x4 + 1) h))
def w_X5_meanRoute_17 (P : UInt64 → AH → Prop) (x0 : Option Nat) (x2 : Int32) (x3 : Int32) (x4 : Int32) (h : AH) : Prop :=
  ∀ Z17 : Int32 → Int32 → Int32 → AH → Prop, (∀ x2 x3 x4 h, (
      g_i h x0 4 9 fun y20 =>
      ((y20 ≤ x4 →
        ((x2 = 0 →
          is_c h x0 [4] (
          w_X5_fails x0 2 h (fun y82 h82 =>
          P (FP.i2d y82) h82))) ∧
         (¬ x2 = 0 →
          vf_n64 (FP.ddiv (FP.i2d x3) (FP.i2d x2)) ∧
          P (FP.ddiv (FP.i2d x3) (FP.i2d x2)) h))) ∧
       (¬ y20 ≤ x4 →
        is_c h x0 [4] (
        w_X5_isJoined x0 x4 h (fun y29 h29 =>
        ((y29 = 0 →
          w_X5_meanRoute_46 P Z17 x0 x2 x3 x4 1000000000 h29) ∧
         (¬ y29 = 0 →
          is_c h29 x0 [4] (
          w_X5_route x0 x4 h29 (fun y38 h38 =>
          w_X5_meanRoute_46 P Z17 x0 x2 x3 x4 y38 h38)))))))))
      → Z17 x2 x3 x4 h) → Z17 x2 x3 x4 h
def w_X5_meanRoute (a0 : Option Nat) (a1 : Int32) (h : AH) (P : UInt64 → AH → Prop) : Prop :=
  is_c h a0 [4] (
  w_X5_isNobody a0 a1 h (fun y2 h2 =>
  ((y2 = 0 →
    w_X5_meanRoute_17 P a0 0 0 0 h2) ∧
   (¬ y2 = 0 →
    P FP.dconst0 h2))))
theorem wk_X5_meanRoute_46 {x : CX} (X : Ok x cX5_meanRoute RX5 rm_X5_meanRoute 6) (er : xrt x = (Option.some Jvm.ClassFile.FieldType.double)) (en : xnm x = yX5_meanRoute.name) {P : UInt64 → AH → Prop} (hQ : xr_d x P) (Z17 : Int32 → Int32 → Int32 → AH → Prop) (x0 : Option Nat) (x2 : Int32) (x3 : Int32) (x4 : Int32) (t0 : Int32) (h : AH) (hZ17 : ∀ x2 x3 x4 h, Z17 x2 x3 x4 h → J x h 0 0 17 [(0, vR x0), (2, vI x2), (3, vI x3), (4, vI x4)] []) (hw : w_X5_meanRoute_46 P Z17 x0 x2 x3 x4 t0 h) : J x h 0 0 46 [(0, vR x0), (2, vI x2), (3, vI x3), (4, vI x4)] [vI t0] := by
  refine j_istore X (pc := 46) [(5, vI t0), (0, vR x0), (2, vI x2), (3, vI x3), (4, vI x4)] dX5_meanRoute_46 (Nat.le_of_ble_eq_true rfl) rfl ?_
  refine j_iload X (pc := 48) 0 dX5_meanRoute_48 rfl ?_
  refine j_ldc X (pc := 50) dX5_meanRoute_50 q2259 ?_
  refine j_icmp_ne X (pc := 52) 58 dX5_meanRoute_52 (by decide) hw (fun hw => ?_) (fun hw => ?_)
  · refine j_goto X (pc := 55) 70 dX5_meanRoute_55 (by decide) ?_
    refine j_iinc X (pc := 70) 4 (x4 + 1) [(4, vI (x4 + 1)), (5, vI t0), (0, vR x0), (2, vI x2), (3, vI x3)] dX5_meanRoute_70 rfl rfl (Nat.le_of_ble_eq_true rfl) rfl ?_
    refine j_goto X (pc := 73) 17 dX5_meanRoute_73 (by decide) ?_
    refine j_lv [(0, vR x0), (2, vI x2), (3, vI x3), (4, vI (x4 + 1))] [2, 3, 4, 0] rfl ?_
    refine j_cs (u' := 0) (v' := 0) (Nat.le_of_ble_eq_true rfl) (Nat.le_of_ble_eq_true rfl) ?_
    exact hZ17 x2 x3 (x4 + 1) h hw
  · refine j_iinc X (pc := 58) 2 (x2 + 1) [(2, vI (x2 + 1)), (5, vI t0), (0, vR x0), (3, vI x3), (4, vI x4)] dX5_meanRoute_58 rfl rfl (Nat.le_of_ble_eq_true rfl) rfl ?_
    refine j_iload_n X (pc := 61) 3 dX5_meanRoute_61 rfl rfl ?_
    refine j_iload X (pc := 62) 1 dX5_meanRoute_62 rfl ?_
    refine j_sipush X (pc := 64) 1000 dX5_meanRoute_64 (by decide) ?_
    refine j_irem X (pc := 67) dX5_meanRoute_67 hw (fun hw => ?_)
    refine j_iadd X (pc := 68) dX5_meanRoute_68 ?_
    refine j_istore_n X (pc := 69) [(3, vI (x3 + (t0 - t0 / 1000 * 1000))), (2, vI (x2 + 1)), (5, vI t0), (0, vR x0), (4, vI x4)] dX5_meanRoute_69 rfl (Nat.le_of_ble_eq_true rfl) rfl ?_
    refine j_iinc X (pc := 70) 4 (x4 + 1) [(4, vI (x4 + 1)), (3, vI (x3 + (t0 - t0 / 1000 * 1000))), (2, vI (x2 + 1)), (5, vI t0), (0, vR x0)] dX5_meanRoute_70 rfl rfl (Nat.le_of_ble_eq_true rfl) rfl ?_
    refine j_goto X (pc := 73) 17 dX5_meanRoute_73 (by decide) ?_
    refine j_lv [(0, vR x0), (2, vI (x2 + 1)), (3, vI (x3 + (t0 - t0 / 1000 * 1000))), (4, vI (x4 + 1))] [4, 2, 1, 0] rfl ?_
    refine j_cs (u' := 0) (v' := 0) (Nat.le_of_ble_eq_true rfl) (Nat.le_of_ble_eq_true rfl) ?_
    exact hZ17 (x2 + 1) (x3 + (t0 - t0 / 1000 * 1000)) (x4 + 1) h hw
theorem wk_X5_meanRoute_17 {x : CX} (X : Ok x cX5_meanRoute RX5 rm_X5_meanRoute 6) (er : xrt x = (Option.some Jvm.ClassFile.FieldType.double)) (en : xnm x = yX5_meanRoute.name) {P : UInt64 → AH → Prop} (hQ : xr_d x P) (x0 : Option Nat) (x2 : Int32) (x3 : Int32) (x4 : Int32) (h : AH) (hw : w_X5_meanRoute_17 P x0 x2 x3 x4 h) : J x h 0 0 17 [(0, vR x0), (2, vI x2), (3, vI x3), (4, vI x4)] [] := by
  refine hw (fun x2 x3 x4 h => J x h 0 0 17 [(0, vR x0), (2, vI x2), (3, vI x3), (4, vI x4)] []) (fun x2 x3 x4 h hw => ?_)
  refine j_iload X (pc := 17) 3 dX5_meanRoute_17 rfl ?_
  refine j_aload_n X (pc := 19) 0 dX5_meanRoute_19 rfl rfl ?_
  refine j_geti (ci := 4) X (pc := 20) in_X5 rfl (by decide) 9 (by decide) q1881 (Or.inl rfl) dX5_meanRoute_20 hw (fun y20 hw => ?_)
  refine j_icmp_ge X (pc := 23) 76 dX5_meanRoute_23 (by decide) hw (fun hw => ?_) (fun hw => ?_)
  · refine j_iload_n X (pc := 76) 1 dX5_meanRoute_76 rfl rfl ?_
    refine j_if_ne X (pc := 77) 89 dX5_meanRoute_77 (by decide) hw (fun hw => ?_) (fun hw => ?_)
    · refine j_aload_n X (pc := 80) 0 dX5_meanRoute_80 rfl rfl ?_
      refine j_iconst X (pc := 81) 2 dX5_meanRoute_81 (by decide) ?_
      obtain ⟨b9, c9, f9, hr9, ho9, hc9, hw⟩ := hw
      obtain rfl := List.mem_singleton.mp hc9
      refine j_calli (j_runV (n8 := 1) (As := [vI 2]) (rest := []) X (pc := 82) hr9 (met_X5_fails (xl x) X.hl (xG x) h x0 2 _ hw) ho9 (by decide) rfl q1988 q1990 qs33 q78 q1991 (by decide +kernel) dX5_meanRoute_82 rfl ⟨Nat.le_of_ble_eq_true rfl, Nat.le_of_ble_eq_true rfl⟩ (Nat.le_of_ble_eq_true rfl) ⟨Nat.le_of_ble_eq_true rfl, Nat.le_of_ble_eq_true rfl⟩) (fun y82 h82 hw => ?_)
      refine j_i2d X (pc := 85) dX5_meanRoute_85 ?_
      refine j_goto X (pc := 86) 94 dX5_meanRoute_86 (by decide) ?_
      exact j_dret X (pc := 94) hQ er (Nat.le_of_ble_eq_true rfl) (Nat.le_of_ble_eq_true rfl) dX5_meanRoute_94 hw
    · refine j_iload_n X (pc := 89) 2 dX5_meanRoute_89 rfl rfl ?_
      refine j_i2d X (pc := 90) dX5_meanRoute_90 ?_
      refine j_iload_n X (pc := 91) 1 dX5_meanRoute_91 rfl rfl ?_
      refine j_i2d X (pc := 92) dX5_meanRoute_92 ?_
      refine j_ddiv X (pc := 93) dX5_meanRoute_93 hw (fun hw => ?_)
      exact j_dret X (pc := 94) hQ er (Nat.le_of_ble_eq_true rfl) (Nat.le_of_ble_eq_true rfl) dX5_meanRoute_94 hw
  · refine j_aload_n X (pc := 26) 0 dX5_meanRoute_26 rfl rfl ?_
    refine j_iload X (pc := 27) 3 dX5_meanRoute_27 rfl ?_
    obtain ⟨b9, c9, f9, hr9, ho9, hc9, hw⟩ := hw
    obtain rfl := List.mem_singleton.mp hc9
    refine j_calli (j_runV (n8 := 1) (As := [vI x4]) (rest := []) X (pc := 29) hr9 (met_X5_isJoined (xl x) X.hl (xG x) h x0 x4 _ hw) ho9 (by decide) rfl q2110 q2112 qs53 q78 q2113 (by decide +kernel) dX5_meanRoute_29 rfl ⟨Nat.le_of_ble_eq_true rfl, Nat.le_of_ble_eq_true rfl⟩ (Nat.le_of_ble_eq_true rfl) ⟨Nat.le_of_ble_eq_true rfl, Nat.le_of_ble_eq_true rfl⟩) (fun y29 h29 hw => ?_)
    refine j_if_eq X (pc := 32) 44 dX5_meanRoute_32 (by decide) hw (fun hw => ?_) (fun hw => ?_)
    · refine j_ldc X (pc := 44) dX5_meanRoute_44 q2259 ?_
      refine j_cs (u' := 0) (v' := 0) (Nat.le_of_ble_eq_true rfl) (Nat.le_of_ble_eq_true rfl) ?_
      exact wk_X5_meanRoute_46 X er en hQ _ x0 x2 x3 x4 1000000000 h29 (fun x2_ x3_ x4_ h_ hz => hz) hw
    · refine j_aload_n X (pc := 35) 0 dX5_meanRoute_35 rfl rfl ?_
      refine j_iload X (pc := 36) 3 dX5_meanRoute_36 rfl ?_
      obtain ⟨b9, c9, f9, hr9, ho9, hc9, hw⟩ := hw
      obtain rfl := List.mem_singleton.mp hc9
      refine j_calli (j_runV (n8 := 1) (As := [vI x4]) (rest := []) X (pc := 38) hr9 (met_X5_route (xl x) X.hl (xG x) h29 x0 x4 _ hw) ho9 (by decide) rfl q2239 q2241 qs62 q78 q2242 (by decide +kernel) dX5_meanRoute_38 rfl ⟨Nat.le_of_ble_eq_true rfl, Nat.le_of_ble_eq_true rfl⟩ (Nat.le_of_ble_eq_true rfl) ⟨Nat.le_of_ble_eq_true rfl, Nat.le_of_ble_eq_true rfl⟩) (fun y38 h38 hw => ?_)
      refine j_goto X (pc := 41) 46 dX5_meanRoute_41 (by decide) ?_
      refine j_cs (u' := 0) (v' := 0) (Nat.le_of_ble_eq_true rfl) (Nat.le_of_ble_eq_true rfl) ?_
      exact wk_X5_meanRoute_46 X er en hQ _ x0 x2 x3 x4 y38 h38 (fun x2_ x3_ x4_ h_ hz => hz) hw
theorem met_X5_meanRoute (l : Launch) (hlt : l.stackTraces = false) (G : GG) (h : AH) (a0 : Option Nat) (a1 : Int32) (P : UInt64 → AH → Prop) (hw : w_X5_meanRoute a0 a1 h P) : ct_d l yX5_meanRoute (ws_ yX5_meanRoute cX5_meanRoute 6 (Option.some Jvm.ClassFile.FieldType.double)) rm_X5_meanRoute G h [vR a0, vI a1] P := by
  refine j_startd hlt [(0, vR a0), (1, vI a1)] (plainFor_of_name (by decide)) rfl rfl (fun x X eG er en hQ => ?_)
  subst eG
  refine j_aload_n X (pc := 0) 0 dX5_meanRoute_0 rfl rfl ?_
  refine j_iload_n X (pc := 1) 1 dX5_meanRoute_1 rfl rfl ?_
  obtain ⟨b9, c9, f9, hr9, ho9, hc9, hw⟩ := hw
  obtain rfl := List.mem_singleton.mp hc9
  refine j_calli (j_runV (n8 := 1) (As := [vI a1]) (rest := []) X (pc := 2) hr9 (met_X5_isNobody (xl x) X.hl (xG x) h a0 a1 _ hw) ho9 (by decide) rfl q2170 q2172 qs58 q78 q2173 (by decide +kernel) dX5_meanRoute_2 rfl ⟨Nat.le_of_ble_eq_true rfl, Nat.le_of_ble_eq_true rfl⟩ (Nat.le_of_ble_eq_true rfl) ⟨Nat.le_of_ble_eq_true rfl, Nat.le_of_ble_eq_true rfl⟩) (fun y2 h2 hw => ?_)
  refine j_if_eq X (pc := 5) 10 dX5_meanRoute_5 (by decide) hw (fun hw => ?_) (fun hw => ?_)
  · refine j_iconst X (pc := 10) 0 dX5_meanRoute_10 (by decide) ?_
    refine j_istore_n X (pc := 11) [(2, vI 0), (0, vR a0), (1, vI a1)] dX5_meanRoute_11 rfl (Nat.le_of_ble_eq_true rfl) rfl ?_
    refine j_iconst X (pc := 12) 0 dX5_meanRoute_12 (by decide) ?_
    refine j_istore_n X (pc := 13) [(3, vI 0), (2, vI 0), (0, vR a0), (1, vI a1)] dX5_meanRoute_13 rfl (Nat.le_of_ble_eq_true rfl) rfl ?_
    refine j_iconst X (pc := 14) 0 dX5_meanRoute_14 (by decide) ?_
    refine j_istore X (pc := 15) [(4, vI 0), (3, vI 0), (2, vI 0), (0, vR a0), (1, vI a1)] dX5_meanRoute_15 (Nat.le_of_ble_eq_true rfl) rfl ?_
    refine j_lv [(0, vR a0), (2, vI 0), (3, vI 0), (4, vI 0)] [3, 2, 1, 0] rfl ?_
    refine j_cs (u' := 0) (v' := 0) (Nat.le_of_ble_eq_true rfl) (Nat.le_of_ble_eq_true rfl) ?_
    exact wk_X5_meanRoute_17 X er en hQ a0 0 0 0 h2 hw
  · refine j_dconst0 X (pc := 8) dX5_meanRoute_8 ?_
    exact j_dret X (pc := 9) hQ er (Nat.le_of_ble_eq_true rfl) (Nat.le_of_ble_eq_true rfl) dX5_meanRoute_9 hw
abbrev cX1_area : ByteArray := prog_1_method_86_code
def yX1_area : MethodName := ⟨RX1, "area", "(I)J"⟩
def dkwX1_area_2 : List UInt8 := [180, 0, 238, 104, 133, 97, 65, 167, 255, 219, 32, 173]
abbrev dktX1_area_2 : List UInt8 := dkwX1_area_2 ++ []
def dkwX1_area_1 : List UInt8 := [153, 0, 33, 25, 4, 185, 0, 185, 1, 0, 192, 0, 124, 58, 5, 32, 25, 5, 180, 0, 235, 25, 5]
abbrev dktX1_area_1 : List UInt8 := dkwX1_area_1 ++ dktX1_area_2
def dkwX1_area_0 : List UInt8 := [9, 65, 42, 27, 182, 0, 199, 182, 0, 169, 185, 0, 173, 1, 0, 58, 4, 25, 4, 185, 0, 179, 1, 0]
abbrev dktX1_area_0 : List UInt8 := dkwX1_area_0 ++ dktX1_area_1
theorem dksX1_area_0 : cX1_area.data.toList.drop 0 = dktX1_area_0 := by decide +kernel
theorem dksX1_area_1 : cX1_area.data.toList.drop 24 = dktX1_area_1 := dk_seg dksX1_area_0 24 rfl rfl
theorem dksX1_area_2 : cX1_area.data.toList.drop 47 = dktX1_area_2 := dk_seg dksX1_area_1 23 rfl rfl
theorem dX1_area_0 : decode cX1_area 0 = .ok (.lconst 0, 1) := dk_9 (dk_at dksX1_area_0 0 rfl rfl)
theorem dX1_area_1 : decode cX1_area 1 = .ok (.lstore_n 2, 1) := dk_65 (dk_at dksX1_area_0 1 rfl rfl)
theorem dX1_area_2 : decode cX1_area 2 = .ok (.aload_n 0, 1) := dk_42 (dk_at dksX1_area_0 2 rfl rfl)
theorem dX1_area_3 : decode cX1_area 3 = .ok (.iload_n 1, 1) := dk_27 (dk_at dksX1_area_0 3 rfl rfl)
theorem dX1_area_4 : decode cX1_area 4 = .ok (.invokevirtual 199, 3) := dk_182 0 199 (dk_at dksX1_area_0 4 rfl rfl)
theorem dX1_area_7 : decode cX1_area 7 = .ok (.invokevirtual 169, 3) := dk_182 0 169 (dk_at dksX1_area_0 7 rfl rfl)
theorem dX1_area_10 : decode cX1_area 10 = .ok (.invokeinterface 173 1, 5) := by decide +kernel
theorem dX1_area_15 : decode cX1_area 15 = .ok (.astore 4, 2) := dk_58 4 (dk_at dksX1_area_0 15 rfl rfl)
theorem dX1_area_17 : decode cX1_area 17 = .ok (.aload 4, 2) := dk_25 4 (dk_at dksX1_area_0 17 rfl rfl)
theorem dX1_area_19 : decode cX1_area 19 = .ok (.invokeinterface 179 1, 5) := by decide +kernel
theorem dX1_area_24 : decode cX1_area 24 = .ok (.ifCond .eq 33, 3) := dk_153 0 33 (dk_at dksX1_area_1 0 rfl rfl)
theorem dX1_area_27 : decode cX1_area 27 = .ok (.aload 4, 2) := dk_25 4 (dk_at dksX1_area_1 3 rfl rfl)
theorem dX1_area_29 : decode cX1_area 29 = .ok (.invokeinterface 185 1, 5) := by decide +kernel
theorem dX1_area_34 : decode cX1_area 34 = .ok (.checkcast 124, 3) := dk_192 0 124 (dk_at dksX1_area_1 10 rfl rfl)
theorem dX1_area_37 : decode cX1_area 37 = .ok (.astore 5, 2) := dk_58 5 (dk_at dksX1_area_1 13 rfl rfl)
theorem dX1_area_39 : decode cX1_area 39 = .ok (.lload_n 2, 1) := dk_32 (dk_at dksX1_area_1 15 rfl rfl)
theorem dX1_area_40 : decode cX1_area 40 = .ok (.aload 5, 2) := dk_25 5 (dk_at dksX1_area_1 16 rfl rfl)
theorem dX1_area_42 : decode cX1_area 42 = .ok (.getfield 235, 3) := dk_180 0 235 (dk_at dksX1_area_1 18 rfl rfl)
theorem dX1_area_45 : decode cX1_area 45 = .ok (.aload 5, 2) := dk_25 5 (dk_at dksX1_area_1 21 rfl rfl)
theorem dX1_area_47 : decode cX1_area 47 = .ok (.getfield 238, 3) := dk_180 0 238 (dk_at dksX1_area_2 0 rfl rfl)
theorem dX1_area_50 : decode cX1_area 50 = .ok (.imul, 1) := dk_104 (dk_at dksX1_area_2 3 rfl rfl)
theorem dX1_area_51 : decode cX1_area 51 = .ok (.i2l, 1) := dk_133 (dk_at dksX1_area_2 4 rfl rfl)
theorem dX1_area_52 : decode cX1_area 52 = .ok (.ladd, 1) := dk_97 (dk_at dksX1_area_2 5 rfl rfl)
theorem dX1_area_53 : decode cX1_area 53 = .ok (.lstore_n 2, 1) := dk_65 (dk_at dksX1_area_2 6 rfl rfl)
theorem dX1_area_54 : decode cX1_area 54 = .ok (.goto (-37), 3) := dk_167 255 219 (dk_at dksX1_area_2 7 rfl rfl)
theorem dX1_area_57 : decode cX1_area 57 = .ok (.lload_n 2, 1) := dk_32 (dk_at dksX1_area_2 10 rfl rfl)
theorem dX1_area_58 : decode cX1_area 58 = .ok (.lreturn, 1) := dk_173 (dk_at dksX1_area_2 11 rfl rfl)
abbrev rm_X1_area : Room := { frames := 9, cells := 4, slots := 10, locals := 146 }
def w_X1_area_17 (P : Int64 → AH → Prop) (PX : String → AH → Prop) (x2 : Int64) (x4 : Option Nat) (h : AH) : Prop :=
  ∀ Z17 : Int64 → AH → Prop, (∀ x2 h, (
      is_c h x4 [6] (
      w_X7_hasNext x4 h (fun y19 h19 =>
      ((y19 = 0 →
        P x2 h19) ∧
       (¬ y19 = 0 →
        is_c h19 x4 [6] (
        w_X7_next x4 h19 (fun y29 h29 =>
        is_c h29 y29 [7, 8] (
        g_iS h29 y29 1 fun y42 =>
        g_iS h29 y29 2 fun y47 =>
        Z17 (x2 + (Int32.toInt64 (y42 * y47))) h29))))))))
      → Z17 x2 h) → Z17 x2 h
def w_X1_area (a0 : Option Nat) (a1 : Int32) (h : AH) (P : Int64 → AH → Prop) (PX : String → AH → Prop) : Prop :=
  is_c h a0 [0] (
  w_X1_board a0 a1 h (fun y4 h4 =>
  is_c h4 y4 [2] (
  w_X3_seen y4 h4 (fun y7 h7 =>
  is_c h7 y7 [5] (
  w_X6_iterator y7 h7 (fun y10 h10 =>
  w_X1_area_17 P PX 0 y10 h10))))) PX)
theorem wk_X1_area_17 {x : CX} (X : Ok x cX1_area RX1 rm_X1_area 6) (er : xrt x = (Option.some Jvm.ClassFile.FieldType.long)) (en : xnm x = yX1_area.name) {P : Int64 → AH → Prop} {PX : String → AH → Prop} (hQ : xr_l x P) (hT : xt_ x PX) (hex : ∀ z ∈ x.2.2.2.2.2.2.2.2.2.1.exceptionTable.toList, False) (x2 : Int64) (x4 : Option Nat) (h : AH) (hw : w_X1_area_17 P PX x2 x4 h) : J x h 4 10 17 [(2, vL x2), (4, vR x4)] [] := by
  refine hw (fun x2 h => J x h 4 10 17 [(2, vL x2), (4, vR x4)] []) (fun x2 h hw => ?_)
  refine j_aload X (pc := 17) 1 dX1_area_17 rfl ?_
  obtain ⟨b9, c9, f9, hr9, ho9, hc9, hw⟩ := hw
  obtain rfl := List.mem_singleton.mp hc9
  refine j_call5i (j_runF (n8 := 0) (As := []) (rest := []) X (pc := 19) hr9 (met_X7_hasNext (xl x) X.hl (xG x) h x4 _ hw) ho9 (by decide) rfl q481 q485 q487 q85 q489 (fun U hU => kt_F2 hU) (by decide +kernel) dX1_area_19 rfl ⟨Nat.le_of_ble_eq_true rfl, Nat.le_of_ble_eq_true rfl⟩ (Nat.le_of_ble_eq_true rfl) ⟨Nat.le_of_ble_eq_true rfl, Nat.le_of_ble_eq_true rfl⟩) (fun y19 h19 hw => ?_)
  refine j_if_eq X (pc := 24) 57 dX1_area_24 (by decide) hw (fun hw => ?_) (fun hw => ?_)
  · refine j_lload_n X (pc := 57) 0 dX1_area_57 rfl rfl ?_
    exact j_lret X (pc := 58) hQ er (Nat.le_of_ble_eq_true rfl) (Nat.le_of_ble_eq_true rfl) dX1_area_58 hw
  · refine j_aload X (pc := 27) 1 dX1_area_27 rfl ?_
    obtain ⟨b9, c9, f9, hr9, ho9, hc9, hw⟩ := hw
    obtain rfl := List.mem_singleton.mp hc9
    refine j_call5q (j_runF (n8 := 0) (As := []) (rest := []) X (pc := 29) hr9 (met_X7_next (xl x) X.hl (xG x) h19 x4 _ hw) ho9 (by decide) rfl q499 q502 q504 q85 q506 (fun U hU => kt_F3 hU) (by decide +kernel) dX1_area_29 rfl ⟨Nat.le_of_ble_eq_true rfl, Nat.le_of_ble_eq_true rfl⟩ (Nat.le_of_ble_eq_true rfl) ⟨Nat.le_of_ble_eq_true rfl, Nat.le_of_ble_eq_true rfl⟩) (fun y29 h29 hw => ?_)
    refine j_chk X (pc := 34) (L := [7, 8]) q550 (by intro ci hci; simp only [List.mem_cons, List.not_mem_nil, or_false] at hci; rcases hci with rfl | rfl <;> first | exact ⟨by decide, _, _, _, rfl, Or.inr q2343⟩ | exact ⟨by decide, _, _, _, rfl, Or.inr q2344⟩) dX1_area_34 hw (fun hw => ?_)
    refine j_astore X (pc := 37) [(5, vR y29), (2, vL x2), (4, vR x4)] dX1_area_37 (Nat.le_of_ble_eq_true rfl) rfl ?_
    refine j_lload_n X (pc := 39) 1 dX1_area_39 rfl rfl ?_
    refine j_aload X (pc := 40) 0 dX1_area_40 rfl ?_
    refine j_getiSN X (pc := 42) 1 (by decide) q581 dX1_area_42 hw (fun y42 hw => ?_)
    refine j_aload X (pc := 45) 0 dX1_area_45 rfl ?_
    refine j_getiSN X (pc := 47) 2 (by decide) q584 dX1_area_47 hw (fun y47 hw => ?_)
    refine j_imul X (pc := 50) dX1_area_50 ?_
    refine j_i2l X (pc := 51) dX1_area_51 ?_
    refine j_ladd X (pc := 52) dX1_area_52 ?_
    refine j_lstore_n X (pc := 53) [(2, vL (x2 + (Int32.toInt64 (y42 * y47)))), (5, vR y29), (4, vR x4)] dX1_area_53 rfl (Nat.le_of_ble_eq_true rfl) rfl ?_
    refine j_goto X (pc := 54) 17 dX1_area_54 (by decide) ?_
    refine j_lv [(2, vL (x2 + (Int32.toInt64 (y42 * y47)))), (4, vR x4)] [0, 2] rfl ?_
    refine j_cs (u' := 4) (v' := 10) (Nat.le_of_ble_eq_true rfl) (Nat.le_of_ble_eq_true rfl) ?_
    exact hw
theorem met_X1_area (l : Launch) (hlt : l.stackTraces = false) (G : GG) (h : AH) (a0 : Option Nat) (a1 : Int32) (P : Int64 → AH → Prop) (PX : String → AH → Prop) (hw : w_X1_area a0 a1 h P PX) : cx_l l yX1_area (ws_ yX1_area cX1_area 6 (Option.some Jvm.ClassFile.FieldType.long)) rm_X1_area G h [vR a0, vI a1] P PX := by
  refine j_startXl hlt [(0, vR a0), (1, vI a1)] (by decide) rfl rfl (fun x X eG er en hQ hT hex => ?_)
  subst eG
  refine j_lconst X (pc := 0) 0 dX1_area_0 (by decide) ?_
  refine j_lstore_n X (pc := 1) [(2, vL 0), (0, vR a0), (1, vI a1)] dX1_area_1 rfl (Nat.le_of_ble_eq_true rfl) rfl ?_
  refine j_aload_n X (pc := 2) 1 dX1_area_2 rfl rfl ?_
  refine j_iload_n X (pc := 3) 2 dX1_area_3 rfl rfl ?_
  obtain ⟨b9, c9, f9, hr9, ho9, hc9, hw⟩ := hw
  obtain rfl := List.mem_singleton.mp hc9
  refine j_callXq (j_runVX (n8 := 1) (As := [vI a1]) (rest := []) X (pc := 4) hr9 (met_X1_board (xl x) X.hl (xG x) h a0 a1 _ _ hw) ho9 (by decide) rfl q297 q299 qs0 q71 q300 (by decide +kernel) dX1_area_4 rfl ⟨Nat.le_of_ble_eq_true rfl, Nat.le_of_ble_eq_true rfl⟩ (Nat.le_of_ble_eq_true rfl) ⟨Nat.le_of_ble_eq_true rfl, Nat.le_of_ble_eq_true rfl⟩) (fun E h9 hx => j_out X hT hex (Nat.le_of_ble_eq_true rfl) (Nat.le_of_ble_eq_true rfl) hx) (fun y4 h4 hw => ?_)
  obtain ⟨b9, c9, f9, hr9, ho9, hc9, hw⟩ := hw
  obtain rfl := List.mem_singleton.mp hc9
  refine j_callq (j_runV (n8 := 0) (As := []) (rest := []) X (pc := 7) hr9 (met_X3_seen (xl x) X.hl (xG x) h4 y4 _ hw) ho9 (by decide) rfl q418 q419 q420 q76 q421 (by decide +kernel) dX1_area_7 rfl ⟨Nat.le_of_ble_eq_true rfl, Nat.le_of_ble_eq_true rfl⟩ (Nat.le_of_ble_eq_true rfl) ⟨Nat.le_of_ble_eq_true rfl, Nat.le_of_ble_eq_true rfl⟩) (fun y7 h7 hw => ?_)
  obtain ⟨b9, c9, f9, hr9, ho9, hc9, hw⟩ := hw
  obtain rfl := List.mem_singleton.mp hc9
  refine j_call5q (j_runF (n8 := 0) (As := []) (rest := []) X (pc := 10) hr9 (met_X6_iterator (xl x) X.hl (xG x) h7 y7 _ hw) ho9 (by decide) rfl q433 q437 q439 q84 q441 (fun U hU => kt_F1 hU) (by decide +kernel) dX1_area_10 rfl ⟨Nat.le_of_ble_eq_true rfl, Nat.le_of_ble_eq_true rfl⟩ (Nat.le_of_ble_eq_true rfl) ⟨Nat.le_of_ble_eq_true rfl, Nat.le_of_ble_eq_true rfl⟩) (fun y10 h10 hw => ?_)
  refine j_astore X (pc := 15) [(4, vR y10), (2, vL 0), (0, vR a0), (1, vI a1)] dX1_area_15 (Nat.le_of_ble_eq_true rfl) rfl ?_
  refine j_lv [(2, vL 0), (4, vR y10)] [1, 0] rfl ?_
  refine j_cs (u' := 4) (v' := 10) (Nat.le_of_ble_eq_true rfl) (Nat.le_of_ble_eq_true rfl) ?_
  exact wk_X1_area_17 X er en hQ hT hex 0 y10 h10 hw
abbrev cX0_area : ByteArray := method_46_code
def yX0_area : MethodName := ⟨RX0, "area", "(LPlugboard;I[J)I"⟩
def dkwX0_area_0 : List UInt8 := [44, 3, 42, 27, 182, 0, 161, 80, 167, 0, 6, 78, 4, 172, 3, 172]
abbrev dktX0_area_0 : List UInt8 := dkwX0_area_0 ++ []
theorem dksX0_area_0 : cX0_area.data.toList.drop 0 = dktX0_area_0 := by decide +kernel
theorem dX0_area_0 : decode cX0_area 0 = .ok (.aload_n 2, 1) := dk_44 (dk_at dksX0_area_0 0 rfl rfl)
theorem dX0_area_1 : decode cX0_area 1 = .ok (.iconst 0, 1) := dk_3 (dk_at dksX0_area_0 1 rfl rfl)
theorem dX0_area_2 : decode cX0_area 2 = .ok (.aload_n 0, 1) := dk_42 (dk_at dksX0_area_0 2 rfl rfl)
theorem dX0_area_3 : decode cX0_area 3 = .ok (.iload_n 1, 1) := dk_27 (dk_at dksX0_area_0 3 rfl rfl)
theorem dX0_area_4 : decode cX0_area 4 = .ok (.invokevirtual 161, 3) := dk_182 0 161 (dk_at dksX0_area_0 4 rfl rfl)
theorem dX0_area_7 : decode cX0_area 7 = .ok (.lastore, 1) := dk_80 (dk_at dksX0_area_0 7 rfl rfl)
theorem dX0_area_8 : decode cX0_area 8 = .ok (.goto 6, 3) := dk_167 0 6 (dk_at dksX0_area_0 8 rfl rfl)
theorem dX0_area_11 : decode cX0_area 11 = .ok (.astore_n 3, 1) := dk_78 (dk_at dksX0_area_0 11 rfl rfl)
theorem dX0_area_12 : decode cX0_area 12 = .ok (.iconst 1, 1) := dk_4 (dk_at dksX0_area_0 12 rfl rfl)
theorem dX0_area_13 : decode cX0_area 13 = .ok (.ireturn, 1) := dk_172 (dk_at dksX0_area_0 13 rfl rfl)
theorem dX0_area_14 : decode cX0_area 14 = .ok (.iconst 0, 1) := dk_3 (dk_at dksX0_area_0 14 rfl rfl)
theorem dX0_area_15 : decode cX0_area 15 = .ok (.ireturn, 1) := dk_172 (dk_at dksX0_area_0 15 rfl rfl)
theorem q1860 : (Jvm.Cond.methodLink "PlugboardLaw" (161 : Nat) ({ cls := "Plugboard", name := "area", desc := "(I)J" } : Jvm.MethodName)) ∈ lw_all := lw_g (lw_at lw_m8 110 rfl) rfl
theorem q1861 : (Jvm.Cond.instanceMethod ({ cls := "Plugboard", name := "area", desc := "(I)J" } : Jvm.MethodName)) ∈ lw_all := lw_g (lw_at lw_m8 111 rfl) rfl
theorem q1862 : (Jvm.Cond.selects "Plugboard" ({ cls := "Plugboard", name := "area", desc := "(I)J" } : Jvm.MethodName) ({ cls := "Plugboard", name := "area", desc := "(I)J" } : Jvm.MethodName)) ∈ lw_all := lw_g (lw_at lw_m8 112 rfl) rfl
theorem q1863 : (Jvm.Cond.code ({ cls := "Plugboard", name := "area", desc := "(I)J" } : Jvm.MethodName) prog_1_method_86_code (6 : Nat) (Option.some Jvm.ClassFile.FieldType.long)) ∈ lw_all := lw_g (lw_at lw_m8 113 rfl) rfl
abbrev rm_X0_area : Room := { frames := 10, cells := 4, slots := 10, locals := 171 }
def w_X0_area (a0 : Option Nat) (a1 : Int32) (a2 : Option Nat) (h : AH) (P : Int32 → AH → Prop) : Prop :=
  is_c h a0 [0] (
  w_X1_area a0 a1 h (fun y4 h4 =>
  s_L h4 a2 0 y4 fun h7 =>
  P 0 h7)
    (fun E9 h9 => (E9 = "java/lang/IllegalArgumentException" ∧ ∀ q9 : Nat,
    P 1 h9)))
theorem met_X0_area (l : Launch) (hlt : l.stackTraces = false) (G : GG) (h : AH) (a0 : Option Nat) (a1 : Int32) (a2 : Option Nat) (P : Int32 → AH → Prop) (hw : w_X0_area a0 a1 a2 h P) : ct_i l yX0_area (wsW_ yX0_area cX0_area 4 (Option.some Jvm.ClassFile.FieldType.int) [((0 : Nat), (8 : Nat), (11 : Nat), (13 : Nat))]) rm_X0_area G h [vR a0, vI a1, vR a2] P := by
  refine j_startWi hlt [(0, vR a0), (1, vI a1), (2, vR a2)] (by decide) rfl rfl (fun x X eG er en hQ hex => ?_)
  subst eG
  refine j_aload_n X (pc := 0) 2 dX0_area_0 rfl rfl ?_
  refine j_iconst X (pc := 1) 0 dX0_area_1 (by decide) ?_
  refine j_aload_n X (pc := 2) 0 dX0_area_2 rfl rfl ?_
  refine j_iload_n X (pc := 3) 1 dX0_area_3 rfl rfl ?_
  obtain ⟨b9, c9, f9, hr9, ho9, hc9, hw⟩ := hw
  obtain rfl := List.mem_singleton.mp hc9
  refine j_callXl (j_runVX (n8 := 1) (As := [vI a1]) (rest := [vI 0, vR a2]) X (pc := 4) hr9 (met_X1_area (xl x) X.hl (xG x) h a0 a1 _ _ hw) ho9 (by decide) rfl q1860 q1861 q1862 q71 q1863 (by decide +kernel) dX0_area_4 rfl ⟨Nat.le_of_ble_eq_true rfl, Nat.le_of_ble_eq_true rfl⟩ (Nat.le_of_ble_eq_true rfl) ⟨Nat.le_of_ble_eq_true rfl, Nat.le_of_ble_eq_true rfl⟩) ?_ (fun y4 h4 hw => ?_)
  · intro E9 h9 hx
    obtain ⟨rfl, hw⟩ := hx
    refine j_catch X (pc := 4) "java/lang/IllegalArgumentException" hex [] [] ⟨0, 8, 11, 13⟩ rfl (by intro y hy; cases hy) (by decide) (by decide) q291 q312 (fun q9 => ?_)
    have hw := hw q9
    refine j_astore_n X (pc := 11) [(3, vR (some q9)), (0, vR a0), (1, vI a1), (2, vR a2)] dX0_area_11 rfl (Nat.le_of_ble_eq_true rfl) rfl ?_
    refine j_iconst X (pc := 12) 1 dX0_area_12 (by decide) ?_
    exact j_iret X (pc := 13) hQ er (Nat.le_of_ble_eq_true rfl) (Nat.le_of_ble_eq_true rfl) dX0_area_13 hw
  refine j_last X (pc := 7) dX0_area_7 hw (fun h7 hw => ?_)
  refine j_goto X (pc := 8) 14 dX0_area_8 (by decide) ?_
  refine j_iconst X (pc := 14) 0 dX0_area_14 (by decide) ?_
  exact j_iret X (pc := 15) hQ er (Nat.le_of_ble_eq_true rfl) (Nat.le_of_ble_eq_true rfl) dX0_area_15 hw
abbrev cX5_area : ByteArray := prog_19_method_90_code
def yX5_area : MethodName := ⟨RX5, "area", "(I)J"⟩
def dkwX5_area_2 : List UInt8 := [104, 133, 167, 0, 4, 9, 97, 65, 132, 4, 1, 167, 255, 212, 32, 173]
abbrev dktX5_area_2 : List UInt8 := dkwX5_area_2 ++ []
def dkwX5_area_1 : List UInt8 := [32, 42, 21, 4, 182, 0, 125, 153, 0, 22, 42, 180, 0, 9, 21, 4, 46, 42, 180, 0, 13, 21, 4, 46]
abbrev dktX5_area_1 : List UInt8 := dkwX5_area_1 ++ dktX5_area_2
def dkwX5_area_0 : List UInt8 := [42, 27, 182, 0, 228, 153, 0, 5, 9, 173, 9, 65, 3, 54, 4, 21, 4, 42, 180, 0, 119, 162, 0, 41]
abbrev dktX5_area_0 : List UInt8 := dkwX5_area_0 ++ dktX5_area_1
theorem dksX5_area_0 : cX5_area.data.toList.drop 0 = dktX5_area_0 := by decide +kernel
theorem dksX5_area_1 : cX5_area.data.toList.drop 24 = dktX5_area_1 := dk_seg dksX5_area_0 24 rfl rfl
theorem dksX5_area_2 : cX5_area.data.toList.drop 48 = dktX5_area_2 := dk_seg dksX5_area_1 24 rfl rfl
theorem dX5_area_0 : decode cX5_area 0 = .ok (.aload_n 0, 1) := dk_42 (dk_at dksX5_area_0 0 rfl rfl)
theorem dX5_area_1 : decode cX5_area 1 = .ok (.iload_n 1, 1) := dk_27 (dk_at dksX5_area_0 1 rfl rfl)
theorem dX5_area_2 : decode cX5_area 2 = .ok (.invokevirtual 228, 3) := dk_182 0 228 (dk_at dksX5_area_0 2 rfl rfl)
theorem dX5_area_5 : decode cX5_area 5 = .ok (.ifCond .eq 5, 3) := dk_153 0 5 (dk_at dksX5_area_0 5 rfl rfl)
theorem dX5_area_8 : decode cX5_area 8 = .ok (.lconst 0, 1) := dk_9 (dk_at dksX5_area_0 8 rfl rfl)
theorem dX5_area_9 : decode cX5_area 9 = .ok (.lreturn, 1) := dk_173 (dk_at dksX5_area_0 9 rfl rfl)
theorem dX5_area_10 : decode cX5_area 10 = .ok (.lconst 0, 1) := dk_9 (dk_at dksX5_area_0 10 rfl rfl)
theorem dX5_area_11 : decode cX5_area 11 = .ok (.lstore_n 2, 1) := dk_65 (dk_at dksX5_area_0 11 rfl rfl)
theorem dX5_area_12 : decode cX5_area 12 = .ok (.iconst 0, 1) := dk_3 (dk_at dksX5_area_0 12 rfl rfl)
theorem dX5_area_13 : decode cX5_area 13 = .ok (.istore 4, 2) := dk_54 4 (dk_at dksX5_area_0 13 rfl rfl)
theorem dX5_area_15 : decode cX5_area 15 = .ok (.iload 4, 2) := dk_21 4 (dk_at dksX5_area_0 15 rfl rfl)
theorem dX5_area_17 : decode cX5_area 17 = .ok (.aload_n 0, 1) := dk_42 (dk_at dksX5_area_0 17 rfl rfl)
theorem dX5_area_18 : decode cX5_area 18 = .ok (.getfield 119, 3) := dk_180 0 119 (dk_at dksX5_area_0 18 rfl rfl)
theorem dX5_area_21 : decode cX5_area 21 = .ok (.if_icmp .ge 41, 3) := dk_162 0 41 (dk_at dksX5_area_0 21 rfl rfl)
theorem dX5_area_24 : decode cX5_area 24 = .ok (.lload_n 2, 1) := dk_32 (dk_at dksX5_area_1 0 rfl rfl)
theorem dX5_area_25 : decode cX5_area 25 = .ok (.aload_n 0, 1) := dk_42 (dk_at dksX5_area_1 1 rfl rfl)
theorem dX5_area_26 : decode cX5_area 26 = .ok (.iload 4, 2) := dk_21 4 (dk_at dksX5_area_1 2 rfl rfl)
theorem dX5_area_28 : decode cX5_area 28 = .ok (.invokevirtual 125, 3) := dk_182 0 125 (dk_at dksX5_area_1 4 rfl rfl)
theorem dX5_area_31 : decode cX5_area 31 = .ok (.ifCond .eq 22, 3) := dk_153 0 22 (dk_at dksX5_area_1 7 rfl rfl)
theorem dX5_area_34 : decode cX5_area 34 = .ok (.aload_n 0, 1) := dk_42 (dk_at dksX5_area_1 10 rfl rfl)
theorem dX5_area_35 : decode cX5_area 35 = .ok (.getfield 9, 3) := dk_180 0 9 (dk_at dksX5_area_1 11 rfl rfl)
theorem dX5_area_38 : decode cX5_area 38 = .ok (.iload 4, 2) := dk_21 4 (dk_at dksX5_area_1 14 rfl rfl)
theorem dX5_area_40 : decode cX5_area 40 = .ok (.iaload, 1) := dk_46 (dk_at dksX5_area_1 16 rfl rfl)
theorem dX5_area_41 : decode cX5_area 41 = .ok (.aload_n 0, 1) := dk_42 (dk_at dksX5_area_1 17 rfl rfl)
theorem dX5_area_42 : decode cX5_area 42 = .ok (.getfield 13, 3) := dk_180 0 13 (dk_at dksX5_area_1 18 rfl rfl)
theorem dX5_area_45 : decode cX5_area 45 = .ok (.iload 4, 2) := dk_21 4 (dk_at dksX5_area_1 21 rfl rfl)
theorem dX5_area_47 : decode cX5_area 47 = .ok (.iaload, 1) := dk_46 (dk_at dksX5_area_1 23 rfl rfl)
theorem dX5_area_48 : decode cX5_area 48 = .ok (.imul, 1) := dk_104 (dk_at dksX5_area_2 0 rfl rfl)
theorem dX5_area_49 : decode cX5_area 49 = .ok (.i2l, 1) := dk_133 (dk_at dksX5_area_2 1 rfl rfl)
theorem dX5_area_50 : decode cX5_area 50 = .ok (.goto 4, 3) := dk_167 0 4 (dk_at dksX5_area_2 2 rfl rfl)
theorem dX5_area_53 : decode cX5_area 53 = .ok (.lconst 0, 1) := dk_9 (dk_at dksX5_area_2 5 rfl rfl)
theorem dX5_area_54 : decode cX5_area 54 = .ok (.ladd, 1) := dk_97 (dk_at dksX5_area_2 6 rfl rfl)
theorem dX5_area_55 : decode cX5_area 55 = .ok (.lstore_n 2, 1) := dk_65 (dk_at dksX5_area_2 7 rfl rfl)
theorem dX5_area_56 : decode cX5_area 56 = .ok (.iinc 4 1, 3) := dk_132 4 1 (dk_at dksX5_area_2 8 rfl rfl)
theorem dX5_area_59 : decode cX5_area 59 = .ok (.goto (-44), 3) := dk_167 255 212 (dk_at dksX5_area_2 11 rfl rfl)
theorem dX5_area_62 : decode cX5_area 62 = .ok (.lload_n 2, 1) := dk_32 (dk_at dksX5_area_2 14 rfl rfl)
theorem dX5_area_63 : decode cX5_area 63 = .ok (.lreturn, 1) := dk_173 (dk_at dksX5_area_2 15 rfl rfl)
abbrev rm_X5_area : Room := { frames := 4, cells := 0, slots := 0, locals := 87 }
def w_X5_area_15 (P : Int64 → AH → Prop) (x0 : Option Nat) (x2 : Int64) (x4 : Int32) (h : AH) : Prop :=
  ∀ Z15 : Int64 → Int32 → AH → Prop, (∀ x2 x4 h, (
      g_i h x0 4 8 fun y18 =>
      ((y18 ≤ x4 →
        P x2 h) ∧
       (¬ y18 ≤ x4 →
        is_c h x0 [4] (
        w_X5_isSeen x0 x4 h (fun y28 h28 =>
        ((y28 = 0 →
          Z15 (x2 + 0) (x4 + 1) h28) ∧
         (¬ y28 = 0 →
          g_q h28 x0 4 1 fun y35 =>
          l_i h28 y35 0 x4 fun y40 =>
          g_q h28 x0 4 2 fun y42 =>
          l_i h28 y42 0 x4 fun y47 =>
          Z15 (x2 + (Int32.toInt64 (y40 * y47))) (x4 + 1) h28)))))))
      → Z15 x2 x4 h) → Z15 x2 x4 h
def w_X5_area (a0 : Option Nat) (a1 : Int32) (h : AH) (P : Int64 → AH → Prop) : Prop :=
  is_c h a0 [4] (
  w_X5_isNobody a0 a1 h (fun y2 h2 =>
  ((y2 = 0 →
    w_X5_area_15 P a0 0 0 h2) ∧
   (¬ y2 = 0 →
    P 0 h2))))
theorem wk_X5_area_15 {x : CX} (X : Ok x cX5_area RX5 rm_X5_area 5) (er : xrt x = (Option.some Jvm.ClassFile.FieldType.long)) (en : xnm x = yX5_area.name) {P : Int64 → AH → Prop} (hQ : xr_l x P) (x0 : Option Nat) (x2 : Int64) (x4 : Int32) (h : AH) (hw : w_X5_area_15 P x0 x2 x4 h) : J x h 0 0 15 [(0, vR x0), (2, vL x2), (4, vI x4)] [] := by
  refine hw (fun x2 x4 h => J x h 0 0 15 [(0, vR x0), (2, vL x2), (4, vI x4)] []) (fun x2 x4 h hw => ?_)
  refine j_iload X (pc := 15) 2 dX5_area_15 rfl ?_
  refine j_aload_n X (pc := 17) 0 dX5_area_17 rfl rfl ?_
  refine j_geti (ci := 4) X (pc := 18) in_X5 rfl (by decide) 8 (by decide) q1880 (Or.inl rfl) dX5_area_18 hw (fun y18 hw => ?_)
  refine j_icmp_ge X (pc := 21) 62 dX5_area_21 (by decide) hw (fun hw => ?_) (fun hw => ?_)
  · refine j_lload_n X (pc := 62) 1 dX5_area_62 rfl rfl ?_
    exact j_lret X (pc := 63) hQ er (Nat.le_of_ble_eq_true rfl) (Nat.le_of_ble_eq_true rfl) dX5_area_63 hw
  · refine j_lload_n X (pc := 24) 1 dX5_area_24 rfl rfl ?_
    refine j_aload_n X (pc := 25) 0 dX5_area_25 rfl rfl ?_
    refine j_iload X (pc := 26) 2 dX5_area_26 rfl ?_
    obtain ⟨b9, c9, f9, hr9, ho9, hc9, hw⟩ := hw
    obtain rfl := List.mem_singleton.mp hc9
    refine j_calli (j_runV (n8 := 1) (As := [vI x4]) (rest := [vL x2]) X (pc := 28) hr9 (met_X5_isSeen (xl x) X.hl (xG x) h x0 x4 _ hw) ho9 (by decide) rfl q2012 q2014 qs39 q78 q2015 (by decide +kernel) dX5_area_28 rfl ⟨Nat.le_of_ble_eq_true rfl, Nat.le_of_ble_eq_true rfl⟩ (Nat.le_of_ble_eq_true rfl) ⟨Nat.le_of_ble_eq_true rfl, Nat.le_of_ble_eq_true rfl⟩) (fun y28 h28 hw => ?_)
    refine j_if_eq X (pc := 31) 53 dX5_area_31 (by decide) hw (fun hw => ?_) (fun hw => ?_)
    · refine j_lconst X (pc := 53) 0 dX5_area_53 (by decide) ?_
      refine j_ladd X (pc := 54) dX5_area_54 ?_
      refine j_lstore_n X (pc := 55) [(2, vL (x2 + 0)), (0, vR x0), (4, vI x4)] dX5_area_55 rfl (Nat.le_of_ble_eq_true rfl) rfl ?_
      refine j_iinc X (pc := 56) 2 (x4 + 1) [(4, vI (x4 + 1)), (2, vL (x2 + 0)), (0, vR x0)] dX5_area_56 rfl rfl (Nat.le_of_ble_eq_true rfl) rfl ?_
      refine j_goto X (pc := 59) 15 dX5_area_59 (by decide) ?_
      refine j_lv [(0, vR x0), (2, vL (x2 + 0)), (4, vI (x4 + 1))] [2, 1, 0] rfl ?_
      refine j_cs (u' := 0) (v' := 0) (Nat.le_of_ble_eq_true rfl) (Nat.le_of_ble_eq_true rfl) ?_
      exact hw
    · refine j_aload_n X (pc := 34) 0 dX5_area_34 rfl rfl ?_
      refine j_getq (ci := 4) X (pc := 35) in_X5 rfl (by decide) 1 (by decide) q1873 (Or.inl rfl) dX5_area_35 hw (fun y35 hw => ?_)
      refine j_iload X (pc := 38) 2 dX5_area_38 rfl ?_
      refine j_iald X (pc := 40) 0 rfl dX5_area_40 hw (fun y40 hw => ?_)
      refine j_aload_n X (pc := 41) 0 dX5_area_41 rfl rfl ?_
      refine j_getq (ci := 4) X (pc := 42) in_X5 rfl (by decide) 2 (by decide) q1874 (Or.inl rfl) dX5_area_42 hw (fun y42 hw => ?_)
      refine j_iload X (pc := 45) 2 dX5_area_45 rfl ?_
      refine j_iald X (pc := 47) 0 rfl dX5_area_47 hw (fun y47 hw => ?_)
      refine j_imul X (pc := 48) dX5_area_48 ?_
      refine j_i2l X (pc := 49) dX5_area_49 ?_
      refine j_goto X (pc := 50) 54 dX5_area_50 (by decide) ?_
      refine j_ladd X (pc := 54) dX5_area_54 ?_
      refine j_lstore_n X (pc := 55) [(2, vL (x2 + (Int32.toInt64 (y40 * y47)))), (0, vR x0), (4, vI x4)] dX5_area_55 rfl (Nat.le_of_ble_eq_true rfl) rfl ?_
      refine j_iinc X (pc := 56) 2 (x4 + 1) [(4, vI (x4 + 1)), (2, vL (x2 + (Int32.toInt64 (y40 * y47)))), (0, vR x0)] dX5_area_56 rfl rfl (Nat.le_of_ble_eq_true rfl) rfl ?_
      refine j_goto X (pc := 59) 15 dX5_area_59 (by decide) ?_
      refine j_lv [(0, vR x0), (2, vL (x2 + (Int32.toInt64 (y40 * y47)))), (4, vI (x4 + 1))] [2, 1, 0] rfl ?_
      refine j_cs (u' := 0) (v' := 0) (Nat.le_of_ble_eq_true rfl) (Nat.le_of_ble_eq_true rfl) ?_
      exact hw
theorem met_X5_area (l : Launch) (hlt : l.stackTraces = false) (G : GG) (h : AH) (a0 : Option Nat) (a1 : Int32) (P : Int64 → AH → Prop) (hw : w_X5_area a0 a1 h P) : ct_l l yX5_area (ws_ yX5_area cX5_area 5 (Option.some Jvm.ClassFile.FieldType.long)) rm_X5_area G h [vR a0, vI a1] P := by
  refine j_startl hlt [(0, vR a0), (1, vI a1)] (plainFor_of_name (by decide)) rfl rfl (fun x X eG er en hQ => ?_)
  subst eG
  refine j_aload_n X (pc := 0) 0 dX5_area_0 rfl rfl ?_
  refine j_iload_n X (pc := 1) 1 dX5_area_1 rfl rfl ?_
  obtain ⟨b9, c9, f9, hr9, ho9, hc9, hw⟩ := hw
  obtain rfl := List.mem_singleton.mp hc9
  refine j_calli (j_runV (n8 := 1) (As := [vI a1]) (rest := []) X (pc := 2) hr9 (met_X5_isNobody (xl x) X.hl (xG x) h a0 a1 _ hw) ho9 (by decide) rfl q2170 q2172 qs58 q78 q2173 (by decide +kernel) dX5_area_2 rfl ⟨Nat.le_of_ble_eq_true rfl, Nat.le_of_ble_eq_true rfl⟩ (Nat.le_of_ble_eq_true rfl) ⟨Nat.le_of_ble_eq_true rfl, Nat.le_of_ble_eq_true rfl⟩) (fun y2 h2 hw => ?_)
  refine j_if_eq X (pc := 5) 10 dX5_area_5 (by decide) hw (fun hw => ?_) (fun hw => ?_)
  · refine j_lconst X (pc := 10) 0 dX5_area_10 (by decide) ?_
    refine j_lstore_n X (pc := 11) [(2, vL 0), (0, vR a0), (1, vI a1)] dX5_area_11 rfl (Nat.le_of_ble_eq_true rfl) rfl ?_
    refine j_iconst X (pc := 12) 0 dX5_area_12 (by decide) ?_
    refine j_istore X (pc := 13) [(4, vI 0), (2, vL 0), (0, vR a0), (1, vI a1)] dX5_area_13 (Nat.le_of_ble_eq_true rfl) rfl ?_
    refine j_lv [(0, vR a0), (2, vL 0), (4, vI 0)] [2, 1, 0] rfl ?_
    refine j_cs (u' := 0) (v' := 0) (Nat.le_of_ble_eq_true rfl) (Nat.le_of_ble_eq_true rfl) ?_
    exact wk_X5_area_15 X er en hQ a0 0 0 h2 hw
  · refine j_lconst X (pc := 8) 0 dX5_area_8 (by decide) ?_
    exact j_lret X (pc := 9) hQ er (Nat.le_of_ble_eq_true rfl) (Nat.le_of_ble_eq_true rfl) dX5_area_9 hw
