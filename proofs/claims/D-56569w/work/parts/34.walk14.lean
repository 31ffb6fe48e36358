/-! walks (printed): Plugboard, Plugboard.End, PlugboardLaw, PlugboardModel -/
set_option maxRecDepth 100000
abbrev cX5_topAt : ByteArray := prog_19_method_63_code
def yX5_topAt : MethodName := ⟨RX5, "topAt", "(III)I"⟩
def dkwX5_topAt_5 : List UInt8 := [182, 0, 172, 167, 0, 5, 21, 4, 172]
abbrev dktX5_topAt_5 : List UInt8 := dkwX5_topAt_5 ++ []
def dkwX5_topAt_4 : List UInt8 := [182, 0, 199, 164, 0, 7, 21, 5, 54, 4, 132, 5, 1, 167, 255, 190, 21, 4, 156, 0, 11, 42, 5]
abbrev dktX5_topAt_4 : List UInt8 := dkwX5_topAt_4 ++ dktX5_topAt_5
def dkwX5_topAt_3 : List UInt8 := [21, 5, 28, 29, 182, 0, 235, 153, 0, 27, 21, 4, 155, 0, 18, 42, 21, 5, 182, 0, 199, 42, 21, 4]
abbrev dktX5_topAt_3 : List UInt8 := dkwX5_topAt_3 ++ dktX5_topAt_4
def dkwX5_topAt_2 : List UInt8 := [162, 0, 63, 42, 21, 5, 182, 0, 125, 153, 0, 48, 42, 180, 0, 22, 21, 5, 51, 154, 0, 38, 42]
abbrev dktX5_topAt_2 : List UInt8 := dkwX5_topAt_2 ++ dktX5_topAt_3
def dkwX5_topAt_1 : List UInt8 := [4, 182, 0, 172, 172, 42, 27, 182, 0, 161, 2, 54, 4, 3, 54, 5, 21, 5, 42, 180, 0, 119]
abbrev dktX5_topAt_1 : List UInt8 := dkwX5_topAt_1 ++ dktX5_topAt_2
def dkwX5_topAt_0 : List UInt8 := [42, 3, 181, 0, 97, 27, 184, 0, 165, 153, 0, 14, 42, 28, 29, 4, 4, 182, 0, 168, 154, 0, 9, 42]
abbrev dktX5_topAt_0 : List UInt8 := dkwX5_topAt_0 ++ dktX5_topAt_1
theorem dksX5_topAt_0 : cX5_topAt.data.toList.drop 0 = dktX5_topAt_0 := by decide +kernel
theorem dksX5_topAt_1 : cX5_topAt.data.toList.drop 24 = dktX5_topAt_1 := dk_seg dksX5_topAt_0 24 rfl rfl
theorem dksX5_topAt_2 : cX5_topAt.data.toList.drop 46 = dktX5_topAt_2 := dk_seg dksX5_topAt_1 22 rfl rfl
theorem dksX5_topAt_3 : cX5_topAt.data.toList.drop 69 = dktX5_topAt_3 := dk_seg dksX5_topAt_2 23 rfl rfl
theorem dksX5_topAt_4 : cX5_topAt.data.toList.drop 93 = dktX5_topAt_4 := dk_seg dksX5_topAt_3 24 rfl rfl
theorem dksX5_topAt_5 : cX5_topAt.data.toList.drop 116 = dktX5_topAt_5 := dk_seg dksX5_topAt_4 23 rfl rfl
theorem dX5_topAt_0 : decode cX5_topAt 0 = .ok (.aload_n 0, 1) := dk_42 (dk_at dksX5_topAt_0 0 rfl rfl)
theorem dX5_topAt_1 : decode cX5_topAt 1 = .ok (.iconst 0, 1) := dk_3 (dk_at dksX5_topAt_0 1 rfl rfl)
theorem dX5_topAt_2 : decode cX5_topAt 2 = .ok (.putfield 97, 3) := dk_181 0 97 (dk_at dksX5_topAt_0 2 rfl rfl)
theorem dX5_topAt_5 : decode cX5_topAt 5 = .ok (.iload_n 1, 1) := dk_27 (dk_at dksX5_topAt_0 5 rfl rfl)
theorem dX5_topAt_6 : decode cX5_topAt 6 = .ok (.invokestatic 165, 3) := dk_184 0 165 (dk_at dksX5_topAt_0 6 rfl rfl)
theorem dX5_topAt_9 : decode cX5_topAt 9 = .ok (.ifCond .eq 14, 3) := dk_153 0 14 (dk_at dksX5_topAt_0 9 rfl rfl)
theorem dX5_topAt_12 : decode cX5_topAt 12 = .ok (.aload_n 0, 1) := dk_42 (dk_at dksX5_topAt_0 12 rfl rfl)
theorem dX5_topAt_13 : decode cX5_topAt 13 = .ok (.iload_n 2, 1) := dk_28 (dk_at dksX5_topAt_0 13 rfl rfl)
theorem dX5_topAt_14 : decode cX5_topAt 14 = .ok (.iload_n 3, 1) := dk_29 (dk_at dksX5_topAt_0 14 rfl rfl)
theorem dX5_topAt_15 : decode cX5_topAt 15 = .ok (.iconst 1, 1) := dk_4 (dk_at dksX5_topAt_0 15 rfl rfl)
theorem dX5_topAt_16 : decode cX5_topAt 16 = .ok (.iconst 1, 1) := dk_4 (dk_at dksX5_topAt_0 16 rfl rfl)
theorem dX5_topAt_17 : decode cX5_topAt 17 = .ok (.invokevirtual 168, 3) := dk_182 0 168 (dk_at dksX5_topAt_0 17 rfl rfl)
theorem dX5_topAt_20 : decode cX5_topAt 20 = .ok (.ifCond .ne 9, 3) := dk_154 0 9 (dk_at dksX5_topAt_0 20 rfl rfl)
theorem dX5_topAt_23 : decode cX5_topAt 23 = .ok (.aload_n 0, 1) := dk_42 (dk_at dksX5_topAt_0 23 rfl rfl)
theorem dX5_topAt_24 : decode cX5_topAt 24 = .ok (.iconst 1, 1) := dk_4 (dk_at dksX5_topAt_1 0 rfl rfl)
theorem dX5_topAt_25 : decode cX5_topAt 25 = .ok (.invokevirtual 172, 3) := dk_182 0 172 (dk_at dksX5_topAt_1 1 rfl rfl)
theorem dX5_topAt_28 : decode cX5_topAt 28 = .ok (.ireturn, 1) := dk_172 (dk_at dksX5_topAt_1 4 rfl rfl)
theorem dX5_topAt_29 : decode cX5_topAt 29 = .ok (.aload_n 0, 1) := dk_42 (dk_at dksX5_topAt_1 5 rfl rfl)
theorem dX5_topAt_30 : decode cX5_topAt 30 = .ok (.iload_n 1, 1) := dk_27 (dk_at dksX5_topAt_1 6 rfl rfl)
theorem dX5_topAt_31 : decode cX5_topAt 31 = .ok (.invokevirtual 161, 3) := dk_182 0 161 (dk_at dksX5_topAt_1 7 rfl rfl)
theorem dX5_topAt_34 : decode cX5_topAt 34 = .ok (.iconst (-1), 1) := dk_2 (dk_at dksX5_topAt_1 10 rfl rfl)
theorem dX5_topAt_35 : decode cX5_topAt 35 = .ok (.istore 4, 2) := dk_54 4 (dk_at dksX5_topAt_1 11 rfl rfl)
theorem dX5_topAt_37 : decode cX5_topAt 37 = .ok (.iconst 0, 1) := dk_3 (dk_at dksX5_topAt_1 13 rfl rfl)
theorem dX5_topAt_38 : decode cX5_topAt 38 = .ok (.istore 5, 2) := dk_54 5 (dk_at dksX5_topAt_1 14 rfl rfl)
theorem dX5_topAt_40 : decode cX5_topAt 40 = .ok (.iload 5, 2) := dk_21 5 (dk_at dksX5_topAt_1 16 rfl rfl)
theorem dX5_topAt_42 : decode cX5_topAt 42 = .ok (.aload_n 0, 1) := dk_42 (dk_at dksX5_topAt_1 18 rfl rfl)
theorem dX5_topAt_43 : decode cX5_topAt 43 = .ok (.getfield 119, 3) := dk_180 0 119 (dk_at dksX5_topAt_1 19 rfl rfl)
theorem dX5_topAt_46 : decode cX5_topAt 46 = .ok (.if_icmp .ge 63, 3) := dk_162 0 63 (dk_at dksX5_topAt_2 0 rfl rfl)
theorem dX5_topAt_49 : decode cX5_topAt 49 = .ok (.aload_n 0, 1) := dk_42 (dk_at dksX5_topAt_2 3 rfl rfl)
theorem dX5_topAt_50 : decode cX5_topAt 50 = .ok (.iload 5, 2) := dk_21 5 (dk_at dksX5_topAt_2 4 rfl rfl)
theorem dX5_topAt_52 : decode cX5_topAt 52 = .ok (.invokevirtual 125, 3) := dk_182 0 125 (dk_at dksX5_topAt_2 6 rfl rfl)
theorem dX5_topAt_55 : decode cX5_topAt 55 = .ok (.ifCond .eq 48, 3) := dk_153 0 48 (dk_at dksX5_topAt_2 9 rfl rfl)
theorem dX5_topAt_58 : decode cX5_topAt 58 = .ok (.aload_n 0, 1) := dk_42 (dk_at dksX5_topAt_2 12 rfl rfl)
theorem dX5_topAt_59 : decode cX5_topAt 59 = .ok (.getfield 22, 3) := dk_180 0 22 (dk_at dksX5_topAt_2 13 rfl rfl)
theorem dX5_topAt_62 : decode cX5_topAt 62 = .ok (.iload 5, 2) := dk_21 5 (dk_at dksX5_topAt_2 16 rfl rfl)
theorem dX5_topAt_64 : decode cX5_topAt 64 = .ok (.baload, 1) := dk_51 (dk_at dksX5_topAt_2 18 rfl rfl)
theorem dX5_topAt_65 : decode cX5_topAt 65 = .ok (.ifCond .ne 38, 3) := dk_154 0 38 (dk_at dksX5_topAt_2 19 rfl rfl)
theorem dX5_topAt_68 : decode cX5_topAt 68 = .ok (.aload_n 0, 1) := dk_42 (dk_at dksX5_topAt_2 22 rfl rfl)
theorem dX5_topAt_69 : decode cX5_topAt 69 = .ok (.iload 5, 2) := dk_21 5 (dk_at dksX5_topAt_3 0 rfl rfl)
theorem dX5_topAt_71 : decode cX5_topAt 71 = .ok (.iload_n 2, 1) := dk_28 (dk_at dksX5_topAt_3 2 rfl rfl)
theorem dX5_topAt_72 : decode cX5_topAt 72 = .ok (.iload_n 3, 1) := dk_29 (dk_at dksX5_topAt_3 3 rfl rfl)
theorem dX5_topAt_73 : decode cX5_topAt 73 = .ok (.invokevirtual 235, 3) := dk_182 0 235 (dk_at dksX5_topAt_3 4 rfl rfl)
theorem dX5_topAt_76 : decode cX5_topAt 76 = .ok (.ifCond .eq 27, 3) := dk_153 0 27 (dk_at dksX5_topAt_3 7 rfl rfl)
theorem dX5_topAt_79 : decode cX5_topAt 79 = .ok (.iload 4, 2) := dk_21 4 (dk_at dksX5_topAt_3 10 rfl rfl)
theorem dX5_topAt_81 : decode cX5_topAt 81 = .ok (.ifCond .lt 18, 3) := dk_155 0 18 (dk_at dksX5_topAt_3 12 rfl rfl)
theorem dX5_topAt_84 : decode cX5_topAt 84 = .ok (.aload_n 0, 1) := dk_42 (dk_at dksX5_topAt_3 15 rfl rfl)
theorem dX5_topAt_85 : decode cX5_topAt 85 = .ok (.iload 5, 2) := dk_21 5 (dk_at dksX5_topAt_3 16 rfl rfl)
theorem dX5_topAt_87 : decode cX5_topAt 87 = .ok (.invokevirtual 199, 3) := dk_182 0 199 (dk_at dksX5_topAt_3 18 rfl rfl)
theorem dX5_topAt_90 : decode cX5_topAt 90 = .ok (.aload_n 0, 1) := dk_42 (dk_at dksX5_topAt_3 21 rfl rfl)
theorem dX5_topAt_91 : decode cX5_topAt 91 = .ok (.iload 4, 2) := dk_21 4 (dk_at dksX5_topAt_3 22 rfl rfl)
theorem dX5_topAt_93 : decode cX5_topAt 93 = .ok (.invokevirtual 199, 3) := dk_182 0 199 (dk_at dksX5_topAt_4 0 rfl rfl)
theorem dX5_topAt_96 : decode cX5_topAt 96 = .ok (.if_icmp .le 7, 3) := dk_164 0 7 (dk_at dksX5_topAt_4 3 rfl rfl)
theorem dX5_topAt_99 : decode cX5_topAt 99 = .ok (.iload 5, 2) := dk_21 5 (dk_at dksX5_topAt_4 6 rfl rfl)
theorem dX5_topAt_101 : decode cX5_topAt 101 = .ok (.istore 4, 2) := dk_54 4 (dk_at dksX5_topAt_4 8 rfl rfl)
theorem dX5_topAt_103 : decode cX5_topAt 103 = .ok (.iinc 5 1, 3) := dk_132 5 1 (dk_at dksX5_topAt_4 10 rfl rfl)
theorem dX5_topAt_106 : decode cX5_topAt 106 = .ok (.goto (-66), 3) := dk_167 255 190 (dk_at dksX5_topAt_4 13 rfl rfl)
theorem dX5_topAt_109 : decode cX5_topAt 109 = .ok (.iload 4, 2) := dk_21 4 (dk_at dksX5_topAt_4 16 rfl rfl)
theorem dX5_topAt_111 : decode cX5_topAt 111 = .ok (.ifCond .ge 11, 3) := dk_156 0 11 (dk_at dksX5_topAt_4 18 rfl rfl)
theorem dX5_topAt_114 : decode cX5_topAt 114 = .ok (.aload_n 0, 1) := dk_42 (dk_at dksX5_topAt_4 21 rfl rfl)
theorem dX5_topAt_115 : decode cX5_topAt 115 = .ok (.iconst 2, 1) := dk_5 (dk_at dksX5_topAt_4 22 rfl rfl)
theorem dX5_topAt_116 : decode cX5_topAt 116 = .ok (.invokevirtual 172, 3) := dk_182 0 172 (dk_at dksX5_topAt_5 0 rfl rfl)
theorem dX5_topAt_119 : decode cX5_topAt 119 = .ok (.goto 5, 3) := dk_167 0 5 (dk_at dksX5_topAt_5 3 rfl rfl)
theorem dX5_topAt_122 : decode cX5_topAt 122 = .ok (.iload 4, 2) := dk_21 4 (dk_at dksX5_topAt_5 6 rfl rfl)
theorem dX5_topAt_124 : decode cX5_topAt 124 = .ok (.ireturn, 1) := dk_172 (dk_at dksX5_topAt_5 8 rfl rfl)
theorem q2215 : (Jvm.Cond.methodLink "PlugboardModel" (235 : Nat) ({ cls := "PlugboardModel", name := "isCovering", desc := "(III)Z" } : Jvm.MethodName)) ∈ lw_all := lw_g (lw_at lw_m9 225 rfl) rfl
theorem q2217 : (Jvm.Cond.instanceMethod ({ cls := "PlugboardModel", name := "isCovering", desc := "(III)Z" } : Jvm.MethodName)) ∈ lw_all := lw_g (lw_at lw_m9 227 rfl) rfl
theorem q2218 : (Jvm.Cond.code ({ cls := "PlugboardModel", name := "isCovering", desc := "(III)Z" } : Jvm.MethodName) prog_19_method_62_code (4 : Nat) (Option.some Jvm.ClassFile.FieldType.boolean)) ∈ lw_all := lw_g (lw_at lw_m9 228 rfl) rfl
abbrev rm_X5_topAt : Room := { frames := 3, cells := 0, slots := 0, locals := 66 }
def w_X5_topAt_40 (P : Int32 → AH → Prop) (x0 : Option Nat) (x2 : Int32) (x3 : Int32) (x4 : Int32) (x5 : Int32) (h : AH) : Prop :=
  ∀ Z40 : Int32 → Int32 → AH → Prop, (∀ x4 x5 h, (
      g_i h x0 4 8 fun y43 =>
      ((y43 ≤ x5 →
        ((0 ≤ x4 →
          P x4 h) ∧
         (¬ 0 ≤ x4 →
          is_c h x0 [4] (
          w_X5_fails x0 2 h (fun y116 h116 =>
          P y116 h116))))) ∧
       (¬ y43 ≤ x5 →
        is_c h x0 [4] (
        w_X5_isSeen x0 x5 h (fun y52 h52 =>
        ((y52 = 0 →
          Z40 x4 (x5 + 1) h52) ∧
         (¬ y52 = 0 →
          g_q h52 x0 4 5 fun y59 =>
          l_i h52 y59 1 x5 fun y64 =>
          ((y64 = 0 →
            is_c h52 x0 [4] (
            w_X5_isCovering x0 x5 x2 x3 h52 (fun y73 h73 =>
            ((y73 = 0 →
              Z40 x4 (x5 + 1) h73) ∧
             (¬ y73 = 0 →
              ((x4 < 0 →
                Z40 x5 (x5 + 1) h73) ∧
               (¬ x4 < 0 →
                is_c h73 x0 [4] (
                w_X5_rank x0 x5 h73 (fun y87 h87 =>
                is_c h87 x0 [4] (
                w_X5_rank x0 x4 h87 (fun y93 h93 =>
                ((y87 ≤ y93 →
                  Z40 x4 (x5 + 1) h93) ∧
                 (¬ y87 ≤ y93 →
                  Z40 x5 (x5 + 1) h93))))))))))))) ∧
           (¬ y64 = 0 →
            Z40 x4 (x5 + 1) h52)))))))))
      → Z40 x4 x5 h) → Z40 x4 x5 h
def w_X5_topAt (a0 : Option Nat) (a1 : Int32) (a2 : Int32) (a3 : Int32) (h : AH) (P : Int32 → AH → Prop) : Prop :=
  p_v h a0 4 0 (vI 0) fun h2 =>
  w_X5_isUser a1 h2 (fun y6 h6 =>
  ((y6 = 0 →
    is_c h6 a0 [4] (
    w_X5_fails a0 1 h6 (fun y25 h25 =>
    P y25 h25))) ∧
   (¬ y6 = 0 →
    is_c h6 a0 [4] (
    w_X5_isOnBoard a0 a2 a3 1 1 h6 (fun y17 h17 =>
    ((y17 = 0 →
      is_c h17 a0 [4] (
      w_X5_fails a0 1 h17 (fun y25 h25 =>
      P y25 h25))) ∧
     (¬ y17 = 0 →
      is_c h17 a0 [4] (
      w_X5_builds a0 a1 h17 (fun h31 =>
      w_X5_topAt_40 P a0 a2 a3 (-1) 0 h31)))))))))
theorem wk_X5_topAt_40 {x : CX} (X : Ok x cX5_topAt RX5 rm_X5_topAt 6) (er : xrt x = (Option.some Jvm.ClassFile.FieldType.int)) (en : xnm x = yX5_topAt.name) {P : Int32 → AH → Prop} (hQ : xr_i x P) (x0 : Option Nat) (x2 : Int32) (x3 : Int32) (x4 : Int32) (x5 : Int32) (h : AH) (hw : w_X5_topAt_40 P x0 x2 x3 x4 x5 h) : J x h 0 0 40 [(0, vR x0), (2, vI x2), (3, vI x3), (4, vI x4), (5, vI x5)] [] := by
  refine hw (fun x4 x5 h => J x h 0 0 40 [(0, vR x0), (2, vI x2), (3, vI x3), (4, vI x4), (5, vI x5)] []) (fun x4 x5 h hw => ?_)
  refine j_iload X (pc := 40) 4 dX5_topAt_40 rfl ?_
  refine j_aload_n X (pc := 42) 0 dX5_topAt_42 rfl rfl ?_
  refine j_geti (ci := 4) X (pc := 43) in_X5 rfl (by decide) 8 (by decide) q1880 (Or.inl rfl) dX5_topAt_43 hw (fun y43 hw => ?_)
  refine j_icmp_ge X (pc := 46) 109 dX5_topAt_46 (by decide) hw (fun hw => ?_) (fun hw => ?_)
  · refine j_iload X (pc := 109) 3 dX5_topAt_109 rfl ?_
    refine j_if_ge X (pc := 111) 122 dX5_topAt_111 (by decide) hw (fun hw => ?_) (fun hw => ?_)
    · refine j_iload X (pc := 122) 3 dX5_topAt_122 rfl ?_
      exact j_iret X (pc := 124) hQ er (Nat.le_of_ble_eq_true rfl) (Nat.le_of_ble_eq_true rfl) dX5_topAt_124 hw
    · refine j_aload_n X (pc := 114) 0 dX5_topAt_114 rfl rfl ?_
      refine j_iconst X (pc := 115) 2 dX5_topAt_115 (by decide) ?_
      obtain ⟨b9, c9, f9, hr9, ho9, hc9, hw⟩ := hw
      obtain rfl := List.mem_singleton.mp hc9
      refine j_calli (j_runV (n8 := 1) (As := [vI 2]) (rest := []) X (pc := 116) hr9 (met_X5_fails (xl x) X.hl (xG x) h x0 2 _ hw) ho9 (by decide) rfl q1988 q1990 qs33 q78 q1991 (by decide +kernel) dX5_topAt_116 rfl ⟨Nat.le_of_ble_eq_true rfl, Nat.le_of_ble_eq_true rfl⟩ (Nat.le_of_ble_eq_true rfl) ⟨Nat.le_of_ble_eq_true rfl, Nat.le_of_ble_eq_true rfl⟩) (fun y116 h116 hw => ?_)
      refine j_goto X (pc := 119) 124 dX5_topAt_119 (by decide) ?_
      exact j_iret X (pc := 124) hQ er (Nat.le_of_ble_eq_true rfl) (Nat.le_of_ble_eq_true rfl) dX5_topAt_124 hw
  · refine j_aload_n X (pc := 49) 0 dX5_topAt_49 rfl rfl ?_
    refine j_iload X (pc := 50) 4 dX5_topAt_50 rfl ?_
    obtain ⟨b9, c9, f9, hr9, ho9, hc9, hw⟩ := hw
    obtain rfl := List.mem_singleton.mp hc9
    refine j_calli (j_runV (n8 := 1) (As := [vI x5]) (rest := []) X (pc := 52) hr9 (met_X5_isSeen (xl x) X.hl (xG x) h x0 x5 _ hw) ho9 (by decide) rfl q2012 q2014 qs39 q78 q2015 (by decide +kernel) dX5_topAt_52 rfl ⟨Nat.le_of_ble_eq_true rfl, Nat.le_of_ble_eq_true rfl⟩ (Nat.le_of_ble_eq_true rfl) ⟨Nat.le_of_ble_eq_true rfl, Nat.le_of_ble_eq_true rfl⟩) (fun y52 h52 hw => ?_)
    refine j_if_eq X (pc := 55) 103 dX5_topAt_55 (by decide) hw (fun hw => ?_) (fun hw => ?_)
    · refine j_iinc X (pc := 103) 4 (x5 + 1) [(5, vI (x5 + 1)), (0, vR x0), (2, vI x2), (3, vI x3), (4, vI x4)] dX5_topAt_103 rfl rfl (Nat.le_of_ble_eq_true rfl) rfl ?_
      refine j_goto X (pc := 106) 40 dX5_topAt_106 (by decide) ?_
      refine j_lv [(0, vR x0), (2, vI x2), (3, vI x3), (4, vI x4), (5, vI (x5 + 1))] [1, 2, 3, 4, 0] rfl ?_
      refine j_cs (u' := 0) (v' := 0) (Nat.le_of_ble_eq_true rfl) (Nat.le_of_ble_eq_true rfl) ?_
      exact hw
    · refine j_aload_n X (pc := 58) 0 dX5_topAt_58 rfl rfl ?_
      refine j_getq (ci := 4) X (pc := 59) in_X5 rfl (by decide) 5 (by decide) q1877 (Or.inl rfl) dX5_topAt_59 hw (fun y59 hw => ?_)
      refine j_iload X (pc := 62) 4 dX5_topAt_62 rfl ?_
      refine j_zald X (pc := 64) 1 rfl dX5_topAt_64 hw (fun y64 hw => ?_)
      refine j_if_ne X (pc := 65) 103 dX5_topAt_65 (by decide) hw (fun hw => ?_) (fun hw => ?_)
      · refine j_aload_n X (pc := 68) 0 dX5_topAt_68 rfl rfl ?_
        refine j_iload X (pc := 69) 4 dX5_topAt_69 rfl ?_
        refine j_iload_n X (pc := 71) 1 dX5_topAt_71 rfl rfl ?_
        refine j_iload_n X (pc := 72) 2 dX5_topAt_72 rfl rfl ?_
        obtain ⟨b9, c9, f9, hr9, ho9, hc9, hw⟩ := hw
        obtain rfl := List.mem_singleton.mp hc9
        refine j_calli (j_runV (n8 := 3) (As := [vI x5, vI x2, vI x3]) (rest := []) X (pc := 73) hr9 (met_X5_isCovering (xl x) X.hl (xG x) h52 x0 x5 x2 x3 _ hw) ho9 (by decide) rfl q2215 q2217 qs60 q78 q2218 (by decide +kernel) dX5_topAt_73 rfl ⟨Nat.le_of_ble_eq_true rfl, Nat.le_of_ble_eq_true rfl⟩ (Nat.le_of_ble_eq_true rfl) ⟨Nat.le_of_ble_eq_true rfl, Nat.le_of_ble_eq_true rfl⟩) (fun y73 h73 hw => ?_)
        refine j_if_eq X (pc := 76) 103 dX5_topAt_76 (by decide) hw (fun hw => ?_) (fun hw => ?_)
        · refine j_iinc X (pc := 103) 4 (x5 + 1) [(5, vI (x5 + 1)), (0, vR x0), (2, vI x2), (3, vI x3), (4, vI x4)] dX5_topAt_103 rfl rfl (Nat.le_of_ble_eq_true rfl) rfl ?_
          refine j_goto X (pc := 106) 40 dX5_topAt_106 (by decide) ?_
          refine j_lv [(0, vR x0), (2, vI x2), (3, vI x3), (4, vI x4), (5, vI (x5 + 1))] [1, 2, 3, 4, 0] rfl ?_
          refine j_cs (u' := 0) (v' := 0) (Nat.le_of_ble_eq_true rfl) (Nat.le_of_ble_eq_true rfl) ?_
          exact hw
        · refine j_iload X (pc := 79) 3 dX5_topAt_79 rfl ?_
          refine j_if_lt X (pc := 81) 99 dX5_topAt_81 (by decide) hw (fun hw => ?_) (fun hw => ?_)
          · refine j_iload X (pc := 99) 4 dX5_topAt_99 rfl ?_
            refine j_istore X (pc := 101) [(4, vI x5), (0, vR x0), (2, vI x2), (3, vI x3), (5, vI x5)] dX5_topAt_101 (Nat.le_of_ble_eq_true rfl) rfl ?_
            refine j_iinc X (pc := 103) 4 (x5 + 1) [(5, vI (x5 + 1)), (4, vI x5), (0, vR x0), (2, vI x2), (3, vI x3)] dX5_topAt_103 rfl rfl (Nat.le_of_ble_eq_true rfl) rfl ?_
            refine j_goto X (pc := 106) 40 dX5_topAt_106 (by decide) ?_
            refine j_lv [(0, vR x0), (2, vI x2), (3, vI x3), (4, vI x5), (5, vI (x5 + 1))] [2, 3, 4, 1, 0] rfl ?_
            refine j_cs (u' := 0) (v' := 0) (Nat.le_of_ble_eq_true rfl) (Nat.le_of_ble_eq_true rfl) ?_
            exact hw
          · refine j_aload_n X (pc := 84) 0 dX5_topAt_84 rfl rfl ?_
            refine j_iload X (pc := 85) 4 dX5_topAt_85 rfl ?_
            obtain ⟨b9, c9, f9, hr9, ho9, hc9, hw⟩ := hw
            obtain rfl := List.mem_singleton.mp hc9
            refine j_calli (j_runV (n8 := 1) (As := [vI x5]) (rest := []) X (pc := 87) hr9 (met_X5_rank (xl x) X.hl (xG x) h73 x0 x5 _ hw) ho9 (by decide) rfl q2067 q2069 qs50 q78 q2070 (by decide +kernel) dX5_topAt_87 rfl ⟨Nat.le_of_ble_eq_true rfl, Nat.le_of_ble_eq_true rfl⟩ (Nat.le_of_ble_eq_true rfl) ⟨Nat.le_of_ble_eq_true rfl, Nat.le_of_ble_eq_true rfl⟩) (fun y87 h87 hw => ?_)
            refine j_aload_n X (pc := 90) 0 dX5_topAt_90 rfl rfl ?_
            refine j_iload X (pc := 91) 3 dX5_topAt_91 rfl ?_
            obtain ⟨b9, c9, f9, hr9, ho9, hc9, hw⟩ := hw
            obtain rfl := List.mem_singleton.mp hc9
            refine j_calli (j_runV (n8 := 1) (As := [vI x4]) (rest := [vI y87]) X (pc := 93) hr9 (met_X5_rank (xl x) X.hl (xG x) h87 x0 x4 _ hw) ho9 (by decide) rfl q2067 q2069 qs50 q78 q2070 (by decide +kernel) dX5_topAt_93 rfl ⟨Nat.le_of_ble_eq_true rfl, Nat.le_of_ble_eq_true rfl⟩ (Nat.le_of_ble_eq_true rfl) ⟨Nat.le_of_ble_eq_true rfl, Nat.le_of_ble_eq_true rfl⟩) (fun y93 h93 hw => ?_)
            refine j_icmp_le X (pc := 96) 103 dX5_topAt_96 (by decide) hw (fun hw => ?_) (fun hw => ?_)
            · refine j_iinc X (pc := 103) 4 (x5 + 1) [(5, vI (x5 + 1)), (0, vR x0), (2, vI x2), (3, vI x3), (4, vI x4)] dX5_topAt_103 rfl rfl (Nat.le_of_ble_eq_true rfl) rfl ?_
              refine j_goto X (pc := 106) 40 dX5_topAt_106 (by decide) ?_
              refine j_lv [(0, vR x0), (2, vI x2), (3, vI x3), (4, vI x4), (5, vI (x5 + 1))] [1, 2, 3, 4, 0] rfl ?_
              refine j_cs (u' := 0) (v' := 0) (Nat.le_of_ble_eq_true rfl) (Nat.le_of_ble_eq_true rfl) ?_
              exact hw
            · refine j_iload X (pc := 99) 4 dX5_topAt_99 rfl ?_
              refine j_istore X (pc := 101) [(4, vI x5), (0, vR x0), (2, vI x2), (3, vI x3), (5, vI x5)] dX5_topAt_101 (Nat.le_of_ble_eq_true rfl) rfl ?_
              refine j_iinc X (pc := 103) 4 (x5 + 1) [(5, vI (x5 + 1)), (4, vI x5), (0, vR x0), (2, vI x2), (3, vI x3)] dX5_topAt_103 rfl rfl (Nat.le_of_ble_eq_true rfl) rfl ?_
              refine j_goto X (pc := 106) 40 dX5_topAt_106 (by decide) ?_
              refine j_lv [(0, vR x0), (2, vI x2), (3, vI x3), (4, vI x5), (5, vI (x5 + 1))] [2, 3, 4, 1, 0] rfl ?_
              refine j_cs (u' := 0) (v' := 0) (Nat.le_of_ble_eq_true rfl) (Nat.le_of_ble_eq_true rfl) ?_
              exact hw
      · refine j_iinc X (pc := 103) 4 (x5 + 1) [(5, vI (x5 + 1)), (0, vR x0), (2, vI x2), (3, vI x3), (4, vI x4)] dX5_topAt_103 rfl rfl (Nat.le_of_ble_eq_true rfl) rfl ?_
        refine j_goto X (pc := 106) 40 dX5_topAt_106 (by decide) ?_
        refine j_lv [(0, vR x0), (2, vI x2), (3, vI x3), (4, vI x4), (5, vI (x5 + 1))] [1, 2, 3, 4, 0] rfl ?_
        refine j_cs (u' := 0) (v' := 0) (Nat.le_of_ble_eq_true rfl) (Nat.le_of_ble_eq_true rfl) ?_
        exact hw
theorem met_X5_topAt (l : Launch) (hlt : l.stackTraces = false) (G : GG) (h : AH) (a0 : Option Nat) (a1 : Int32) (a2 : Int32) (a3 : Int32) (P : Int32 → AH → Prop) (hw : w_X5_topAt a0 a1 a2 a3 h P) : ct_i l yX5_topAt (ws_ yX5_topAt cX5_topAt 6 (Option.some Jvm.ClassFile.FieldType.int)) rm_X5_topAt G h [vR a0, vI a1, vI a2, vI a3] P := by
  refine j_starti hlt [(0, vR a0), (1, vI a1), (2, vI a2), (3, vI a3)] (plainFor_of_name (by decide)) rfl rfl (fun x X eG er en hQ => ?_)
  subst eG
  refine j_aload_n X (pc := 0) 0 dX5_topAt_0 rfl rfl ?_
  refine j_iconst X (pc := 1) 0 dX5_topAt_1 (by decide) ?_
  refine j_put (ci := 4) X (pc := 2) in_X5 rfl (by decide) 0 (by decide) q1872 (Or.inl rfl) tyX5 tyX5_ok nmX5 rfl rfl (ty := .int) (tyX5_ok 0 (by decide)) rfl rfl dX5_topAt_2 hw (fun h2 hw => ?_)
  refine j_iload_n X (pc := 5) 1 dX5_topAt_5 rfl rfl ?_
  refine j_calli (j_runS (n8 := 1) (As := [vI a1]) (rest := []) X (pc := 6) (met_X5_isUser (xl x) X.hl (xG x) h2 a1 _ hw) q1978 q1979 q78 q1980 (by decide +kernel) dX5_topAt_6 rfl ⟨Nat.le_of_ble_eq_true rfl, Nat.le_of_ble_eq_true rfl⟩ (Nat.le_of_ble_eq_true rfl) ⟨Nat.le_of_ble_eq_true rfl, Nat.le_of_ble_eq_true rfl⟩) (fun y6 h6 hw => ?_)
  refine j_if_eq X (pc := 9) 23 dX5_topAt_9 (by decide) hw (fun hw => ?_) (fun hw => ?_)
  · refine j_aload_n X (pc := 23) 0 dX5_topAt_23 rfl rfl ?_
    refine j_iconst X (pc := 24) 1 dX5_topAt_24 (by decide) ?_
    obtain ⟨b9, c9, f9, hr9, ho9, hc9, hw⟩ := hw
    obtain rfl := List.mem_singleton.mp hc9
    refine j_calli (j_runV (n8 := 1) (As := [vI 1]) (rest := []) X (pc := 25) hr9 (met_X5_fails (xl x) X.hl (xG x) h6 a0 1 _ hw) ho9 (by decide) rfl q1988 q1990 qs33 q78 q1991 (by decide +kernel) dX5_topAt_25 rfl ⟨Nat.le_of_ble_eq_true rfl, Nat.le_of_ble_eq_true rfl⟩ (Nat.le_of_ble_eq_true rfl) ⟨Nat.le_of_ble_eq_true rfl, Nat.le_of_ble_eq_true rfl⟩) (fun y25 h25 hw => ?_)
    exact j_iret X (pc := 28) hQ er (Nat.le_of_ble_eq_true rfl) (Nat.le_of_ble_eq_true rfl) dX5_topAt_28 hw
  · refine j_aload_n X (pc := 12) 0 dX5_topAt_12 rfl rfl ?_
    refine j_iload_n X (pc := 13) 2 dX5_topAt_13 rfl rfl ?_
    refine j_iload_n X (pc := 14) 3 dX5_topAt_14 rfl rfl ?_
    refine j_iconst X (pc := 15) 1 dX5_topAt_15 (by decide) ?_
    refine j_iconst X (pc := 16) 1 dX5_topAt_16 (by decide) ?_
    obtain ⟨b9, c9, f9, hr9, ho9, hc9, hw⟩ := hw
    obtain rfl := List.mem_singleton.mp hc9
    refine j_calli (j_runV (n8 := 4) (As := [vI a2, vI a3, vI 1, vI 1]) (rest := []) X (pc := 17) hr9 (met_X5_isOnBoard (xl x) X.hl (xG x) h6 a0 a2 a3 1 1 _ hw) ho9 (by decide) rfl q1984 q1986 qs32 q78 q1987 (by decide +kernel) dX5_topAt_17 rfl ⟨Nat.le_of_ble_eq_true rfl, Nat.le_of_ble_eq_true rfl⟩ (Nat.le_of_ble_eq_true rfl) ⟨Nat.le_of_ble_eq_true rfl, Nat.le_of_ble_eq_true rfl⟩) (fun y17 h17 hw => ?_)
    refine j_if_ne X (pc := 20) 29 dX5_topAt_20 (by decide) hw (fun hw => ?_) (fun hw => ?_)
    · refine j_aload_n X (pc := 23) 0 dX5_topAt_23 rfl rfl ?_
      refine j_iconst X (pc := 24) 1 dX5_topAt_24 (by decide) ?_
      obtain ⟨b9, c9, f9, hr9, ho9, hc9, hw⟩ := hw
      obtain rfl := List.mem_singleton.mp hc9
      refine j_calli (j_runV (n8 := 1) (As := [vI 1]) (rest := []) X (pc := 25) hr9 (met_X5_fails (xl x) X.hl (xG x) h17 a0 1 _ hw) ho9 (by decide) rfl q1988 q1990 qs33 q78 q1991 (by decide +kernel) dX5_topAt_25 rfl ⟨Nat.le_of_ble_eq_true rfl, Nat.le_of_ble_eq_true rfl⟩ (Nat.le_of_ble_eq_true rfl) ⟨Nat.le_of_ble_eq_true rfl, Nat.le_of_ble_eq_true rfl⟩) (fun y25 h25 hw => ?_)
      exact j_iret X (pc := 28) hQ er (Nat.le_of_ble_eq_true rfl) (Nat.le_of_ble_eq_true rfl) dX5_topAt_28 hw
    · refine j_aload_n X (pc := 29) 0 dX5_topAt_29 rfl rfl ?_
      refine j_iload_n X (pc := 30) 1 dX5_topAt_30 rfl rfl ?_
      obtain ⟨b9, c9, f9, hr9, ho9, hc9, hw⟩ := hw
      obtain rfl := List.mem_singleton.mp hc9
      refine j_callv (j_runV (n8 := 1) (As := [vI a1]) (rest := []) X (pc := 31) hr9 (met_X5_builds (xl x) X.hl (xG x) h17 a0 a1 _ hw) ho9 (by decide) rfl q1992 q1994 qs34 q78 q1995 (by decide +kernel) dX5_topAt_31 rfl ⟨Nat.le_of_ble_eq_true rfl, Nat.le_of_ble_eq_true rfl⟩ (Nat.le_of_ble_eq_true rfl) ⟨Nat.le_of_ble_eq_true rfl, Nat.le_of_ble_eq_true rfl⟩) (fun h31 hw => ?_)
      refine j_iconst X (pc := 34) (-1) dX5_topAt_34 (by decide) ?_
      refine j_istore X (pc := 35) [(4, vI (-1)), (0, vR a0), (1, vI a1), (2, vI a2), (3, vI a3)] dX5_topAt_35 (Nat.le_of_ble_eq_true rfl) rfl ?_
      refine j_iconst X (pc := 37) 0 dX5_topAt_37 (by decide) ?_
      refine j_istore X (pc := 38) [(5, vI 0), (4, vI (-1)), (0, vR a0), (1, vI a1), (2, vI a2), (3, vI a3)] dX5_topAt_38 (Nat.le_of_ble_eq_true rfl) rfl ?_
      refine j_lv [(0, vR a0), (2, vI a2), (3, vI a3), (4, vI (-1)), (5, vI 0)] [2, 4, 5, 1, 0] rfl ?_
      refine j_cs (u' := 0) (v' := 0) (Nat.le_of_ble_eq_true rfl) (Nat.le_of_ble_eq_true rfl) ?_
      exact wk_X5_topAt_40 X er en hQ a0 a2 a3 (-1) 0 h31 hw
abbrev cX1_lockedBy : ByteArray := prog_1_method_58_code
def yX1_lockedBy : MethodName := ⟨RX1, "lockedBy", "(II)I"⟩
def dkwX1_lockedBy_0 : List UInt8 := [42, 27, 182, 0, 199, 78, 45, 42, 45, 28, 182, 0, 241, 182, 1, 26, 172]
abbrev dktX1_lockedBy_0 : List UInt8 := dkwX1_lockedBy_0 ++ []
theorem dksX1_lockedBy_0 : cX1_lockedBy.data.toList.drop 0 = dktX1_lockedBy_0 := by decide +kernel
theorem dX1_lockedBy_0 : decode cX1_lockedBy 0 = .ok (.aload_n 0, 1) := dk_42 (dk_at dksX1_lockedBy_0 0 rfl rfl)
theorem dX1_lockedBy_1 : decode cX1_lockedBy 1 = .ok (.iload_n 1, 1) := dk_27 (dk_at dksX1_lockedBy_0 1 rfl rfl)
theorem dX1_lockedBy_2 : decode cX1_lockedBy 2 = .ok (.invokevirtual 199, 3) := dk_182 0 199 (dk_at dksX1_lockedBy_0 2 rfl rfl)
theorem dX1_lockedBy_5 : decode cX1_lockedBy 5 = .ok (.astore_n 3, 1) := dk_78 (dk_at dksX1_lockedBy_0 5 rfl rfl)
theorem dX1_lockedBy_6 : decode cX1_lockedBy 6 = .ok (.aload_n 3, 1) := dk_45 (dk_at dksX1_lockedBy_0 6 rfl rfl)
theorem dX1_lockedBy_7 : decode cX1_lockedBy 7 = .ok (.aload_n 0, 1) := dk_42 (dk_at dksX1_lockedBy_0 7 rfl rfl)
theorem dX1_lockedBy_8 : decode cX1_lockedBy 8 = .ok (.aload_n 3, 1) := dk_45 (dk_at dksX1_lockedBy_0 8 rfl rfl)
theorem dX1_lockedBy_9 : decode cX1_lockedBy 9 = .ok (.iload_n 2, 1) := dk_28 (dk_at dksX1_lockedBy_0 9 rfl rfl)
theorem dX1_lockedBy_10 : decode cX1_lockedBy 10 = .ok (.invokevirtual 241, 3) := dk_182 0 241 (dk_at dksX1_lockedBy_0 10 rfl rfl)
theorem dX1_lockedBy_13 : decode cX1_lockedBy 13 = .ok (.invokevirtual 282, 3) := dk_182 1 26 (dk_at dksX1_lockedBy_0 13 rfl rfl)
theorem dX1_lockedBy_16 : decode cX1_lockedBy 16 = .ok (.ireturn, 1) := dk_172 (dk_at dksX1_lockedBy_0 16 rfl rfl)
abbrev rm_X1_lockedBy : Room := { frames := 9, cells := 3, slots := 13, locals := 146 }
def w_X1_lockedBy (a0 : Option Nat) (a1 : Int32) (a2 : Int32) (h : AH) (P : Int32 → AH → Prop) (PX : String → AH → Prop) : Prop :=
  is_c h a0 [0] (
  w_X1_board a0 a1 h (fun y2 h2 =>
  is_c h2 a0 [0] (
  w_X1_shape a0 y2 a2 h2 (fun y10 h10 =>
  is_c h10 y2 [2] (
  w_X3_lockerOf y2 y10 h10 (fun y13 h13 =>
  P y13 h13))) PX)) PX)
theorem met_X1_lockedBy (l : Launch) (hlt : l.stackTraces = false) (G : GG) (h : AH) (a0 : Option Nat) (a1 : Int32) (a2 : Int32) (P : Int32 → AH → Prop) (PX : String → AH → Prop) (hw : w_X1_lockedBy a0 a1 a2 h P PX) : cx_i l yX1_lockedBy (ws_ yX1_lockedBy cX1_lockedBy 4 (Option.some Jvm.ClassFile.FieldType.int)) rm_X1_lockedBy G h [vR a0, vI a1, vI a2] P PX := by
  refine j_startXi hlt [(0, vR a0), (1, vI a1), (2, vI a2)] (by decide) rfl rfl (fun x X eG er en hQ hT hex => ?_)
  subst eG
  refine j_aload_n X (pc := 0) 0 dX1_lockedBy_0 rfl rfl ?_
  refine j_iload_n X (pc := 1) 1 dX1_lockedBy_1 rfl rfl ?_
  obtain ⟨b9, c9, f9, hr9, ho9, hc9, hw⟩ := hw
  obtain rfl := List.mem_singleton.mp hc9
  refine j_callXq (j_runVX (n8 := 1) (As := [vI a1]) (rest := []) X (pc := 2) hr9 (met_X1_board (xl x) X.hl (xG x) h a0 a1 _ _ hw) ho9 (by decide) rfl q297 q299 qs0 q71 q300 (by decide +kernel) dX1_lockedBy_2 rfl ⟨Nat.le_of_ble_eq_true rfl, Nat.le_of_ble_eq_true rfl⟩ (Nat.le_of_ble_eq_true rfl) ⟨Nat.le_of_ble_eq_true rfl, Nat.le_of_ble_eq_true rfl⟩) (fun E h9 hx => j_out X hT hex (Nat.le_of_ble_eq_true rfl) (Nat.le_of_ble_eq_true rfl) hx) (fun y2 h2 hw => ?_)
  refine j_astore_n X (pc := 5) [(3, vR y2), (0, vR a0), (1, vI a1), (2, vI a2)] dX1_lockedBy_5 rfl (Nat.le_of_ble_eq_true rfl) rfl ?_
  refine j_aload_n X (pc := 6) 0 dX1_lockedBy_6 rfl rfl ?_
  refine j_aload_n X (pc := 7) 1 dX1_lockedBy_7 rfl rfl ?_
  refine j_aload_n X (pc := 8) 0 dX1_lockedBy_8 rfl rfl ?_
  refine j_iload_n X (pc := 9) 3 dX1_lockedBy_9 rfl rfl ?_
  obtain ⟨b9, c9, f9, hr9, ho9, hc9, hw⟩ := hw
  obtain rfl := List.mem_singleton.mp hc9
  refine j_callXq (j_runVX (n8 := 2) (As := [vR y2, vI a2]) (rest := [vR y2]) X (pc := 10) hr9 (met_X1_shape (xl x) X.hl (xG x) h2 a0 y2 a2 _ _ hw) ho9 (by decide) rfl q1075 q1077 qs9 q71 q1078 (by decide +kernel) dX1_lockedBy_10 rfl ⟨Nat.le_of_ble_eq_true rfl, Nat.le_of_ble_eq_true rfl⟩ (Nat.le_of_ble_eq_true rfl) ⟨Nat.le_of_ble_eq_true rfl, Nat.le_of_ble_eq_true rfl⟩) (fun E h9 hx => j_out X hT hex (Nat.le_of_ble_eq_true rfl) (Nat.le_of_ble_eq_true rfl) hx) (fun y10 h10 hw => ?_)
  obtain ⟨b9, c9, f9, hr9, ho9, hc9, hw⟩ := hw
  obtain rfl := List.mem_singleton.mp hc9
  refine j_calli (j_runV (n8 := 1) (As := [vR y10]) (rest := []) X (pc := 13) hr9 (met_X3_lockerOf (xl x) X.hl (xG x) h10 y2 y10 _ hw) ho9 (by decide) rfl q1236 q1094 q1095 q76 q1096 (by decide +kernel) dX1_lockedBy_13 rfl ⟨Nat.le_of_ble_eq_true rfl, Nat.le_of_ble_eq_true rfl⟩ (Nat.le_of_ble_eq_true rfl) ⟨Nat.le_of_ble_eq_true rfl, Nat.le_of_ble_eq_true rfl⟩) (fun y13 h13 hw => ?_)
  exact j_iret X (pc := 16) hQ er (Nat.le_of_ble_eq_true rfl) (Nat.le_of_ble_eq_true rfl) dX1_lockedBy_16 hw
abbrev cX0_lockedBy : ByteArray := method_31_code
def yX0_lockedBy : MethodName := ⟨RX0, "lockedBy", "(LPlugboard;II[J)I"⟩
def dkwX0_lockedBy_0 : List UInt8 := [45, 3, 42, 27, 28, 182, 0, 112, 133, 80, 167, 0, 11, 58, 4, 4, 172, 58, 4, 5, 172, 3, 172]
abbrev dktX0_lockedBy_0 : List UInt8 := dkwX0_lockedBy_0 ++ []
theorem dksX0_lockedBy_0 : cX0_lockedBy.data.toList.drop 0 = dktX0_lockedBy_0 := by decide +kernel
theorem dX0_lockedBy_0 : decode cX0_lockedBy 0 = .ok (.aload_n 3, 1) := dk_45 (dk_at dksX0_lockedBy_0 0 rfl rfl)
theorem dX0_lockedBy_1 : decode cX0_lockedBy 1 = .ok (.iconst 0, 1) := dk_3 (dk_at dksX0_lockedBy_0 1 rfl rfl)
theorem dX0_lockedBy_2 : decode cX0_lockedBy 2 = .ok (.aload_n 0, 1) := dk_42 (dk_at dksX0_lockedBy_0 2 rfl rfl)
theorem dX0_lockedBy_3 : decode cX0_lockedBy 3 = .ok (.iload_n 1, 1) := dk_27 (dk_at dksX0_lockedBy_0 3 rfl rfl)
theorem dX0_lockedBy_4 : decode cX0_lockedBy 4 = .ok (.iload_n 2, 1) := dk_28 (dk_at dksX0_lockedBy_0 4 rfl rfl)
theorem dX0_lockedBy_5 : decode cX0_lockedBy 5 = .ok (.invokevirtual 112, 3) := dk_182 0 112 (dk_at dksX0_lockedBy_0 5 rfl rfl)
theorem dX0_lockedBy_8 : decode cX0_lockedBy 8 = .ok (.i2l, 1) := dk_133 (dk_at dksX0_lockedBy_0 8 rfl rfl)
theorem dX0_lockedBy_9 : decode cX0_lockedBy 9 = .ok (.lastore, 1) := dk_80 (dk_at dksX0_lockedBy_0 9 rfl rfl)
theorem dX0_lockedBy_10 : decode cX0_lockedBy 10 = .ok (.goto 11, 3) := dk_167 0 11 (dk_at dksX0_lockedBy_0 10 rfl rfl)
theorem dX0_lockedBy_13 : decode cX0_lockedBy 13 = .ok (.astore 4, 2) := dk_58 4 (dk_at dksX0_lockedBy_0 13 rfl rfl)
theorem dX0_lockedBy_15 : decode cX0_lockedBy 15 = .ok (.iconst 1, 1) := dk_4 (dk_at dksX0_lockedBy_0 15 rfl rfl)
theorem dX0_lockedBy_16 : decode cX0_lockedBy 16 = .ok (.ireturn, 1) := dk_172 (dk_at dksX0_lockedBy_0 16 rfl rfl)
theorem dX0_lockedBy_17 : decode cX0_lockedBy 17 = .ok (.astore 4, 2) := dk_58 4 (dk_at dksX0_lockedBy_0 17 rfl rfl)
theorem dX0_lockedBy_19 : decode cX0_lockedBy 19 = .ok (.iconst 2, 1) := dk_5 (dk_at dksX0_lockedBy_0 19 rfl rfl)
theorem dX0_lockedBy_20 : decode cX0_lockedBy 20 = .ok (.ireturn, 1) := dk_172 (dk_at dksX0_lockedBy_0 20 rfl rfl)
theorem dX0_lockedBy_21 : decode cX0_lockedBy 21 = .ok (.iconst 0, 1) := dk_3 (dk_at dksX0_lockedBy_0 21 rfl rfl)
theorem dX0_lockedBy_22 : decode cX0_lockedBy 22 = .ok (.ireturn, 1) := dk_172 (dk_at dksX0_lockedBy_0 22 rfl rfl)
theorem q1501 : (Jvm.Cond.methodLink "PlugboardLaw" (112 : Nat) ({ cls := "Plugboard", name := "lockedBy", desc := "(II)I" } : Jvm.MethodName)) ∈ lw_all := lw_g (lw_at lw_m6 231 rfl) rfl
theorem q1502 : (Jvm.Cond.instanceMethod ({ cls := "Plugboard", name := "lockedBy", desc := "(II)I" } : Jvm.MethodName)) ∈ lw_all := lw_g (lw_at lw_m6 232 rfl) rfl
theorem q1503 : (Jvm.Cond.selects "Plugboard" ({ cls := "Plugboard", name := "lockedBy", desc := "(II)I" } : Jvm.MethodName) ({ cls := "Plugboard", name := "lockedBy", desc := "(II)I" } : Jvm.MethodName)) ∈ lw_all := lw_g (lw_at lw_m6 233 rfl) rfl
theorem q1504 : (Jvm.Cond.code ({ cls := "Plugboard", name := "lockedBy", desc := "(II)I" } : Jvm.MethodName) prog_1_method_58_code (4 : Nat) (Option.some Jvm.ClassFile.FieldType.int)) ∈ lw_all := lw_g (lw_at lw_m6 234 rfl) rfl
abbrev rm_X0_lockedBy : Room := { frames := 10, cells := 3, slots := 13, locals := 169 }
def w_X0_lockedBy (a0 : Option Nat) (a1 : Int32) (a2 : Int32) (a3 : Option Nat) (h : AH) (P : Int32 → AH → Prop) : Prop :=
  is_c h a0 [0] (
  w_X1_lockedBy a0 a1 a2 h (fun y5 h5 =>
  s_L h5 a3 0 (Int32.toInt64 y5) fun h9 =>
  P 0 h9)
    (fun E9 h9 => (E9 = "java/lang/IllegalArgumentException" ∧ ∀ q9 : Nat,
    P 1 h9) ∨
    (E9 = "java/util/NoSuchElementException" ∧ ∀ q9 : Nat,
    P 2 h9)))
theorem met_X0_lockedBy (l : Launch) (hlt : l.stackTraces = false) (G : GG) (h : AH) (a0 : Option Nat) (a1 : Int32) (a2 : Int32) (a3 : Option Nat) (P : Int32 → AH → Prop) (hw : w_X0_lockedBy a0 a1 a2 a3 h P) : ct_i l yX0_lockedBy (wsW_ yX0_lockedBy cX0_lockedBy 5 (Option.some Jvm.ClassFile.FieldType.int) [((0 : Nat), (10 : Nat), (13 : Nat), (13 : Nat)), ((0 : Nat), (10 : Nat), (17 : Nat), (21 : Nat))]) rm_X0_lockedBy G h [vR a0, vI a1, vI a2, vR a3] P := by
  refine j_startWi hlt [(0, vR a0), (1, vI a1), (2, vI a2), (3, vR a3)] (by decide) rfl rfl (fun x X eG er en hQ hex => ?_)
  subst eG
  refine j_aload_n X (pc := 0) 3 dX0_lockedBy_0 rfl rfl ?_
  refine j_iconst X (pc := 1) 0 dX0_lockedBy_1 (by decide) ?_
  refine j_aload_n X (pc := 2) 0 dX0_lockedBy_2 rfl rfl ?_
  refine j_iload_n X (pc := 3) 1 dX0_lockedBy_3 rfl rfl ?_
  refine j_iload_n X (pc := 4) 2 dX0_lockedBy_4 rfl rfl ?_
  obtain ⟨b9, c9, f9, hr9, ho9, hc9, hw⟩ := hw
  obtain rfl := List.mem_singleton.mp hc9
  refine j_callXi (j_runVX (n8 := 2) (As := [vI a1, vI a2]) (rest := [vI 0, vR a3]) X (pc := 5) hr9 (met_X1_lockedBy (xl x) X.hl (xG x) h a0 a1 a2 _ _ hw) ho9 (by decide) rfl q1501 q1502 q1503 q71 q1504 (by decide +kernel) dX0_lockedBy_5 rfl ⟨Nat.le_of_ble_eq_true rfl, Nat.le_of_ble_eq_true rfl⟩ (Nat.le_of_ble_eq_true rfl) ⟨Nat.le_of_ble_eq_true rfl, Nat.le_of_ble_eq_true rfl⟩) ?_ (fun y5 h5 hw => ?_)
  · intro E9 h9 hx
    rcases hx with ⟨rfl, hw⟩ | ⟨rfl, hw⟩
    · refine j_catch X (pc := 5) "java/lang/IllegalArgumentException" hex [] [⟨0, 10, 17, 21⟩] ⟨0, 10, 13, 13⟩ rfl (by intro y hy; cases hy) (by decide) (by decide) q291 q312 (fun q9 => ?_)
      have hw := hw q9
      refine j_astore X (pc := 13) [(4, vR (some q9)), (0, vR a0), (1, vI a1), (2, vI a2), (3, vR a3)] dX0_lockedBy_13 (Nat.le_of_ble_eq_true rfl) rfl ?_
      refine j_iconst X (pc := 15) 1 dX0_lockedBy_15 (by decide) ?_
      exact j_iret X (pc := 16) hQ er (Nat.le_of_ble_eq_true rfl) (Nat.le_of_ble_eq_true rfl) dX0_lockedBy_16 hw
    · refine j_catch X (pc := 5) "java/util/NoSuchElementException" hex [⟨0, 10, 13, 13⟩] [] ⟨0, 10, 17, 21⟩ rfl (by intro y hy; simp only [List.mem_cons, List.not_mem_nil, or_false] at hy; subst hy; exact Or.inr ⟨by decide, "java/lang/IllegalArgumentException", q291, by decide +kernel⟩) (by decide) (by decide) q1068 q537 (fun q9 => ?_)
      have hw := hw q9
      refine j_astore X (pc := 17) [(4, vR (some q9)), (0, vR a0), (1, vI a1), (2, vI a2), (3, vR a3)] dX0_lockedBy_17 (Nat.le_of_ble_eq_true rfl) rfl ?_
      refine j_iconst X (pc := 19) 2 dX0_lockedBy_19 (by decide) ?_
      exact j_iret X (pc := 20) hQ er (Nat.le_of_ble_eq_true rfl) (Nat.le_of_ble_eq_true rfl) dX0_lockedBy_20 hw
  refine j_i2l X (pc := 8) dX0_lockedBy_8 ?_
  refine j_last X (pc := 9) dX0_lockedBy_9 hw (fun h9 hw => ?_)
  refine j_goto X (pc := 10) 21 dX0_lockedBy_10 (by decide) ?_
  refine j_iconst X (pc := 21) 0 dX0_lockedBy_21 (by decide) ?_
  exact j_iret X (pc := 22) hQ er (Nat.le_of_ble_eq_true rfl) (Nat.le_of_ble_eq_true rfl) dX0_lockedBy_22 hw
abbrev cX5_lockedBy : ByteArray := prog_19_method_64_code
def yX5_lockedBy : MethodName := ⟨RX5, "lockedBy", "(II)I"⟩
def dkwX5_lockedBy_0 : List UInt8 := [42, 27, 28, 182, 0, 231, 153, 0, 7, 3, 167, 0, 12, 42, 180, 0, 67, 16, 36, 28, 96, 46, 172]
abbrev dktX5_lockedBy_0 : List UInt8 := dkwX5_lockedBy_0 ++ []
theorem dksX5_lockedBy_0 : cX5_lockedBy.data.toList.drop 0 = dktX5_lockedBy_0 := by decide +kernel
theorem dX5_lockedBy_0 : decode cX5_lockedBy 0 = .ok (.aload_n 0, 1) := dk_42 (dk_at dksX5_lockedBy_0 0 rfl rfl)
theorem dX5_lockedBy_1 : decode cX5_lockedBy 1 = .ok (.iload_n 1, 1) := dk_27 (dk_at dksX5_lockedBy_0 1 rfl rfl)
theorem dX5_lockedBy_2 : decode cX5_lockedBy 2 = .ok (.iload_n 2, 1) := dk_28 (dk_at dksX5_lockedBy_0 2 rfl rfl)
theorem dX5_lockedBy_3 : decode cX5_lockedBy 3 = .ok (.invokevirtual 231, 3) := dk_182 0 231 (dk_at dksX5_lockedBy_0 3 rfl rfl)
theorem dX5_lockedBy_6 : decode cX5_lockedBy 6 = .ok (.ifCond .eq 7, 3) := dk_153 0 7 (dk_at dksX5_lockedBy_0 6 rfl rfl)
theorem dX5_lockedBy_9 : decode cX5_lockedBy 9 = .ok (.iconst 0, 1) := dk_3 (dk_at dksX5_lockedBy_0 9 rfl rfl)
theorem dX5_lockedBy_10 : decode cX5_lockedBy 10 = .ok (.goto 12, 3) := dk_167 0 12 (dk_at dksX5_lockedBy_0 10 rfl rfl)
theorem dX5_lockedBy_13 : decode cX5_lockedBy 13 = .ok (.aload_n 0, 1) := dk_42 (dk_at dksX5_lockedBy_0 13 rfl rfl)
theorem dX5_lockedBy_14 : decode cX5_lockedBy 14 = .ok (.getfield 67, 3) := dk_180 0 67 (dk_at dksX5_lockedBy_0 14 rfl rfl)
theorem dX5_lockedBy_17 : decode cX5_lockedBy 17 = .ok (.bipush 36, 2) := dk_16 36 (dk_at dksX5_lockedBy_0 17 rfl rfl)
theorem dX5_lockedBy_19 : decode cX5_lockedBy 19 = .ok (.iload_n 2, 1) := dk_28 (dk_at dksX5_lockedBy_0 19 rfl rfl)
theorem dX5_lockedBy_20 : decode cX5_lockedBy 20 = .ok (.iadd, 1) := dk_96 (dk_at dksX5_lockedBy_0 20 rfl rfl)
theorem dX5_lockedBy_21 : decode cX5_lockedBy 21 = .ok (.iaload, 1) := dk_46 (dk_at dksX5_lockedBy_0 21 rfl rfl)
theorem dX5_lockedBy_22 : decode cX5_lockedBy 22 = .ok (.ireturn, 1) := dk_172 (dk_at dksX5_lockedBy_0 22 rfl rfl)
abbrev rm_X5_lockedBy : Room := { frames := 5, cells := 0, slots := 0, locals := 109 }
def w_X5_lockedBy (a0 : Option Nat) (a1 : Int32) (a2 : Int32) (h : AH) (P : Int32 → AH → Prop) : Prop :=
  is_c h a0 [4] (
  w_X5_isUnseen a0 a1 a2 h (fun y3 h3 =>
  ((y3 = 0 →
    g_q h3 a0 4 21 fun y14 =>
    l_i h3 y14 0 (36 + a2) fun y21 =>
    P y21 h3) ∧
   (¬ y3 = 0 →
    P 0 h3))))
theorem met_X5_lockedBy (l : Launch) (hlt : l.stackTraces = false) (G : GG) (h : AH) (a0 : Option Nat) (a1 : Int32) (a2 : Int32) (P : Int32 → AH → Prop) (hw : w_X5_lockedBy a0 a1 a2 h P) : ct_i l yX5_lockedBy (ws_ yX5_lockedBy cX5_lockedBy 3 (Option.some Jvm.ClassFile.FieldType.int)) rm_X5_lockedBy G h [vR a0, vI a1, vI a2] P := by
  refine j_starti hlt [(0, vR a0), (1, vI a1), (2, vI a2)] (plainFor_of_name (by decide)) rfl rfl (fun x X eG er en hQ => ?_)
  subst eG
  refine j_aload_n X (pc := 0) 0 dX5_lockedBy_0 rfl rfl ?_
  refine j_iload_n X (pc := 1) 1 dX5_lockedBy_1 rfl rfl ?_
  refine j_iload_n X (pc := 2) 2 dX5_lockedBy_2 rfl rfl ?_
  obtain ⟨b9, c9, f9, hr9, ho9, hc9, hw⟩ := hw
  obtain rfl := List.mem_singleton.mp hc9
  refine j_calli (j_runV (n8 := 2) (As := [vI a1, vI a2]) (rest := []) X (pc := 3) hr9 (met_X5_isUnseen (xl x) X.hl (xG x) h a0 a1 a2 _ hw) ho9 (by decide) rfl q2182 q2184 qs59 q78 q2185 (by decide +kernel) dX5_lockedBy_3 rfl ⟨Nat.le_of_ble_eq_true rfl, Nat.le_of_ble_eq_true rfl⟩ (Nat.le_of_ble_eq_true rfl) ⟨Nat.le_of_ble_eq_true rfl, Nat.le_of_ble_eq_true rfl⟩) (fun y3 h3 hw => ?_)
  refine j_if_eq X (pc := 6) 13 dX5_lockedBy_6 (by decide) hw (fun hw => ?_) (fun hw => ?_)
  · refine j_aload_n X (pc := 13) 0 dX5_lockedBy_13 rfl rfl ?_
    refine j_getq (ci := 4) X (pc := 14) in_X5 rfl (by decide) 21 (by decide) q1893 (Or.inl rfl) dX5_lockedBy_14 hw (fun y14 hw => ?_)
    refine j_bipush X (pc := 17) 36 dX5_lockedBy_17 (by decide) ?_
    refine j_iload_n X (pc := 19) 2 dX5_lockedBy_19 rfl rfl ?_
    refine j_iadd X (pc := 20) dX5_lockedBy_20 ?_
    refine j_iald X (pc := 21) 0 rfl dX5_lockedBy_21 hw (fun y21 hw => ?_)
    exact j_iret X (pc := 22) hQ er (Nat.le_of_ble_eq_true rfl) (Nat.le_of_ble_eq_true rfl) dX5_lockedBy_22 hw
  · refine j_iconst X (pc := 9) 0 dX5_lockedBy_9 (by decide) ?_
    refine j_goto X (pc := 10) 22 dX5_lockedBy_10 (by decide) ?_
    exact j_iret X (pc := 22) hQ er (Nat.le_of_ble_eq_true rfl) (Nat.le_of_ble_eq_true rfl) dX5_lockedBy_22 hw
abbrev cX1_inside : ByteArray := prog_1_method_59_code
def yX1_inside : MethodName := ⟨RX1, "inside", "(II)I"⟩
def dkwX1_inside_3 : List UInt8 := [153, 0, 7, 4, 167, 0, 4, 3, 96, 54, 5, 167, 255, 206, 21, 5, 172]
abbrev dktX1_inside_3 : List UInt8 := dkwX1_inside_3 ++ []
def dkwX1_inside_2 : List UInt8 := [192, 0, 124, 58, 7, 21, 5, 25, 7, 25, 4, 165, 0, 18, 45, 25, 4, 25, 7, 182, 1, 121]
abbrev dktX1_inside_2 : List UInt8 := dkwX1_inside_2 ++ dktX1_inside_3
def dkwX1_inside_1 : List UInt8 := [185, 0, 173, 1, 0, 58, 6, 25, 6, 185, 0, 179, 1, 0, 153, 0, 46, 25, 6, 185, 0, 185, 1, 0]
abbrev dktX1_inside_1 : List UInt8 := dkwX1_inside_1 ++ dktX1_inside_2
def dkwX1_inside_0 : List UInt8 := [42, 27, 182, 0, 199, 78, 42, 45, 28, 182, 0, 241, 58, 4, 3, 54, 5, 45, 182, 0, 169]
abbrev dktX1_inside_0 : List UInt8 := dkwX1_inside_0 ++ dktX1_inside_1
theorem dksX1_inside_0 : cX1_inside.data.toList.drop 0 = dktX1_inside_0 := by decide +kernel
theorem dksX1_inside_1 : cX1_inside.data.toList.drop 21 = dktX1_inside_1 := dk_seg dksX1_inside_0 21 rfl rfl
theorem dksX1_inside_2 : cX1_inside.data.toList.drop 45 = dktX1_inside_2 := dk_seg dksX1_inside_1 24 rfl rfl
theorem dksX1_inside_3 : cX1_inside.data.toList.drop 67 = dktX1_inside_3 := dk_seg dksX1_inside_2 22 rfl rfl
theorem dX1_inside_0 : decode cX1_inside 0 = .ok (.aload_n 0, 1) := dk_42 (dk_at dksX1_inside_0 0 rfl rfl)
theorem dX1_inside_1 : decode cX1_inside 1 = .ok (.iload_n 1, 1) := dk_27 (dk_at dksX1_inside_0 1 rfl rfl)
theorem dX1_inside_2 : decode cX1_inside 2 = .ok (.invokevirtual 199, 3) := dk_182 0 199 (dk_at dksX1_inside_0 2 rfl rfl)
theorem dX1_inside_5 : decode cX1_inside 5 = .ok (.astore_n 3, 1) := dk_78 (dk_at dksX1_inside_0 5 rfl rfl)
theorem dX1_inside_6 : decode cX1_inside 6 = .ok (.aload_n 0, 1) := dk_42 (dk_at dksX1_inside_0 6 rfl rfl)
theorem dX1_inside_7 : decode cX1_inside 7 = .ok (.aload_n 3, 1) := dk_45 (dk_at dksX1_inside_0 7 rfl rfl)
theorem dX1_inside_8 : decode cX1_inside 8 = .ok (.iload_n 2, 1) := dk_28 (dk_at dksX1_inside_0 8 rfl rfl)
theorem dX1_inside_9 : decode cX1_inside 9 = .ok (.invokevirtual 241, 3) := dk_182 0 241 (dk_at dksX1_inside_0 9 rfl rfl)
theorem dX1_inside_12 : decode cX1_inside 12 = .ok (.astore 4, 2) := dk_58 4 (dk_at dksX1_inside_0 12 rfl rfl)
theorem dX1_inside_14 : decode cX1_inside 14 = .ok (.iconst 0, 1) := dk_3 (dk_at dksX1_inside_0 14 rfl rfl)
theorem dX1_inside_15 : decode cX1_inside 15 = .ok (.istore 5, 2) := dk_54 5 (dk_at dksX1_inside_0 15 rfl rfl)
theorem dX1_inside_17 : decode cX1_inside 17 = .ok (.aload_n 3, 1) := dk_45 (dk_at dksX1_inside_0 17 rfl rfl)
theorem dX1_inside_18 : decode cX1_inside 18 = .ok (.invokevirtual 169, 3) := dk_182 0 169 (dk_at dksX1_inside_0 18 rfl rfl)
theorem dX1_inside_21 : decode cX1_inside 21 = .ok (.invokeinterface 173 1, 5) := by decide +kernel
theorem dX1_inside_26 : decode cX1_inside 26 = .ok (.astore 6, 2) := dk_58 6 (dk_at dksX1_inside_1 5 rfl rfl)
theorem dX1_inside_28 : decode cX1_inside 28 = .ok (.aload 6, 2) := dk_25 6 (dk_at dksX1_inside_1 7 rfl rfl)
theorem dX1_inside_30 : decode cX1_inside 30 = .ok (.invokeinterface 179 1, 5) := by decide +kernel
theorem dX1_inside_35 : decode cX1_inside 35 = .ok (.ifCond .eq 46, 3) := dk_153 0 46 (dk_at dksX1_inside_1 14 rfl rfl)
theorem dX1_inside_38 : decode cX1_inside 38 = .ok (.aload 6, 2) := dk_25 6 (dk_at dksX1_inside_1 17 rfl rfl)
theorem dX1_inside_40 : decode cX1_inside 40 = .ok (.invokeinterface 185 1, 5) := by decide +kernel
theorem dX1_inside_45 : decode cX1_inside 45 = .ok (.checkcast 124, 3) := dk_192 0 124 (dk_at dksX1_inside_2 0 rfl rfl)
theorem dX1_inside_48 : decode cX1_inside 48 = .ok (.astore 7, 2) := dk_58 7 (dk_at dksX1_inside_2 3 rfl rfl)
theorem dX1_inside_50 : decode cX1_inside 50 = .ok (.iload 5, 2) := dk_21 5 (dk_at dksX1_inside_2 5 rfl rfl)
theorem dX1_inside_52 : decode cX1_inside 52 = .ok (.aload 7, 2) := dk_25 7 (dk_at dksX1_inside_2 7 rfl rfl)
theorem dX1_inside_54 : decode cX1_inside 54 = .ok (.aload 4, 2) := dk_25 4 (dk_at dksX1_inside_2 9 rfl rfl)
theorem dX1_inside_56 : decode cX1_inside 56 = .ok (.if_acmp .eq 18, 3) := dk_165 0 18 (dk_at dksX1_inside_2 11 rfl rfl)
theorem dX1_inside_59 : decode cX1_inside 59 = .ok (.aload_n 3, 1) := dk_45 (dk_at dksX1_inside_2 14 rfl rfl)
theorem dX1_inside_60 : decode cX1_inside 60 = .ok (.aload 4, 2) := dk_25 4 (dk_at dksX1_inside_2 15 rfl rfl)
theorem dX1_inside_62 : decode cX1_inside 62 = .ok (.aload 7, 2) := dk_25 7 (dk_at dksX1_inside_2 17 rfl rfl)
theorem dX1_inside_64 : decode cX1_inside 64 = .ok (.invokevirtual 377, 3) := dk_182 1 121 (dk_at dksX1_inside_2 19 rfl rfl)
theorem dX1_inside_67 : decode cX1_inside 67 = .ok (.ifCond .eq 7, 3) := dk_153 0 7 (dk_at dksX1_inside_3 0 rfl rfl)
theorem dX1_inside_70 : decode cX1_inside 70 = .ok (.iconst 1, 1) := dk_4 (dk_at dksX1_inside_3 3 rfl rfl)
theorem dX1_inside_71 : decode cX1_inside 71 = .ok (.goto 4, 3) := dk_167 0 4 (dk_at dksX1_inside_3 4 rfl rfl)
theorem dX1_inside_74 : decode cX1_inside 74 = .ok (.iconst 0, 1) := dk_3 (dk_at dksX1_inside_3 7 rfl rfl)
theorem dX1_inside_75 : decode cX1_inside 75 = .ok (.iadd, 1) := dk_96 (dk_at dksX1_inside_3 8 rfl rfl)
theorem dX1_inside_76 : decode cX1_inside 76 = .ok (.istore 5, 2) := dk_54 5 (dk_at dksX1_inside_3 9 rfl rfl)
theorem dX1_inside_78 : decode cX1_inside 78 = .ok (.goto (-50), 3) := dk_167 255 206 (dk_at dksX1_inside_3 11 rfl rfl)
theorem dX1_inside_81 : decode cX1_inside 81 = .ok (.iload 5, 2) := dk_21 5 (dk_at dksX1_inside_3 14 rfl rfl)
theorem dX1_inside_83 : decode cX1_inside 83 = .ok (.ireturn, 1) := dk_172 (dk_at dksX1_inside_3 16 rfl rfl)
theorem q1512 : (Jvm.Cond.methodLink "Plugboard" (377 : Nat) ({ cls := "Plugboard$Board", name := "covers", desc := "(LPlugboard$Shape;LPlugboard$Shape;)Z" } : Jvm.MethodName)) ∈ lw_all := lw_g (lw_at lw_m7 2 rfl) rfl
abbrev rm_X1_inside : Room := { frames := 9, cells := 5, slots := 16, locals := 146 }
def w_X1_inside_28 (P : Int32 → AH → Prop) (PX : String → AH → Prop) (x3 : Option Nat) (x4 : Option Nat) (x5 : Int32) (x6 : Option Nat) (h : AH) : Prop :=
  ∀ Z28 : Int32 → AH → Prop, (∀ x5 h, (
      is_c h x6 [6] (
      w_X7_hasNext x6 h (fun y30 h30 =>
      ((y30 = 0 →
        P x5 h30) ∧
       (¬ y30 = 0 →
        is_c h30 x6 [6] (
        w_X7_next x6 h30 (fun y40 h40 =>
        is_c h40 y40 [7, 8] (
        ((y40 = x4 →
          Z28 (x5 + 0) h40) ∧
         (¬ y40 = x4 →
          is_c h40 x3 [2] (
          w_X3_covers x3 x4 y40 h40 (fun y64 h64 =>
          ((y64 = 0 →
            Z28 (x5 + 0) h64) ∧
           (¬ y64 = 0 →
            Z28 (x5 + 1) h64))))))))))))))
      → Z28 x5 h) → Z28 x5 h
def w_X1_inside (a0 : Option Nat) (a1 : Int32) (a2 : Int32) (h : AH) (P : Int32 → AH → Prop) (PX : String → AH → Prop) : Prop :=
  is_c h a0 [0] (
  w_X1_board a0 a1 h (fun y2 h2 =>
  is_c h2 a0 [0] (
  w_X1_shape a0 y2 a2 h2 (fun y9 h9 =>
  is_c h9 y2 [2] (
  w_X3_seen y2 h9 (fun y18 h18 =>
  is_c h18 y18 [5] (
  w_X6_iterator y18 h18 (fun y21 h21 =>
  w_X1_inside_28 P PX y2 y9 0 y21 h21))))) PX)) PX)
theorem wk_X1_inside_28 {x : CX} (X : Ok x cX1_inside RX1 rm_X1_inside 8) (er : xrt x = (Option.some Jvm.ClassFile.FieldType.int)) (en : xnm x = yX1_inside.name) {P : Int32 → AH → Prop} {PX : String → AH → Prop} (hQ : xr_i x P) (hT : xt_ x PX) (hex : ∀ z ∈ x.2.2.2.2.2.2.2.2.2.1.exceptionTable.toList, False) (x3 : Option Nat) (x4 : Option Nat) (x5 : Int32) (x6 : Option Nat) (h : AH) (hw : w_X1_inside_28 P PX x3 x4 x5 x6 h) : J x h 5 16 28 [(3, vR x3), (4, vR x4), (5, vI x5), (6, vR x6)] [] := by
  refine hw (fun x5 h => J x h 5 16 28 [(3, vR x3), (4, vR x4), (5, vI x5), (6, vR x6)] []) (fun x5 h hw => ?_)
  refine j_aload X (pc := 28) 3 dX1_inside_28 rfl ?_
  obtain ⟨b9, c9, f9, hr9, ho9, hc9, hw⟩ := hw
  obtain rfl := List.mem_singleton.mp hc9
  refine j_call5i (j_runF (n8 := 0) (As := []) (rest := []) X (pc := 30) hr9 (met_X7_hasNext (xl x) X.hl (xG x) h x6 _ hw) ho9 (by decide) rfl q481 q485 q487 q85 q489 (fun U hU => kt_F2 hU) (by decide +kernel) dX1_inside_30 rfl ⟨Nat.le_of_ble_eq_true rfl, Nat.le_of_ble_eq_true rfl⟩ (Nat.le_of_ble_eq_true rfl) ⟨Nat.le_of_ble_eq_true rfl, Nat.le_of_ble_eq_true rfl⟩) (fun y30 h30 hw => ?_)
  refine j_if_eq X (pc := 35) 81 dX1_inside_35 (by decide) hw (fun hw => ?_) (fun hw => ?_)
  · refine j_iload X (pc := 81) 2 dX1_inside_81 rfl ?_
    exact j_iret X (pc := 83) hQ er (Nat.le_of_ble_eq_true rfl) (Nat.le_of_ble_eq_true rfl) dX1_inside_83 hw
  · refine j_aload X (pc := 38) 3 dX1_inside_38 rfl ?_
    obtain ⟨b9, c9, f9, hr9, ho9, hc9, hw⟩ := hw
    obtain rfl := List.mem_singleton.mp hc9
    refine j_call5q (j_runF (n8 := 0) (As := []) (rest := []) X (pc := 40) hr9 (met_X7_next (xl x) X.hl (xG x) h30 x6 _ hw) ho9 (by decide) rfl q499 q502 q504 q85 q506 (fun U hU => kt_F3 hU) (by decide +kernel) dX1_inside_40 rfl ⟨Nat.le_of_ble_eq_true rfl, Nat.le_of_ble_eq_true rfl⟩ (Nat.le_of_ble_eq_true rfl) ⟨Nat.le_of_ble_eq_true rfl, Nat.le_of_ble_eq_true rfl⟩) (fun y40 h40 hw => ?_)
    refine j_chk X (pc := 45) (L := [7, 8]) q550 (by intro ci hci; simp only [List.mem_cons, List.not_mem_nil, or_false] at hci; rcases hci with rfl | rfl <;> first | exact ⟨by decide, _, _, _, rfl, Or.inr q2343⟩ | exact ⟨by decide, _, _, _, rfl, Or.inr q2344⟩) dX1_inside_45 hw (fun hw => ?_)
    refine j_astore X (pc := 48) [(7, vR y40), (3, vR x3), (4, vR x4), (5, vI x5), (6, vR x6)] dX1_inside_48 (Nat.le_of_ble_eq_true rfl) rfl ?_
    refine j_iload X (pc := 50) 3 dX1_inside_50 rfl ?_
    refine j_aload X (pc := 52) 0 dX1_inside_52 rfl ?_
    refine j_aload X (pc := 54) 2 dX1_inside_54 rfl ?_
    refine j_acmp_eq X (pc := 56) 74 dX1_inside_56 (by decide) hw (fun hw => ?_) (fun hw => ?_)
    · refine j_iconst X (pc := 74) 0 dX1_inside_74 (by decide) ?_
      refine j_iadd X (pc := 75) dX1_inside_75 ?_
      refine j_istore X (pc := 76) [(5, vI (x5 + 0)), (7, vR y40), (3, vR x3), (4, vR x4), (6, vR x6)] dX1_inside_76 (Nat.le_of_ble_eq_true rfl) rfl ?_
      refine j_goto X (pc := 78) 28 dX1_inside_78 (by decide) ?_
      refine j_lv [(3, vR x3), (4, vR x4), (5, vI (x5 + 0)), (6, vR x6)] [2, 3, 0, 4] rfl ?_
      refine j_cs (u' := 5) (v' := 16) (Nat.le_of_ble_eq_true rfl) (Nat.le_of_ble_eq_true rfl) ?_
      exact hw
    · refine j_aload_n X (pc := 59) 1 dX1_inside_59 rfl rfl ?_
      refine j_aload X (pc := 60) 2 dX1_inside_60 rfl ?_
      refine j_aload X (pc := 62) 0 dX1_inside_62 rfl ?_
      obtain ⟨b9, c9, f9, hr9, ho9, hc9, hw⟩ := hw
      obtain rfl := List.mem_singleton.mp hc9
      refine j_calli (j_runV (n8 := 2) (As := [vR x4, vR y40]) (rest := [vI x5]) X (pc := 64) hr9 (met_X3_covers (xl x) X.hl (xG x) h40 x3 x4 y40 _ hw) ho9 (by decide) rfl q1512 q1147 q1148 q76 q1149 (by decide +kernel) dX1_inside_64 rfl ⟨Nat.le_of_ble_eq_true rfl, Nat.le_of_ble_eq_true rfl⟩ (Nat.le_of_ble_eq_true rfl) ⟨Nat.le_of_ble_eq_true rfl, Nat.le_of_ble_eq_true rfl⟩) (fun y64 h64 hw => ?_)
      refine j_if_eq X (pc := 67) 74 dX1_inside_67 (by decide) hw (fun hw => ?_) (fun hw => ?_)
      · refine j_iconst X (pc := 74) 0 dX1_inside_74 (by decide) ?_
        refine j_iadd X (pc := 75) dX1_inside_75 ?_
        refine j_istore X (pc := 76) [(5, vI (x5 + 0)), (7, vR y40), (3, vR x3), (4, vR x4), (6, vR x6)] dX1_inside_76 (Nat.le_of_ble_eq_true rfl) rfl ?_
        refine j_goto X (pc := 78) 28 dX1_inside_78 (by decide) ?_
        refine j_lv [(3, vR x3), (4, vR x4), (5, vI (x5 + 0)), (6, vR x6)] [2, 3, 0, 4] rfl ?_
        refine j_cs (u' := 5) (v' := 16) (Nat.le_of_ble_eq_true rfl) (Nat.le_of_ble_eq_true rfl) ?_
        exact hw
      · refine j_iconst X (pc := 70) 1 dX1_inside_70 (by decide) ?_
        refine j_goto X (pc := 71) 75 dX1_inside_71 (by decide) ?_
        refine j_iadd X (pc := 75) dX1_inside_75 ?_
        refine j_istore X (pc := 76) [(5, vI (x5 + 1)), (7, vR y40), (3, vR x3), (4, vR x4), (6, vR x6)] dX1_inside_76 (Nat.le_of_ble_eq_true rfl) rfl ?_
        refine j_goto X (pc := 78) 28 dX1_inside_78 (by decide) ?_
        refine j_lv [(3, vR x3), (4, vR x4), (5, vI (x5 + 1)), (6, vR x6)] [2, 3, 0, 4] rfl ?_
        refine j_cs (u' := 5) (v' := 16) (Nat.le_of_ble_eq_true rfl) (Nat.le_of_ble_eq_true rfl) ?_
        exact hw
theorem met_X1_inside (l : Launch) (hlt : l.stackTraces = false) (G : GG) (h : AH) (a0 : Option Nat) (a1 : Int32) (a2 : Int32) (P : Int32 → AH → Prop) (PX : String → AH → Prop) (hw : w_X1_inside a0 a1 a2 h P PX) : cx_i l yX1_inside (ws_ yX1_inside cX1_inside 8 (Option.some Jvm.ClassFile.FieldType.int)) rm_X1_inside G h [vR a0, vI a1, vI a2] P PX := by
  refine j_startXi hlt [(0, vR a0), (1, vI a1), (2, vI a2)] (by decide) rfl rfl (fun x X eG er en hQ hT hex => ?_)
  subst eG
  refine j_aload_n X (pc := 0) 0 dX1_inside_0 rfl rfl ?_
  refine j_iload_n X (pc := 1) 1 dX1_inside_1 rfl rfl ?_
  obtain ⟨b9, c9, f9, hr9, ho9, hc9, hw⟩ := hw
  obtain rfl := List.mem_singleton.mp hc9
  refine j_callXq (j_runVX (n8 := 1) (As := [vI a1]) (rest := []) X (pc := 2) hr9 (met_X1_board (xl x) X.hl (xG x) h a0 a1 _ _ hw) ho9 (by decide) rfl q297 q299 qs0 q71 q300 (by decide +kernel) dX1_inside_2 rfl ⟨Nat.le_of_ble_eq_true rfl, Nat.le_of_ble_eq_true rfl⟩ (Nat.le_of_ble_eq_true rfl) ⟨Nat.le_of_ble_eq_true rfl, Nat.le_of_ble_eq_true rfl⟩) (fun E h9 hx => j_out X hT hex (Nat.le_of_ble_eq_true rfl) (Nat.le_of_ble_eq_true rfl) hx) (fun y2 h2 hw => ?_)
  refine j_astore_n X (pc := 5) [(3, vR y2), (0, vR a0), (1, vI a1), (2, vI a2)] dX1_inside_5 rfl (Nat.le_of_ble_eq_true rfl) rfl ?_
  refine j_aload_n X (pc := 6) 1 dX1_inside_6 rfl rfl ?_
  refine j_aload_n X (pc := 7) 0 dX1_inside_7 rfl rfl ?_
  refine j_iload_n X (pc := 8) 3 dX1_inside_8 rfl rfl ?_
  obtain ⟨b9, c9, f9, hr9, ho9, hc9, hw⟩ := hw
  obtain rfl := List.mem_singleton.mp hc9
  refine j_callXq (j_runVX (n8 := 2) (As := [vR y2, vI a2]) (rest := []) X (pc := 9) hr9 (met_X1_shape (xl x) X.hl (xG x) h2 a0 y2 a2 _ _ hw) ho9 (by decide) rfl q1075 q1077 qs9 q71 q1078 (by decide +kernel) dX1_inside_9 rfl ⟨Nat.le_of_ble_eq_true rfl, Nat.le_of_ble_eq_true rfl⟩ (Nat.le_of_ble_eq_true rfl) ⟨Nat.le_of_ble_eq_true rfl, Nat.le_of_ble_eq_true rfl⟩) (fun E h9 hx => j_out X hT hex (Nat.le_of_ble_eq_true rfl) (Nat.le_of_ble_eq_true rfl) hx) (fun y9 h9 hw => ?_)
  refine j_astore X (pc := 12) [(4, vR y9), (3, vR y2), (0, vR a0), (1, vI a1), (2, vI a2)] dX1_inside_12 (Nat.le_of_ble_eq_true rfl) rfl ?_
  refine j_iconst X (pc := 14) 0 dX1_inside_14 (by decide) ?_
  refine j_istore X (pc := 15) [(5, vI 0), (4, vR y9), (3, vR y2), (0, vR a0), (1, vI a1), (2, vI a2)] dX1_inside_15 (Nat.le_of_ble_eq_true rfl) rfl ?_
  refine j_aload_n X (pc := 17) 2 dX1_inside_17 rfl rfl ?_
  obtain ⟨b9, c9, f9, hr9, ho9, hc9, hw⟩ := hw
  obtain rfl := List.mem_singleton.mp hc9
  refine j_callq (j_runV (n8 := 0) (As := []) (rest := []) X (pc := 18) hr9 (met_X3_seen (xl x) X.hl (xG x) h9 y2 _ hw) ho9 (by decide) rfl q418 q419 q420 q76 q421 (by decide +kernel) dX1_inside_18 rfl ⟨Nat.le_of_ble_eq_true rfl, Nat.le_of_ble_eq_true rfl⟩ (Nat.le_of_ble_eq_true rfl) ⟨Nat.le_of_ble_eq_true rfl, Nat.le_of_ble_eq_true rfl⟩) (fun y18 h18 hw => ?_)
  obtain ⟨b9, c9, f9, hr9, ho9, hc9, hw⟩ := hw
  obtain rfl := List.mem_singleton.mp hc9
  refine j_call5q (j_runF (n8 := 0) (As := []) (rest := []) X (pc := 21) hr9 (met_X6_iterator (xl x) X.hl (xG x) h18 y18 _ hw) ho9 (by decide) rfl q433 q437 q439 q84 q441 (fun U hU => kt_F1 hU) (by decide +kernel) dX1_inside_21 rfl ⟨Nat.le_of_ble_eq_true rfl, Nat.le_of_ble_eq_true rfl⟩ (Nat.le_of_ble_eq_true rfl) ⟨Nat.le_of_ble_eq_true rfl, Nat.le_of_ble_eq_true rfl⟩) (fun y21 h21 hw => ?_)
  refine j_astore X (pc := 26) [(6, vR y21), (5, vI 0), (4, vR y9), (3, vR y2), (0, vR a0), (1, vI a1), (2, vI a2)] dX1_inside_26 (Nat.le_of_ble_eq_true rfl) rfl ?_
  refine j_lv [(3, vR y2), (4, vR y9), (5, vI 0), (6, vR y21)] [3, 2, 1, 0] rfl ?_
  refine j_cs (u' := 5) (v' := 16) (Nat.le_of_ble_eq_true rfl) (Nat.le_of_ble_eq_true rfl) ?_
  exact wk_X1_inside_28 X er en hQ hT hex y2 y9 0 y21 h21 hw
abbrev cX0_inside : ByteArray := method_32_code
def yX0_inside : MethodName := ⟨RX0, "inside", "(LPlugboard;II[J)I"⟩
def dkwX0_inside_0 : List UInt8 := [45, 3, 42, 27, 28, 182, 0, 115, 133, 80, 167, 0, 11, 58, 4, 4, 172, 58, 4, 5, 172, 3, 172]
abbrev dktX0_inside_0 : List UInt8 := dkwX0_inside_0 ++ []
theorem dksX0_inside_0 : cX0_inside.data.toList.drop 0 = dktX0_inside_0 := by decide +kernel
theorem dX0_inside_0 : decode cX0_inside 0 = .ok (.aload_n 3, 1) := dk_45 (dk_at dksX0_inside_0 0 rfl rfl)
theorem dX0_inside_1 : decode cX0_inside 1 = .ok (.iconst 0, 1) := dk_3 (dk_at dksX0_inside_0 1 rfl rfl)
theorem dX0_inside_2 : decode cX0_inside 2 = .ok (.aload_n 0, 1) := dk_42 (dk_at dksX0_inside_0 2 rfl rfl)
theorem dX0_inside_3 : decode cX0_inside 3 = .ok (.iload_n 1, 1) := dk_27 (dk_at dksX0_inside_0 3 rfl rfl)
theorem dX0_inside_4 : decode cX0_inside 4 = .ok (.iload_n 2, 1) := dk_28 (dk_at dksX0_inside_0 4 rfl rfl)
theorem dX0_inside_5 : decode cX0_inside 5 = .ok (.invokevirtual 115, 3) := dk_182 0 115 (dk_at dksX0_inside_0 5 rfl rfl)
theorem dX0_inside_8 : decode cX0_inside 8 = .ok (.i2l, 1) := dk_133 (dk_at dksX0_inside_0 8 rfl rfl)
theorem dX0_inside_9 : decode cX0_inside 9 = .ok (.lastore, 1) := dk_80 (dk_at dksX0_inside_0 9 rfl rfl)
theorem dX0_inside_10 : decode cX0_inside 10 = .ok (.goto 11, 3) := dk_167 0 11 (dk_at dksX0_inside_0 10 rfl rfl)
theorem dX0_inside_13 : decode cX0_inside 13 = .ok (.astore 4, 2) := dk_58 4 (dk_at dksX0_inside_0 13 rfl rfl)
theorem dX0_inside_15 : decode cX0_inside 15 = .ok (.iconst 1, 1) := dk_4 (dk_at dksX0_inside_0 15 rfl rfl)
theorem dX0_inside_16 : decode cX0_inside 16 = .ok (.ireturn, 1) := dk_172 (dk_at dksX0_inside_0 16 rfl rfl)
theorem dX0_inside_17 : decode cX0_inside 17 = .ok (.astore 4, 2) := dk_58 4 (dk_at dksX0_inside_0 17 rfl rfl)
theorem dX0_inside_19 : decode cX0_inside 19 = .ok (.iconst 2, 1) := dk_5 (dk_at dksX0_inside_0 19 rfl rfl)
theorem dX0_inside_20 : decode cX0_inside 20 = .ok (.ireturn, 1) := dk_172 (dk_at dksX0_inside_0 20 rfl rfl)
theorem dX0_inside_21 : decode cX0_inside 21 = .ok (.iconst 0, 1) := dk_3 (dk_at dksX0_inside_0 21 rfl rfl)
theorem dX0_inside_22 : decode cX0_inside 22 = .ok (.ireturn, 1) := dk_172 (dk_at dksX0_inside_0 22 rfl rfl)
theorem q1508 : (Jvm.Cond.methodLink "PlugboardLaw" (115 : Nat) ({ cls := "Plugboard", name := "inside", desc := "(II)I" } : Jvm.MethodName)) ∈ lw_all := lw_g (lw_at lw_m6 238 rfl) rfl
theorem q1509 : (Jvm.Cond.instanceMethod ({ cls := "Plugboard", name := "inside", desc := "(II)I" } : Jvm.MethodName)) ∈ lw_all := lw_g (lw_at lw_m6 239 rfl) rfl
theorem q1510 : (Jvm.Cond.selects "Plugboard" ({ cls := "Plugboard", name := "inside", desc := "(II)I" } : Jvm.MethodName) ({ cls := "Plugboard", name := "inside", desc := "(II)I" } : Jvm.MethodName)) ∈ lw_all := lw_g (lw_at lw_m7 0 rfl) rfl
theorem q1511 : (Jvm.Cond.code ({ cls := "Plugboard", name := "inside", desc := "(II)I" } : Jvm.MethodName) prog_1_method_59_code (8 : Nat) (Option.some Jvm.ClassFile.FieldType.int)) ∈ lw_all := lw_g (lw_at lw_m7 1 rfl) rfl
abbrev rm_X0_inside : Room := { frames := 10, cells := 5, slots := 16, locals := 173 }
def w_X0_inside (a0 : Option Nat) (a1 : Int32) (a2 : Int32) (a3 : Option Nat) (h : AH) (P : Int32 → AH → Prop) : Prop :=
  is_c h a0 [0] (
  w_X1_inside a0 a1 a2 h (fun y5 h5 =>
  s_L h5 a3 0 (Int32.toInt64 y5) fun h9 =>
  P 0 h9)
    (fun E9 h9 => (E9 = "java/lang/IllegalArgumentException" ∧ ∀ q9 : Nat,
    P 1 h9) ∨
    (E9 = "java/util/NoSuchElementException" ∧ ∀ q9 : Nat,
    P 2 h9)))
theorem met_X0_inside (l : Launch) (hlt : l.stackTraces = false) (G : GG) (h : AH) (a0 : Option Nat) (a1 : Int32) (a2 : Int32) (a3 : Option Nat) (P : Int32 → AH → Prop) (hw : w_X0_inside a0 a1 a2 a3 h P) : ct_i l yX0_inside (wsW_ yX0_inside cX0_inside 5 (Option.some Jvm.ClassFile.FieldType.int) [((0 : Nat), (10 : Nat), (13 : Nat), (13 : Nat)), ((0 : Nat), (10 : Nat), (17 : Nat), (21 : Nat))]) rm_X0_inside G h [vR a0, vI a1, vI a2, vR a3] P := by
  refine j_startWi hlt [(0, vR a0), (1, vI a1), (2, vI a2), (3, vR a3)] (by decide) rfl rfl (fun x X eG er en hQ hex => ?_)
  subst eG
  refine j_aload_n X (pc := 0) 3 dX0_inside_0 rfl rfl ?_
  refine j_iconst X (pc := 1) 0 dX0_inside_1 (by decide) ?_
  refine j_aload_n X (pc := 2) 0 dX0_inside_2 rfl rfl ?_
  refine j_iload_n X (pc := 3) 1 dX0_inside_3 rfl rfl ?_
  refine j_iload_n X (pc := 4) 2 dX0_inside_4 rfl rfl ?_
  obtain ⟨b9, c9, f9, hr9, ho9, hc9, hw⟩ := hw
  obtain rfl := List.mem_singleton.mp hc9
  refine j_callXi (j_runVX (n8 := 2) (As := [vI a1, vI a2]) (rest := [vI 0, vR a3]) X (pc := 5) hr9 (met_X1_inside (xl x) X.hl (xG x) h a0 a1 a2 _ _ hw) ho9 (by decide) rfl q1508 q1509 q1510 q71 q1511 (by decide +kernel) dX0_inside_5 rfl ⟨Nat.le_of_ble_eq_true rfl, Nat.le_of_ble_eq_true rfl⟩ (Nat.le_of_ble_eq_true rfl) ⟨Nat.le_of_ble_eq_true rfl, Nat.le_of_ble_eq_true rfl⟩) ?_ (fun y5 h5 hw => ?_)
  · intro E9 h9 hx
    rcases hx with ⟨rfl, hw⟩ | ⟨rfl, hw⟩
    · refine j_catch X (pc := 5) "java/lang/IllegalArgumentException" hex [] [⟨0, 10, 17, 21⟩] ⟨0, 10, 13, 13⟩ rfl (by intro y hy; cases hy) (by decide) (by decide) q291 q312 (fun q9 => ?_)
      have hw := hw q9
      refine j_astore X (pc := 13) [(4, vR (some q9)), (0, vR a0), (1, vI a1), (2, vI a2), (3, vR a3)] dX0_inside_13 (Nat.le_of_ble_eq_true rfl) rfl ?_
      refine j_iconst X (pc := 15) 1 dX0_inside_15 (by decide) ?_
      exact j_iret X (pc := 16) hQ er (Nat.le_of_ble_eq_true rfl) (Nat.le_of_ble_eq_true rfl) dX0_inside_16 hw
    · refine j_catch X (pc := 5) "java/util/NoSuchElementException" hex [⟨0, 10, 13, 13⟩] [] ⟨0, 10, 17, 21⟩ rfl (by intro y hy; simp only [List.mem_cons, List.not_mem_nil, or_false] at hy; subst hy; exact Or.inr ⟨by decide, "java/lang/IllegalArgumentException", q291, by decide +kernel⟩) (by decide) (by decide) q1068 q537 (fun q9 => ?_)
      have hw := hw q9
      refine j_astore X (pc := 17) [(4, vR (some q9)), (0, vR a0), (1, vI a1), (2, vI a2), (3, vR a3)] dX0_inside_17 (Nat.le_of_ble_eq_true rfl) rfl ?_
      refine j_iconst X (pc := 19) 2 dX0_inside_19 (by decide) ?_
      exact j_iret X (pc := 20) hQ er (Nat.le_of_ble_eq_true rfl) (Nat.le_of_ble_eq_true rfl) dX0_inside_20 hw
  refine j_i2l X (pc := 8) dX0_inside_8 ?_
  refine j_last X (pc := 9) dX0_inside_9 hw (fun h9 hw => ?_)
  refine j_goto X (pc := 10) 21 dX0_inside_10 (by decide) ?_
  refine j_iconst X (pc := 21) 0 dX0_inside_21 (by decide) ?_
  exact j_iret X (pc := 22) hQ er (Nat.le_of_ble_eq_true rfl) (Nat.le_of_ble_eq_true rfl) dX0_inside_22 hw
abbrev cX5_inside : ByteArray := prog_19_method_65_code
def yX5_inside : MethodName := ⟨RX5, "inside", "(II)I"⟩
def dkwX5_inside_2 : List UInt8 := [182, 0, 196, 153, 0, 7, 4, 167, 0, 4, 3, 96, 62, 132, 4, 1, 167, 255, 211, 29, 172]
abbrev dktX5_inside_2 : List UInt8 := dkwX5_inside_2 ++ []
def dkwX5_inside_1 : List UInt8 := [162, 0, 42, 29, 21, 4, 28, 159, 0, 26, 42, 21, 4, 182, 0, 125, 153, 0, 17, 42, 21, 4, 28]
abbrev dktX5_inside_1 : List UInt8 := dkwX5_inside_1 ++ dktX5_inside_2
def dkwX5_inside_0 : List UInt8 := [42, 27, 28, 182, 0, 231, 153, 0, 5, 3, 172, 3, 62, 3, 54, 4, 21, 4, 42, 180, 0, 119]
abbrev dktX5_inside_0 : List UInt8 := dkwX5_inside_0 ++ dktX5_inside_1
theorem dksX5_inside_0 : cX5_inside.data.toList.drop 0 = dktX5_inside_0 := by decide +kernel
theorem dksX5_inside_1 : cX5_inside.data.toList.drop 22 = dktX5_inside_1 := dk_seg dksX5_inside_0 22 rfl rfl
theorem dksX5_inside_2 : cX5_inside.data.toList.drop 45 = dktX5_inside_2 := dk_seg dksX5_inside_1 23 rfl rfl
theorem dX5_inside_0 : decode cX5_inside 0 = .ok (.aload_n 0, 1) := dk_42 (dk_at dksX5_inside_0 0 rfl rfl)
theorem dX5_inside_1 : decode cX5_inside 1 = .ok (.iload_n 1, 1) := dk_27 (dk_at dksX5_inside_0 1 rfl rfl)
theorem dX5_inside_2 : decode cX5_inside 2 = .ok (.iload_n 2, 1) := dk_28 (dk_at dksX5_inside_0 2 rfl rfl)
theorem dX5_inside_3 : decode cX5_inside 3 = .ok (.invokevirtual 231, 3) := dk_182 0 231 (dk_at dksX5_inside_0 3 rfl rfl)
theorem dX5_inside_6 : decode cX5_inside 6 = .ok (.ifCond .eq 5, 3) := dk_153 0 5 (dk_at dksX5_inside_0 6 rfl rfl)
theorem dX5_inside_9 : decode cX5_inside 9 = .ok (.iconst 0, 1) := dk_3 (dk_at dksX5_inside_0 9 rfl rfl)
theorem dX5_inside_10 : decode cX5_inside 10 = .ok (.ireturn, 1) := dk_172 (dk_at dksX5_inside_0 10 rfl rfl)
theorem dX5_inside_11 : decode cX5_inside 11 = .ok (.iconst 0, 1) := dk_3 (dk_at dksX5_inside_0 11 rfl rfl)
theorem dX5_inside_12 : decode cX5_inside 12 = .ok (.istore_n 3, 1) := dk_62 (dk_at dksX5_inside_0 12 rfl rfl)
theorem dX5_inside_13 : decode cX5_inside 13 = .ok (.iconst 0, 1) := dk_3 (dk_at dksX5_inside_0 13 rfl rfl)
theorem dX5_inside_14 : decode cX5_inside 14 = .ok (.istore 4, 2) := dk_54 4 (dk_at dksX5_inside_0 14 rfl rfl)
theorem dX5_inside_16 : decode cX5_inside 16 = .ok (.iload 4, 2) := dk_21 4 (dk_at dksX5_inside_0 16 rfl rfl)
theorem dX5_inside_18 : decode cX5_inside 18 = .ok (.aload_n 0, 1) := dk_42 (dk_at dksX5_inside_0 18 rfl rfl)
theorem dX5_inside_19 : decode cX5_inside 19 = .ok (.getfield 119, 3) := dk_180 0 119 (dk_at dksX5_inside_0 19 rfl rfl)
theorem dX5_inside_22 : decode cX5_inside 22 = .ok (.if_icmp .ge 42, 3) := dk_162 0 42 (dk_at dksX5_inside_1 0 rfl rfl)
theorem dX5_inside_25 : decode cX5_inside 25 = .ok (.iload_n 3, 1) := dk_29 (dk_at dksX5_inside_1 3 rfl rfl)
theorem dX5_inside_26 : decode cX5_inside 26 = .ok (.iload 4, 2) := dk_21 4 (dk_at dksX5_inside_1 4 rfl rfl)
theorem dX5_inside_28 : decode cX5_inside 28 = .ok (.iload_n 2, 1) := dk_28 (dk_at dksX5_inside_1 6 rfl rfl)
theorem dX5_inside_29 : decode cX5_inside 29 = .ok (.if_icmp .eq 26, 3) := dk_159 0 26 (dk_at dksX5_inside_1 7 rfl rfl)
theorem dX5_inside_32 : decode cX5_inside 32 = .ok (.aload_n 0, 1) := dk_42 (dk_at dksX5_inside_1 10 rfl rfl)
theorem dX5_inside_33 : decode cX5_inside 33 = .ok (.iload 4, 2) := dk_21 4 (dk_at dksX5_inside_1 11 rfl rfl)
theorem dX5_inside_35 : decode cX5_inside 35 = .ok (.invokevirtual 125, 3) := dk_182 0 125 (dk_at dksX5_inside_1 13 rfl rfl)
theorem dX5_inside_38 : decode cX5_inside 38 = .ok (.ifCond .eq 17, 3) := dk_153 0 17 (dk_at dksX5_inside_1 16 rfl rfl)
theorem dX5_inside_41 : decode cX5_inside 41 = .ok (.aload_n 0, 1) := dk_42 (dk_at dksX5_inside_1 19 rfl rfl)
theorem dX5_inside_42 : decode cX5_inside 42 = .ok (.iload 4, 2) := dk_21 4 (dk_at dksX5_inside_1 20 rfl rfl)
theorem dX5_inside_44 : decode cX5_inside 44 = .ok (.iload_n 2, 1) := dk_28 (dk_at dksX5_inside_1 22 rfl rfl)
theorem dX5_inside_45 : decode cX5_inside 45 = .ok (.invokevirtual 196, 3) := dk_182 0 196 (dk_at dksX5_inside_2 0 rfl rfl)
theorem dX5_inside_48 : decode cX5_inside 48 = .ok (.ifCond .eq 7, 3) := dk_153 0 7 (dk_at dksX5_inside_2 3 rfl rfl)
theorem dX5_inside_51 : decode cX5_inside 51 = .ok (.iconst 1, 1) := dk_4 (dk_at dksX5_inside_2 6 rfl rfl)
theorem dX5_inside_52 : decode cX5_inside 52 = .ok (.goto 4, 3) := dk_167 0 4 (dk_at dksX5_inside_2 7 rfl rfl)
theorem dX5_inside_55 : decode cX5_inside 55 = .ok (.iconst 0, 1) := dk_3 (dk_at dksX5_inside_2 10 rfl rfl)
theorem dX5_inside_56 : decode cX5_inside 56 = .ok (.iadd, 1) := dk_96 (dk_at dksX5_inside_2 11 rfl rfl)
theorem dX5_inside_57 : decode cX5_inside 57 = .ok (.istore_n 3, 1) := dk_62 (dk_at dksX5_inside_2 12 rfl rfl)
theorem dX5_inside_58 : decode cX5_inside 58 = .ok (.iinc 4 1, 3) := dk_132 4 1 (dk_at dksX5_inside_2 13 rfl rfl)
theorem dX5_inside_61 : decode cX5_inside 61 = .ok (.goto (-45), 3) := dk_167 255 211 (dk_at dksX5_inside_2 16 rfl rfl)
theorem dX5_inside_64 : decode cX5_inside 64 = .ok (.iload_n 3, 1) := dk_29 (dk_at dksX5_inside_2 19 rfl rfl)
theorem dX5_inside_65 : decode cX5_inside 65 = .ok (.ireturn, 1) := dk_172 (dk_at dksX5_inside_2 20 rfl rfl)
abbrev rm_X5_inside : Room := { frames := 5, cells := 0, slots := 0, locals := 109 }
def w_X5_inside_16 (P : Int32 → AH → Prop) (x0 : Option Nat) (x2 : Int32) (x3 : Int32) (x4 : Int32) (h : AH) : Prop :=
  ∀ Z16 : Int32 → Int32 → AH → Prop, (∀ x3 x4 h, (
      g_i h x0 4 8 fun y19 =>
      ((y19 ≤ x4 →
        P x3 h) ∧
       (¬ y19 ≤ x4 →
        ((x4 = x2 →
          Z16 (x3 + 0) (x4 + 1) h) ∧
         (¬ x4 = x2 →
          is_c h x0 [4] (
          w_X5_isSeen x0 x4 h (fun y35 h35 =>
          ((y35 = 0 →
            Z16 (x3 + 0) (x4 + 1) h35) ∧
           (¬ y35 = 0 →
            is_c h35 x0 [4] (
            w_X5_isInside x0 x4 x2 h35 (fun y45 h45 =>
            ((y45 = 0 →
              Z16 (x3 + 0) (x4 + 1) h45) ∧
             (¬ y45 = 0 →
              Z16 (x3 + 1) (x4 + 1) h45)))))))))))))
      → Z16 x3 x4 h) → Z16 x3 x4 h
def w_X5_inside (a0 : Option Nat) (a1 : Int32) (a2 : Int32) (h : AH) (P : Int32 → AH → Prop) : Prop :=
  is_c h a0 [4] (
  w_X5_isUnseen a0 a1 a2 h (fun y3 h3 =>
  ((y3 = 0 →
    w_X5_inside_16 P a0 a2 0 0 h3) ∧
   (¬ y3 = 0 →
    P 0 h3))))
theorem wk_X5_inside_16 {x : CX} (X : Ok x cX5_inside RX5 rm_X5_inside 5) (er : xrt x = (Option.some Jvm.ClassFile.FieldType.int)) (en : xnm x = yX5_inside.name) {P : Int32 → AH → Prop} (hQ : xr_i x P) (x0 : Option Nat) (x2 : Int32) (x3 : Int32) (x4 : Int32) (h : AH) (hw : w_X5_inside_16 P x0 x2 x3 x4 h) : J x h 0 0 16 [(0, vR x0), (2, vI x2), (3, vI x3), (4, vI x4)] [] := by
  refine hw (fun x3 x4 h => J x h 0 0 16 [(0, vR x0), (2, vI x2), (3, vI x3), (4, vI x4)] []) (fun x3 x4 h hw => ?_)
  refine j_iload X (pc := 16) 3 dX5_inside_16 rfl ?_
  refine j_aload_n X (pc := 18) 0 dX5_inside_18 rfl rfl ?_
  refine j_geti (ci := 4) X (pc := 19) in_X5 rfl (by decide) 8 (by decide) q1880 (Or.inl rfl) dX5_inside_19 hw (fun y19 hw => ?_)
  refine j_icmp_ge X (pc := 22) 64 dX5_inside_22 (by decide) hw (fun hw => ?_) (fun hw => ?_)
  · refine j_iload_n X (pc := 64) 2 dX5_inside_64 rfl rfl ?_
    exact j_iret X (pc := 65) hQ er (Nat.le_of_ble_eq_true rfl) (Nat.le_of_ble_eq_true rfl) dX5_inside_65 hw
  · refine j_iload_n X (pc := 25) 2 dX5_inside_25 rfl rfl ?_
    refine j_iload X (pc := 26) 3 dX5_inside_26 rfl ?_
    refine j_iload_n X (pc := 28) 1 dX5_inside_28 rfl rfl ?_
    refine j_icmp_eq X (pc := 29) 55 dX5_inside_29 (by decide) hw (fun hw => ?_) (fun hw => ?_)
    · refine j_iconst X (pc := 55) 0 dX5_inside_55 (by decide) ?_
      refine j_iadd X (pc := 56) dX5_inside_56 ?_
      refine j_istore_n X (pc := 57) [(3, vI (x3 + 0)), (0, vR x0), (2, vI x2), (4, vI x4)] dX5_inside_57 rfl (Nat.le_of_ble_eq_true rfl) rfl ?_
      refine j_iinc X (pc := 58) 3 (x4 + 1) [(4, vI (x4 + 1)), (3, vI (x3 + 0)), (0, vR x0), (2, vI x2)] dX5_inside_58 rfl rfl (Nat.le_of_ble_eq_true rfl) rfl ?_
      refine j_goto X (pc := 61) 16 dX5_inside_61 (by decide) ?_
      refine j_lv [(0, vR x0), (2, vI x2), (3, vI (x3 + 0)), (4, vI (x4 + 1))] [2, 3, 1, 0] rfl ?_
      refine j_cs (u' := 0) (v' := 0) (Nat.le_of_ble_eq_true rfl) (Nat.le_of_ble_eq_true rfl) ?_
      exact hw
    · refine j_aload_n X (pc := 32) 0 dX5_inside_32 rfl rfl ?_
      refine j_iload X (pc := 33) 3 dX5_inside_33 rfl ?_
      obtain ⟨b9, c9, f9, hr9, ho9, hc9, hw⟩ := hw
      obtain rfl := List.mem_singleton.mp hc9
      refine j_calli (j_runV (n8 := 1) (As := [vI x4]) (rest := [vI x3]) X (pc := 35) hr9 (met_X5_isSeen (xl x) X.hl (xG x) h x0 x4 _ hw) ho9 (by decide) rfl q2012 q2014 qs39 q78 q2015 (by decide +kernel) dX5_inside_35 rfl ⟨Nat.le_of_ble_eq_true rfl, Nat.le_of_ble_eq_true rfl⟩ (Nat.le_of_ble_eq_true rfl) ⟨Nat.le_of_ble_eq_true rfl, Nat.le_of_ble_eq_true rfl⟩) (fun y35 h35 hw => ?_)
      refine j_if_eq X (pc := 38) 55 dX5_inside_38 (by decide) hw (fun hw => ?_) (fun hw => ?_)
      · refine j_iconst X (pc := 55) 0 dX5_inside_55 (by decide) ?_
        refine j_iadd X (pc := 56) dX5_inside_56 ?_
        refine j_istore_n X (pc := 57) [(3, vI (x3 + 0)), (0, vR x0), (2, vI x2), (4, vI x4)] dX5_inside_57 rfl (Nat.le_of_ble_eq_true rfl) rfl ?_
        refine j_iinc X (pc := 58) 3 (x4 + 1) [(4, vI (x4 + 1)), (3, vI (x3 + 0)), (0, vR x0), (2, vI x2)] dX5_inside_58 rfl rfl (Nat.le_of_ble_eq_true rfl) rfl ?_
        refine j_goto X (pc := 61) 16 dX5_inside_61 (by decide) ?_
        refine j_lv [(0, vR x0), (2, vI x2), (3, vI (x3 + 0)), (4, vI (x4 + 1))] [2, 3, 1, 0] rfl ?_
        refine j_cs (u' := 0) (v' := 0) (Nat.le_of_ble_eq_true rfl) (Nat.le_of_ble_eq_true rfl) ?_
        exact hw
      · refine j_aload_n X (pc := 41) 0 dX5_inside_41 rfl rfl ?_
        refine j_iload X (pc := 42) 3 dX5_inside_42 rfl ?_
        refine j_iload_n X (pc := 44) 1 dX5_inside_44 rfl rfl ?_
        obtain ⟨b9, c9, f9, hr9, ho9, hc9, hw⟩ := hw
        obtain rfl := List.mem_singleton.mp hc9
        refine j_calli (j_runV (n8 := 2) (As := [vI x4, vI x2]) (rest := [vI x3]) X (pc := 45) hr9 (met_X5_isInside (xl x) X.hl (xG x) h35 x0 x4 x2 _ hw) ho9 (by decide) rfl q2055 q2057 qs48 q78 q2058 (by decide +kernel) dX5_inside_45 rfl ⟨Nat.le_of_ble_eq_true rfl, Nat.le_of_ble_eq_true rfl⟩ (Nat.le_of_ble_eq_true rfl) ⟨Nat.le_of_ble_eq_true rfl, Nat.le_of_ble_eq_true rfl⟩) (fun y45 h45 hw => ?_)
        refine j_if_eq X (pc := 48) 55 dX5_inside_48 (by decide) hw (fun hw => ?_) (fun hw => ?_)
        · refine j_iconst X (pc := 55) 0 dX5_inside_55 (by decide) ?_
          refine j_iadd X (pc := 56) dX5_inside_56 ?_
          refine j_istore_n X (pc := 57) [(3, vI (x3 + 0)), (0, vR x0), (2, vI x2), (4, vI x4)] dX5_inside_57 rfl (Nat.le_of_ble_eq_true rfl) rfl ?_
          refine j_iinc X (pc := 58) 3 (x4 + 1) [(4, vI (x4 + 1)), (3, vI (x3 + 0)), (0, vR x0), (2, vI x2)] dX5_inside_58 rfl rfl (Nat.le_of_ble_eq_true rfl) rfl ?_
          refine j_goto X (pc := 61) 16 dX5_inside_61 (by decide) ?_
          refine j_lv [(0, vR x0), (2, vI x2), (3, vI (x3 + 0)), (4, vI (x4 + 1))] [2, 3, 1, 0] rfl ?_
          refine j_cs (u' := 0) (v' := 0) (Nat.le_of_ble_eq_true rfl) (Nat.le_of_ble_eq_true rfl) ?_
          exact hw
        · refine j_iconst X (pc := 51) 1 dX5_inside_51 (by decide) ?_
          refine j_goto X (pc := 52) 56 dX5_inside_52 (by decide) ?_
          refine j_iadd X (pc := 56) dX5_inside_56 ?_
          refine j_istore_n X (pc := 57) [(3, vI (x3 + 1)), (0, vR x0), (2, vI x2), (4, vI x4)] dX5_inside_57 rfl (Nat.le_of_ble_eq_true rfl) rfl ?_
          refine j_iinc X (pc := 58) 3 (x4 + 1) [(4, vI (x4 + 1)), (3, vI (x3 + 1)), (0, vR x0), (2, vI x2)] dX5_inside_58 rfl rfl (Nat.le_of_ble_eq_true rfl) rfl ?_
          refine j_goto X (pc := 61) 16 dX5_inside_61 (by decide) ?_
          refine j_lv [(0, vR x0), (2, vI x2), (3, vI (x3 + 1)), (4, vI (x4 + 1))] [2, 3, 1, 0] rfl ?_
          refine j_cs (u' := 0) (v' := 0) (Nat.le_of_ble_eq_true rfl) (Nat.le_of_ble_eq_true rfl) ?_
          exact hw
theorem met_X5_inside (l : Launch) (hlt : l.stackTraces = false) (G : GG) (h : AH) (a0 : Option Nat) (a1 : Int32) (a2 : Int32) (P : Int32 → AH → Prop) (hw : w_X5_inside a0 a1 a2 h P) : ct_i l yX5_inside (ws_ yX5_inside cX5_inside 5 (Option.some Jvm.ClassFile.FieldType.int)) rm_X5_inside G h [vR a0, vI a1, vI a2] P := by
  refine j_starti hlt [(0, vR a0), (1, vI a1), (2, vI a2)] (plainFor_of_name (by decide)) rfl rfl (fun x X eG er en hQ => ?_)
  subst eG
  refine j_aload_n X (pc := 0) 0 dX5_inside_0 rfl rfl ?_
  refine j_iload_n X (pc := 1) 1 dX5_inside_1 rfl rfl ?_
  refine j_iload_n X (pc := 2) 2 dX5_inside_2 rfl rfl ?_
  obtain ⟨b9, c9, f9, hr9, ho9, hc9, hw⟩ := hw
  obtain rfl := List.mem_singleton.mp hc9
  refine j_calli (j_runV (n8 := 2) (As := [vI a1, vI a2]) (rest := []) X (pc := 3) hr9 (met_X5_isUnseen (xl x) X.hl (xG x) h a0 a1 a2 _ hw) ho9 (by decide) rfl q2182 q2184 qs59 q78 q2185 (by decide +kernel) dX5_inside_3 rfl ⟨Nat.le_of_ble_eq_true rfl, Nat.le_of_ble_eq_true rfl⟩ (Nat.le_of_ble_eq_true rfl) ⟨Nat.le_of_ble_eq_true rfl, Nat.le_of_ble_eq_true rfl⟩) (fun y3 h3 hw => ?_)
  refine j_if_eq X (pc := 6) 11 dX5_inside_6 (by decide) hw (fun hw => ?_) (fun hw => ?_)
  · refine j_iconst X (pc := 11) 0 dX5_inside_11 (by decide) ?_
    refine j_istore_n X (pc := 12) [(3, vI 0), (0, vR a0), (1, vI a1), (2, vI a2)] dX5_inside_12 rfl (Nat.le_of_ble_eq_true rfl) rfl ?_
    refine j_iconst X (pc := 13) 0 dX5_inside_13 (by decide) ?_
    refine j_istore X (pc := 14) [(4, vI 0), (3, vI 0), (0, vR a0), (1, vI a1), (2, vI a2)] dX5_inside_14 (Nat.le_of_ble_eq_true rfl) rfl ?_
    refine j_lv [(0, vR a0), (2, vI a2), (3, vI 0), (4, vI 0)] [2, 4, 1, 0] rfl ?_
    refine j_cs (u' := 0) (v' := 0) (Nat.le_of_ble_eq_true rfl) (Nat.le_of_ble_eq_true rfl) ?_
    exact wk_X5_inside_16 X er en hQ a0 a2 0 0 h3 hw
  · refine j_iconst X (pc := 9) 0 dX5_inside_9 (by decide) ?_
    exact j_iret X (pc := 10) hQ er (Nat.le_of_ble_eq_true rfl) (Nat.le_of_ble_eq_true rfl) dX5_inside_10 hw
abbrev cX1_connectors : ByteArray := prog_1_method_60_code
def yX1_connectors : MethodName := ⟨RX1, "connectors", "(I)I"⟩
def dkwX1_connectors_0 : List UInt8 := [42, 42, 27, 182, 0, 199, 182, 1, 52, 172]
abbrev dktX1_connectors_0 : List UInt8 := dkwX1_connectors_0 ++ []
theorem dksX1_connectors_0 : cX1_connectors.data.toList.drop 0 = dktX1_connectors_0 := by decide +kernel
theorem dX1_connectors_0 : decode cX1_connectors 0 = .ok (.aload_n 0, 1) := dk_42 (dk_at dksX1_connectors_0 0 rfl rfl)
theorem dX1_connectors_1 : decode cX1_connectors 1 = .ok (.aload_n 0, 1) := dk_42 (dk_at dksX1_connectors_0 1 rfl rfl)
theorem dX1_connectors_2 : decode cX1_connectors 2 = .ok (.iload_n 1, 1) := dk_27 (dk_at dksX1_connectors_0 2 rfl rfl)
theorem dX1_connectors_3 : decode cX1_connectors 3 = .ok (.invokevirtual 199, 3) := dk_182 0 199 (dk_at dksX1_connectors_0 3 rfl rfl)
theorem dX1_connectors_6 : decode cX1_connectors 6 = .ok (.invokevirtual 308, 3) := dk_182 1 52 (dk_at dksX1_connectors_0 6 rfl rfl)
theorem dX1_connectors_9 : decode cX1_connectors 9 = .ok (.ireturn, 1) := dk_172 (dk_at dksX1_connectors_0 9 rfl rfl)
abbrev rm_X1_connectors : Room := { frames := 9, cells := 2, slots := 7, locals := 146 }
def w_X1_connectors (a0 : Option Nat) (a1 : Int32) (h : AH) (P : Int32 → AH → Prop) (PX : String → AH → Prop) : Prop :=
  is_c h a0 [0] (
  w_X1_board a0 a1 h (fun y3 h3 =>
  is_c h3 a0 [0] (
  w_X1_countConnectors a0 y3 h3 (fun y6 h6 =>
  P y6 h6))) PX)
theorem met_X1_connectors (l : Launch) (hlt : l.stackTraces = false) (G : GG) (h : AH) (a0 : Option Nat) (a1 : Int32) (P : Int32 → AH → Prop) (PX : String → AH → Prop) (hw : w_X1_connectors a0 a1 h P PX) : cx_i l yX1_connectors (ws_ yX1_connectors cX1_connectors 2 (Option.some Jvm.ClassFile.FieldType.int)) rm_X1_connectors G h [vR a0, vI a1] P PX := by
  refine j_startXi hlt [(0, vR a0), (1, vI a1)] (by decide) rfl rfl (fun x X eG er en hQ hT hex => ?_)
  subst eG
  refine j_aload_n X (pc := 0) 0 dX1_connectors_0 rfl rfl ?_
  refine j_aload_n X (pc := 1) 0 dX1_connectors_1 rfl rfl ?_
  refine j_iload_n X (pc := 2) 1 dX1_connectors_2 rfl rfl ?_
  obtain ⟨b9, c9, f9, hr9, ho9, hc9, hw⟩ := hw
  obtain rfl := List.mem_singleton.mp hc9
  refine j_callXq (j_runVX (n8 := 1) (As := [vI a1]) (rest := [vR a0]) X (pc := 3) hr9 (met_X1_board (xl x) X.hl (xG x) h a0 a1 _ _ hw) ho9 (by decide) rfl q297 q299 qs0 q71 q300 (by decide +kernel) dX1_connectors_3 rfl ⟨Nat.le_of_ble_eq_true rfl, Nat.le_of_ble_eq_true rfl⟩ (Nat.le_of_ble_eq_true rfl) ⟨Nat.le_of_ble_eq_true rfl, Nat.le_of_ble_eq_true rfl⟩) (fun E h9 hx => j_out X hT hex (Nat.le_of_ble_eq_true rfl) (Nat.le_of_ble_eq_true rfl) hx) (fun y3 h3 hw => ?_)
  obtain ⟨b9, c9, f9, hr9, ho9, hc9, hw⟩ := hw
  obtain rfl := List.mem_singleton.mp hc9
  refine j_calli (j_runV (n8 := 1) (As := [vR y3]) (rest := []) X (pc := 6) hr9 (met_X1_countConnectors (xl x) X.hl (xG x) h3 a0 y3 _ hw) ho9 (by decide) rfl q1318 q1320 qs15 q71 q1321 (by decide +kernel) dX1_connectors_6 rfl ⟨Nat.le_of_ble_eq_true rfl, Nat.le_of_ble_eq_true rfl⟩ (Nat.le_of_ble_eq_true rfl) ⟨Nat.le_of_ble_eq_true rfl, Nat.le_of_ble_eq_true rfl⟩) (fun y6 h6 hw => ?_)
  exact j_iret X (pc := 9) hQ er (Nat.le_of_ble_eq_true rfl) (Nat.le_of_ble_eq_true rfl) dX1_connectors_9 hw
abbrev cX0_connectors : ByteArray := method_33_code
def yX0_connectors : MethodName := ⟨RX0, "connectors", "(LPlugboard;I[J)I"⟩
def dkwX0_connectors_0 : List UInt8 := [44, 3, 42, 27, 182, 0, 118, 133, 80, 167, 0, 6, 78, 4, 172, 3, 172]
abbrev dktX0_connectors_0 : List UInt8 := dkwX0_connectors_0 ++ []
theorem dksX0_connectors_0 : cX0_connectors.data.toList.drop 0 = dktX0_connectors_0 := by decide +kernel
theorem dX0_connectors_0 : decode cX0_connectors 0 = .ok (.aload_n 2, 1) := dk_44 (dk_at dksX0_connectors_0 0 rfl rfl)
theorem dX0_connectors_1 : decode cX0_connectors 1 = .ok (.iconst 0, 1) := dk_3 (dk_at dksX0_connectors_0 1 rfl rfl)
theorem dX0_connectors_2 : decode cX0_connectors 2 = .ok (.aload_n 0, 1) := dk_42 (dk_at dksX0_connectors_0 2 rfl rfl)
theorem dX0_connectors_3 : decode cX0_connectors 3 = .ok (.iload_n 1, 1) := dk_27 (dk_at dksX0_connectors_0 3 rfl rfl)
theorem dX0_connectors_4 : decode cX0_connectors 4 = .ok (.invokevirtual 118, 3) := dk_182 0 118 (dk_at dksX0_connectors_0 4 rfl rfl)
theorem dX0_connectors_7 : decode cX0_connectors 7 = .ok (.i2l, 1) := dk_133 (dk_at dksX0_connectors_0 7 rfl rfl)
theorem dX0_connectors_8 : decode cX0_connectors 8 = .ok (.lastore, 1) := dk_80 (dk_at dksX0_connectors_0 8 rfl rfl)
theorem dX0_connectors_9 : decode cX0_connectors 9 = .ok (.goto 6, 3) := dk_167 0 6 (dk_at dksX0_connectors_0 9 rfl rfl)
theorem dX0_connectors_12 : decode cX0_connectors 12 = .ok (.astore_n 3, 1) := dk_78 (dk_at dksX0_connectors_0 12 rfl rfl)
theorem dX0_connectors_13 : decode cX0_connectors 13 = .ok (.iconst 1, 1) := dk_4 (dk_at dksX0_connectors_0 13 rfl rfl)
theorem dX0_connectors_14 : decode cX0_connectors 14 = .ok (.ireturn, 1) := dk_172 (dk_at dksX0_connectors_0 14 rfl rfl)
theorem dX0_connectors_15 : decode cX0_connectors 15 = .ok (.iconst 0, 1) := dk_3 (dk_at dksX0_connectors_0 15 rfl rfl)
theorem dX0_connectors_16 : decode cX0_connectors 16 = .ok (.ireturn, 1) := dk_172 (dk_at dksX0_connectors_0 16 rfl rfl)
theorem q1516 : (Jvm.Cond.methodLink "PlugboardLaw" (118 : Nat) ({ cls := "Plugboard", name := "connectors", desc := "(I)I" } : Jvm.MethodName)) ∈ lw_all := lw_g (lw_at lw_m7 6 rfl) rfl
theorem q1517 : (Jvm.Cond.instanceMethod ({ cls := "Plugboard", name := "connectors", desc := "(I)I" } : Jvm.MethodName)) ∈ lw_all := lw_g (lw_at lw_m7 7 rfl) rfl
theorem q1518 : (Jvm.Cond.selects "Plugboard" ({ cls := "Plugboard", name := "connectors", desc := "(I)I" } : Jvm.MethodName) ({ cls := "Plugboard", name := "connectors", desc := "(I)I" } : Jvm.MethodName)) ∈ lw_all := lw_g (lw_at lw_m7 8 rfl) rfl
theorem q1519 : (Jvm.Cond.code ({ cls := "Plugboard", name := "connectors", desc := "(I)I" } : Jvm.MethodName) prog_1_method_60_code (2 : Nat) (Option.some Jvm.ClassFile.FieldType.int)) ∈ lw_all := lw_g (lw_at lw_m7 9 rfl) rfl
abbrev rm_X0_connectors : Room := { frames := 10, cells := 2, slots := 7, locals := 167 }
def w_X0_connectors (a0 : Option Nat) (a1 : Int32) (a2 : Option Nat) (h : AH) (P : Int32 → AH → Prop) : Prop :=
  is_c h a0 [0] (
  w_X1_connectors a0 a1 h (fun y4 h4 =>
  s_L h4 a2 0 (Int32.toInt64 y4) fun h8 =>
  P 0 h8)
    (fun E9 h9 => (E9 = "java/lang/IllegalArgumentException" ∧ ∀ q9 : Nat,
    P 1 h9)))
theorem met_X0_connectors (l : Launch) (hlt : l.stackTraces = false) (G : GG) (h : AH) (a0 : Option Nat) (a1 : Int32) (a2 : Option Nat) (P : Int32 → AH → Prop) (hw : w_X0_connectors a0 a1 a2 h P) : ct_i l yX0_connectors (wsW_ yX0_connectors cX0_connectors 4 (Option.some Jvm.ClassFile.FieldType.int) [((0 : Nat), (9 : Nat), (12 : Nat), (13 : Nat))]) rm_X0_connectors G h [vR a0, vI a1, vR a2] P := by
  refine j_startWi hlt [(0, vR a0), (1, vI a1), (2, vR a2)] (by decide) rfl rfl (fun x X eG er en hQ hex => ?_)
  subst eG
  refine j_aload_n X (pc := 0) 2 dX0_connectors_0 rfl rfl ?_
  refine j_iconst X (pc := 1) 0 dX0_connectors_1 (by decide) ?_
  refine j_aload_n X (pc := 2) 0 dX0_connectors_2 rfl rfl ?_
  refine j_iload_n X (pc := 3) 1 dX0_connectors_3 rfl rfl ?_
  obtain ⟨b9, c9, f9, hr9, ho9, hc9, hw⟩ := hw
  obtain rfl := List.mem_singleton.mp hc9
  refine j_callXi (j_runVX (n8 := 1) (As := [vI a1]) (rest := [vI 0, vR a2]) X (pc := 4) hr9 (met_X1_connectors (xl x) X.hl (xG x) h a0 a1 _ _ hw) ho9 (by decide) rfl q1516 q1517 q1518 q71 q1519 (by decide +kernel) dX0_connectors_4 rfl ⟨Nat.le_of_ble_eq_true rfl, Nat.le_of_ble_eq_true rfl⟩ (Nat.le_of_ble_eq_true rfl) ⟨Nat.le_of_ble_eq_true rfl, Nat.le_of_ble_eq_true rfl⟩) ?_ (fun y4 h4 hw => ?_)
  · intro E9 h9 hx
    obtain ⟨rfl, hw⟩ := hx
    refine j_catch X (pc := 4) "java/lang/IllegalArgumentException" hex [] [] ⟨0, 9, 12, 13⟩ rfl (by intro y hy; cases hy) (by decide) (by decide) q291 q312 (fun q9 => ?_)
    have hw := hw q9
    refine j_astore_n X (pc := 12) [(3, vR (some q9)), (0, vR a0), (1, vI a1), (2, vR a2)] dX0_connectors_12 rfl (Nat.le_of_ble_eq_true rfl) rfl ?_
    refine j_iconst X (pc := 13) 1 dX0_connectors_13 (by decide) ?_
    exact j_iret X (pc := 14) hQ er (Nat.le_of_ble_eq_true rfl) (Nat.le_of_ble_eq_true rfl) dX0_connectors_14 hw
  refine j_i2l X (pc := 7) dX0_connectors_7 ?_
  refine j_last X (pc := 8) dX0_connectors_8 hw (fun h8 hw => ?_)
  refine j_goto X (pc := 9) 15 dX0_connectors_9 (by decide) ?_
  refine j_iconst X (pc := 15) 0 dX0_connectors_15 (by decide) ?_
  exact j_iret X (pc := 16) hQ er (Nat.le_of_ble_eq_true rfl) (Nat.le_of_ble_eq_true rfl) dX0_connectors_16 hw
abbrev cX5_connectors : ByteArray := prog_19_method_66_code
def yX5_connectors : MethodName := ⟨RX5, "connectors", "(I)I"⟩
def dkwX5_connectors_0 : List UInt8 := [42, 27, 182, 0, 228, 153, 0, 7, 3, 167, 0, 7, 42, 182, 0, 216, 172]
abbrev dktX5_connectors_0 : List UInt8 := dkwX5_connectors_0 ++ []
theorem dksX5_connectors_0 : cX5_connectors.data.toList.drop 0 = dktX5_connectors_0 := by decide +kernel
theorem dX5_connectors_0 : decode cX5_connectors 0 = .ok (.aload_n 0, 1) := dk_42 (dk_at dksX5_connectors_0 0 rfl rfl)
theorem dX5_connectors_1 : decode cX5_connectors 1 = .ok (.iload_n 1, 1) := dk_27 (dk_at dksX5_connectors_0 1 rfl rfl)
theorem dX5_connectors_2 : decode cX5_connectors 2 = .ok (.invokevirtual 228, 3) := dk_182 0 228 (dk_at dksX5_connectors_0 2 rfl rfl)
theorem dX5_connectors_5 : decode cX5_connectors 5 = .ok (.ifCond .eq 7, 3) := dk_153 0 7 (dk_at dksX5_connectors_0 5 rfl rfl)
theorem dX5_connectors_8 : decode cX5_connectors 8 = .ok (.iconst 0, 1) := dk_3 (dk_at dksX5_connectors_0 8 rfl rfl)
theorem dX5_connectors_9 : decode cX5_connectors 9 = .ok (.goto 7, 3) := dk_167 0 7 (dk_at dksX5_connectors_0 9 rfl rfl)
theorem dX5_connectors_12 : decode cX5_connectors 12 = .ok (.aload_n 0, 1) := dk_42 (dk_at dksX5_connectors_0 12 rfl rfl)
theorem dX5_connectors_13 : decode cX5_connectors 13 = .ok (.invokevirtual 216, 3) := dk_182 0 216 (dk_at dksX5_connectors_0 13 rfl rfl)
theorem dX5_connectors_16 : decode cX5_connectors 16 = .ok (.ireturn, 1) := dk_172 (dk_at dksX5_connectors_0 16 rfl rfl)
abbrev rm_X5_connectors : Room := { frames := 4, cells := 0, slots := 0, locals := 87 }
def w_X5_connectors (a0 : Option Nat) (a1 : Int32) (h : AH) (P : Int32 → AH → Prop) : Prop :=
  is_c h a0 [4] (
  w_X5_isNobody a0 a1 h (fun y2 h2 =>
  ((y2 = 0 →
    is_c h2 a0 [4] (
    w_X5_joinedMany a0 h2 (fun y13 h13 =>
    P y13 h13))) ∧
   (¬ y2 = 0 →
    P 0 h2))))
theorem met_X5_connectors (l : Launch) (hlt : l.stackTraces = false) (G : GG) (h : AH) (a0 : Option Nat) (a1 : Int32) (P : Int32 → AH → Prop) (hw : w_X5_connectors a0 a1 h P) : ct_i l yX5_connectors (ws_ yX5_connectors cX5_connectors 2 (Option.some Jvm.ClassFile.FieldType.int)) rm_X5_connectors G h [vR a0, vI a1] P := by
  refine j_starti hlt [(0, vR a0), (1, vI a1)] (plainFor_of_name (by decide)) rfl rfl (fun x X eG er en hQ => ?_)
  subst eG
  refine j_aload_n X (pc := 0) 0 dX5_connectors_0 rfl rfl ?_
  refine j_iload_n X (pc := 1) 1 dX5_connectors_1 rfl rfl ?_
  obtain ⟨b9, c9, f9, hr9, ho9, hc9, hw⟩ := hw
  obtain rfl := List.mem_singleton.mp hc9
  refine j_calli (j_runV (n8 := 1) (As := [vI a1]) (rest := []) X (pc := 2) hr9 (met_X5_isNobody (xl x) X.hl (xG x) h a0 a1 _ hw) ho9 (by decide) rfl q2170 q2172 qs58 q78 q2173 (by decide +kernel) dX5_connectors_2 rfl ⟨Nat.le_of_ble_eq_true rfl, Nat.le_of_ble_eq_true rfl⟩ (Nat.le_of_ble_eq_true rfl) ⟨Nat.le_of_ble_eq_true rfl, Nat.le_of_ble_eq_true rfl⟩) (fun y2 h2 hw => ?_)
  refine j_if_eq X (pc := 5) 12 dX5_connectors_5 (by decide) hw (fun hw => ?_) (fun hw => ?_)
  · refine j_aload_n X (pc := 12) 0 dX5_connectors_12 rfl rfl ?_
    obtain ⟨b9, c9, f9, hr9, ho9, hc9, hw⟩ := hw
    obtain rfl := List.mem_singleton.mp hc9
    refine j_calli (j_runV (n8 := 0) (As := []) (rest := []) X (pc := 13) hr9 (met_X5_joinedMany (xl x) X.hl (xG x) h2 a0 _ hw) ho9 (by decide) rfl q2114 q2116 qs54 q78 q2117 (by decide +kernel) dX5_connectors_13 rfl ⟨Nat.le_of_ble_eq_true rfl, Nat.le_of_ble_eq_true rfl⟩ (Nat.le_of_ble_eq_true rfl) ⟨Nat.le_of_ble_eq_true rfl, Nat.le_of_ble_eq_true rfl⟩) (fun y13 h13 hw => ?_)
    exact j_iret X (pc := 16) hQ er (Nat.le_of_ble_eq_true rfl) (Nat.le_of_ble_eq_true rfl) dX5_connectors_16 hw
  · refine j_iconst X (pc := 8) 0 dX5_connectors_8 (by decide) ?_
    refine j_goto X (pc := 9) 16 dX5_connectors_9 (by decide) ?_
    exact j_iret X (pc := 16) hQ er (Nat.le_of_ble_eq_true rfl) (Nat.le_of_ble_eq_true rfl) dX5_connectors_16 hw
abbrev cX1_layFree : ByteArray := prog_1_method_61_code
def yX1_layFree : MethodName := ⟨RX1, "layFree", "(LPlugboard$Board;)V"⟩
def dkwX1_layFree_2 : List UInt8 := [167, 255, 210, 177]
abbrev dktX1_layFree_2 : List UInt8 := dkwX1_layFree_2 ++ []
def dkwX1_layFree_1 : List UInt8 := [43, 29, 28, 182, 1, 117, 199, 0, 7, 4, 167, 0, 4, 3, 84, 132, 3, 1, 167, 255, 224, 132, 2, 1]
abbrev dktX1_layFree_1 : List UInt8 := dkwX1_layFree_1 ++ dktX1_layFree_2
def dkwX1_layFree_0 : List UInt8 := [3, 61, 28, 16, 16, 162, 0, 46, 3, 62, 29, 16, 24, 162, 0, 32, 42, 180, 0, 96, 28, 50, 29, 42]
abbrev dktX1_layFree_0 : List UInt8 := dkwX1_layFree_0 ++ dktX1_layFree_1
theorem dksX1_layFree_0 : cX1_layFree.data.toList.drop 0 = dktX1_layFree_0 := by decide +kernel
theorem dksX1_layFree_1 : cX1_layFree.data.toList.drop 24 = dktX1_layFree_1 := dk_seg dksX1_layFree_0 24 rfl rfl
theorem dksX1_layFree_2 : cX1_layFree.data.toList.drop 48 = dktX1_layFree_2 := dk_seg dksX1_layFree_1 24 rfl rfl
theorem dX1_layFree_0 : decode cX1_layFree 0 = .ok (.iconst 0, 1) := dk_3 (dk_at dksX1_layFree_0 0 rfl rfl)
theorem dX1_layFree_1 : decode cX1_layFree 1 = .ok (.istore_n 2, 1) := dk_61 (dk_at dksX1_layFree_0 1 rfl rfl)
theorem dX1_layFree_2 : decode cX1_layFree 2 = .ok (.iload_n 2, 1) := dk_28 (dk_at dksX1_layFree_0 2 rfl rfl)
theorem dX1_layFree_3 : decode cX1_layFree 3 = .ok (.bipush 16, 2) := dk_16 16 (dk_at dksX1_layFree_0 3 rfl rfl)
theorem dX1_layFree_5 : decode cX1_layFree 5 = .ok (.if_icmp .ge 46, 3) := dk_162 0 46 (dk_at dksX1_layFree_0 5 rfl rfl)
theorem dX1_layFree_8 : decode cX1_layFree 8 = .ok (.iconst 0, 1) := dk_3 (dk_at dksX1_layFree_0 8 rfl rfl)
theorem dX1_layFree_9 : decode cX1_layFree 9 = .ok (.istore_n 3, 1) := dk_62 (dk_at dksX1_layFree_0 9 rfl rfl)
theorem dX1_layFree_10 : decode cX1_layFree 10 = .ok (.iload_n 3, 1) := dk_29 (dk_at dksX1_layFree_0 10 rfl rfl)
theorem dX1_layFree_11 : decode cX1_layFree 11 = .ok (.bipush 24, 2) := dk_16 24 (dk_at dksX1_layFree_0 11 rfl rfl)
theorem dX1_layFree_13 : decode cX1_layFree 13 = .ok (.if_icmp .ge 32, 3) := dk_162 0 32 (dk_at dksX1_layFree_0 13 rfl rfl)
theorem dX1_layFree_16 : decode cX1_layFree 16 = .ok (.aload_n 0, 1) := dk_42 (dk_at dksX1_layFree_0 16 rfl rfl)
theorem dX1_layFree_17 : decode cX1_layFree 17 = .ok (.getfield 96, 3) := dk_180 0 96 (dk_at dksX1_layFree_0 17 rfl rfl)
theorem dX1_layFree_20 : decode cX1_layFree 20 = .ok (.iload_n 2, 1) := dk_28 (dk_at dksX1_layFree_0 20 rfl rfl)
theorem dX1_layFree_21 : decode cX1_layFree 21 = .ok (.aaload, 1) := dk_50 (dk_at dksX1_layFree_0 21 rfl rfl)
theorem dX1_layFree_22 : decode cX1_layFree 22 = .ok (.iload_n 3, 1) := dk_29 (dk_at dksX1_layFree_0 22 rfl rfl)
theorem dX1_layFree_23 : decode cX1_layFree 23 = .ok (.aload_n 0, 1) := dk_42 (dk_at dksX1_layFree_0 23 rfl rfl)
theorem dX1_layFree_24 : decode cX1_layFree 24 = .ok (.aload_n 1, 1) := dk_43 (dk_at dksX1_layFree_1 0 rfl rfl)
theorem dX1_layFree_25 : decode cX1_layFree 25 = .ok (.iload_n 3, 1) := dk_29 (dk_at dksX1_layFree_1 1 rfl rfl)
theorem dX1_layFree_26 : decode cX1_layFree 26 = .ok (.iload_n 2, 1) := dk_28 (dk_at dksX1_layFree_1 2 rfl rfl)
theorem dX1_layFree_27 : decode cX1_layFree 27 = .ok (.invokevirtual 373, 3) := dk_182 1 117 (dk_at dksX1_layFree_1 3 rfl rfl)
theorem dX1_layFree_30 : decode cX1_layFree 30 = .ok (.ifnonnull 7, 3) := dk_199 0 7 (dk_at dksX1_layFree_1 6 rfl rfl)
theorem dX1_layFree_33 : decode cX1_layFree 33 = .ok (.iconst 1, 1) := dk_4 (dk_at dksX1_layFree_1 9 rfl rfl)
theorem dX1_layFree_34 : decode cX1_layFree 34 = .ok (.goto 4, 3) := dk_167 0 4 (dk_at dksX1_layFree_1 10 rfl rfl)
theorem dX1_layFree_37 : decode cX1_layFree 37 = .ok (.iconst 0, 1) := dk_3 (dk_at dksX1_layFree_1 13 rfl rfl)
theorem dX1_layFree_38 : decode cX1_layFree 38 = .ok (.bastore, 1) := dk_84 (dk_at dksX1_layFree_1 14 rfl rfl)
theorem dX1_layFree_39 : decode cX1_layFree 39 = .ok (.iinc 3 1, 3) := dk_132 3 1 (dk_at dksX1_layFree_1 15 rfl rfl)
theorem dX1_layFree_42 : decode cX1_layFree 42 = .ok (.goto (-32), 3) := dk_167 255 224 (dk_at dksX1_layFree_1 18 rfl rfl)
theorem dX1_layFree_45 : decode cX1_layFree 45 = .ok (.iinc 2 1, 3) := dk_132 2 1 (dk_at dksX1_layFree_1 21 rfl rfl)
theorem dX1_layFree_48 : decode cX1_layFree 48 = .ok (.goto (-46), 3) := dk_167 255 210 (dk_at dksX1_layFree_2 0 rfl rfl)
theorem dX1_layFree_51 : decode cX1_layFree 51 = .ok (.return_, 1) := dk_177 (dk_at dksX1_layFree_2 3 rfl rfl)
abbrev rm_X1_layFree : Room := { frames := 4, cells := 0, slots := 0, locals := 91 }
def w_X1_layFree_10 (P : AH → Prop) (Z2 : Int32 → AH → Prop) (x0 : Option Nat) (x1 : Option Nat) (x2 : Int32) (x3 : Int32) (h : AH) : Prop :=
  ∀ Z10 : Int32 → AH → Prop, (∀ x3 h, (
      ((24 ≤ x3 →
        Z2 (x2 + 1) h) ∧
       (¬ 24 ≤ x3 →
        g_q h x0 0 8 fun y17 =>
        l_q h y17 x2 fun y21 =>
        is_c h x0 [0] (
        w_X1_top x0 x1 x3 x2 h (fun y27 h27 =>
        ((y27 = (none : Option Nat) →
          s_i h27 y21 1 x3 1 fun h38 =>
          Z10 (x3 + 1) h38) ∧
         (¬ y27 = (none : Option Nat) →
          s_i h27 y21 1 x3 0 fun h38 =>
          Z10 (x3 + 1) h38)))))))
      → Z10 x3 h) → Z10 x3 h
def w_X1_layFree_2 (P : AH → Prop) (x0 : Option Nat) (x1 : Option Nat) (x2 : Int32) (h : AH) : Prop :=
  ∀ Z2 : Int32 → AH → Prop, (∀ x2 h, (
      ((16 ≤ x2 →
        P h) ∧
       (¬ 16 ≤ x2 →
        w_X1_layFree_10 P Z2 x0 x1 x2 0 h)))
      → Z2 x2 h) → Z2 x2 h
def w_X1_layFree (a0 : Option Nat) (a1 : Option Nat) (h : AH) (P : AH → Prop) : Prop :=
  w_X1_layFree_2 P a0 a1 0 h
theorem wk_X1_layFree_10 {x : CX} (X : Ok x cX1_layFree RX1 rm_X1_layFree 4) (er : xrt x = (Option.none : Option Jvm.ClassFile.FieldType)) (en : xnm x = yX1_layFree.name) {P : AH → Prop} (hQ : xr_v x P) (Z2 : Int32 → AH → Prop) (x0 : Option Nat) (x1 : Option Nat) (x2 : Int32) (x3 : Int32) (h : AH) (hZ2 : ∀ x2 h, Z2 x2 h → J x h 0 0 2 [(0, vR x0), (1, vR x1), (2, vI x2)] []) (hw : w_X1_layFree_10 P Z2 x0 x1 x2 x3 h) : J x h 0 0 10 [(0, vR x0), (1, vR x1), (2, vI x2), (3, vI x3)] [] := by
  refine hw (fun x3 h => J x h 0 0 10 [(0, vR x0), (1, vR x1), (2, vI x2), (3, vI x3)] []) (fun x3 h hw => ?_)
  refine j_iload_n X (pc := 10) 3 dX1_layFree_10 rfl rfl ?_
  refine j_bipush X (pc := 11) 24 dX1_layFree_11 (by decide) ?_
  refine j_icmp_ge X (pc := 13) 45 dX1_layFree_13 (by decide) hw (fun hw => ?_) (fun hw => ?_)
  · refine j_iinc X (pc := 45) 2 (x2 + 1) [(2, vI (x2 + 1)), (0, vR x0), (1, vR x1), (3, vI x3)] dX1_layFree_45 rfl rfl (Nat.le_of_ble_eq_true rfl) rfl ?_
    refine j_goto X (pc := 48) 2 dX1_layFree_48 (by decide) ?_
    refine j_lv [(0, vR x0), (1, vR x1), (2, vI (x2 + 1))] [1, 2, 0] rfl ?_
    refine j_cs (u' := 0) (v' := 0) (Nat.le_of_ble_eq_true rfl) (Nat.le_of_ble_eq_true rfl) ?_
    exact hZ2 (x2 + 1) h hw
  · refine j_aload_n X (pc := 16) 0 dX1_layFree_16 rfl rfl ?_
    refine j_getq (ci := 0) X (pc := 17) in_X1 rfl (by decide) 8 (by decide) q251 (Or.inl rfl) dX1_layFree_17 hw (fun y17 hw => ?_)
    refine j_iload_n X (pc := 20) 2 dX1_layFree_20 rfl rfl ?_
    refine j_aald X (pc := 21) dX1_layFree_21 hw (fun y21 hw => ?_)
    refine j_iload_n X (pc := 22) 3 dX1_layFree_22 rfl rfl ?_
    refine j_aload_n X (pc := 23) 0 dX1_layFree_23 rfl rfl ?_
    refine j_aload_n X (pc := 24) 1 dX1_layFree_24 rfl rfl ?_
    refine j_iload_n X (pc := 25) 3 dX1_layFree_25 rfl rfl ?_
    refine j_iload_n X (pc := 26) 2 dX1_layFree_26 rfl rfl ?_
    obtain ⟨b9, c9, f9, hr9, ho9, hc9, hw⟩ := hw
    obtain rfl := List.mem_singleton.mp hc9
    refine j_callq (j_runV (n8 := 3) (As := [vR x1, vI x3, vI x2]) (rest := [vI x3, vR y21]) X (pc := 27) hr9 (met_X1_top (xl x) X.hl (xG x) h x0 x1 x3 x2 _ hw) ho9 (by decide) rfl q1491 q1493 qs18 q71 q1494 (by decide +kernel) dX1_layFree_27 rfl ⟨Nat.le_of_ble_eq_true rfl, Nat.le_of_ble_eq_true rfl⟩ (Nat.le_of_ble_eq_true rfl) ⟨Nat.le_of_ble_eq_true rfl, Nat.le_of_ble_eq_true rfl⟩) (fun y27 h27 hw => ?_)
    refine j_ifnonnull X (pc := 30) 37 dX1_layFree_30 (by decide) hw (fun hw => ?_) (fun hw => ?_)
    · refine j_iconst X (pc := 33) 1 dX1_layFree_33 (by decide) ?_
      refine j_goto X (pc := 34) 38 dX1_layFree_34 (by decide) ?_
      refine j_zast X (pc := 38) 1 rfl rfl ⟨rfl, rfl⟩ dX1_layFree_38 hw (fun h38 hw => ?_)
      refine j_iinc X (pc := 39) 3 (x3 + 1) [(3, vI (x3 + 1)), (0, vR x0), (1, vR x1), (2, vI x2)] dX1_layFree_39 rfl rfl (Nat.le_of_ble_eq_true rfl) rfl ?_
      refine j_goto X (pc := 42) 10 dX1_layFree_42 (by decide) ?_
      refine j_lv [(0, vR x0), (1, vR x1), (2, vI x2), (3, vI (x3 + 1))] [1, 2, 3, 0] rfl ?_
      refine j_cs (u' := 0) (v' := 0) (Nat.le_of_ble_eq_true rfl) (Nat.le_of_ble_eq_true rfl) ?_
      exact hw
    · refine j_iconst X (pc := 37) 0 dX1_layFree_37 (by decide) ?_
      refine j_zast X (pc := 38) 1 rfl rfl ⟨rfl, rfl⟩ dX1_layFree_38 hw (fun h38 hw => ?_)
      refine j_iinc X (pc := 39) 3 (x3 + 1) [(3, vI (x3 + 1)), (0, vR x0), (1, vR x1), (2, vI x2)] dX1_layFree_39 rfl rfl (Nat.le_of_ble_eq_true rfl) rfl ?_
      refine j_goto X (pc := 42) 10 dX1_layFree_42 (by decide) ?_
      refine j_lv [(0, vR x0), (1, vR x1), (2, vI x2), (3, vI (x3 + 1))] [1, 2, 3, 0] rfl ?_
      refine j_cs (u' := 0) (v' := 0) (Nat.le_of_ble_eq_true rfl) (Nat.le_of_ble_eq_true rfl) ?_
      exact hw
theorem wk_X1_layFree_2 {x : CX} (X : Ok x cX1_layFree RX1 rm_X1_layFree 4) (er : xrt x = (Option.none : Option Jvm.ClassFile.FieldType)) (en : xnm x = yX1_layFree.name) {P : AH → Prop} (hQ : xr_v x P) (x0 : Option Nat) (x1 : Option Nat) (x2 : Int32) (h : AH) (hw : w_X1_layFree_2 P x0 x1 x2 h) : J x h 0 0 2 [(0, vR x0), (1, vR x1), (2, vI x2)] [] := by
  refine hw (fun x2 h => J x h 0 0 2 [(0, vR x0), (1, vR x1), (2, vI x2)] []) (fun x2 h hw => ?_)
  refine j_iload_n X (pc := 2) 2 dX1_layFree_2 rfl rfl ?_
  refine j_bipush X (pc := 3) 16 dX1_layFree_3 (by decide) ?_
  refine j_icmp_ge X (pc := 5) 51 dX1_layFree_5 (by decide) hw (fun hw => ?_) (fun hw => ?_)
  · exact j_vret X (pc := 51) hQ er (Nat.le_of_ble_eq_true rfl) (Nat.le_of_ble_eq_true rfl) dX1_layFree_51 hw
  · refine j_iconst X (pc := 8) 0 dX1_layFree_8 (by decide) ?_
    refine j_istore_n X (pc := 9) [(3, vI 0), (0, vR x0), (1, vR x1), (2, vI x2)] dX1_layFree_9 rfl (Nat.le_of_ble_eq_true rfl) rfl ?_
    refine j_lv [(0, vR x0), (1, vR x1), (2, vI x2), (3, vI 0)] [1, 2, 3, 0] rfl ?_
    refine j_cs (u' := 0) (v' := 0) (Nat.le_of_ble_eq_true rfl) (Nat.le_of_ble_eq_true rfl) ?_
    exact wk_X1_layFree_10 X er en hQ _ x0 x1 x2 0 h (fun x2_ h_ hz => hz) hw
theorem met_X1_layFree (l : Launch) (hlt : l.stackTraces = false) (G : GG) (h : AH) (a0 : Option Nat) (a1 : Option Nat) (P : AH → Prop) (hw : w_X1_layFree a0 a1 h P) : ct_v l yX1_layFree (ws_ yX1_layFree cX1_layFree 4 (Option.none : Option Jvm.ClassFile.FieldType)) rm_X1_layFree G h [vR a0, vR a1] P := by
  refine j_startv hlt [(0, vR a0), (1, vR a1)] (plainFor_of_name (by decide)) rfl rfl (fun x X eG er en hQ => ?_)
  subst eG
  refine j_iconst X (pc := 0) 0 dX1_layFree_0 (by decide) ?_
  refine j_istore_n X (pc := 1) [(2, vI 0), (0, vR a0), (1, vR a1)] dX1_layFree_1 rfl (Nat.le_of_ble_eq_true rfl) rfl ?_
  refine j_lv [(0, vR a0), (1, vR a1), (2, vI 0)] [1, 2, 0] rfl ?_
  refine j_cs (u' := 0) (v' := 0) (Nat.le_of_ble_eq_true rfl) (Nat.le_of_ble_eq_true rfl) ?_
  exact wk_X1_layFree_2 X er en hQ a0 a1 0 h hw
abbrev cX14_side : ByteArray := prog_8_method_6_code
def yX14_side : MethodName := ⟨RX14, "side", "()C"⟩
theorem dX14_side_0 : decode cX14_side 0 = .ok (.aload_n 0, 1) := by decide +kernel
theorem dX14_side_1 : decode cX14_side 1 = .ok (.getfield 13, 3) := by decide +kernel
theorem dX14_side_4 : decode cX14_side 4 = .ok (.ireturn, 1) := by decide +kernel
abbrev rm_X14_side : Room := { frames := 0, cells := 0, slots := 0, locals := 0 }
def w_X14_side (a0 : Option Nat) (h : AH) (P : Int32 → AH → Prop) : Prop :=
  g_i h a0 12 1 fun y1 =>
  nrw .char y1 ∧
  P y1 h
theorem met_X14_side (l : Launch) (hlt : l.stackTraces = false) (G : GG) (h : AH) (a0 : Option Nat) (P : Int32 → AH → Prop) (hw : w_X14_side a0 h P) : ct_i l yX14_side (ws_ yX14_side cX14_side 1 (Option.some Jvm.ClassFile.FieldType.char)) rm_X14_side G h [vR a0] P := by
  refine j_starti hlt [(0, vR a0)] (plainFor_of_name (by decide)) rfl rfl (fun x X eG er en hQ => ?_)
  subst eG
  refine j_aload_n X (pc := 0) 0 dX14_side_0 rfl rfl ?_
  refine j_geti (ci := 12) X (pc := 1) in_X14 rfl (by decide) 1 (by decide) q1264 (Or.inl rfl) dX14_side_1 hw (fun y1 hw => ?_)
  exact j_zret X (pc := 4) (ty := .char) hQ er hw.1.1 (Nat.le_of_ble_eq_true rfl) (Nat.le_of_ble_eq_true rfl) dX14_side_4 hw.2
abbrev cX1_isFreeAt : ByteArray := prog_1_method_62_code
def yX1_isFreeAt : MethodName := ⟨RX1, "isFreeAt", "([[ZII)Z"⟩
def dkwX1_isFreeAt_1 : List UInt8 := [51, 153, 0, 7, 4, 167, 0, 4, 3, 172]
abbrev dktX1_isFreeAt_1 : List UInt8 := dkwX1_isFreeAt_1 ++ []
def dkwX1_isFreeAt_0 : List UInt8 := [28, 3, 16, 15, 184, 0, 21, 153, 0, 25, 27, 3, 16, 23, 184, 0, 21, 153, 0, 15, 42, 28, 50, 27]
abbrev dktX1_isFreeAt_0 : List UInt8 := dkwX1_isFreeAt_0 ++ dktX1_isFreeAt_1
theorem dksX1_isFreeAt_0 : cX1_isFreeAt.data.toList.drop 0 = dktX1_isFreeAt_0 := by decide +kernel
theorem dksX1_isFreeAt_1 : cX1_isFreeAt.data.toList.drop 24 = dktX1_isFreeAt_1 := dk_seg dksX1_isFreeAt_0 24 rfl rfl
theorem dX1_isFreeAt_0 : decode cX1_isFreeAt 0 = .ok (.iload_n 2, 1) := dk_28 (dk_at dksX1_isFreeAt_0 0 rfl rfl)
theorem dX1_isFreeAt_1 : decode cX1_isFreeAt 1 = .ok (.iconst 0, 1) := dk_3 (dk_at dksX1_isFreeAt_0 1 rfl rfl)
theorem dX1_isFreeAt_2 : decode cX1_isFreeAt 2 = .ok (.bipush 15, 2) := dk_16 15 (dk_at dksX1_isFreeAt_0 2 rfl rfl)
theorem dX1_isFreeAt_4 : decode cX1_isFreeAt 4 = .ok (.invokestatic 21, 3) := dk_184 0 21 (dk_at dksX1_isFreeAt_0 4 rfl rfl)
theorem dX1_isFreeAt_7 : decode cX1_isFreeAt 7 = .ok (.ifCond .eq 25, 3) := dk_153 0 25 (dk_at dksX1_isFreeAt_0 7 rfl rfl)
theorem dX1_isFreeAt_10 : decode cX1_isFreeAt 10 = .ok (.iload_n 1, 1) := dk_27 (dk_at dksX1_isFreeAt_0 10 rfl rfl)
theorem dX1_isFreeAt_11 : decode cX1_isFreeAt 11 = .ok (.iconst 0, 1) := dk_3 (dk_at dksX1_isFreeAt_0 11 rfl rfl)
theorem dX1_isFreeAt_12 : decode cX1_isFreeAt 12 = .ok (.bipush 23, 2) := dk_16 23 (dk_at dksX1_isFreeAt_0 12 rfl rfl)
theorem dX1_isFreeAt_14 : decode cX1_isFreeAt 14 = .ok (.invokestatic 21, 3) := dk_184 0 21 (dk_at dksX1_isFreeAt_0 14 rfl rfl)
theorem dX1_isFreeAt_17 : decode cX1_isFreeAt 17 = .ok (.ifCond .eq 15, 3) := dk_153 0 15 (dk_at dksX1_isFreeAt_0 17 rfl rfl)
theorem dX1_isFreeAt_20 : decode cX1_isFreeAt 20 = .ok (.aload_n 0, 1) := dk_42 (dk_at dksX1_isFreeAt_0 20 rfl rfl)
theorem dX1_isFreeAt_21 : decode cX1_isFreeAt 21 = .ok (.iload_n 2, 1) := dk_28 (dk_at dksX1_isFreeAt_0 21 rfl rfl)
theorem dX1_isFreeAt_22 : decode cX1_isFreeAt 22 = .ok (.aaload, 1) := dk_50 (dk_at dksX1_isFreeAt_0 22 rfl rfl)
theorem dX1_isFreeAt_23 : decode cX1_isFreeAt 23 = .ok (.iload_n 1, 1) := dk_27 (dk_at dksX1_isFreeAt_0 23 rfl rfl)
theorem dX1_isFreeAt_24 : decode cX1_isFreeAt 24 = .ok (.baload, 1) := dk_51 (dk_at dksX1_isFreeAt_1 0 rfl rfl)
theorem dX1_isFreeAt_25 : decode cX1_isFreeAt 25 = .ok (.ifCond .eq 7, 3) := dk_153 0 7 (dk_at dksX1_isFreeAt_1 1 rfl rfl)
theorem dX1_isFreeAt_28 : decode cX1_isFreeAt 28 = .ok (.iconst 1, 1) := dk_4 (dk_at dksX1_isFreeAt_1 4 rfl rfl)
theorem dX1_isFreeAt_29 : decode cX1_isFreeAt 29 = .ok (.goto 4, 3) := dk_167 0 4 (dk_at dksX1_isFreeAt_1 5 rfl rfl)
theorem dX1_isFreeAt_32 : decode cX1_isFreeAt 32 = .ok (.iconst 0, 1) := dk_3 (dk_at dksX1_isFreeAt_1 8 rfl rfl)
theorem dX1_isFreeAt_33 : decode cX1_isFreeAt 33 = .ok (.ireturn, 1) := dk_172 (dk_at dksX1_isFreeAt_1 9 rfl rfl)
abbrev rm_X1_isFreeAt : Room := { frames := 1, cells := 0, slots := 0, locals := 22 }
def w_X1_isFreeAt (a0 : Option Nat) (a1 : Int32) (a2 : Int32) (h : AH) (P : Int32 → AH → Prop) : Prop :=
  w_X1_isBetween a2 0 15 h (fun y4 h4 =>
  ((y4 = 0 →
    P 0 h4) ∧
   (¬ y4 = 0 →
    w_X1_isBetween a1 0 23 h4 (fun y14 h14 =>
    ((y14 = 0 →
      P 0 h14) ∧
     (¬ y14 = 0 →
      l_q h14 a0 a2 fun y22 =>
      l_i h14 y22 1 a1 fun y24 =>
      ((y24 = 0 →
        P 0 h14) ∧
       (¬ y24 = 0 →
        P 1 h14))))))))
theorem met_X1_isFreeAt (l : Launch) (hlt : l.stackTraces = false) (G : GG) (h : AH) (a0 : Option Nat) (a1 : Int32) (a2 : Int32) (P : Int32 → AH → Prop) (hw : w_X1_isFreeAt a0 a1 a2 h P) : ct_i l yX1_isFreeAt (ws_ yX1_isFreeAt cX1_isFreeAt 3 (Option.some Jvm.ClassFile.FieldType.boolean)) rm_X1_isFreeAt G h [vR a0, vI a1, vI a2] P := by
  refine j_starti hlt [(0, vR a0), (1, vI a1), (2, vI a2)] (plainFor_of_name (by decide)) rfl rfl (fun x X eG er en hQ => ?_)
  subst eG
  refine j_iload_n X (pc := 0) 2 dX1_isFreeAt_0 rfl rfl ?_
  refine j_iconst X (pc := 1) 0 dX1_isFreeAt_1 (by decide) ?_
  refine j_bipush X (pc := 2) 15 dX1_isFreeAt_2 (by decide) ?_
  refine j_calli (j_runS (n8 := 3) (As := [vI a2, vI 0, vI 15]) (rest := []) X (pc := 4) (met_X1_isBetween (xl x) X.hl (xG x) h a2 0 15 _ hw) q304 q305 q71 q306 (by decide +kernel) dX1_isFreeAt_4 rfl ⟨Nat.le_of_ble_eq_true rfl, Nat.le_of_ble_eq_true rfl⟩ (Nat.le_of_ble_eq_true rfl) ⟨Nat.le_of_ble_eq_true rfl, Nat.le_of_ble_eq_true rfl⟩) (fun y4 h4 hw => ?_)
  refine j_if_eq X (pc := 7) 32 dX1_isFreeAt_7 (by decide) hw (fun hw => ?_) (fun hw => ?_)
  · refine j_iconst X (pc := 32) 0 dX1_isFreeAt_32 (by decide) ?_
    exact j_zret X (pc := 33) (ty := .boolean) hQ er rfl (Nat.le_of_ble_eq_true rfl) (Nat.le_of_ble_eq_true rfl) dX1_isFreeAt_33 hw
  · refine j_iload_n X (pc := 10) 1 dX1_isFreeAt_10 rfl rfl ?_
    refine j_iconst X (pc := 11) 0 dX1_isFreeAt_11 (by decide) ?_
    refine j_bipush X (pc := 12) 23 dX1_isFreeAt_12 (by decide) ?_
    refine j_calli (j_runS (n8 := 3) (As := [vI a1, vI 0, vI 23]) (rest := []) X (pc := 14) (met_X1_isBetween (xl x) X.hl (xG x) h4 a1 0 23 _ hw) q304 q305 q71 q306 (by decide +kernel) dX1_isFreeAt_14 rfl ⟨Nat.le_of_ble_eq_true rfl, Nat.le_of_ble_eq_true rfl⟩ (Nat.le_of_ble_eq_true rfl) ⟨Nat.le_of_ble_eq_true rfl, Nat.le_of_ble_eq_true rfl⟩) (fun y14 h14 hw => ?_)
    refine j_if_eq X (pc := 17) 32 dX1_isFreeAt_17 (by decide) hw (fun hw => ?_) (fun hw => ?_)
    · refine j_iconst X (pc := 32) 0 dX1_isFreeAt_32 (by decide) ?_
      exact j_zret X (pc := 33) (ty := .boolean) hQ er rfl (Nat.le_of_ble_eq_true rfl) (Nat.le_of_ble_eq_true rfl) dX1_isFreeAt_33 hw
    · refine j_aload_n X (pc := 20) 0 dX1_isFreeAt_20 rfl rfl ?_
      refine j_iload_n X (pc := 21) 2 dX1_isFreeAt_21 rfl rfl ?_
      refine j_aald X (pc := 22) dX1_isFreeAt_22 hw (fun y22 hw => ?_)
      refine j_iload_n X (pc := 23) 1 dX1_isFreeAt_23 rfl rfl ?_
      refine j_zald X (pc := 24) 1 rfl dX1_isFreeAt_24 hw (fun y24 hw => ?_)
      refine j_if_eq X (pc := 25) 32 dX1_isFreeAt_25 (by decide) hw (fun hw => ?_) (fun hw => ?_)
      · refine j_iconst X (pc := 32) 0 dX1_isFreeAt_32 (by decide) ?_
        exact j_zret X (pc := 33) (ty := .boolean) hQ er rfl (Nat.le_of_ble_eq_true rfl) (Nat.le_of_ble_eq_true rfl) dX1_isFreeAt_33 hw
      · refine j_iconst X (pc := 28) 1 dX1_isFreeAt_28 (by decide) ?_
        refine j_goto X (pc := 29) 33 dX1_isFreeAt_29 (by decide) ?_
        exact j_zret X (pc := 33) (ty := .boolean) hQ er rfl (Nat.le_of_ble_eq_true rfl) (Nat.le_of_ble_eq_true rfl) dX1_isFreeAt_33 hw
abbrev cX1_cellOf : ByteArray := prog_1_method_63_code
def yX1_cellOf : MethodName := ⟨RX1, "cellOf", "(LPlugboard$Board;LPlugboard$End;)I"⟩
def dkwX1_cellOf_6 : List UInt8 := [21, 4, 21, 5, 184, 1, 130, 153, 0, 14, 16, 24, 21, 5, 104, 21, 4, 96, 167, 0, 4, 2, 172]
abbrev dktX1_cellOf_6 : List UInt8 := dkwX1_cellOf_6 ++ []
def dkwX1_cellOf_5 : List UInt8 := [180, 0, 235, 96, 54, 4, 21, 5, 45, 180, 0, 238, 4, 100, 5, 108, 96, 54, 5, 42, 180, 0, 96]
abbrev dktX1_cellOf_5 : List UInt8 := dkwX1_cellOf_5 ++ dktX1_cellOf_6
def dkwX1_cellOf_4 : List UInt8 := [132, 4, 255, 21, 5, 45, 180, 0, 238, 4, 100, 5, 108, 96, 54, 5, 167, 0, 25, 21, 4, 45]
abbrev dktX1_cellOf_4 : List UInt8 := dkwX1_cellOf_4 ++ dktX1_cellOf_5
def dkwX1_cellOf_3 : List UInt8 := [180, 0, 235, 4, 100, 5, 108, 96, 54, 4, 21, 5, 45, 180, 0, 238, 96, 54, 5, 167, 0, 44]
abbrev dktX1_cellOf_3 : List UInt8 := dkwX1_cellOf_3 ++ dktX1_cellOf_4
def dkwX1_cellOf_2 : List UInt8 := [21, 4, 45, 180, 0, 235, 4, 100, 5, 108, 96, 54, 4, 132, 5, 255, 167, 0, 69, 21, 4, 45]
abbrev dktX1_cellOf_2 : List UInt8 := dkwX1_cellOf_2 ++ dktX1_cellOf_3
def dkwX1_cellOf_1 : List UInt8 := [171, 0, 0, 0, 96, 0, 0, 0, 3, 0, 0, 0, 98, 0, 0, 0, 52, 0, 0, 0, 108, 0, 0, 0, 77, 0, 0, 0, 116, 0, 0, 0, 33]
abbrev dktX1_cellOf_1 : List UInt8 := dkwX1_cellOf_1 ++ dktX1_cellOf_2
def dkwX1_cellOf_0 : List UInt8 := [44, 182, 1, 123, 78, 43, 45, 182, 0, 249, 54, 4, 43, 45, 182, 0, 253, 54, 5, 44, 182, 1, 126]
abbrev dktX1_cellOf_0 : List UInt8 := dkwX1_cellOf_0 ++ dktX1_cellOf_1
theorem dksX1_cellOf_0 : cX1_cellOf.data.toList.drop 0 = dktX1_cellOf_0 := by decide +kernel
theorem dksX1_cellOf_1 : cX1_cellOf.data.toList.drop 23 = dktX1_cellOf_1 := dk_seg dksX1_cellOf_0 23 rfl rfl
theorem dksX1_cellOf_2 : cX1_cellOf.data.toList.drop 56 = dktX1_cellOf_2 := dk_seg dksX1_cellOf_1 33 rfl rfl
theorem dksX1_cellOf_3 : cX1_cellOf.data.toList.drop 78 = dktX1_cellOf_3 := dk_seg dksX1_cellOf_2 22 rfl rfl
theorem dksX1_cellOf_4 : cX1_cellOf.data.toList.drop 100 = dktX1_cellOf_4 := dk_seg dksX1_cellOf_3 22 rfl rfl
theorem dksX1_cellOf_5 : cX1_cellOf.data.toList.drop 122 = dktX1_cellOf_5 := dk_seg dksX1_cellOf_4 22 rfl rfl
theorem dksX1_cellOf_6 : cX1_cellOf.data.toList.drop 145 = dktX1_cellOf_6 := dk_seg dksX1_cellOf_5 23 rfl rfl
theorem dX1_cellOf_0 : decode cX1_cellOf 0 = .ok (.aload_n 2, 1) := dk_44 (dk_at dksX1_cellOf_0 0 rfl rfl)
theorem dX1_cellOf_1 : decode cX1_cellOf 1 = .ok (.invokevirtual 379, 3) := dk_182 1 123 (dk_at dksX1_cellOf_0 1 rfl rfl)
theorem dX1_cellOf_4 : decode cX1_cellOf 4 = .ok (.astore_n 3, 1) := dk_78 (dk_at dksX1_cellOf_0 4 rfl rfl)
theorem dX1_cellOf_5 : decode cX1_cellOf 5 = .ok (.aload_n 1, 1) := dk_43 (dk_at dksX1_cellOf_0 5 rfl rfl)
theorem dX1_cellOf_6 : decode cX1_cellOf 6 = .ok (.aload_n 3, 1) := dk_45 (dk_at dksX1_cellOf_0 6 rfl rfl)
theorem dX1_cellOf_7 : decode cX1_cellOf 7 = .ok (.invokevirtual 249, 3) := dk_182 0 249 (dk_at dksX1_cellOf_0 7 rfl rfl)
theorem dX1_cellOf_10 : decode cX1_cellOf 10 = .ok (.istore 4, 2) := dk_54 4 (dk_at dksX1_cellOf_0 10 rfl rfl)
theorem dX1_cellOf_12 : decode cX1_cellOf 12 = .ok (.aload_n 1, 1) := dk_43 (dk_at dksX1_cellOf_0 12 rfl rfl)
theorem dX1_cellOf_13 : decode cX1_cellOf 13 = .ok (.aload_n 3, 1) := dk_45 (dk_at dksX1_cellOf_0 13 rfl rfl)
theorem dX1_cellOf_14 : decode cX1_cellOf 14 = .ok (.invokevirtual 253, 3) := dk_182 0 253 (dk_at dksX1_cellOf_0 14 rfl rfl)
theorem dX1_cellOf_17 : decode cX1_cellOf 17 = .ok (.istore 5, 2) := dk_54 5 (dk_at dksX1_cellOf_0 17 rfl rfl)
theorem dX1_cellOf_19 : decode cX1_cellOf 19 = .ok (.aload_n 2, 1) := dk_44 (dk_at dksX1_cellOf_0 19 rfl rfl)
theorem dX1_cellOf_20 : decode cX1_cellOf 20 = .ok (.invokevirtual 382, 3) := dk_182 1 126 (dk_at dksX1_cellOf_0 20 rfl rfl)
theorem dX1_cellOf_23 : decode cX1_cellOf 23 = .ok (.lookupswitch 96 #[(98, 52), (108, 77), (116, 33)], 33) := by decide +kernel
theorem dX1_cellOf_56 : decode cX1_cellOf 56 = .ok (.iload 4, 2) := dk_21 4 (dk_at dksX1_cellOf_2 0 rfl rfl)
theorem dX1_cellOf_58 : decode cX1_cellOf 58 = .ok (.aload_n 3, 1) := dk_45 (dk_at dksX1_cellOf_2 2 rfl rfl)
theorem dX1_cellOf_59 : decode cX1_cellOf 59 = .ok (.getfield 235, 3) := dk_180 0 235 (dk_at dksX1_cellOf_2 3 rfl rfl)
theorem dX1_cellOf_62 : decode cX1_cellOf 62 = .ok (.iconst 1, 1) := dk_4 (dk_at dksX1_cellOf_2 6 rfl rfl)
theorem dX1_cellOf_63 : decode cX1_cellOf 63 = .ok (.isub, 1) := dk_100 (dk_at dksX1_cellOf_2 7 rfl rfl)
theorem dX1_cellOf_64 : decode cX1_cellOf 64 = .ok (.iconst 2, 1) := dk_5 (dk_at dksX1_cellOf_2 8 rfl rfl)
theorem dX1_cellOf_65 : decode cX1_cellOf 65 = .ok (.idiv, 1) := dk_108 (dk_at dksX1_cellOf_2 9 rfl rfl)
theorem dX1_cellOf_66 : decode cX1_cellOf 66 = .ok (.iadd, 1) := dk_96 (dk_at dksX1_cellOf_2 10 rfl rfl)
theorem dX1_cellOf_67 : decode cX1_cellOf 67 = .ok (.istore 4, 2) := dk_54 4 (dk_at dksX1_cellOf_2 11 rfl rfl)
theorem dX1_cellOf_69 : decode cX1_cellOf 69 = .ok (.iinc 5 (-1), 3) := dk_132 5 255 (dk_at dksX1_cellOf_2 13 rfl rfl)
theorem dX1_cellOf_72 : decode cX1_cellOf 72 = .ok (.goto 69, 3) := dk_167 0 69 (dk_at dksX1_cellOf_2 16 rfl rfl)
theorem dX1_cellOf_75 : decode cX1_cellOf 75 = .ok (.iload 4, 2) := dk_21 4 (dk_at dksX1_cellOf_2 19 rfl rfl)
theorem dX1_cellOf_77 : decode cX1_cellOf 77 = .ok (.aload_n 3, 1) := dk_45 (dk_at dksX1_cellOf_2 21 rfl rfl)
theorem dX1_cellOf_78 : decode cX1_cellOf 78 = .ok (.getfield 235, 3) := dk_180 0 235 (dk_at dksX1_cellOf_3 0 rfl rfl)
theorem dX1_cellOf_81 : decode cX1_cellOf 81 = .ok (.iconst 1, 1) := dk_4 (dk_at dksX1_cellOf_3 3 rfl rfl)
theorem dX1_cellOf_82 : decode cX1_cellOf 82 = .ok (.isub, 1) := dk_100 (dk_at dksX1_cellOf_3 4 rfl rfl)
theorem dX1_cellOf_83 : decode cX1_cellOf 83 = .ok (.iconst 2, 1) := dk_5 (dk_at dksX1_cellOf_3 5 rfl rfl)
theorem dX1_cellOf_84 : decode cX1_cellOf 84 = .ok (.idiv, 1) := dk_108 (dk_at dksX1_cellOf_3 6 rfl rfl)
theorem dX1_cellOf_85 : decode cX1_cellOf 85 = .ok (.iadd, 1) := dk_96 (dk_at dksX1_cellOf_3 7 rfl rfl)
theorem dX1_cellOf_86 : decode cX1_cellOf 86 = .ok (.istore 4, 2) := dk_54 4 (dk_at dksX1_cellOf_3 8 rfl rfl)
theorem dX1_cellOf_88 : decode cX1_cellOf 88 = .ok (.iload 5, 2) := dk_21 5 (dk_at dksX1_cellOf_3 10 rfl rfl)
theorem dX1_cellOf_90 : decode cX1_cellOf 90 = .ok (.aload_n 3, 1) := dk_45 (dk_at dksX1_cellOf_3 12 rfl rfl)
theorem dX1_cellOf_91 : decode cX1_cellOf 91 = .ok (.getfield 238, 3) := dk_180 0 238 (dk_at dksX1_cellOf_3 13 rfl rfl)
theorem dX1_cellOf_94 : decode cX1_cellOf 94 = .ok (.iadd, 1) := dk_96 (dk_at dksX1_cellOf_3 16 rfl rfl)
theorem dX1_cellOf_95 : decode cX1_cellOf 95 = .ok (.istore 5, 2) := dk_54 5 (dk_at dksX1_cellOf_3 17 rfl rfl)
theorem dX1_cellOf_97 : decode cX1_cellOf 97 = .ok (.goto 44, 3) := dk_167 0 44 (dk_at dksX1_cellOf_3 19 rfl rfl)
theorem dX1_cellOf_100 : decode cX1_cellOf 100 = .ok (.iinc 4 (-1), 3) := dk_132 4 255 (dk_at dksX1_cellOf_4 0 rfl rfl)
theorem dX1_cellOf_103 : decode cX1_cellOf 103 = .ok (.iload 5, 2) := dk_21 5 (dk_at dksX1_cellOf_4 3 rfl rfl)
theorem dX1_cellOf_105 : decode cX1_cellOf 105 = .ok (.aload_n 3, 1) := dk_45 (dk_at dksX1_cellOf_4 5 rfl rfl)
theorem dX1_cellOf_106 : decode cX1_cellOf 106 = .ok (.getfield 238, 3) := dk_180 0 238 (dk_at dksX1_cellOf_4 6 rfl rfl)
theorem dX1_cellOf_109 : decode cX1_cellOf 109 = .ok (.iconst 1, 1) := dk_4 (dk_at dksX1_cellOf_4 9 rfl rfl)
theorem dX1_cellOf_110 : decode cX1_cellOf 110 = .ok (.isub, 1) := dk_100 (dk_at dksX1_cellOf_4 10 rfl rfl)
theorem dX1_cellOf_111 : decode cX1_cellOf 111 = .ok (.iconst 2, 1) := dk_5 (dk_at dksX1_cellOf_4 11 rfl rfl)
theorem dX1_cellOf_112 : decode cX1_cellOf 112 = .ok (.idiv, 1) := dk_108 (dk_at dksX1_cellOf_4 12 rfl rfl)
theorem dX1_cellOf_113 : decode cX1_cellOf 113 = .ok (.iadd, 1) := dk_96 (dk_at dksX1_cellOf_4 13 rfl rfl)
theorem dX1_cellOf_114 : decode cX1_cellOf 114 = .ok (.istore 5, 2) := dk_54 5 (dk_at dksX1_cellOf_4 14 rfl rfl)
theorem dX1_cellOf_116 : decode cX1_cellOf 116 = .ok (.goto 25, 3) := dk_167 0 25 (dk_at dksX1_cellOf_4 16 rfl rfl)
theorem dX1_cellOf_119 : decode cX1_cellOf 119 = .ok (.iload 4, 2) := dk_21 4 (dk_at dksX1_cellOf_4 19 rfl rfl)
theorem dX1_cellOf_121 : decode cX1_cellOf 121 = .ok (.aload_n 3, 1) := dk_45 (dk_at dksX1_cellOf_4 21 rfl rfl)
theorem dX1_cellOf_122 : decode cX1_cellOf 122 = .ok (.getfield 235, 3) := dk_180 0 235 (dk_at dksX1_cellOf_5 0 rfl rfl)
theorem dX1_cellOf_125 : decode cX1_cellOf 125 = .ok (.iadd, 1) := dk_96 (dk_at dksX1_cellOf_5 3 rfl rfl)
theorem dX1_cellOf_126 : decode cX1_cellOf 126 = .ok (.istore 4, 2) := dk_54 4 (dk_at dksX1_cellOf_5 4 rfl rfl)
theorem dX1_cellOf_128 : decode cX1_cellOf 128 = .ok (.iload 5, 2) := dk_21 5 (dk_at dksX1_cellOf_5 6 rfl rfl)
theorem dX1_cellOf_130 : decode cX1_cellOf 130 = .ok (.aload_n 3, 1) := dk_45 (dk_at dksX1_cellOf_5 8 rfl rfl)
theorem dX1_cellOf_131 : decode cX1_cellOf 131 = .ok (.getfield 238, 3) := dk_180 0 238 (dk_at dksX1_cellOf_5 9 rfl rfl)
theorem dX1_cellOf_134 : decode cX1_cellOf 134 = .ok (.iconst 1, 1) := dk_4 (dk_at dksX1_cellOf_5 12 rfl rfl)
theorem dX1_cellOf_135 : decode cX1_cellOf 135 = .ok (.isub, 1) := dk_100 (dk_at dksX1_cellOf_5 13 rfl rfl)
theorem dX1_cellOf_136 : decode cX1_cellOf 136 = .ok (.iconst 2, 1) := dk_5 (dk_at dksX1_cellOf_5 14 rfl rfl)
theorem dX1_cellOf_137 : decode cX1_cellOf 137 = .ok (.idiv, 1) := dk_108 (dk_at dksX1_cellOf_5 15 rfl rfl)
theorem dX1_cellOf_138 : decode cX1_cellOf 138 = .ok (.iadd, 1) := dk_96 (dk_at dksX1_cellOf_5 16 rfl rfl)
theorem dX1_cellOf_139 : decode cX1_cellOf 139 = .ok (.istore 5, 2) := dk_54 5 (dk_at dksX1_cellOf_5 17 rfl rfl)
theorem dX1_cellOf_141 : decode cX1_cellOf 141 = .ok (.aload_n 0, 1) := dk_42 (dk_at dksX1_cellOf_5 19 rfl rfl)
theorem dX1_cellOf_142 : decode cX1_cellOf 142 = .ok (.getfield 96, 3) := dk_180 0 96 (dk_at dksX1_cellOf_5 20 rfl rfl)
theorem dX1_cellOf_145 : decode cX1_cellOf 145 = .ok (.iload 4, 2) := dk_21 4 (dk_at dksX1_cellOf_6 0 rfl rfl)
theorem dX1_cellOf_147 : decode cX1_cellOf 147 = .ok (.iload 5, 2) := dk_21 5 (dk_at dksX1_cellOf_6 2 rfl rfl)
theorem dX1_cellOf_149 : decode cX1_cellOf 149 = .ok (.invokestatic 386, 3) := dk_184 1 130 (dk_at dksX1_cellOf_6 4 rfl rfl)
theorem dX1_cellOf_152 : decode cX1_cellOf 152 = .ok (.ifCond .eq 14, 3) := dk_153 0 14 (dk_at dksX1_cellOf_6 7 rfl rfl)
theorem dX1_cellOf_155 : decode cX1_cellOf 155 = .ok (.bipush 24, 2) := dk_16 24 (dk_at dksX1_cellOf_6 10 rfl rfl)
theorem dX1_cellOf_157 : decode cX1_cellOf 157 = .ok (.iload 5, 2) := dk_21 5 (dk_at dksX1_cellOf_6 12 rfl rfl)
theorem dX1_cellOf_159 : decode cX1_cellOf 159 = .ok (.imul, 1) := dk_104 (dk_at dksX1_cellOf_6 14 rfl rfl)
theorem dX1_cellOf_160 : decode cX1_cellOf 160 = .ok (.iload 4, 2) := dk_21 4 (dk_at dksX1_cellOf_6 15 rfl rfl)
theorem dX1_cellOf_162 : decode cX1_cellOf 162 = .ok (.iadd, 1) := dk_96 (dk_at dksX1_cellOf_6 17 rfl rfl)
theorem dX1_cellOf_163 : decode cX1_cellOf 163 = .ok (.goto 4, 3) := dk_167 0 4 (dk_at dksX1_cellOf_6 18 rfl rfl)
theorem dX1_cellOf_166 : decode cX1_cellOf 166 = .ok (.iconst (-1), 1) := dk_2 (dk_at dksX1_cellOf_6 21 rfl rfl)
theorem dX1_cellOf_167 : decode cX1_cellOf 167 = .ok (.ireturn, 1) := dk_172 (dk_at dksX1_cellOf_6 22 rfl rfl)
theorem q1540 : (Jvm.Cond.methodLink "Plugboard" (379 : Nat) ({ cls := "Plugboard$End", name := "shape", desc := "()LPlugboard$Shape;" } : Jvm.MethodName)) ∈ lw_all := lw_g (lw_at lw_m7 30 rfl) rfl
theorem q1541 : (Jvm.Cond.methodLink "Plugboard" (382 : Nat) ({ cls := "Plugboard$End", name := "side", desc := "()C" } : Jvm.MethodName)) ∈ lw_all := lw_g (lw_at lw_m7 31 rfl) rfl
theorem q1542 : (Jvm.Cond.instanceMethod ({ cls := "Plugboard$End", name := "side", desc := "()C" } : Jvm.MethodName)) ∈ lw_all := lw_g (lw_at lw_m7 32 rfl) rfl
theorem q1543 : (Jvm.Cond.selects "Plugboard$End" ({ cls := "Plugboard$End", name := "side", desc := "()C" } : Jvm.MethodName) ({ cls := "Plugboard$End", name := "side", desc := "()C" } : Jvm.MethodName)) ∈ lw_all := lw_g (lw_at lw_m7 33 rfl) rfl
theorem q1544 : (Jvm.Cond.code ({ cls := "Plugboard$End", name := "side", desc := "()C" } : Jvm.MethodName) prog_8_method_6_code (1 : Nat) (Option.some Jvm.ClassFile.FieldType.char)) ∈ lw_all := lw_g (lw_at lw_m7 34 rfl) rfl
theorem q1545 : (Jvm.Cond.methodLink "Plugboard" (386 : Nat) ({ cls := "Plugboard", name := "isFreeAt", desc := "([[ZII)Z" } : Jvm.MethodName)) ∈ lw_all := lw_g (lw_at lw_m7 35 rfl) rfl
theorem q1546 : (Jvm.Cond.static ({ cls := "Plugboard", name := "isFreeAt", desc := "([[ZII)Z" } : Jvm.MethodName)) ∈ lw_all := lw_g (lw_at lw_m7 36 rfl) rfl
theorem q1547 : (Jvm.Cond.code ({ cls := "Plugboard", name := "isFreeAt", desc := "([[ZII)Z" } : Jvm.MethodName) prog_1_method_62_code (3 : Nat) (Option.some Jvm.ClassFile.FieldType.boolean)) ∈ lw_all := lw_g (lw_at lw_m7 37 rfl) rfl
abbrev rm_X1_cellOf : Room := { frames := 2, cells := 0, slots := 0, locals := 44 }
def w_X1_cellOf_141 (P : Int32 → AH → Prop) (x0 : Option Nat) (x4 : Int32) (x5 : Int32) (h : AH) : Prop :=
  g_q h x0 0 8 fun y142 =>
  w_X1_isFreeAt y142 x4 x5 h (fun y149 h149 =>
  ((y149 = 0 →
    P (-1) h149) ∧
   (¬ y149 = 0 →
    P ((24 * x5) + x4) h149)))
def w_X1_cellOf (a0 : Option Nat) (a1 : Option Nat) (a2 : Option Nat) (h : AH) (P : Int32 → AH → Prop) : Prop :=
  is_c h a2 [12] (
  w_X14_shape a2 h (fun y1 h1 =>
  is_c h1 a1 [2] (
  w_X3_columnOf a1 y1 h1 (fun y7 h7 =>
  is_c h7 a1 [2] (
  w_X3_rowOf a1 y1 h7 (fun y14 h14 =>
  is_c h14 a2 [12] (
  w_X14_side a2 h14 (fun y20 h20 =>
  ((y20 = Int32.ofInt 98 →
    g_iS h20 y1 1 fun y78 =>
    ¬ (2 : Int32) = 0 ∧
    g_iS h20 y1 2 fun y91 =>
    w_X1_cellOf_141 P a0 (y7 + ((y78 - 1) / 2)) (y14 + y91) h20) ∧
   (y20 = Int32.ofInt 108 →
    g_iS h20 y1 2 fun y106 =>
    ¬ (2 : Int32) = 0 ∧
    w_X1_cellOf_141 P a0 (y7 + (-1)) (y14 + ((y106 - 1) / 2)) h20) ∧
   (y20 = Int32.ofInt 116 →
    g_iS h20 y1 1 fun y59 =>
    ¬ (2 : Int32) = 0 ∧
    w_X1_cellOf_141 P a0 (y7 + ((y59 - 1) / 2)) (y14 + (-1)) h20) ∧
   (¬ y20 = Int32.ofInt 98 → ¬ y20 = Int32.ofInt 108 → ¬ y20 = Int32.ofInt 116 →
    g_iS h20 y1 1 fun y122 =>
    g_iS h20 y1 2 fun y131 =>
    ¬ (2 : Int32) = 0 ∧
    w_X1_cellOf_141 P a0 (y7 + y122) (y14 + ((y131 - 1) / 2)) h20))))))))))
theorem wk_X1_cellOf_141 {x : CX} (X : Ok x cX1_cellOf RX1 rm_X1_cellOf 6) (er : xrt x = (Option.some Jvm.ClassFile.FieldType.int)) (en : xnm x = yX1_cellOf.name) {P : Int32 → AH → Prop} (hQ : xr_i x P) (x0 : Option Nat) (x4 : Int32) (x5 : Int32) (h : AH) (hw : w_X1_cellOf_141 P x0 x4 x5 h) : J x h 0 0 141 [(0, vR x0), (4, vI x4), (5, vI x5)] [] := by
  refine j_aload_n X (pc := 141) 0 dX1_cellOf_141 rfl rfl ?_
  refine j_getq (ci := 0) X (pc := 142) in_X1 rfl (by decide) 8 (by decide) q251 (Or.inl rfl) dX1_cellOf_142 hw (fun y142 hw => ?_)
  refine j_iload X (pc := 145) 1 dX1_cellOf_145 rfl ?_
  refine j_iload X (pc := 147) 2 dX1_cellOf_147 rfl ?_
  refine j_calli (j_runS (n8 := 3) (As := [vR y142, vI x4, vI x5]) (rest := []) X (pc := 149) (met_X1_isFreeAt (xl x) X.hl (xG x) h y142 x4 x5 _ hw) q1545 q1546 q71 q1547 (by decide +kernel) dX1_cellOf_149 rfl ⟨Nat.le_of_ble_eq_true rfl, Nat.le_of_ble_eq_true rfl⟩ (Nat.le_of_ble_eq_true rfl) ⟨Nat.le_of_ble_eq_true rfl, Nat.le_of_ble_eq_true rfl⟩) (fun y149 h149 hw => ?_)
  refine j_if_eq X (pc := 152) 166 dX1_cellOf_152 (by decide) hw (fun hw => ?_) (fun hw => ?_)
  · refine j_iconst X (pc := 166) (-1) dX1_cellOf_166 (by decide) ?_
    exact j_iret X (pc := 167) hQ er (Nat.le_of_ble_eq_true rfl) (Nat.le_of_ble_eq_true rfl) dX1_cellOf_167 hw
  · refine j_bipush X (pc := 155) 24 dX1_cellOf_155 (by decide) ?_
    refine j_iload X (pc := 157) 2 dX1_cellOf_157 rfl ?_
    refine j_imul X (pc := 159) dX1_cellOf_159 ?_
    refine j_iload X (pc := 160) 1 dX1_cellOf_160 rfl ?_
    refine j_iadd X (pc := 162) dX1_cellOf_162 ?_
    refine j_goto X (pc := 163) 167 dX1_cellOf_163 (by decide) ?_
    exact j_iret X (pc := 167) hQ er (Nat.le_of_ble_eq_true rfl) (Nat.le_of_ble_eq_true rfl) dX1_cellOf_167 hw
theorem met_X1_cellOf (l : Launch) (hlt : l.stackTraces = false) (G : GG) (h : AH) (a0 : Option Nat) (a1 : Option Nat) (a2 : Option Nat) (P : Int32 → AH → Prop) (hw : w_X1_cellOf a0 a1 a2 h P) : ct_i l yX1_cellOf (ws_ yX1_cellOf cX1_cellOf 6 (Option.some Jvm.ClassFile.FieldType.int)) rm_X1_cellOf G h [vR a0, vR a1, vR a2] P := by
  refine j_starti hlt [(0, vR a0), (1, vR a1), (2, vR a2)] (plainFor_of_name (by decide)) rfl rfl (fun x X eG er en hQ => ?_)
  subst eG
  refine j_aload_n X (pc := 0) 2 dX1_cellOf_0 rfl rfl ?_
  obtain ⟨b9, c9, f9, hr9, ho9, hc9, hw⟩ := hw
  obtain rfl := List.mem_singleton.mp hc9
  refine j_callq (j_runV (n8 := 0) (As := []) (rest := []) X (pc := 1) hr9 (met_X14_shape (xl x) X.hl (xG x) h a2 _ hw) ho9 (by decide) rfl q1540 q1307 q1308 q112 q1309 (by decide +kernel) dX1_cellOf_1 rfl ⟨Nat.le_of_ble_eq_true rfl, Nat.le_of_ble_eq_true rfl⟩ (Nat.le_of_ble_eq_true rfl) ⟨Nat.le_of_ble_eq_true rfl, Nat.le_of_ble_eq_true rfl⟩) (fun y1 h1 hw => ?_)
  refine j_astore_n X (pc := 4) [(3, vR y1), (0, vR a0), (1, vR a1), (2, vR a2)] dX1_cellOf_4 rfl (Nat.le_of_ble_eq_true rfl) rfl ?_
  refine j_aload_n X (pc := 5) 2 dX1_cellOf_5 rfl rfl ?_
  refine j_aload_n X (pc := 6) 0 dX1_cellOf_6 rfl rfl ?_
  obtain ⟨b9, c9, f9, hr9, ho9, hc9, hw⟩ := hw
  obtain rfl := List.mem_singleton.mp hc9
  refine j_calli (j_runV (n8 := 1) (As := [vR y1]) (rest := []) X (pc := 7) hr9 (met_X3_columnOf (xl x) X.hl (xG x) h1 a1 y1 _ hw) ho9 (by decide) rfl q1115 q1116 q1117 q76 q1118 (by decide +kernel) dX1_cellOf_7 rfl ⟨Nat.le_of_ble_eq_true rfl, Nat.le_of_ble_eq_true rfl⟩ (Nat.le_of_ble_eq_true rfl) ⟨Nat.le_of_ble_eq_true rfl, Nat.le_of_ble_eq_true rfl⟩) (fun y7 h7 hw => ?_)
  refine j_istore X (pc := 10) [(4, vI y7), (3, vR y1), (0, vR a0), (1, vR a1), (2, vR a2)] dX1_cellOf_10 (Nat.le_of_ble_eq_true rfl) rfl ?_
  refine j_aload_n X (pc := 12) 3 dX1_cellOf_12 rfl rfl ?_
  refine j_aload_n X (pc := 13) 1 dX1_cellOf_13 rfl rfl ?_
  obtain ⟨b9, c9, f9, hr9, ho9, hc9, hw⟩ := hw
  obtain rfl := List.mem_singleton.mp hc9
  refine j_calli (j_runV (n8 := 1) (As := [vR y1]) (rest := []) X (pc := 14) hr9 (met_X3_rowOf (xl x) X.hl (xG x) h7 a1 y1 _ hw) ho9 (by decide) rfl q1119 q1120 q1121 q76 q1122 (by decide +kernel) dX1_cellOf_14 rfl ⟨Nat.le_of_ble_eq_true rfl, Nat.le_of_ble_eq_true rfl⟩ (Nat.le_of_ble_eq_true rfl) ⟨Nat.le_of_ble_eq_true rfl, Nat.le_of_ble_eq_true rfl⟩) (fun y14 h14 hw => ?_)
  refine j_istore X (pc := 17) [(5, vI y14), (4, vI y7), (3, vR y1), (0, vR a0), (1, vR a1), (2, vR a2)] dX1_cellOf_17 (Nat.le_of_ble_eq_true rfl) rfl ?_
  refine j_aload_n X (pc := 19) 5 dX1_cellOf_19 rfl rfl ?_
  obtain ⟨b9, c9, f9, hr9, ho9, hc9, hw⟩ := hw
  obtain rfl := List.mem_singleton.mp hc9
  refine j_calli (j_runV (n8 := 0) (As := []) (rest := []) X (pc := 20) hr9 (met_X14_side (xl x) X.hl (xG x) h14 a2 _ hw) ho9 (by decide) rfl q1541 q1542 q1543 q112 q1544 (by decide +kernel) dX1_cellOf_20 rfl ⟨Nat.le_of_ble_eq_true rfl, Nat.le_of_ble_eq_true rfl⟩ (Nat.le_of_ble_eq_true rfl) ⟨Nat.le_of_ble_eq_true rfl, Nat.le_of_ble_eq_true rfl⟩) (fun y20 h20 hw => ?_)
  refine j_look3 X (pc := 23) 119 75 100 56 dX1_cellOf_23 (by decide) (by decide) (by decide) (by decide) (by decide) (by decide) (by decide) (by decide) hw (fun hw => ?_) (fun hw => ?_) (fun hw => ?_) (fun hw => ?_)
  · refine j_iload X (pc := 75) 1 dX1_cellOf_75 rfl ?_
    refine j_aload_n X (pc := 77) 2 dX1_cellOf_77 rfl rfl ?_
    refine j_getiSN X (pc := 78) 1 (by decide) q581 dX1_cellOf_78 hw (fun y78 hw => ?_)
    refine j_iconst X (pc := 81) 1 dX1_cellOf_81 (by decide) ?_
    refine j_isub X (pc := 82) dX1_cellOf_82 ?_
    refine j_iconst X (pc := 83) 2 dX1_cellOf_83 (by decide) ?_
    refine j_idiv X (pc := 84) dX1_cellOf_84 hw (fun hw => ?_)
    refine j_iadd X (pc := 85) dX1_cellOf_85 ?_
    refine j_istore X (pc := 86) [(4, vI (y7 + ((y78 - 1) / 2))), (5, vI y14), (3, vR y1), (0, vR a0), (1, vR a1), (2, vR a2)] dX1_cellOf_86 (Nat.le_of_ble_eq_true rfl) rfl ?_
    refine j_iload X (pc := 88) 1 dX1_cellOf_88 rfl ?_
    refine j_aload_n X (pc := 90) 2 dX1_cellOf_90 rfl rfl ?_
    refine j_getiSN X (pc := 91) 2 (by decide) q584 dX1_cellOf_91 hw (fun y91 hw => ?_)
    refine j_iadd X (pc := 94) dX1_cellOf_94 ?_
    refine j_istore X (pc := 95) [(5, vI (y14 + y91)), (4, vI (y7 + ((y78 - 1) / 2))), (3, vR y1), (0, vR a0), (1, vR a1), (2, vR a2)] dX1_cellOf_95 (Nat.le_of_ble_eq_true rfl) rfl ?_
    refine j_goto X (pc := 97) 141 dX1_cellOf_97 (by decide) ?_
    refine j_lv [(0, vR a0), (4, vI (y7 + ((y78 - 1) / 2))), (5, vI (y14 + y91))] [3, 1, 0] rfl ?_
    refine j_cs (u' := 0) (v' := 0) (Nat.le_of_ble_eq_true rfl) (Nat.le_of_ble_eq_true rfl) ?_
    exact wk_X1_cellOf_141 X er en hQ a0 (y7 + ((y78 - 1) / 2)) (y14 + y91) h20 hw
  · refine j_iinc X (pc := 100) 1 (y7 + (-1)) [(4, vI (y7 + (-1))), (5, vI y14), (3, vR y1), (0, vR a0), (1, vR a1), (2, vR a2)] dX1_cellOf_100 rfl rfl (Nat.le_of_ble_eq_true rfl) rfl ?_
    refine j_iload X (pc := 103) 1 dX1_cellOf_103 rfl ?_
    refine j_aload_n X (pc := 105) 2 dX1_cellOf_105 rfl rfl ?_
    refine j_getiSN X (pc := 106) 2 (by decide) q584 dX1_cellOf_106 hw (fun y106 hw => ?_)
    refine j_iconst X (pc := 109) 1 dX1_cellOf_109 (by decide) ?_
    refine j_isub X (pc := 110) dX1_cellOf_110 ?_
    refine j_iconst X (pc := 111) 2 dX1_cellOf_111 (by decide) ?_
    refine j_idiv X (pc := 112) dX1_cellOf_112 hw (fun hw => ?_)
    refine j_iadd X (pc := 113) dX1_cellOf_113 ?_
    refine j_istore X (pc := 114) [(5, vI (y14 + ((y106 - 1) / 2))), (4, vI (y7 + (-1))), (3, vR y1), (0, vR a0), (1, vR a1), (2, vR a2)] dX1_cellOf_114 (Nat.le_of_ble_eq_true rfl) rfl ?_
    refine j_goto X (pc := 116) 141 dX1_cellOf_116 (by decide) ?_
    refine j_lv [(0, vR a0), (4, vI (y7 + (-1))), (5, vI (y14 + ((y106 - 1) / 2)))] [3, 1, 0] rfl ?_
    refine j_cs (u' := 0) (v' := 0) (Nat.le_of_ble_eq_true rfl) (Nat.le_of_ble_eq_true rfl) ?_
    exact wk_X1_cellOf_141 X er en hQ a0 (y7 + (-1)) (y14 + ((y106 - 1) / 2)) h20 hw
  · refine j_iload X (pc := 56) 1 dX1_cellOf_56 rfl ?_
    refine j_aload_n X (pc := 58) 2 dX1_cellOf_58 rfl rfl ?_
    refine j_getiSN X (pc := 59) 1 (by decide) q581 dX1_cellOf_59 hw (fun y59 hw => ?_)
    refine j_iconst X (pc := 62) 1 dX1_cellOf_62 (by decide) ?_
    refine j_isub X (pc := 63) dX1_cellOf_63 ?_
    refine j_iconst X (pc := 64) 2 dX1_cellOf_64 (by decide) ?_
    refine j_idiv X (pc := 65) dX1_cellOf_65 hw (fun hw => ?_)
    refine j_iadd X (pc := 66) dX1_cellOf_66 ?_
    refine j_istore X (pc := 67) [(4, vI (y7 + ((y59 - 1) / 2))), (5, vI y14), (3, vR y1), (0, vR a0), (1, vR a1), (2, vR a2)] dX1_cellOf_67 (Nat.le_of_ble_eq_true rfl) rfl ?_
    refine j_iinc X (pc := 69) 1 (y14 + (-1)) [(5, vI (y14 + (-1))), (4, vI (y7 + ((y59 - 1) / 2))), (3, vR y1), (0, vR a0), (1, vR a1), (2, vR a2)] dX1_cellOf_69 rfl rfl (Nat.le_of_ble_eq_true rfl) rfl ?_
    refine j_goto X (pc := 72) 141 dX1_cellOf_72 (by decide) ?_
    refine j_lv [(0, vR a0), (4, vI (y7 + ((y59 - 1) / 2))), (5, vI (y14 + (-1)))] [3, 1, 0] rfl ?_
    refine j_cs (u' := 0) (v' := 0) (Nat.le_of_ble_eq_true rfl) (Nat.le_of_ble_eq_true rfl) ?_
    exact wk_X1_cellOf_141 X er en hQ a0 (y7 + ((y59 - 1) / 2)) (y14 + (-1)) h20 hw
  · refine j_iload X (pc := 119) 1 dX1_cellOf_119 rfl ?_
    refine j_aload_n X (pc := 121) 2 dX1_cellOf_121 rfl rfl ?_
    refine j_getiSN X (pc := 122) 1 (by decide) q581 dX1_cellOf_122 hw (fun y122 hw => ?_)
    refine j_iadd X (pc := 125) dX1_cellOf_125 ?_
    refine j_istore X (pc := 126) [(4, vI (y7 + y122)), (5, vI y14), (3, vR y1), (0, vR a0), (1, vR a1), (2, vR a2)] dX1_cellOf_126 (Nat.le_of_ble_eq_true rfl) rfl ?_
    refine j_iload X (pc := 128) 1 dX1_cellOf_128 rfl ?_
    refine j_aload_n X (pc := 130) 2 dX1_cellOf_130 rfl rfl ?_
    refine j_getiSN X (pc := 131) 2 (by decide) q584 dX1_cellOf_131 hw (fun y131 hw => ?_)
    refine j_iconst X (pc := 134) 1 dX1_cellOf_134 (by decide) ?_
    refine j_isub X (pc := 135) dX1_cellOf_135 ?_
    refine j_iconst X (pc := 136) 2 dX1_cellOf_136 (by decide) ?_
    refine j_idiv X (pc := 137) dX1_cellOf_137 hw (fun hw => ?_)
    refine j_iadd X (pc := 138) dX1_cellOf_138 ?_
    refine j_istore X (pc := 139) [(5, vI (y14 + ((y131 - 1) / 2))), (4, vI (y7 + y122)), (3, vR y1), (0, vR a0), (1, vR a1), (2, vR a2)] dX1_cellOf_139 (Nat.le_of_ble_eq_true rfl) rfl ?_
    refine j_lv [(0, vR a0), (4, vI (y7 + y122)), (5, vI (y14 + ((y131 - 1) / 2)))] [3, 1, 0] rfl ?_
    refine j_cs (u' := 0) (v' := 0) (Nat.le_of_ble_eq_true rfl) (Nat.le_of_ble_eq_true rfl) ?_
    exact wk_X1_cellOf_141 X er en hQ a0 (y7 + y122) (y14 + ((y131 - 1) / 2)) h20 hw
abbrev cX1_clearCosts : ByteArray := prog_1_method_65_code
def yX1_clearCosts : MethodName := ⟨RX1, "clearCosts", "()V"⟩
def dkwX1_clearCosts_1 : List UInt8 := [27, 3, 84, 132, 1, 1, 167, 255, 228, 177]
abbrev dktX1_clearCosts_1 : List UInt8 := dkwX1_clearCosts_1 ++ []
def dkwX1_clearCosts_0 : List UInt8 := [3, 60, 27, 42, 180, 0, 99, 190, 162, 0, 25, 42, 180, 0, 99, 27, 19, 1, 134, 79, 42, 180, 0, 105]
abbrev dktX1_clearCosts_0 : List UInt8 := dkwX1_clearCosts_0 ++ dktX1_clearCosts_1
theorem dksX1_clearCosts_0 : cX1_clearCosts.data.toList.drop 0 = dktX1_clearCosts_0 := by decide +kernel
theorem dksX1_clearCosts_1 : cX1_clearCosts.data.toList.drop 24 = dktX1_clearCosts_1 := dk_seg dksX1_clearCosts_0 24 rfl rfl
theorem dX1_clearCosts_0 : decode cX1_clearCosts 0 = .ok (.iconst 0, 1) := dk_3 (dk_at dksX1_clearCosts_0 0 rfl rfl)
theorem dX1_clearCosts_1 : decode cX1_clearCosts 1 = .ok (.istore_n 1, 1) := dk_60 (dk_at dksX1_clearCosts_0 1 rfl rfl)
theorem dX1_clearCosts_2 : decode cX1_clearCosts 2 = .ok (.iload_n 1, 1) := dk_27 (dk_at dksX1_clearCosts_0 2 rfl rfl)
theorem dX1_clearCosts_3 : decode cX1_clearCosts 3 = .ok (.aload_n 0, 1) := dk_42 (dk_at dksX1_clearCosts_0 3 rfl rfl)
theorem dX1_clearCosts_4 : decode cX1_clearCosts 4 = .ok (.getfield 99, 3) := dk_180 0 99 (dk_at dksX1_clearCosts_0 4 rfl rfl)
theorem dX1_clearCosts_7 : decode cX1_clearCosts 7 = .ok (.arraylength, 1) := dk_190 (dk_at dksX1_clearCosts_0 7 rfl rfl)
theorem dX1_clearCosts_8 : decode cX1_clearCosts 8 = .ok (.if_icmp .ge 25, 3) := dk_162 0 25 (dk_at dksX1_clearCosts_0 8 rfl rfl)
theorem dX1_clearCosts_11 : decode cX1_clearCosts 11 = .ok (.aload_n 0, 1) := dk_42 (dk_at dksX1_clearCosts_0 11 rfl rfl)
theorem dX1_clearCosts_12 : decode cX1_clearCosts 12 = .ok (.getfield 99, 3) := dk_180 0 99 (dk_at dksX1_clearCosts_0 12 rfl rfl)
theorem dX1_clearCosts_15 : decode cX1_clearCosts 15 = .ok (.iload_n 1, 1) := dk_27 (dk_at dksX1_clearCosts_0 15 rfl rfl)
theorem dX1_clearCosts_16 : decode cX1_clearCosts 16 = .ok (.ldc_w 390, 3) := dk_19 1 134 (dk_at dksX1_clearCosts_0 16 rfl rfl)
theorem dX1_clearCosts_19 : decode cX1_clearCosts 19 = .ok (.iastore, 1) := dk_79 (dk_at dksX1_clearCosts_0 19 rfl rfl)
theorem dX1_clearCosts_20 : decode cX1_clearCosts 20 = .ok (.aload_n 0, 1) := dk_42 (dk_at dksX1_clearCosts_0 20 rfl rfl)
theorem dX1_clearCosts_21 : decode cX1_clearCosts 21 = .ok (.getfield 105, 3) := dk_180 0 105 (dk_at dksX1_clearCosts_0 21 rfl rfl)
theorem dX1_clearCosts_24 : decode cX1_clearCosts 24 = .ok (.iload_n 1, 1) := dk_27 (dk_at dksX1_clearCosts_1 0 rfl rfl)
theorem dX1_clearCosts_25 : decode cX1_clearCosts 25 = .ok (.iconst 0, 1) := dk_3 (dk_at dksX1_clearCosts_1 1 rfl rfl)
theorem dX1_clearCosts_26 : decode cX1_clearCosts 26 = .ok (.bastore, 1) := dk_84 (dk_at dksX1_clearCosts_1 2 rfl rfl)
theorem dX1_clearCosts_27 : decode cX1_clearCosts 27 = .ok (.iinc 1 1, 3) := dk_132 1 1 (dk_at dksX1_clearCosts_1 3 rfl rfl)
theorem dX1_clearCosts_30 : decode cX1_clearCosts 30 = .ok (.goto (-28), 3) := dk_167 255 228 (dk_at dksX1_clearCosts_1 6 rfl rfl)
theorem dX1_clearCosts_33 : decode cX1_clearCosts 33 = .ok (.return_, 1) := dk_177 (dk_at dksX1_clearCosts_1 9 rfl rfl)
theorem q1549 : (Jvm.Cond.constant "Plugboard" (390 : Nat) (1000000 : Int32)) ∈ lw_all := lw_g (lw_at lw_m7 39 rfl) rfl
abbrev rm_X1_clearCosts : Room := { frames := 0, cells := 0, slots := 0, locals := 0 }
def w_X1_clearCosts_2 (P : AH → Prop) (x0 : Option Nat) (x1 : Int32) (h : AH) : Prop :=
  ∀ Z2 : Int32 → AH → Prop, (∀ x1 h, (
      g_q h x0 0 9 fun y4 =>
      n_a h y4 fun y7 =>
      ((y7 ≤ x1 →
        P h) ∧
       (¬ y7 ≤ x1 →
        g_q h x0 0 9 fun y12 =>
        s_i h y12 0 x1 1000000 fun h19 =>
        g_q h19 x0 0 11 fun y21 =>
        s_i h19 y21 1 x1 0 fun h26 =>
        Z2 (x1 + 1) h26)))
      → Z2 x1 h) → Z2 x1 h
def w_X1_clearCosts (a0 : Option Nat) (h : AH) (P : AH → Prop) : Prop :=
  w_X1_clearCosts_2 P a0 0 h
theorem wk_X1_clearCosts_2 {x : CX} (X : Ok x cX1_clearCosts RX1 rm_X1_clearCosts 2) (er : xrt x = (Option.none : Option Jvm.ClassFile.FieldType)) (en : xnm x = yX1_clearCosts.name) {P : AH → Prop} (hQ : xr_v x P) (x0 : Option Nat) (x1 : Int32) (h : AH) (hw : w_X1_clearCosts_2 P x0 x1 h) : J x h 0 0 2 [(0, vR x0), (1, vI x1)] [] := by
  refine hw (fun x1 h => J x h 0 0 2 [(0, vR x0), (1, vI x1)] []) (fun x1 h hw => ?_)
  refine j_iload_n X (pc := 2) 1 dX1_clearCosts_2 rfl rfl ?_
  refine j_aload_n X (pc := 3) 0 dX1_clearCosts_3 rfl rfl ?_
  refine j_getq (ci := 0) X (pc := 4) in_X1 rfl (by decide) 9 (by decide) q252 (Or.inl rfl) dX1_clearCosts_4 hw (fun y4 hw => ?_)
  refine j_alen X (pc := 7) dX1_clearCosts_7 hw (fun y7 hw => ?_)
  refine j_icmp_ge X (pc := 8) 33 dX1_clearCosts_8 (by decide) hw (fun hw => ?_) (fun hw => ?_)
  · exact j_vret X (pc := 33) hQ er (Nat.le_of_ble_eq_true rfl) (Nat.le_of_ble_eq_true rfl) dX1_clearCosts_33 hw
  · refine j_aload_n X (pc := 11) 0 dX1_clearCosts_11 rfl rfl ?_
    refine j_getq (ci := 0) X (pc := 12) in_X1 rfl (by decide) 9 (by decide) q252 (Or.inl rfl) dX1_clearCosts_12 hw (fun y12 hw => ?_)
    refine j_iload_n X (pc := 15) 1 dX1_clearCosts_15 rfl rfl ?_
    refine j_ldcw X (pc := 16) dX1_clearCosts_16 q1549 ?_
    refine j_iast X (pc := 19) 0 rfl rfl dX1_clearCosts_19 hw (fun h19 hw => ?_)
    refine j_aload_n X (pc := 20) 0 dX1_clearCosts_20 rfl rfl ?_
    refine j_getq (ci := 0) X (pc := 21) in_X1 rfl (by decide) 11 (by decide) q254 (Or.inl rfl) dX1_clearCosts_21 hw (fun y21 hw => ?_)
    refine j_iload_n X (pc := 24) 1 dX1_clearCosts_24 rfl rfl ?_
    refine j_iconst X (pc := 25) 0 dX1_clearCosts_25 (by decide) ?_
    refine j_zast X (pc := 26) 1 rfl rfl ⟨rfl, rfl⟩ dX1_clearCosts_26 hw (fun h26 hw => ?_)
    refine j_iinc X (pc := 27) 1 (x1 + 1) [(1, vI (x1 + 1)), (0, vR x0)] dX1_clearCosts_27 rfl rfl (Nat.le_of_ble_eq_true rfl) rfl ?_
    refine j_goto X (pc := 30) 2 dX1_clearCosts_30 (by decide) ?_
    refine j_lv [(0, vR x0), (1, vI (x1 + 1))] [1, 0] rfl ?_
    refine j_cs (u' := 0) (v' := 0) (Nat.le_of_ble_eq_true rfl) (Nat.le_of_ble_eq_true rfl) ?_
    exact hw
theorem met_X1_clearCosts (l : Launch) (hlt : l.stackTraces = false) (G : GG) (h : AH) (a0 : Option Nat) (P : AH → Prop) (hw : w_X1_clearCosts a0 h P) : ct_v l yX1_clearCosts (ws_ yX1_clearCosts cX1_clearCosts 2 (Option.none : Option Jvm.ClassFile.FieldType)) rm_X1_clearCosts G h [vR a0] P := by
  refine j_startv hlt [(0, vR a0)] (plainFor_of_name (by decide)) rfl rfl (fun x X eG er en hQ => ?_)
  subst eG
  refine j_iconst X (pc := 0) 0 dX1_clearCosts_0 (by decide) ?_
  refine j_istore_n X (pc := 1) [(1, vI 0), (0, vR a0)] dX1_clearCosts_1 rfl (Nat.le_of_ble_eq_true rfl) rfl ?_
  refine j_lv [(0, vR a0), (1, vI 0)] [1, 0] rfl ?_
  refine j_cs (u' := 0) (v' := 0) (Nat.le_of_ble_eq_true rfl) (Nat.le_of_ble_eq_true rfl) ?_
  exact wk_X1_clearCosts_2 X er en hQ a0 0 h hw
