/-! walks (printed): Plugboard, Plugboard.Orders, PlugboardLaw, PlugboardModel -/
set_option maxRecDepth 100000
abbrev cX16_go : ByteArray := prog_14_method_3_code
def yX16_go : MethodName := ⟨RX16, "go", "(II)V"⟩
def dkwX16_go_2 : List UInt8 := [42, 27, 4, 96, 28, 4, 29, 120, 128, 182, 0, 104, 29, 4, 96, 147, 62, 167, 255, 206, 177]
abbrev dktX16_go_2 : List UInt8 := dkwX16_go_2 ++ []
def dkwX16_go_1 : List UInt8 := [27, 42, 180, 0, 41, 190, 162, 0, 38, 28, 29, 122, 4, 126, 154, 0, 22, 42, 180, 0, 41, 27, 29, 86]
abbrev dktX16_go_1 : List UInt8 := dkwX16_go_1 ++ dktX16_go_2
def dkwX16_go_0 : List UInt8 := [27, 42, 180, 0, 41, 190, 160, 0, 7, 42, 182, 0, 101, 3, 62, 29, 42, 180, 0, 41, 190, 162, 0, 47]
abbrev dktX16_go_0 : List UInt8 := dkwX16_go_0 ++ dktX16_go_1
theorem dksX16_go_0 : cX16_go.data.toList.drop 0 = dktX16_go_0 := by decide +kernel
theorem dksX16_go_1 : cX16_go.data.toList.drop 24 = dktX16_go_1 := dk_seg dksX16_go_0 24 rfl rfl
theorem dksX16_go_2 : cX16_go.data.toList.drop 48 = dktX16_go_2 := dk_seg dksX16_go_1 24 rfl rfl
theorem dX16_go_0 : decode cX16_go 0 = .ok (.iload_n 1, 1) := dk_27 (dk_at dksX16_go_0 0 rfl rfl)
theorem dX16_go_1 : decode cX16_go 1 = .ok (.aload_n 0, 1) := dk_42 (dk_at dksX16_go_0 1 rfl rfl)
theorem dX16_go_2 : decode cX16_go 2 = .ok (.getfield 41, 3) := dk_180 0 41 (dk_at dksX16_go_0 2 rfl rfl)
theorem dX16_go_5 : decode cX16_go 5 = .ok (.arraylength, 1) := dk_190 (dk_at dksX16_go_0 5 rfl rfl)
theorem dX16_go_6 : decode cX16_go 6 = .ok (.if_icmp .ne 7, 3) := dk_160 0 7 (dk_at dksX16_go_0 6 rfl rfl)
theorem dX16_go_9 : decode cX16_go 9 = .ok (.aload_n 0, 1) := dk_42 (dk_at dksX16_go_0 9 rfl rfl)
theorem dX16_go_10 : decode cX16_go 10 = .ok (.invokevirtual 101, 3) := dk_182 0 101 (dk_at dksX16_go_0 10 rfl rfl)
theorem dX16_go_13 : decode cX16_go 13 = .ok (.iconst 0, 1) := dk_3 (dk_at dksX16_go_0 13 rfl rfl)
theorem dX16_go_14 : decode cX16_go 14 = .ok (.istore_n 3, 1) := dk_62 (dk_at dksX16_go_0 14 rfl rfl)
theorem dX16_go_15 : decode cX16_go 15 = .ok (.iload_n 3, 1) := dk_29 (dk_at dksX16_go_0 15 rfl rfl)
theorem dX16_go_16 : decode cX16_go 16 = .ok (.aload_n 0, 1) := dk_42 (dk_at dksX16_go_0 16 rfl rfl)
theorem dX16_go_17 : decode cX16_go 17 = .ok (.getfield 41, 3) := dk_180 0 41 (dk_at dksX16_go_0 17 rfl rfl)
theorem dX16_go_20 : decode cX16_go 20 = .ok (.arraylength, 1) := dk_190 (dk_at dksX16_go_0 20 rfl rfl)
theorem dX16_go_21 : decode cX16_go 21 = .ok (.if_icmp .ge 47, 3) := dk_162 0 47 (dk_at dksX16_go_0 21 rfl rfl)
theorem dX16_go_24 : decode cX16_go 24 = .ok (.iload_n 1, 1) := dk_27 (dk_at dksX16_go_1 0 rfl rfl)
theorem dX16_go_25 : decode cX16_go 25 = .ok (.aload_n 0, 1) := dk_42 (dk_at dksX16_go_1 1 rfl rfl)
theorem dX16_go_26 : decode cX16_go 26 = .ok (.getfield 41, 3) := dk_180 0 41 (dk_at dksX16_go_1 2 rfl rfl)
theorem dX16_go_29 : decode cX16_go 29 = .ok (.arraylength, 1) := dk_190 (dk_at dksX16_go_1 5 rfl rfl)
theorem dX16_go_30 : decode cX16_go 30 = .ok (.if_icmp .ge 38, 3) := dk_162 0 38 (dk_at dksX16_go_1 6 rfl rfl)
theorem dX16_go_33 : decode cX16_go 33 = .ok (.iload_n 2, 1) := dk_28 (dk_at dksX16_go_1 9 rfl rfl)
theorem dX16_go_34 : decode cX16_go 34 = .ok (.iload_n 3, 1) := dk_29 (dk_at dksX16_go_1 10 rfl rfl)
theorem dX16_go_35 : decode cX16_go 35 = .ok (.ishr, 1) := dk_122 (dk_at dksX16_go_1 11 rfl rfl)
theorem dX16_go_36 : decode cX16_go 36 = .ok (.iconst 1, 1) := dk_4 (dk_at dksX16_go_1 12 rfl rfl)
theorem dX16_go_37 : decode cX16_go 37 = .ok (.iand, 1) := dk_126 (dk_at dksX16_go_1 13 rfl rfl)
theorem dX16_go_38 : decode cX16_go 38 = .ok (.ifCond .ne 22, 3) := dk_154 0 22 (dk_at dksX16_go_1 14 rfl rfl)
theorem dX16_go_41 : decode cX16_go 41 = .ok (.aload_n 0, 1) := dk_42 (dk_at dksX16_go_1 17 rfl rfl)
theorem dX16_go_42 : decode cX16_go 42 = .ok (.getfield 41, 3) := dk_180 0 41 (dk_at dksX16_go_1 18 rfl rfl)
theorem dX16_go_45 : decode cX16_go 45 = .ok (.iload_n 1, 1) := dk_27 (dk_at dksX16_go_1 21 rfl rfl)
theorem dX16_go_46 : decode cX16_go 46 = .ok (.iload_n 3, 1) := dk_29 (dk_at dksX16_go_1 22 rfl rfl)
theorem dX16_go_47 : decode cX16_go 47 = .ok (.sastore, 1) := dk_86 (dk_at dksX16_go_1 23 rfl rfl)
theorem dX16_go_48 : decode cX16_go 48 = .ok (.aload_n 0, 1) := dk_42 (dk_at dksX16_go_2 0 rfl rfl)
theorem dX16_go_49 : decode cX16_go 49 = .ok (.iload_n 1, 1) := dk_27 (dk_at dksX16_go_2 1 rfl rfl)
theorem dX16_go_50 : decode cX16_go 50 = .ok (.iconst 1, 1) := dk_4 (dk_at dksX16_go_2 2 rfl rfl)
theorem dX16_go_51 : decode cX16_go 51 = .ok (.iadd, 1) := dk_96 (dk_at dksX16_go_2 3 rfl rfl)
theorem dX16_go_52 : decode cX16_go 52 = .ok (.iload_n 2, 1) := dk_28 (dk_at dksX16_go_2 4 rfl rfl)
theorem dX16_go_53 : decode cX16_go 53 = .ok (.iconst 1, 1) := dk_4 (dk_at dksX16_go_2 5 rfl rfl)
theorem dX16_go_54 : decode cX16_go 54 = .ok (.iload_n 3, 1) := dk_29 (dk_at dksX16_go_2 6 rfl rfl)
theorem dX16_go_55 : decode cX16_go 55 = .ok (.ishl, 1) := dk_120 (dk_at dksX16_go_2 7 rfl rfl)
theorem dX16_go_56 : decode cX16_go 56 = .ok (.ior, 1) := dk_128 (dk_at dksX16_go_2 8 rfl rfl)
theorem dX16_go_57 : decode cX16_go 57 = .ok (.invokevirtual 104, 3) := dk_182 0 104 (dk_at dksX16_go_2 9 rfl rfl)
theorem dX16_go_60 : decode cX16_go 60 = .ok (.iload_n 3, 1) := dk_29 (dk_at dksX16_go_2 12 rfl rfl)
theorem dX16_go_61 : decode cX16_go 61 = .ok (.iconst 1, 1) := dk_4 (dk_at dksX16_go_2 13 rfl rfl)
theorem dX16_go_62 : decode cX16_go 62 = .ok (.iadd, 1) := dk_96 (dk_at dksX16_go_2 14 rfl rfl)
theorem dX16_go_63 : decode cX16_go 63 = .ok (.i2s, 1) := dk_147 (dk_at dksX16_go_2 15 rfl rfl)
theorem dX16_go_64 : decode cX16_go 64 = .ok (.istore_n 3, 1) := dk_62 (dk_at dksX16_go_2 16 rfl rfl)
theorem dX16_go_65 : decode cX16_go 65 = .ok (.goto (-50), 3) := dk_167 255 206 (dk_at dksX16_go_2 17 rfl rfl)
theorem dX16_go_68 : decode cX16_go 68 = .ok (.return_, 1) := dk_177 (dk_at dksX16_go_2 20 rfl rfl)
theorem q115 : (Jvm.Cond.initialized "Plugboard$Orders") ∈ lw_all := lw_g (lw_at lw_m1 45 rfl) rfl
theorem q1703 : (Jvm.Cond.instanceMethod ({ cls := "Plugboard$Orders", name := "go", desc := "(II)V" } : Jvm.MethodName)) ∈ lw_all := lw_g (lw_at lw_m7 193 rfl) rfl
theorem q1704 : (Jvm.Cond.selects "Plugboard$Orders" ({ cls := "Plugboard$Orders", name := "go", desc := "(II)V" } : Jvm.MethodName) ({ cls := "Plugboard$Orders", name := "go", desc := "(II)V" } : Jvm.MethodName)) ∈ lw_all := lw_g (lw_at lw_m7 194 rfl) rfl
theorem q1705 : (Jvm.Cond.code ({ cls := "Plugboard$Orders", name := "go", desc := "(II)V" } : Jvm.MethodName) prog_14_method_3_code (4 : Nat) (Option.none : Option Jvm.ClassFile.FieldType)) ∈ lw_all := lw_g (lw_at lw_m7 195 rfl) rfl
theorem q1706 : (Jvm.Cond.methodLink "Plugboard$Orders" (101 : Nat) ({ cls := "Plugboard$Orders", name := "lay", desc := "()V" } : Jvm.MethodName)) ∈ lw_all := lw_g (lw_at lw_m7 196 rfl) rfl
theorem q1708 : (Jvm.Cond.instanceMethod ({ cls := "Plugboard$Orders", name := "lay", desc := "()V" } : Jvm.MethodName)) ∈ lw_all := lw_g (lw_at lw_m7 198 rfl) rfl
theorem q1709 : (Jvm.Cond.code ({ cls := "Plugboard$Orders", name := "lay", desc := "()V" } : Jvm.MethodName) prog_14_method_2_code (6 : Nat) (Option.none : Option Jvm.ClassFile.FieldType)) ∈ lw_all := lw_g (lw_at lw_m7 199 rfl) rfl
theorem q1798 : (Jvm.Cond.methodLink "Plugboard$Orders" (104 : Nat) ({ cls := "Plugboard$Orders", name := "go", desc := "(II)V" } : Jvm.MethodName)) ∈ lw_all := lw_g (lw_at lw_m8 48 rfl) rfl
abbrev rm_X16_go_v0 : Room := { frames := 9, cells := 10, slots := 204, locals := 3150 }
def w_X16_go_v0_15 (P : AH → Prop) (x0 : Option Nat) (x1 : Int32) (x2 : Int32) (x3 : Int32) (u9 : Nat) (v9 : Nat) (h : AH) : Prop :=
  ∀ Z15 : Int32 → Nat → Nat → AH → Prop, (∀ x3 u9 v9 h, (
      g_q h x0 14 2 fun y17 =>
      n_a h y17 fun y20 =>
      ((y20 ≤ x3 →
        u9 ≤ 10 ∧ v9 ≤ 204 ∧
        P h) ∧
       (¬ y20 ≤ x3 →
        g_q h x0 14 2 fun y26 =>
        n_a h y26 fun y29 =>
        ((y29 ≤ x1 →
          u9 ≤ 10 ∧ v9 ≤ 204 ∧
          P h) ∧
         (¬ y29 ≤ x1 →
          ((((x2 >>> (x3 &&& 31)) &&& 1) = 0 →
            g_q h x0 14 2 fun y42 =>
            nrw .short x3 ∧
            s_i h y42 3 x1 x3 fun h47 =>
            False) ∧
           (¬ ((x2 >>> (x3 &&& 31)) &&& 1) = 0 →
            Z15 ((Int32.toInt16 (x3 + 1)).toInt32) u9 v9 h)))))))
      → Z15 x3 u9 v9 h) → Z15 x3 u9 v9 h
def w_X16_go_v0 (a0 : Option Nat) (a1 : Int32) (a2 : Int32) (h : AH) (P : AH → Prop) : Prop :=
  g_q h a0 14 2 fun y2 =>
  n_a h y2 fun y5 =>
  ((a1 = y5 →
    is_c h a0 [14] (
    w_X16_lay a0 h (fun h10 =>
    w_X16_go_v0_15 P a0 a1 a2 0 10 204 h10))) ∧
   (¬ a1 = y5 →
    w_X16_go_v0_15 P a0 a1 a2 0 0 0 h))
theorem wk_X16_go_v0_15 {x : CX} (X : Ok x cX16_go RX16 rm_X16_go_v0 4) (er : xrt x = (Option.none : Option Jvm.ClassFile.FieldType)) (en : xnm x = yX16_go.name) {P : AH → Prop} (hQ : xr_v x P) (x0 : Option Nat) (x1 : Int32) (x2 : Int32) (x3 : Int32) (u9 : Nat) (v9 : Nat) (h : AH) (hw : w_X16_go_v0_15 P x0 x1 x2 x3 u9 v9 h) : J x h u9 v9 15 [(0, vR x0), (1, vI x1), (2, vI x2), (3, vI x3)] [] := by
  refine hw (fun x3 u9 v9 h => J x h u9 v9 15 [(0, vR x0), (1, vI x1), (2, vI x2), (3, vI x3)] []) (fun x3 u9 v9 h hw => ?_)
  refine j_iload_n X (pc := 15) 3 dX16_go_15 rfl rfl ?_
  refine j_aload_n X (pc := 16) 0 dX16_go_16 rfl rfl ?_
  refine j_getq (ci := 14) X (pc := 17) in_X16 rfl (by decide) 2 (by decide) q1686 (Or.inl rfl) dX16_go_17 hw (fun y17 hw => ?_)
  refine j_alen X (pc := 20) dX16_go_20 hw (fun y20 hw => ?_)
  refine j_icmp_ge X (pc := 21) 68 dX16_go_21 (by decide) hw (fun hw => ?_) (fun hw => ?_)
  · obtain ⟨hu9, hv9, hw⟩ := hw
    exact j_vret X (pc := 68) hQ er hu9 hv9 dX16_go_68 hw
  · refine j_iload_n X (pc := 24) 1 dX16_go_24 rfl rfl ?_
    refine j_aload_n X (pc := 25) 0 dX16_go_25 rfl rfl ?_
    refine j_getq (ci := 14) X (pc := 26) in_X16 rfl (by decide) 2 (by decide) q1686 (Or.inl rfl) dX16_go_26 hw (fun y26 hw => ?_)
    refine j_alen X (pc := 29) dX16_go_29 hw (fun y29 hw => ?_)
    refine j_icmp_ge X (pc := 30) 68 dX16_go_30 (by decide) hw (fun hw => ?_) (fun hw => ?_)
    · obtain ⟨hu9, hv9, hw⟩ := hw
      exact j_vret X (pc := 68) hQ er hu9 hv9 dX16_go_68 hw
    · refine j_iload_n X (pc := 33) 2 dX16_go_33 rfl rfl ?_
      refine j_iload_n X (pc := 34) 3 dX16_go_34 rfl rfl ?_
      refine j_ishr X (pc := 35) dX16_go_35 ?_
      refine j_iconst X (pc := 36) 1 dX16_go_36 (by decide) ?_
      refine j_iand X (pc := 37) dX16_go_37 ?_
      refine j_if_ne X (pc := 38) 60 dX16_go_38 (by decide) hw (fun hw => ?_) (fun hw => ?_)
      · refine j_aload_n X (pc := 41) 0 dX16_go_41 rfl rfl ?_
        refine j_getq (ci := 14) X (pc := 42) in_X16 rfl (by decide) 2 (by decide) q1686 (Or.inl rfl) dX16_go_42 hw (fun y42 hw => ?_)
        refine j_iload_n X (pc := 45) 1 dX16_go_45 rfl rfl ?_
        refine j_iload_n X (pc := 46) 3 dX16_go_46 rfl rfl ?_
        have hnr := hw.1
        have hw := hw.2
        refine j_sast X (pc := 47) 3 rfl rfl hnr dX16_go_47 hw (fun h47 hw => ?_)
        refine j_aload_n X (pc := 48) 0 dX16_go_48 rfl rfl ?_
        refine j_iload_n X (pc := 49) 1 dX16_go_49 rfl rfl ?_
        refine j_iconst X (pc := 50) 1 dX16_go_50 (by decide) ?_
        refine j_iadd X (pc := 51) dX16_go_51 ?_
        refine j_iload_n X (pc := 52) 2 dX16_go_52 rfl rfl ?_
        refine j_iconst X (pc := 53) 1 dX16_go_53 (by decide) ?_
        refine j_iload_n X (pc := 54) 3 dX16_go_54 rfl rfl ?_
        refine j_ishl X (pc := 55) dX16_go_55 ?_
        refine j_ior X (pc := 56) dX16_go_56 ?_
        exact hw.elim
      · refine j_iload_n X (pc := 60) 3 dX16_go_60 rfl rfl ?_
        refine j_iconst X (pc := 61) 1 dX16_go_61 (by decide) ?_
        refine j_iadd X (pc := 62) dX16_go_62 ?_
        refine j_i2s X (pc := 63) dX16_go_63 ?_
        refine j_istore_n X (pc := 64) [(3, vI ((Int32.toInt16 (x3 + 1)).toInt32)), (0, vR x0), (1, vI x1), (2, vI x2)] dX16_go_64 rfl (Nat.le_of_ble_eq_true rfl) rfl ?_
        refine j_goto X (pc := 65) 15 dX16_go_65 (by decide) ?_
        refine j_lv [(0, vR x0), (1, vI x1), (2, vI x2), (3, vI ((Int32.toInt16 (x3 + 1)).toInt32))] [1, 2, 3, 0] rfl ?_
        exact hw
theorem met_X16_go_v0 (l : Launch) (hlt : l.stackTraces = false) (G : GG) (h : AH) (a0 : Option Nat) (a1 : Int32) (a2 : Int32) (P : AH → Prop) (hw : w_X16_go_v0 a0 a1 a2 h P) : ct_v l yX16_go (ws_ yX16_go cX16_go 4 (Option.none : Option Jvm.ClassFile.FieldType)) rm_X16_go_v0 G h [vR a0, vI a1, vI a2] P := by
  refine j_startv hlt [(0, vR a0), (1, vI a1), (2, vI a2)] (plainFor_of_name (by decide)) rfl rfl (fun x X eG er en hQ => ?_)
  subst eG
  refine j_iload_n X (pc := 0) 1 dX16_go_0 rfl rfl ?_
  refine j_aload_n X (pc := 1) 0 dX16_go_1 rfl rfl ?_
  refine j_getq (ci := 14) X (pc := 2) in_X16 rfl (by decide) 2 (by decide) q1686 (Or.inl rfl) dX16_go_2 hw (fun y2 hw => ?_)
  refine j_alen X (pc := 5) dX16_go_5 hw (fun y5 hw => ?_)
  refine j_icmp_ne X (pc := 6) 13 dX16_go_6 (by decide) hw (fun hw => ?_) (fun hw => ?_)
  · refine j_aload_n X (pc := 9) 0 dX16_go_9 rfl rfl ?_
    obtain ⟨b9, c9, f9, hr9, ho9, hc9, hw⟩ := hw
    obtain rfl := List.mem_singleton.mp hc9
    refine j_callv (j_runV (n8 := 0) (As := []) (rest := []) X (pc := 10) hr9 (met_X16_lay (xl x) X.hl (xG x) h a0 _ hw) ho9 (by decide) rfl q1706 q1708 qs31 q115 q1709 (by decide +kernel) dX16_go_10 rfl ⟨Nat.le_of_ble_eq_true rfl, Nat.le_of_ble_eq_true rfl⟩ (Nat.le_of_ble_eq_true rfl) ⟨Nat.le_of_ble_eq_true rfl, Nat.le_of_ble_eq_true rfl⟩) (fun h10 hw => ?_)
    refine j_iconst X (pc := 13) 0 dX16_go_13 (by decide) ?_
    refine j_istore_n X (pc := 14) [(3, vI 0), (0, vR a0), (1, vI a1), (2, vI a2)] dX16_go_14 rfl (Nat.le_of_ble_eq_true rfl) rfl ?_
    refine j_lv [(0, vR a0), (1, vI a1), (2, vI a2), (3, vI 0)] [1, 2, 3, 0] rfl ?_
    exact wk_X16_go_v0_15 X er en hQ a0 a1 a2 0 10 204 h10 hw
  · refine j_iconst X (pc := 13) 0 dX16_go_13 (by decide) ?_
    refine j_istore_n X (pc := 14) [(3, vI 0), (0, vR a0), (1, vI a1), (2, vI a2)] dX16_go_14 rfl (Nat.le_of_ble_eq_true rfl) rfl ?_
    refine j_lv [(0, vR a0), (1, vI a1), (2, vI a2), (3, vI 0)] [1, 2, 3, 0] rfl ?_
    exact wk_X16_go_v0_15 X er en hQ a0 a1 a2 0 0 0 h hw
abbrev rm_X16_go_v1 : Room := { frames := 10, cells := 50, slots := 1020, locals := 3173 }
def w_X16_go_v1_15 (P : AH → Prop) (x0 : Option Nat) (x1 : Int32) (x2 : Int32) (x3 : Int32) (u9 : Nat) (v9 : Nat) (h : AH) : Prop :=
  ∀ Z15 : Int32 → Nat → Nat → AH → Prop, (∀ x3 u9 v9 h, (
      g_q h x0 14 2 fun y17 =>
      n_a h y17 fun y20 =>
      ((y20 ≤ x3 →
        u9 ≤ 50 ∧ v9 ≤ 1020 ∧
        P h) ∧
       (¬ y20 ≤ x3 →
        g_q h x0 14 2 fun y26 =>
        n_a h y26 fun y29 =>
        ((y29 ≤ x1 →
          u9 ≤ 50 ∧ v9 ≤ 1020 ∧
          P h) ∧
         (¬ y29 ≤ x1 →
          ((((x2 >>> (x3 &&& 31)) &&& 1) = 0 →
            g_q h x0 14 2 fun y42 =>
            nrw .short x3 ∧
            s_i h y42 3 x1 x3 fun h47 =>
            u9 + 10 ≤ 50 ∧ v9 + 204 ≤ 1020 ∧
            is_c h47 x0 [14] (
            w_X16_go_v0 x0 (x1 + 1) (x2 ||| (1 <<< (x3 &&& 31))) h47 (fun h57 =>
            Z15 ((Int32.toInt16 (x3 + 1)).toInt32) (u9 + 10) (v9 + 204) h57))) ∧
           (¬ ((x2 >>> (x3 &&& 31)) &&& 1) = 0 →
            Z15 ((Int32.toInt16 (x3 + 1)).toInt32) u9 v9 h)))))))
      → Z15 x3 u9 v9 h) → Z15 x3 u9 v9 h
def w_X16_go_v1 (a0 : Option Nat) (a1 : Int32) (a2 : Int32) (h : AH) (P : AH → Prop) : Prop :=
  g_q h a0 14 2 fun y2 =>
  n_a h y2 fun y5 =>
  ((a1 = y5 →
    is_c h a0 [14] (
    w_X16_lay a0 h (fun h10 =>
    w_X16_go_v1_15 P a0 a1 a2 0 10 204 h10))) ∧
   (¬ a1 = y5 →
    w_X16_go_v1_15 P a0 a1 a2 0 0 0 h))
theorem wk_X16_go_v1_15 {x : CX} (X : Ok x cX16_go RX16 rm_X16_go_v1 4) (er : xrt x = (Option.none : Option Jvm.ClassFile.FieldType)) (en : xnm x = yX16_go.name) {P : AH → Prop} (hQ : xr_v x P) (x0 : Option Nat) (x1 : Int32) (x2 : Int32) (x3 : Int32) (u9 : Nat) (v9 : Nat) (h : AH) (hw : w_X16_go_v1_15 P x0 x1 x2 x3 u9 v9 h) : J x h u9 v9 15 [(0, vR x0), (1, vI x1), (2, vI x2), (3, vI x3)] [] := by
  refine hw (fun x3 u9 v9 h => J x h u9 v9 15 [(0, vR x0), (1, vI x1), (2, vI x2), (3, vI x3)] []) (fun x3 u9 v9 h hw => ?_)
  refine j_iload_n X (pc := 15) 3 dX16_go_15 rfl rfl ?_
  refine j_aload_n X (pc := 16) 0 dX16_go_16 rfl rfl ?_
  refine j_getq (ci := 14) X (pc := 17) in_X16 rfl (by decide) 2 (by decide) q1686 (Or.inl rfl) dX16_go_17 hw (fun y17 hw => ?_)
  refine j_alen X (pc := 20) dX16_go_20 hw (fun y20 hw => ?_)
  refine j_icmp_ge X (pc := 21) 68 dX16_go_21 (by decide) hw (fun hw => ?_) (fun hw => ?_)
  · obtain ⟨hu9, hv9, hw⟩ := hw
    exact j_vret X (pc := 68) hQ er hu9 hv9 dX16_go_68 hw
  · refine j_iload_n X (pc := 24) 1 dX16_go_24 rfl rfl ?_
    refine j_aload_n X (pc := 25) 0 dX16_go_25 rfl rfl ?_
    refine j_getq (ci := 14) X (pc := 26) in_X16 rfl (by decide) 2 (by decide) q1686 (Or.inl rfl) dX16_go_26 hw (fun y26 hw => ?_)
    refine j_alen X (pc := 29) dX16_go_29 hw (fun y29 hw => ?_)
    refine j_icmp_ge X (pc := 30) 68 dX16_go_30 (by decide) hw (fun hw => ?_) (fun hw => ?_)
    · obtain ⟨hu9, hv9, hw⟩ := hw
      exact j_vret X (pc := 68) hQ er hu9 hv9 dX16_go_68 hw
    · refine j_iload_n X (pc := 33) 2 dX16_go_33 rfl rfl ?_
      refine j_iload_n X (pc := 34) 3 dX16_go_34 rfl rfl ?_
      refine j_ishr X (pc := 35) dX16_go_35 ?_
      refine j_iconst X (pc := 36) 1 dX16_go_36 (by decide) ?_
      refine j_iand X (pc := 37) dX16_go_37 ?_
      refine j_if_ne X (pc := 38) 60 dX16_go_38 (by decide) hw (fun hw => ?_) (fun hw => ?_)
      · refine j_aload_n X (pc := 41) 0 dX16_go_41 rfl rfl ?_
        refine j_getq (ci := 14) X (pc := 42) in_X16 rfl (by decide) 2 (by decide) q1686 (Or.inl rfl) dX16_go_42 hw (fun y42 hw => ?_)
        refine j_iload_n X (pc := 45) 1 dX16_go_45 rfl rfl ?_
        refine j_iload_n X (pc := 46) 3 dX16_go_46 rfl rfl ?_
        have hnr := hw.1
        have hw := hw.2
        refine j_sast X (pc := 47) 3 rfl rfl hnr dX16_go_47 hw (fun h47 hw => ?_)
        refine j_aload_n X (pc := 48) 0 dX16_go_48 rfl rfl ?_
        refine j_iload_n X (pc := 49) 1 dX16_go_49 rfl rfl ?_
        refine j_iconst X (pc := 50) 1 dX16_go_50 (by decide) ?_
        refine j_iadd X (pc := 51) dX16_go_51 ?_
        refine j_iload_n X (pc := 52) 2 dX16_go_52 rfl rfl ?_
        refine j_iconst X (pc := 53) 1 dX16_go_53 (by decide) ?_
        refine j_iload_n X (pc := 54) 3 dX16_go_54 rfl rfl ?_
        refine j_ishl X (pc := 55) dX16_go_55 ?_
        refine j_ior X (pc := 56) dX16_go_56 ?_
        obtain ⟨hu9, hv9, hw⟩ := hw
        obtain ⟨b9, c9, f9, hr9, ho9, hc9, hw⟩ := hw
        obtain rfl := List.mem_singleton.mp hc9
        refine j_callv (j_runV (n8 := 2) (As := [vI (x1 + 1), vI (x2 ||| (1 <<< (x3 &&& 31)))]) (rest := []) X (pc := 57) hr9 (met_X16_go_v0 (xl x) X.hl (xG x) h47 x0 (x1 + 1) (x2 ||| (1 <<< (x3 &&& 31))) _ hw) ho9 (by decide) rfl q1798 q1703 q1704 q115 q1705 (by decide +kernel) dX16_go_57 rfl ⟨Nat.le_of_ble_eq_true rfl, Nat.le_of_ble_eq_true rfl⟩ (Nat.le_of_ble_eq_true rfl) ⟨hu9, hv9⟩) (fun h57 hw => ?_)
        refine j_iload_n X (pc := 60) 3 dX16_go_60 rfl rfl ?_
        refine j_iconst X (pc := 61) 1 dX16_go_61 (by decide) ?_
        refine j_iadd X (pc := 62) dX16_go_62 ?_
        refine j_i2s X (pc := 63) dX16_go_63 ?_
        refine j_istore_n X (pc := 64) [(3, vI ((Int32.toInt16 (x3 + 1)).toInt32)), (0, vR x0), (1, vI x1), (2, vI x2)] dX16_go_64 rfl (Nat.le_of_ble_eq_true rfl) rfl ?_
        refine j_goto X (pc := 65) 15 dX16_go_65 (by decide) ?_
        refine j_lv [(0, vR x0), (1, vI x1), (2, vI x2), (3, vI ((Int32.toInt16 (x3 + 1)).toInt32))] [1, 2, 3, 0] rfl ?_
        exact hw
      · refine j_iload_n X (pc := 60) 3 dX16_go_60 rfl rfl ?_
        refine j_iconst X (pc := 61) 1 dX16_go_61 (by decide) ?_
        refine j_iadd X (pc := 62) dX16_go_62 ?_
        refine j_i2s X (pc := 63) dX16_go_63 ?_
        refine j_istore_n X (pc := 64) [(3, vI ((Int32.toInt16 (x3 + 1)).toInt32)), (0, vR x0), (1, vI x1), (2, vI x2)] dX16_go_64 rfl (Nat.le_of_ble_eq_true rfl) rfl ?_
        refine j_goto X (pc := 65) 15 dX16_go_65 (by decide) ?_
        refine j_lv [(0, vR x0), (1, vI x1), (2, vI x2), (3, vI ((Int32.toInt16 (x3 + 1)).toInt32))] [1, 2, 3, 0] rfl ?_
        exact hw
theorem met_X16_go_v1 (l : Launch) (hlt : l.stackTraces = false) (G : GG) (h : AH) (a0 : Option Nat) (a1 : Int32) (a2 : Int32) (P : AH → Prop) (hw : w_X16_go_v1 a0 a1 a2 h P) : ct_v l yX16_go (ws_ yX16_go cX16_go 4 (Option.none : Option Jvm.ClassFile.FieldType)) rm_X16_go_v1 G h [vR a0, vI a1, vI a2] P := by
  refine j_startv hlt [(0, vR a0), (1, vI a1), (2, vI a2)] (plainFor_of_name (by decide)) rfl rfl (fun x X eG er en hQ => ?_)
  subst eG
  refine j_iload_n X (pc := 0) 1 dX16_go_0 rfl rfl ?_
  refine j_aload_n X (pc := 1) 0 dX16_go_1 rfl rfl ?_
  refine j_getq (ci := 14) X (pc := 2) in_X16 rfl (by decide) 2 (by decide) q1686 (Or.inl rfl) dX16_go_2 hw (fun y2 hw => ?_)
  refine j_alen X (pc := 5) dX16_go_5 hw (fun y5 hw => ?_)
  refine j_icmp_ne X (pc := 6) 13 dX16_go_6 (by decide) hw (fun hw => ?_) (fun hw => ?_)
  · refine j_aload_n X (pc := 9) 0 dX16_go_9 rfl rfl ?_
    obtain ⟨b9, c9, f9, hr9, ho9, hc9, hw⟩ := hw
    obtain rfl := List.mem_singleton.mp hc9
    refine j_callv (j_runV (n8 := 0) (As := []) (rest := []) X (pc := 10) hr9 (met_X16_lay (xl x) X.hl (xG x) h a0 _ hw) ho9 (by decide) rfl q1706 q1708 qs31 q115 q1709 (by decide +kernel) dX16_go_10 rfl ⟨Nat.le_of_ble_eq_true rfl, Nat.le_of_ble_eq_true rfl⟩ (Nat.le_of_ble_eq_true rfl) ⟨Nat.le_of_ble_eq_true rfl, Nat.le_of_ble_eq_true rfl⟩) (fun h10 hw => ?_)
    refine j_iconst X (pc := 13) 0 dX16_go_13 (by decide) ?_
    refine j_istore_n X (pc := 14) [(3, vI 0), (0, vR a0), (1, vI a1), (2, vI a2)] dX16_go_14 rfl (Nat.le_of_ble_eq_true rfl) rfl ?_
    refine j_lv [(0, vR a0), (1, vI a1), (2, vI a2), (3, vI 0)] [1, 2, 3, 0] rfl ?_
    exact wk_X16_go_v1_15 X er en hQ a0 a1 a2 0 10 204 h10 hw
  · refine j_iconst X (pc := 13) 0 dX16_go_13 (by decide) ?_
    refine j_istore_n X (pc := 14) [(3, vI 0), (0, vR a0), (1, vI a1), (2, vI a2)] dX16_go_14 rfl (Nat.le_of_ble_eq_true rfl) rfl ?_
    refine j_lv [(0, vR a0), (1, vI a1), (2, vI a2), (3, vI 0)] [1, 2, 3, 0] rfl ?_
    exact wk_X16_go_v1_15 X er en hQ a0 a1 a2 0 0 0 h hw
abbrev rm_X16_go_v2 : Room := { frames := 11, cells := 210, slots := 4284, locals := 3196 }
def w_X16_go_v2_15 (P : AH → Prop) (x0 : Option Nat) (x1 : Int32) (x2 : Int32) (x3 : Int32) (u9 : Nat) (v9 : Nat) (h : AH) : Prop :=
  ∀ Z15 : Int32 → Nat → Nat → AH → Prop, (∀ x3 u9 v9 h, (
      g_q h x0 14 2 fun y17 =>
      n_a h y17 fun y20 =>
      ((y20 ≤ x3 →
        u9 ≤ 210 ∧ v9 ≤ 4284 ∧
        P h) ∧
       (¬ y20 ≤ x3 →
        g_q h x0 14 2 fun y26 =>
        n_a h y26 fun y29 =>
        ((y29 ≤ x1 →
          u9 ≤ 210 ∧ v9 ≤ 4284 ∧
          P h) ∧
         (¬ y29 ≤ x1 →
          ((((x2 >>> (x3 &&& 31)) &&& 1) = 0 →
            g_q h x0 14 2 fun y42 =>
            nrw .short x3 ∧
            s_i h y42 3 x1 x3 fun h47 =>
            u9 + 50 ≤ 210 ∧ v9 + 1020 ≤ 4284 ∧
            is_c h47 x0 [14] (
            w_X16_go_v1 x0 (x1 + 1) (x2 ||| (1 <<< (x3 &&& 31))) h47 (fun h57 =>
            Z15 ((Int32.toInt16 (x3 + 1)).toInt32) (u9 + 50) (v9 + 1020) h57))) ∧
           (¬ ((x2 >>> (x3 &&& 31)) &&& 1) = 0 →
            Z15 ((Int32.toInt16 (x3 + 1)).toInt32) u9 v9 h)))))))
      → Z15 x3 u9 v9 h) → Z15 x3 u9 v9 h
def w_X16_go_v2 (a0 : Option Nat) (a1 : Int32) (a2 : Int32) (h : AH) (P : AH → Prop) : Prop :=
  g_q h a0 14 2 fun y2 =>
  n_a h y2 fun y5 =>
  ((a1 = y5 →
    is_c h a0 [14] (
    w_X16_lay a0 h (fun h10 =>
    w_X16_go_v2_15 P a0 a1 a2 0 10 204 h10))) ∧
   (¬ a1 = y5 →
    w_X16_go_v2_15 P a0 a1 a2 0 0 0 h))
theorem wk_X16_go_v2_15 {x : CX} (X : Ok x cX16_go RX16 rm_X16_go_v2 4) (er : xrt x = (Option.none : Option Jvm.ClassFile.FieldType)) (en : xnm x = yX16_go.name) {P : AH → Prop} (hQ : xr_v x P) (x0 : Option Nat) (x1 : Int32) (x2 : Int32) (x3 : Int32) (u9 : Nat) (v9 : Nat) (h : AH) (hw : w_X16_go_v2_15 P x0 x1 x2 x3 u9 v9 h) : J x h u9 v9 15 [(0, vR x0), (1, vI x1), (2, vI x2), (3, vI x3)] [] := by
  refine hw (fun x3 u9 v9 h => J x h u9 v9 15 [(0, vR x0), (1, vI x1), (2, vI x2), (3, vI x3)] []) (fun x3 u9 v9 h hw => ?_)
  refine j_iload_n X (pc := 15) 3 dX16_go_15 rfl rfl ?_
  refine j_aload_n X (pc := 16) 0 dX16_go_16 rfl rfl ?_
  refine j_getq (ci := 14) X (pc := 17) in_X16 rfl (by decide) 2 (by decide) q1686 (Or.inl rfl) dX16_go_17 hw (fun y17 hw => ?_)
  refine j_alen X (pc := 20) dX16_go_20 hw (fun y20 hw => ?_)
  refine j_icmp_ge X (pc := 21) 68 dX16_go_21 (by decide) hw (fun hw => ?_) (fun hw => ?_)
  · obtain ⟨hu9, hv9, hw⟩ := hw
    exact j_vret X (pc := 68) hQ er hu9 hv9 dX16_go_68 hw
  · refine j_iload_n X (pc := 24) 1 dX16_go_24 rfl rfl ?_
    refine j_aload_n X (pc := 25) 0 dX16_go_25 rfl rfl ?_
    refine j_getq (ci := 14) X (pc := 26) in_X16 rfl (by decide) 2 (by decide) q1686 (Or.inl rfl) dX16_go_26 hw (fun y26 hw => ?_)
    refine j_alen X (pc := 29) dX16_go_29 hw (fun y29 hw => ?_)
    refine j_icmp_ge X (pc := 30) 68 dX16_go_30 (by decide) hw (fun hw => ?_) (fun hw => ?_)
    · obtain ⟨hu9, hv9, hw⟩ := hw
      exact j_vret X (pc := 68) hQ er hu9 hv9 dX16_go_68 hw
    · refine j_iload_n X (pc := 33) 2 dX16_go_33 rfl rfl ?_
      refine j_iload_n X (pc := 34) 3 dX16_go_34 rfl rfl ?_
      refine j_ishr X (pc := 35) dX16_go_35 ?_
      refine j_iconst X (pc := 36) 1 dX16_go_36 (by decide) ?_
      refine j_iand X (pc := 37) dX16_go_37 ?_
      refine j_if_ne X (pc := 38) 60 dX16_go_38 (by decide) hw (fun hw => ?_) (fun hw => ?_)
      · refine j_aload_n X (pc := 41) 0 dX16_go_41 rfl rfl ?_
        refine j_getq (ci := 14) X (pc := 42) in_X16 rfl (by decide) 2 (by decide) q1686 (Or.inl rfl) dX16_go_42 hw (fun y42 hw => ?_)
        refine j_iload_n X (pc := 45) 1 dX16_go_45 rfl rfl ?_
        refine j_iload_n X (pc := 46) 3 dX16_go_46 rfl rfl ?_
        have hnr := hw.1
        have hw := hw.2
        refine j_sast X (pc := 47) 3 rfl rfl hnr dX16_go_47 hw (fun h47 hw => ?_)
        refine j_aload_n X (pc := 48) 0 dX16_go_48 rfl rfl ?_
        refine j_iload_n X (pc := 49) 1 dX16_go_49 rfl rfl ?_
        refine j_iconst X (pc := 50) 1 dX16_go_50 (by decide) ?_
        refine j_iadd X (pc := 51) dX16_go_51 ?_
        refine j_iload_n X (pc := 52) 2 dX16_go_52 rfl rfl ?_
        refine j_iconst X (pc := 53) 1 dX16_go_53 (by decide) ?_
        refine j_iload_n X (pc := 54) 3 dX16_go_54 rfl rfl ?_
        refine j_ishl X (pc := 55) dX16_go_55 ?_
        refine j_ior X (pc := 56) dX16_go_56 ?_
        obtain ⟨hu9, hv9, hw⟩ := hw
        obtain ⟨b9, c9, f9, hr9, ho9, hc9, hw⟩ := hw
        obtain rfl := List.mem_singleton.mp hc9
        refine j_callv (j_runV (n8 := 2) (As := [vI (x1 + 1), vI (x2 ||| (1 <<< (x3 &&& 31)))]) (rest := []) X (pc := 57) hr9 (met_X16_go_v1 (xl x) X.hl (xG x) h47 x0 (x1 + 1) (x2 ||| (1 <<< (x3 &&& 31))) _ hw) ho9 (by decide) rfl q1798 q1703 q1704 q115 q1705 (by decide +kernel) dX16_go_57 rfl ⟨Nat.le_of_ble_eq_true rfl, Nat.le_of_ble_eq_true rfl⟩ (Nat.le_of_ble_eq_true rfl) ⟨hu9, hv9⟩) (fun h57 hw => ?_)
        refine j_iload_n X (pc := 60) 3 dX16_go_60 rfl rfl ?_
        refine j_iconst X (pc := 61) 1 dX16_go_61 (by decide) ?_
        refine j_iadd X (pc := 62) dX16_go_62 ?_
        refine j_i2s X (pc := 63) dX16_go_63 ?_
        refine j_istore_n X (pc := 64) [(3, vI ((Int32.toInt16 (x3 + 1)).toInt32)), (0, vR x0), (1, vI x1), (2, vI x2)] dX16_go_64 rfl (Nat.le_of_ble_eq_true rfl) rfl ?_
        refine j_goto X (pc := 65) 15 dX16_go_65 (by decide) ?_
        refine j_lv [(0, vR x0), (1, vI x1), (2, vI x2), (3, vI ((Int32.toInt16 (x3 + 1)).toInt32))] [1, 2, 3, 0] rfl ?_
        exact hw
      · refine j_iload_n X (pc := 60) 3 dX16_go_60 rfl rfl ?_
        refine j_iconst X (pc := 61) 1 dX16_go_61 (by decide) ?_
        refine j_iadd X (pc := 62) dX16_go_62 ?_
        refine j_i2s X (pc := 63) dX16_go_63 ?_
        refine j_istore_n X (pc := 64) [(3, vI ((Int32.toInt16 (x3 + 1)).toInt32)), (0, vR x0), (1, vI x1), (2, vI x2)] dX16_go_64 rfl (Nat.le_of_ble_eq_true rfl) rfl ?_
        refine j_goto X (pc := 65) 15 dX16_go_65 (by decide) ?_
        refine j_lv [(0, vR x0), (1, vI x1), (2, vI x2), (3, vI ((Int32.toInt16 (x3 + 1)).toInt32))] [1, 2, 3, 0] rfl ?_
        exact hw
theorem met_X16_go_v2 (l : Launch) (hlt : l.stackTraces = false) (G : GG) (h : AH) (a0 : Option Nat) (a1 : Int32) (a2 : Int32) (P : AH → Prop) (hw : w_X16_go_v2 a0 a1 a2 h P) : ct_v l yX16_go (ws_ yX16_go cX16_go 4 (Option.none : Option Jvm.ClassFile.FieldType)) rm_X16_go_v2 G h [vR a0, vI a1, vI a2] P := by
  refine j_startv hlt [(0, vR a0), (1, vI a1), (2, vI a2)] (plainFor_of_name (by decide)) rfl rfl (fun x X eG er en hQ => ?_)
  subst eG
  refine j_iload_n X (pc := 0) 1 dX16_go_0 rfl rfl ?_
  refine j_aload_n X (pc := 1) 0 dX16_go_1 rfl rfl ?_
  refine j_getq (ci := 14) X (pc := 2) in_X16 rfl (by decide) 2 (by decide) q1686 (Or.inl rfl) dX16_go_2 hw (fun y2 hw => ?_)
  refine j_alen X (pc := 5) dX16_go_5 hw (fun y5 hw => ?_)
  refine j_icmp_ne X (pc := 6) 13 dX16_go_6 (by decide) hw (fun hw => ?_) (fun hw => ?_)
  · refine j_aload_n X (pc := 9) 0 dX16_go_9 rfl rfl ?_
    obtain ⟨b9, c9, f9, hr9, ho9, hc9, hw⟩ := hw
    obtain rfl := List.mem_singleton.mp hc9
    refine j_callv (j_runV (n8 := 0) (As := []) (rest := []) X (pc := 10) hr9 (met_X16_lay (xl x) X.hl (xG x) h a0 _ hw) ho9 (by decide) rfl q1706 q1708 qs31 q115 q1709 (by decide +kernel) dX16_go_10 rfl ⟨Nat.le_of_ble_eq_true rfl, Nat.le_of_ble_eq_true rfl⟩ (Nat.le_of_ble_eq_true rfl) ⟨Nat.le_of_ble_eq_true rfl, Nat.le_of_ble_eq_true rfl⟩) (fun h10 hw => ?_)
    refine j_iconst X (pc := 13) 0 dX16_go_13 (by decide) ?_
    refine j_istore_n X (pc := 14) [(3, vI 0), (0, vR a0), (1, vI a1), (2, vI a2)] dX16_go_14 rfl (Nat.le_of_ble_eq_true rfl) rfl ?_
    refine j_lv [(0, vR a0), (1, vI a1), (2, vI a2), (3, vI 0)] [1, 2, 3, 0] rfl ?_
    exact wk_X16_go_v2_15 X er en hQ a0 a1 a2 0 10 204 h10 hw
  · refine j_iconst X (pc := 13) 0 dX16_go_13 (by decide) ?_
    refine j_istore_n X (pc := 14) [(3, vI 0), (0, vR a0), (1, vI a1), (2, vI a2)] dX16_go_14 rfl (Nat.le_of_ble_eq_true rfl) rfl ?_
    refine j_lv [(0, vR a0), (1, vI a1), (2, vI a2), (3, vI 0)] [1, 2, 3, 0] rfl ?_
    exact wk_X16_go_v2_15 X er en hQ a0 a1 a2 0 0 0 h hw
abbrev rm_X16_go_v3 : Room := { frames := 12, cells := 850, slots := 17340, locals := 3219 }
def w_X16_go_v3_15 (P : AH → Prop) (x0 : Option Nat) (x1 : Int32) (x2 : Int32) (x3 : Int32) (u9 : Nat) (v9 : Nat) (h : AH) : Prop :=
  ∀ Z15 : Int32 → Nat → Nat → AH → Prop, (∀ x3 u9 v9 h, (
      g_q h x0 14 2 fun y17 =>
      n_a h y17 fun y20 =>
      ((y20 ≤ x3 →
        u9 ≤ 850 ∧ v9 ≤ 17340 ∧
        P h) ∧
       (¬ y20 ≤ x3 →
        g_q h x0 14 2 fun y26 =>
        n_a h y26 fun y29 =>
        ((y29 ≤ x1 →
          u9 ≤ 850 ∧ v9 ≤ 17340 ∧
          P h) ∧
         (¬ y29 ≤ x1 →
          ((((x2 >>> (x3 &&& 31)) &&& 1) = 0 →
            g_q h x0 14 2 fun y42 =>
            nrw .short x3 ∧
            s_i h y42 3 x1 x3 fun h47 =>
            u9 + 210 ≤ 850 ∧ v9 + 4284 ≤ 17340 ∧
            is_c h47 x0 [14] (
            w_X16_go_v2 x0 (x1 + 1) (x2 ||| (1 <<< (x3 &&& 31))) h47 (fun h57 =>
            Z15 ((Int32.toInt16 (x3 + 1)).toInt32) (u9 + 210) (v9 + 4284) h57))) ∧
           (¬ ((x2 >>> (x3 &&& 31)) &&& 1) = 0 →
            Z15 ((Int32.toInt16 (x3 + 1)).toInt32) u9 v9 h)))))))
      → Z15 x3 u9 v9 h) → Z15 x3 u9 v9 h
def w_X16_go_v3 (a0 : Option Nat) (a1 : Int32) (a2 : Int32) (h : AH) (P : AH → Prop) : Prop :=
  g_q h a0 14 2 fun y2 =>
  n_a h y2 fun y5 =>
  ((a1 = y5 →
    is_c h a0 [14] (
    w_X16_lay a0 h (fun h10 =>
    w_X16_go_v3_15 P a0 a1 a2 0 10 204 h10))) ∧
   (¬ a1 = y5 →
    w_X16_go_v3_15 P a0 a1 a2 0 0 0 h))
theorem wk_X16_go_v3_15 {x : CX} (X : Ok x cX16_go RX16 rm_X16_go_v3 4) (er : xrt x = (Option.none : Option Jvm.ClassFile.FieldType)) (en : xnm x = yX16_go.name) {P : AH → Prop} (hQ : xr_v x P) (x0 : Option Nat) (x1 : Int32) (x2 : Int32) (x3 : Int32) (u9 : Nat) (v9 : Nat) (h : AH) (hw : w_X16_go_v3_15 P x0 x1 x2 x3 u9 v9 h) : J x h u9 v9 15 [(0, vR x0), (1, vI x1), (2, vI x2), (3, vI x3)] [] := by
  refine hw (fun x3 u9 v9 h => J x h u9 v9 15 [(0, vR x0), (1, vI x1), (2, vI x2), (3, vI x3)] []) (fun x3 u9 v9 h hw => ?_)
  refine j_iload_n X (pc := 15) 3 dX16_go_15 rfl rfl ?_
  refine j_aload_n X (pc := 16) 0 dX16_go_16 rfl rfl ?_
  refine j_getq (ci := 14) X (pc := 17) in_X16 rfl (by decide) 2 (by decide) q1686 (Or.inl rfl) dX16_go_17 hw (fun y17 hw => ?_)
  refine j_alen X (pc := 20) dX16_go_20 hw (fun y20 hw => ?_)
  refine j_icmp_ge X (pc := 21) 68 dX16_go_21 (by decide) hw (fun hw => ?_) (fun hw => ?_)
  · obtain ⟨hu9, hv9, hw⟩ := hw
    exact j_vret X (pc := 68) hQ er hu9 hv9 dX16_go_68 hw
  · refine j_iload_n X (pc := 24) 1 dX16_go_24 rfl rfl ?_
    refine j_aload_n X (pc := 25) 0 dX16_go_25 rfl rfl ?_
    refine j_getq (ci := 14) X (pc := 26) in_X16 rfl (by decide) 2 (by decide) q1686 (Or.inl rfl) dX16_go_26 hw (fun y26 hw => ?_)
    refine j_alen X (pc := 29) dX16_go_29 hw (fun y29 hw => ?_)
    refine j_icmp_ge X (pc := 30) 68 dX16_go_30 (by decide) hw (fun hw => ?_) (fun hw => ?_)
    · obtain ⟨hu9, hv9, hw⟩ := hw
      exact j_vret X (pc := 68) hQ er hu9 hv9 dX16_go_68 hw
    · refine j_iload_n X (pc := 33) 2 dX16_go_33 rfl rfl ?_
      refine j_iload_n X (pc := 34) 3 dX16_go_34 rfl rfl ?_
      refine j_ishr X (pc := 35) dX16_go_35 ?_
      refine j_iconst X (pc := 36) 1 dX16_go_36 (by decide) ?_
      refine j_iand X (pc := 37) dX16_go_37 ?_
      refine j_if_ne X (pc := 38) 60 dX16_go_38 (by decide) hw (fun hw => ?_) (fun hw => ?_)
      · refine j_aload_n X (pc := 41) 0 dX16_go_41 rfl rfl ?_
        refine j_getq (ci := 14) X (pc := 42) in_X16 rfl (by decide) 2 (by decide) q1686 (Or.inl rfl) dX16_go_42 hw (fun y42 hw => ?_)
        refine j_iload_n X (pc := 45) 1 dX16_go_45 rfl rfl ?_
        refine j_iload_n X (pc := 46) 3 dX16_go_46 rfl rfl ?_
        have hnr := hw.1
        have hw := hw.2
        refine j_sast X (pc := 47) 3 rfl rfl hnr dX16_go_47 hw (fun h47 hw => ?_)
        refine j_aload_n X (pc := 48) 0 dX16_go_48 rfl rfl ?_
        refine j_iload_n X (pc := 49) 1 dX16_go_49 rfl rfl ?_
        refine j_iconst X (pc := 50) 1 dX16_go_50 (by decide) ?_
        refine j_iadd X (pc := 51) dX16_go_51 ?_
        refine j_iload_n X (pc := 52) 2 dX16_go_52 rfl rfl ?_
        refine j_iconst X (pc := 53) 1 dX16_go_53 (by decide) ?_
        refine j_iload_n X (pc := 54) 3 dX16_go_54 rfl rfl ?_
        refine j_ishl X (pc := 55) dX16_go_55 ?_
        refine j_ior X (pc := 56) dX16_go_56 ?_
        obtain ⟨hu9, hv9, hw⟩ := hw
        obtain ⟨b9, c9, f9, hr9, ho9, hc9, hw⟩ := hw
        obtain rfl := List.mem_singleton.mp hc9
        refine j_callv (j_runV (n8 := 2) (As := [vI (x1 + 1), vI (x2 ||| (1 <<< (x3 &&& 31)))]) (rest := []) X (pc := 57) hr9 (met_X16_go_v2 (xl x) X.hl (xG x) h47 x0 (x1 + 1) (x2 ||| (1 <<< (x3 &&& 31))) _ hw) ho9 (by decide) rfl q1798 q1703 q1704 q115 q1705 (by decide +kernel) dX16_go_57 rfl ⟨Nat.le_of_ble_eq_true rfl, Nat.le_of_ble_eq_true rfl⟩ (Nat.le_of_ble_eq_true rfl) ⟨hu9, hv9⟩) (fun h57 hw => ?_)
        refine j_iload_n X (pc := 60) 3 dX16_go_60 rfl rfl ?_
        refine j_iconst X (pc := 61) 1 dX16_go_61 (by decide) ?_
        refine j_iadd X (pc := 62) dX16_go_62 ?_
        refine j_i2s X (pc := 63) dX16_go_63 ?_
        refine j_istore_n X (pc := 64) [(3, vI ((Int32.toInt16 (x3 + 1)).toInt32)), (0, vR x0), (1, vI x1), (2, vI x2)] dX16_go_64 rfl (Nat.le_of_ble_eq_true rfl) rfl ?_
        refine j_goto X (pc := 65) 15 dX16_go_65 (by decide) ?_
        refine j_lv [(0, vR x0), (1, vI x1), (2, vI x2), (3, vI ((Int32.toInt16 (x3 + 1)).toInt32))] [1, 2, 3, 0] rfl ?_
        exact hw
      · refine j_iload_n X (pc := 60) 3 dX16_go_60 rfl rfl ?_
        refine j_iconst X (pc := 61) 1 dX16_go_61 (by decide) ?_
        refine j_iadd X (pc := 62) dX16_go_62 ?_
        refine j_i2s X (pc := 63) dX16_go_63 ?_
        refine j_istore_n X (pc := 64) [(3, vI ((Int32.toInt16 (x3 + 1)).toInt32)), (0, vR x0), (1, vI x1), (2, vI x2)] dX16_go_64 rfl (Nat.le_of_ble_eq_true rfl) rfl ?_
        refine j_goto X (pc := 65) 15 dX16_go_65 (by decide) ?_
        refine j_lv [(0, vR x0), (1, vI x1), (2, vI x2), (3, vI ((Int32.toInt16 (x3 + 1)).toInt32))] [1, 2, 3, 0] rfl ?_
        exact hw
theorem met_X16_go_v3 (l : Launch) (hlt : l.stackTraces = false) (G : GG) (h : AH) (a0 : Option Nat) (a1 : Int32) (a2 : Int32) (P : AH → Prop) (hw : w_X16_go_v3 a0 a1 a2 h P) : ct_v l yX16_go (ws_ yX16_go cX16_go 4 (Option.none : Option Jvm.ClassFile.FieldType)) rm_X16_go_v3 G h [vR a0, vI a1, vI a2] P := by
  refine j_startv hlt [(0, vR a0), (1, vI a1), (2, vI a2)] (plainFor_of_name (by decide)) rfl rfl (fun x X eG er en hQ => ?_)
  subst eG
  refine j_iload_n X (pc := 0) 1 dX16_go_0 rfl rfl ?_
  refine j_aload_n X (pc := 1) 0 dX16_go_1 rfl rfl ?_
  refine j_getq (ci := 14) X (pc := 2) in_X16 rfl (by decide) 2 (by decide) q1686 (Or.inl rfl) dX16_go_2 hw (fun y2 hw => ?_)
  refine j_alen X (pc := 5) dX16_go_5 hw (fun y5 hw => ?_)
  refine j_icmp_ne X (pc := 6) 13 dX16_go_6 (by decide) hw (fun hw => ?_) (fun hw => ?_)
  · refine j_aload_n X (pc := 9) 0 dX16_go_9 rfl rfl ?_
    obtain ⟨b9, c9, f9, hr9, ho9, hc9, hw⟩ := hw
    obtain rfl := List.mem_singleton.mp hc9
    refine j_callv (j_runV (n8 := 0) (As := []) (rest := []) X (pc := 10) hr9 (met_X16_lay (xl x) X.hl (xG x) h a0 _ hw) ho9 (by decide) rfl q1706 q1708 qs31 q115 q1709 (by decide +kernel) dX16_go_10 rfl ⟨Nat.le_of_ble_eq_true rfl, Nat.le_of_ble_eq_true rfl⟩ (Nat.le_of_ble_eq_true rfl) ⟨Nat.le_of_ble_eq_true rfl, Nat.le_of_ble_eq_true rfl⟩) (fun h10 hw => ?_)
    refine j_iconst X (pc := 13) 0 dX16_go_13 (by decide) ?_
    refine j_istore_n X (pc := 14) [(3, vI 0), (0, vR a0), (1, vI a1), (2, vI a2)] dX16_go_14 rfl (Nat.le_of_ble_eq_true rfl) rfl ?_
    refine j_lv [(0, vR a0), (1, vI a1), (2, vI a2), (3, vI 0)] [1, 2, 3, 0] rfl ?_
    exact wk_X16_go_v3_15 X er en hQ a0 a1 a2 0 10 204 h10 hw
  · refine j_iconst X (pc := 13) 0 dX16_go_13 (by decide) ?_
    refine j_istore_n X (pc := 14) [(3, vI 0), (0, vR a0), (1, vI a1), (2, vI a2)] dX16_go_14 rfl (Nat.le_of_ble_eq_true rfl) rfl ?_
    refine j_lv [(0, vR a0), (1, vI a1), (2, vI a2), (3, vI 0)] [1, 2, 3, 0] rfl ?_
    exact wk_X16_go_v3_15 X er en hQ a0 a1 a2 0 0 0 h hw
abbrev rm_X16_go_v4 : Room := { frames := 13, cells := 3410, slots := 69564, locals := 3242 }
def w_X16_go_v4_15 (P : AH → Prop) (x0 : Option Nat) (x1 : Int32) (x2 : Int32) (x3 : Int32) (u9 : Nat) (v9 : Nat) (h : AH) : Prop :=
  ∀ Z15 : Int32 → Nat → Nat → AH → Prop, (∀ x3 u9 v9 h, (
      g_q h x0 14 2 fun y17 =>
      n_a h y17 fun y20 =>
      ((y20 ≤ x3 →
        u9 ≤ 3410 ∧ v9 ≤ 69564 ∧
        P h) ∧
       (¬ y20 ≤ x3 →
        g_q h x0 14 2 fun y26 =>
        n_a h y26 fun y29 =>
        ((y29 ≤ x1 →
          u9 ≤ 3410 ∧ v9 ≤ 69564 ∧
          P h) ∧
         (¬ y29 ≤ x1 →
          ((((x2 >>> (x3 &&& 31)) &&& 1) = 0 →
            g_q h x0 14 2 fun y42 =>
            nrw .short x3 ∧
            s_i h y42 3 x1 x3 fun h47 =>
            u9 + 850 ≤ 3410 ∧ v9 + 17340 ≤ 69564 ∧
            is_c h47 x0 [14] (
            w_X16_go_v3 x0 (x1 + 1) (x2 ||| (1 <<< (x3 &&& 31))) h47 (fun h57 =>
            Z15 ((Int32.toInt16 (x3 + 1)).toInt32) (u9 + 850) (v9 + 17340) h57))) ∧
           (¬ ((x2 >>> (x3 &&& 31)) &&& 1) = 0 →
            Z15 ((Int32.toInt16 (x3 + 1)).toInt32) u9 v9 h)))))))
      → Z15 x3 u9 v9 h) → Z15 x3 u9 v9 h
def w_X16_go_v4 (a0 : Option Nat) (a1 : Int32) (a2 : Int32) (h : AH) (P : AH → Prop) : Prop :=
  g_q h a0 14 2 fun y2 =>
  n_a h y2 fun y5 =>
  ((a1 = y5 →
    is_c h a0 [14] (
    w_X16_lay a0 h (fun h10 =>
    w_X16_go_v4_15 P a0 a1 a2 0 10 204 h10))) ∧
   (¬ a1 = y5 →
    w_X16_go_v4_15 P a0 a1 a2 0 0 0 h))
theorem wk_X16_go_v4_15 {x : CX} (X : Ok x cX16_go RX16 rm_X16_go_v4 4) (er : xrt x = (Option.none : Option Jvm.ClassFile.FieldType)) (en : xnm x = yX16_go.name) {P : AH → Prop} (hQ : xr_v x P) (x0 : Option Nat) (x1 : Int32) (x2 : Int32) (x3 : Int32) (u9 : Nat) (v9 : Nat) (h : AH) (hw : w_X16_go_v4_15 P x0 x1 x2 x3 u9 v9 h) : J x h u9 v9 15 [(0, vR x0), (1, vI x1), (2, vI x2), (3, vI x3)] [] := by
  refine hw (fun x3 u9 v9 h => J x h u9 v9 15 [(0, vR x0), (1, vI x1), (2, vI x2), (3, vI x3)] []) (fun x3 u9 v9 h hw => ?_)
  refine j_iload_n X (pc := 15) 3 dX16_go_15 rfl rfl ?_
  refine j_aload_n X (pc := 16) 0 dX16_go_16 rfl rfl ?_
  refine j_getq (ci := 14) X (pc := 17) in_X16 rfl (by decide) 2 (by decide) q1686 (Or.inl rfl) dX16_go_17 hw (fun y17 hw => ?_)
  refine j_alen X (pc := 20) dX16_go_20 hw (fun y20 hw => ?_)
  refine j_icmp_ge X (pc := 21) 68 dX16_go_21 (by decide) hw (fun hw => ?_) (fun hw => ?_)
  · obtain ⟨hu9, hv9, hw⟩ := hw
    exact j_vret X (pc := 68) hQ er hu9 hv9 dX16_go_68 hw
  · refine j_iload_n X (pc := 24) 1 dX16_go_24 rfl rfl ?_
    refine j_aload_n X (pc := 25) 0 dX16_go_25 rfl rfl ?_
    refine j_getq (ci := 14) X (pc := 26) in_X16 rfl (by decide) 2 (by decide) q1686 (Or.inl rfl) dX16_go_26 hw (fun y26 hw => ?_)
    refine j_alen X (pc := 29) dX16_go_29 hw (fun y29 hw => ?_)
    refine j_icmp_ge X (pc := 30) 68 dX16_go_30 (by decide) hw (fun hw => ?_) (fun hw => ?_)
    · obtain ⟨hu9, hv9, hw⟩ := hw
      exact j_vret X (pc := 68) hQ er hu9 hv9 dX16_go_68 hw
    · refine j_iload_n X (pc := 33) 2 dX16_go_33 rfl rfl ?_
      refine j_iload_n X (pc := 34) 3 dX16_go_34 rfl rfl ?_
      refine j_ishr X (pc := 35) dX16_go_35 ?_
      refine j_iconst X (pc := 36) 1 dX16_go_36 (by decide) ?_
      refine j_iand X (pc := 37) dX16_go_37 ?_
      refine j_if_ne X (pc := 38) 60 dX16_go_38 (by decide) hw (fun hw => ?_) (fun hw => ?_)
      · refine j_aload_n X (pc := 41) 0 dX16_go_41 rfl rfl ?_
        refine j_getq (ci := 14) X (pc := 42) in_X16 rfl (by decide) 2 (by decide) q1686 (Or.inl rfl) dX16_go_42 hw (fun y42 hw => ?_)
        refine j_iload_n X (pc := 45) 1 dX16_go_45 rfl rfl ?_
        refine j_iload_n X (pc := 46) 3 dX16_go_46 rfl rfl ?_
        have hnr := hw.1
        have hw := hw.2
        refine j_sast X (pc := 47) 3 rfl rfl hnr dX16_go_47 hw (fun h47 hw => ?_)
        refine j_aload_n X (pc := 48) 0 dX16_go_48 rfl rfl ?_
        refine j_iload_n X (pc := 49) 1 dX16_go_49 rfl rfl ?_
        refine j_iconst X (pc := 50) 1 dX16_go_50 (by decide) ?_
        refine j_iadd X (pc := 51) dX16_go_51 ?_
        refine j_iload_n X (pc := 52) 2 dX16_go_52 rfl rfl ?_
        refine j_iconst X (pc := 53) 1 dX16_go_53 (by decide) ?_
        refine j_iload_n X (pc := 54) 3 dX16_go_54 rfl rfl ?_
        refine j_ishl X (pc := 55) dX16_go_55 ?_
        refine j_ior X (pc := 56) dX16_go_56 ?_
        obtain ⟨hu9, hv9, hw⟩ := hw
        obtain ⟨b9, c9, f9, hr9, ho9, hc9, hw⟩ := hw
        obtain rfl := List.mem_singleton.mp hc9
        refine j_callv (j_runV (n8 := 2) (As := [vI (x1 + 1), vI (x2 ||| (1 <<< (x3 &&& 31)))]) (rest := []) X (pc := 57) hr9 (met_X16_go_v3 (xl x) X.hl (xG x) h47 x0 (x1 + 1) (x2 ||| (1 <<< (x3 &&& 31))) _ hw) ho9 (by decide) rfl q1798 q1703 q1704 q115 q1705 (by decide +kernel) dX16_go_57 rfl ⟨Nat.le_of_ble_eq_true rfl, Nat.le_of_ble_eq_true rfl⟩ (Nat.le_of_ble_eq_true rfl) ⟨hu9, hv9⟩) (fun h57 hw => ?_)
        refine j_iload_n X (pc := 60) 3 dX16_go_60 rfl rfl ?_
        refine j_iconst X (pc := 61) 1 dX16_go_61 (by decide) ?_
        refine j_iadd X (pc := 62) dX16_go_62 ?_
        refine j_i2s X (pc := 63) dX16_go_63 ?_
        refine j_istore_n X (pc := 64) [(3, vI ((Int32.toInt16 (x3 + 1)).toInt32)), (0, vR x0), (1, vI x1), (2, vI x2)] dX16_go_64 rfl (Nat.le_of_ble_eq_true rfl) rfl ?_
        refine j_goto X (pc := 65) 15 dX16_go_65 (by decide) ?_
        refine j_lv [(0, vR x0), (1, vI x1), (2, vI x2), (3, vI ((Int32.toInt16 (x3 + 1)).toInt32))] [1, 2, 3, 0] rfl ?_
        exact hw
      · refine j_iload_n X (pc := 60) 3 dX16_go_60 rfl rfl ?_
        refine j_iconst X (pc := 61) 1 dX16_go_61 (by decide) ?_
        refine j_iadd X (pc := 62) dX16_go_62 ?_
        refine j_i2s X (pc := 63) dX16_go_63 ?_
        refine j_istore_n X (pc := 64) [(3, vI ((Int32.toInt16 (x3 + 1)).toInt32)), (0, vR x0), (1, vI x1), (2, vI x2)] dX16_go_64 rfl (Nat.le_of_ble_eq_true rfl) rfl ?_
        refine j_goto X (pc := 65) 15 dX16_go_65 (by decide) ?_
        refine j_lv [(0, vR x0), (1, vI x1), (2, vI x2), (3, vI ((Int32.toInt16 (x3 + 1)).toInt32))] [1, 2, 3, 0] rfl ?_
        exact hw
theorem met_X16_go_v4 (l : Launch) (hlt : l.stackTraces = false) (G : GG) (h : AH) (a0 : Option Nat) (a1 : Int32) (a2 : Int32) (P : AH → Prop) (hw : w_X16_go_v4 a0 a1 a2 h P) : ct_v l yX16_go (ws_ yX16_go cX16_go 4 (Option.none : Option Jvm.ClassFile.FieldType)) rm_X16_go_v4 G h [vR a0, vI a1, vI a2] P := by
  refine j_startv hlt [(0, vR a0), (1, vI a1), (2, vI a2)] (plainFor_of_name (by decide)) rfl rfl (fun x X eG er en hQ => ?_)
  subst eG
  refine j_iload_n X (pc := 0) 1 dX16_go_0 rfl rfl ?_
  refine j_aload_n X (pc := 1) 0 dX16_go_1 rfl rfl ?_
  refine j_getq (ci := 14) X (pc := 2) in_X16 rfl (by decide) 2 (by decide) q1686 (Or.inl rfl) dX16_go_2 hw (fun y2 hw => ?_)
  refine j_alen X (pc := 5) dX16_go_5 hw (fun y5 hw => ?_)
  refine j_icmp_ne X (pc := 6) 13 dX16_go_6 (by decide) hw (fun hw => ?_) (fun hw => ?_)
  · refine j_aload_n X (pc := 9) 0 dX16_go_9 rfl rfl ?_
    obtain ⟨b9, c9, f9, hr9, ho9, hc9, hw⟩ := hw
    obtain rfl := List.mem_singleton.mp hc9
    refine j_callv (j_runV (n8 := 0) (As := []) (rest := []) X (pc := 10) hr9 (met_X16_lay (xl x) X.hl (xG x) h a0 _ hw) ho9 (by decide) rfl q1706 q1708 qs31 q115 q1709 (by decide +kernel) dX16_go_10 rfl ⟨Nat.le_of_ble_eq_true rfl, Nat.le_of_ble_eq_true rfl⟩ (Nat.le_of_ble_eq_true rfl) ⟨Nat.le_of_ble_eq_true rfl, Nat.le_of_ble_eq_true rfl⟩) (fun h10 hw => ?_)
    refine j_iconst X (pc := 13) 0 dX16_go_13 (by decide) ?_
    refine j_istore_n X (pc := 14) [(3, vI 0), (0, vR a0), (1, vI a1), (2, vI a2)] dX16_go_14 rfl (Nat.le_of_ble_eq_true rfl) rfl ?_
    refine j_lv [(0, vR a0), (1, vI a1), (2, vI a2), (3, vI 0)] [1, 2, 3, 0] rfl ?_
    exact wk_X16_go_v4_15 X er en hQ a0 a1 a2 0 10 204 h10 hw
  · refine j_iconst X (pc := 13) 0 dX16_go_13 (by decide) ?_
    refine j_istore_n X (pc := 14) [(3, vI 0), (0, vR a0), (1, vI a1), (2, vI a2)] dX16_go_14 rfl (Nat.le_of_ble_eq_true rfl) rfl ?_
    refine j_lv [(0, vR a0), (1, vI a1), (2, vI a2), (3, vI 0)] [1, 2, 3, 0] rfl ?_
    exact wk_X16_go_v4_15 X er en hQ a0 a1 a2 0 0 0 h hw
abbrev cX1_outcomes : ByteArray := prog_1_method_81_code
def yX1_outcomes : MethodName := ⟨RX1, "outcomes", "(II)I"⟩
def dkwX1_outcomes_2 : List UInt8 := [172]
abbrev dktX1_outcomes_2 : List UInt8 := dkwX1_outcomes_2 ++ []
def dkwX1_outcomes_1 : List UInt8 := [89, 42, 45, 28, 183, 1, 196, 58, 4, 25, 4, 3, 3, 182, 1, 199, 25, 4, 180, 1, 202, 182, 0, 126]
abbrev dktX1_outcomes_1 : List UInt8 := dkwX1_outcomes_1 ++ dktX1_outcomes_2
def dkwX1_outcomes_0 : List UInt8 := [42, 27, 182, 0, 199, 78, 4, 188, 4, 89, 3, 28, 3, 7, 184, 0, 21, 84, 184, 0, 25, 187, 1, 194]
abbrev dktX1_outcomes_0 : List UInt8 := dkwX1_outcomes_0 ++ dktX1_outcomes_1
theorem dksX1_outcomes_0 : cX1_outcomes.data.toList.drop 0 = dktX1_outcomes_0 := by decide +kernel
theorem dksX1_outcomes_1 : cX1_outcomes.data.toList.drop 24 = dktX1_outcomes_1 := dk_seg dksX1_outcomes_0 24 rfl rfl
theorem dksX1_outcomes_2 : cX1_outcomes.data.toList.drop 48 = dktX1_outcomes_2 := dk_seg dksX1_outcomes_1 24 rfl rfl
theorem dX1_outcomes_0 : decode cX1_outcomes 0 = .ok (.aload_n 0, 1) := dk_42 (dk_at dksX1_outcomes_0 0 rfl rfl)
theorem dX1_outcomes_1 : decode cX1_outcomes 1 = .ok (.iload_n 1, 1) := dk_27 (dk_at dksX1_outcomes_0 1 rfl rfl)
theorem dX1_outcomes_2 : decode cX1_outcomes 2 = .ok (.invokevirtual 199, 3) := dk_182 0 199 (dk_at dksX1_outcomes_0 2 rfl rfl)
theorem dX1_outcomes_5 : decode cX1_outcomes 5 = .ok (.astore_n 3, 1) := dk_78 (dk_at dksX1_outcomes_0 5 rfl rfl)
theorem dX1_outcomes_6 : decode cX1_outcomes 6 = .ok (.iconst 1, 1) := dk_4 (dk_at dksX1_outcomes_0 6 rfl rfl)
theorem dX1_outcomes_7 : decode cX1_outcomes 7 = .ok (.newarray .boolean, 2) := dk_188_4 (dk_at dksX1_outcomes_0 7 rfl rfl)
theorem dX1_outcomes_9 : decode cX1_outcomes 9 = .ok (.dup, 1) := dk_89 (dk_at dksX1_outcomes_0 9 rfl rfl)
theorem dX1_outcomes_10 : decode cX1_outcomes 10 = .ok (.iconst 0, 1) := dk_3 (dk_at dksX1_outcomes_0 10 rfl rfl)
theorem dX1_outcomes_11 : decode cX1_outcomes 11 = .ok (.iload_n 2, 1) := dk_28 (dk_at dksX1_outcomes_0 11 rfl rfl)
theorem dX1_outcomes_12 : decode cX1_outcomes 12 = .ok (.iconst 0, 1) := dk_3 (dk_at dksX1_outcomes_0 12 rfl rfl)
theorem dX1_outcomes_13 : decode cX1_outcomes 13 = .ok (.iconst 4, 1) := dk_7 (dk_at dksX1_outcomes_0 13 rfl rfl)
theorem dX1_outcomes_14 : decode cX1_outcomes 14 = .ok (.invokestatic 21, 3) := dk_184 0 21 (dk_at dksX1_outcomes_0 14 rfl rfl)
theorem dX1_outcomes_17 : decode cX1_outcomes 17 = .ok (.bastore, 1) := dk_84 (dk_at dksX1_outcomes_0 17 rfl rfl)
theorem dX1_outcomes_18 : decode cX1_outcomes 18 = .ok (.invokestatic 25, 3) := dk_184 0 25 (dk_at dksX1_outcomes_0 18 rfl rfl)
theorem dX1_outcomes_21 : decode cX1_outcomes 21 = .ok (.new 450, 3) := dk_187 1 194 (dk_at dksX1_outcomes_0 21 rfl rfl)
theorem dX1_outcomes_24 : decode cX1_outcomes 24 = .ok (.dup, 1) := dk_89 (dk_at dksX1_outcomes_1 0 rfl rfl)
theorem dX1_outcomes_25 : decode cX1_outcomes 25 = .ok (.aload_n 0, 1) := dk_42 (dk_at dksX1_outcomes_1 1 rfl rfl)
theorem dX1_outcomes_26 : decode cX1_outcomes 26 = .ok (.aload_n 3, 1) := dk_45 (dk_at dksX1_outcomes_1 2 rfl rfl)
theorem dX1_outcomes_27 : decode cX1_outcomes 27 = .ok (.iload_n 2, 1) := dk_28 (dk_at dksX1_outcomes_1 3 rfl rfl)
theorem dX1_outcomes_28 : decode cX1_outcomes 28 = .ok (.invokespecial 452, 3) := dk_183 1 196 (dk_at dksX1_outcomes_1 4 rfl rfl)
theorem dX1_outcomes_31 : decode cX1_outcomes 31 = .ok (.astore 4, 2) := dk_58 4 (dk_at dksX1_outcomes_1 7 rfl rfl)
theorem dX1_outcomes_33 : decode cX1_outcomes 33 = .ok (.aload 4, 2) := dk_25 4 (dk_at dksX1_outcomes_1 9 rfl rfl)
theorem dX1_outcomes_35 : decode cX1_outcomes 35 = .ok (.iconst 0, 1) := dk_3 (dk_at dksX1_outcomes_1 11 rfl rfl)
theorem dX1_outcomes_36 : decode cX1_outcomes 36 = .ok (.iconst 0, 1) := dk_3 (dk_at dksX1_outcomes_1 12 rfl rfl)
theorem dX1_outcomes_37 : decode cX1_outcomes 37 = .ok (.invokevirtual 455, 3) := dk_182 1 199 (dk_at dksX1_outcomes_1 13 rfl rfl)
theorem dX1_outcomes_40 : decode cX1_outcomes 40 = .ok (.aload 4, 2) := dk_25 4 (dk_at dksX1_outcomes_1 16 rfl rfl)
theorem dX1_outcomes_42 : decode cX1_outcomes 42 = .ok (.getfield 458, 3) := dk_180 1 202 (dk_at dksX1_outcomes_1 18 rfl rfl)
theorem dX1_outcomes_45 : decode cX1_outcomes 45 = .ok (.invokevirtual 126, 3) := dk_182 0 126 (dk_at dksX1_outcomes_1 21 rfl rfl)
theorem dX1_outcomes_48 : decode cX1_outcomes 48 = .ok (.ireturn, 1) := dk_172 (dk_at dksX1_outcomes_2 0 rfl rfl)
theorem q1670 : (Jvm.Cond.classLink "Plugboard" (450 : Nat) "Plugboard$Orders") ∈ lw_all := lw_g (lw_at lw_m7 160 rfl) rfl
theorem q1671 : (Jvm.Cond.instantiable "Plugboard$Orders" (5 : Nat)) ∈ lw_all := lw_g (lw_at lw_m7 161 rfl) rfl
theorem q1672 : (Jvm.Cond.methodLink "Plugboard" (452 : Nat) ({ cls := "Plugboard$Orders", name := "<init>", desc := "(LPlugboard;LPlugboard$Board;I)V" } : Jvm.MethodName)) ∈ lw_all := lw_g (lw_at lw_m7 162 rfl) rfl
theorem q1673 : (Jvm.Cond.instanceMethod ({ cls := "Plugboard$Orders", name := "<init>", desc := "(LPlugboard;LPlugboard$Board;I)V" } : Jvm.MethodName)) ∈ lw_all := lw_g (lw_at lw_m7 163 rfl) rfl
theorem q1674 : (Jvm.Cond.code ({ cls := "Plugboard$Orders", name := "<init>", desc := "(LPlugboard;LPlugboard$Board;I)V" } : Jvm.MethodName) prog_14_method_1_code (5 : Nat) (Option.none : Option Jvm.ClassFile.FieldType)) ∈ lw_all := lw_g (lw_at lw_m7 164 rfl) rfl
theorem q1688 : (Jvm.Cond.fieldLinkNest "Plugboard" (458 : Nat) "Plugboard$Orders" "found" "Ljava/util/ArrayList;" "Plugboard") ∈ lw_tbl := lw_at lw_m7 178 rfl
theorem q1702 : (Jvm.Cond.methodLink "Plugboard" (455 : Nat) ({ cls := "Plugboard$Orders", name := "go", desc := "(II)V" } : Jvm.MethodName)) ∈ lw_all := lw_g (lw_at lw_m7 192 rfl) rfl
abbrev rm_X1_outcomes : Room := { frames := 14, cells := 3417, slots := 69594, locals := 3265 }
def w_X1_outcomes (a0 : Option Nat) (a1 : Int32) (a2 : Int32) (h : AH) (P : Int32 → AH → Prop) (PX : String → AH → Prop) : Prop :=
  is_c h a0 [0] (
  w_X1_board a0 a1 h (fun y2 h2 =>
  mk_i h2 1 1 1 fun q7 h7 =>
  w_X1_isBetween a2 0 4 h7 (fun y14 h14 =>
  nrw .boolean y14 ∧
  s_i h14 (some q7) 1 0 y14 fun h17 =>
  w_X1_require (some q7) h17 (fun h18 =>
  mk h18 (.inr (14, dvX16)) fun q21 h21 =>
  w_X16_init (some q21) a0 y2 a2 h21 (fun h28 =>
  is_c h28 (some q21) [14] (
  w_X16_go_v4 (some q21) 0 0 h28 (fun h37 =>
  g_q h37 (some q21) 14 3 fun y42 =>
  is_c h37 y42 [15] (
  w_J2_size y42 h37 (fun y45 h45 =>
  P y45 h45)))))) PX)) PX)
theorem met_X1_outcomes (l : Launch) (hlt : l.stackTraces = false) (G : GG) (h : AH) (a0 : Option Nat) (a1 : Int32) (a2 : Int32) (P : Int32 → AH → Prop) (PX : String → AH → Prop) (hw : w_X1_outcomes a0 a1 a2 h P PX) : cx_i l yX1_outcomes (ws_ yX1_outcomes cX1_outcomes 5 (Option.some Jvm.ClassFile.FieldType.int)) rm_X1_outcomes G h [vR a0, vI a1, vI a2] P PX := by
  refine j_startXi hlt [(0, vR a0), (1, vI a1), (2, vI a2)] (by decide) rfl rfl (fun x X eG er en hQ hT hex => ?_)
  subst eG
  refine j_aload_n X (pc := 0) 0 dX1_outcomes_0 rfl rfl ?_
  refine j_iload_n X (pc := 1) 1 dX1_outcomes_1 rfl rfl ?_
  obtain ⟨b9, c9, f9, hr9, ho9, hc9, hw⟩ := hw
  obtain rfl := List.mem_singleton.mp hc9
  refine j_callXq (j_runVX (n8 := 1) (As := [vI a1]) (rest := []) X (pc := 2) hr9 (met_X1_board (xl x) X.hl (xG x) h a0 a1 _ _ hw) ho9 (by decide) rfl q297 q299 qs0 q71 q300 (by decide +kernel) dX1_outcomes_2 rfl ⟨Nat.le_of_ble_eq_true rfl, Nat.le_of_ble_eq_true rfl⟩ (Nat.le_of_ble_eq_true rfl) ⟨Nat.le_of_ble_eq_true rfl, Nat.le_of_ble_eq_true rfl⟩) (fun E h9 hx => j_out X hT hex (Nat.le_of_ble_eq_true rfl) (Nat.le_of_ble_eq_true rfl) hx) (fun y2 h2 hw => ?_)
  refine j_astore_n X (pc := 5) [(3, vR y2), (0, vR a0), (1, vI a1), (2, vI a2)] dX1_outcomes_5 rfl (Nat.le_of_ble_eq_true rfl) rfl ?_
  refine j_iconst X (pc := 6) 1 dX1_outcomes_6 (by decide) ?_
  refine j_newZ X (pc := 7) 1 dX1_outcomes_7 q233 (by decide) (Nat.le_of_ble_eq_true rfl) (Nat.le_of_ble_eq_true rfl) hw (fun q7 h7 hw => ?_)
  refine j_dup X (pc := 9) dX1_outcomes_9 rfl ?_
  refine j_iconst X (pc := 10) 0 dX1_outcomes_10 (by decide) ?_
  refine j_iload_n X (pc := 11) 3 dX1_outcomes_11 rfl rfl ?_
  refine j_iconst X (pc := 12) 0 dX1_outcomes_12 (by decide) ?_
  refine j_iconst X (pc := 13) 4 dX1_outcomes_13 (by decide) ?_
  refine j_calli (j_runS (n8 := 3) (As := [vI a2, vI 0, vI 4]) (rest := [vI 0, vR (some q7), vR (some q7)]) X (pc := 14) (met_X1_isBetween (xl x) X.hl (xG x) h7 a2 0 4 _ hw) q304 q305 q71 q306 (by decide +kernel) dX1_outcomes_14 rfl ⟨Nat.le_of_ble_eq_true rfl, Nat.le_of_ble_eq_true rfl⟩ (Nat.le_of_ble_eq_true rfl) ⟨Nat.le_of_ble_eq_true rfl, Nat.le_of_ble_eq_true rfl⟩) (fun y14 h14 hw => ?_)
  have hnr := hw.1
  have hw := hw.2
  refine j_zast X (pc := 17) 1 rfl rfl hnr dX1_outcomes_17 hw (fun h17 hw => ?_)
  refine j_callXv (j_runSX (n8 := 1) (As := [vR (some q7)]) (rest := []) X (pc := 18) (met_X1_require (xl x) X.hl (xG x) h17 (some q7) _ _ hw) q307 q308 q71 q309 (by decide +kernel) dX1_outcomes_18 rfl ⟨Nat.le_of_ble_eq_true rfl, Nat.le_of_ble_eq_true rfl⟩ (Nat.le_of_ble_eq_true rfl) ⟨Nat.le_of_ble_eq_true rfl, Nat.le_of_ble_eq_true rfl⟩) (fun E h9 hx => j_out X hT hex (Nat.le_of_ble_eq_true rfl) (Nat.le_of_ble_eq_true rfl) hx) (fun h18 hw => ?_)
  refine j_new (ci := 14) X (pc := 21) in_X16 rfl (by decide) tyX16 tyX16_ok q1670 q1671 q115 (fs := dvX16) dfX16 (Nat.le_of_ble_eq_true rfl) (Nat.le_of_ble_eq_true rfl) dX1_outcomes_21 hw (fun q21 h21 hw => ?_)
  refine j_dup X (pc := 24) dX1_outcomes_24 rfl ?_
  refine j_aload_n X (pc := 25) 1 dX1_outcomes_25 rfl rfl ?_
  refine j_aload_n X (pc := 26) 0 dX1_outcomes_26 rfl rfl ?_
  refine j_iload_n X (pc := 27) 3 dX1_outcomes_27 rfl rfl ?_
  refine j_callv (j_runI (n8 := 3) (As := [vR a0, vR y2, vI a2]) (rest := [vR (some q21)]) X (pc := 28) rfl (met_X16_init (xl x) X.hl (xG x) h21 (some q21) a0 y2 a2 _ hw) q1672 q1673 q115 q1674 (by decide +kernel) dX1_outcomes_28 rfl ⟨Nat.le_of_ble_eq_true rfl, Nat.le_of_ble_eq_true rfl⟩ (Nat.le_of_ble_eq_true rfl) ⟨Nat.le_of_ble_eq_true rfl, Nat.le_of_ble_eq_true rfl⟩) (fun h28 hw => ?_)
  refine j_astore X (pc := 31) [(4, vR (some q21)), (3, vR y2), (0, vR a0), (1, vI a1), (2, vI a2)] dX1_outcomes_31 (Nat.le_of_ble_eq_true rfl) rfl ?_
  refine j_aload X (pc := 33) 0 dX1_outcomes_33 rfl ?_
  refine j_iconst X (pc := 35) 0 dX1_outcomes_35 (by decide) ?_
  refine j_iconst X (pc := 36) 0 dX1_outcomes_36 (by decide) ?_
  obtain ⟨b9, c9, f9, hr9, ho9, hc9, hw⟩ := hw
  obtain rfl := List.mem_singleton.mp hc9
  refine j_callv (j_runV (n8 := 2) (As := [vI 0, vI 0]) (rest := []) X (pc := 37) hr9 (met_X16_go_v4 (xl x) X.hl (xG x) h28 (some q21) 0 0 _ hw) ho9 (by decide) rfl q1702 q1703 q1704 q115 q1705 (by decide +kernel) dX1_outcomes_37 rfl ⟨Nat.le_of_ble_eq_true rfl, Nat.le_of_ble_eq_true rfl⟩ (Nat.le_of_ble_eq_true rfl) ⟨Nat.le_of_ble_eq_true rfl, Nat.le_of_ble_eq_true rfl⟩) (fun h37 hw => ?_)
  refine j_aload X (pc := 40) 0 dX1_outcomes_40 rfl ?_
  refine j_getqN (ci := 14) X (pc := 42) in_X16 rfl (by decide) 3 (by decide) q1688 (Or.inl rfl) dX1_outcomes_42 hw (fun y42 hw => ?_)
  obtain ⟨b9, c9, f9, hr9, ho9, hc9, hw⟩ := hw
  obtain rfl := List.mem_singleton.mp hc9
  refine j_calli (j_runV (n8 := 0) (As := []) (rest := []) X (pc := 45) hr9 (met_J2_size (xl x) X.hl (xG x) h37 y42 _ hw) ho9 (by decide) rfl q284 q285 q286 q74 q287 (by decide +kernel) dX1_outcomes_45 rfl ⟨Nat.le_of_ble_eq_true rfl, Nat.le_of_ble_eq_true rfl⟩ (Nat.le_of_ble_eq_true rfl) ⟨Nat.le_of_ble_eq_true rfl, Nat.le_of_ble_eq_true rfl⟩) (fun y45 h45 hw => ?_)
  exact j_iret X (pc := 48) hQ er (Nat.le_of_ble_eq_true rfl) (Nat.le_of_ble_eq_true rfl) dX1_outcomes_48 hw
abbrev cX0_outcomes : ByteArray := method_42_code
def yX0_outcomes : MethodName := ⟨RX0, "outcomes", "(LPlugboard;II[J)I"⟩
def dkwX0_outcomes_0 : List UInt8 := [45, 3, 42, 27, 28, 182, 0, 145, 133, 80, 167, 0, 7, 58, 4, 4, 172, 3, 172]
abbrev dktX0_outcomes_0 : List UInt8 := dkwX0_outcomes_0 ++ []
theorem dksX0_outcomes_0 : cX0_outcomes.data.toList.drop 0 = dktX0_outcomes_0 := by decide +kernel
theorem dX0_outcomes_0 : decode cX0_outcomes 0 = .ok (.aload_n 3, 1) := dk_45 (dk_at dksX0_outcomes_0 0 rfl rfl)
theorem dX0_outcomes_1 : decode cX0_outcomes 1 = .ok (.iconst 0, 1) := dk_3 (dk_at dksX0_outcomes_0 1 rfl rfl)
theorem dX0_outcomes_2 : decode cX0_outcomes 2 = .ok (.aload_n 0, 1) := dk_42 (dk_at dksX0_outcomes_0 2 rfl rfl)
theorem dX0_outcomes_3 : decode cX0_outcomes 3 = .ok (.iload_n 1, 1) := dk_27 (dk_at dksX0_outcomes_0 3 rfl rfl)
theorem dX0_outcomes_4 : decode cX0_outcomes 4 = .ok (.iload_n 2, 1) := dk_28 (dk_at dksX0_outcomes_0 4 rfl rfl)
theorem dX0_outcomes_5 : decode cX0_outcomes 5 = .ok (.invokevirtual 145, 3) := dk_182 0 145 (dk_at dksX0_outcomes_0 5 rfl rfl)
theorem dX0_outcomes_8 : decode cX0_outcomes 8 = .ok (.i2l, 1) := dk_133 (dk_at dksX0_outcomes_0 8 rfl rfl)
theorem dX0_outcomes_9 : decode cX0_outcomes 9 = .ok (.lastore, 1) := dk_80 (dk_at dksX0_outcomes_0 9 rfl rfl)
theorem dX0_outcomes_10 : decode cX0_outcomes 10 = .ok (.goto 7, 3) := dk_167 0 7 (dk_at dksX0_outcomes_0 10 rfl rfl)
theorem dX0_outcomes_13 : decode cX0_outcomes 13 = .ok (.astore 4, 2) := dk_58 4 (dk_at dksX0_outcomes_0 13 rfl rfl)
theorem dX0_outcomes_15 : decode cX0_outcomes 15 = .ok (.iconst 1, 1) := dk_4 (dk_at dksX0_outcomes_0 15 rfl rfl)
theorem dX0_outcomes_16 : decode cX0_outcomes 16 = .ok (.ireturn, 1) := dk_172 (dk_at dksX0_outcomes_0 16 rfl rfl)
theorem dX0_outcomes_17 : decode cX0_outcomes 17 = .ok (.iconst 0, 1) := dk_3 (dk_at dksX0_outcomes_0 17 rfl rfl)
theorem dX0_outcomes_18 : decode cX0_outcomes 18 = .ok (.ireturn, 1) := dk_172 (dk_at dksX0_outcomes_0 18 rfl rfl)
theorem q1666 : (Jvm.Cond.methodLink "PlugboardLaw" (145 : Nat) ({ cls := "Plugboard", name := "outcomes", desc := "(II)I" } : Jvm.MethodName)) ∈ lw_all := lw_g (lw_at lw_m7 156 rfl) rfl
theorem q1667 : (Jvm.Cond.instanceMethod ({ cls := "Plugboard", name := "outcomes", desc := "(II)I" } : Jvm.MethodName)) ∈ lw_all := lw_g (lw_at lw_m7 157 rfl) rfl
theorem q1668 : (Jvm.Cond.selects "Plugboard" ({ cls := "Plugboard", name := "outcomes", desc := "(II)I" } : Jvm.MethodName) ({ cls := "Plugboard", name := "outcomes", desc := "(II)I" } : Jvm.MethodName)) ∈ lw_all := lw_g (lw_at lw_m7 158 rfl) rfl
theorem q1669 : (Jvm.Cond.code ({ cls := "Plugboard", name := "outcomes", desc := "(II)I" } : Jvm.MethodName) prog_1_method_81_code (5 : Nat) (Option.some Jvm.ClassFile.FieldType.int)) ∈ lw_all := lw_g (lw_at lw_m7 159 rfl) rfl
abbrev rm_X0_outcomes : Room := { frames := 15, cells := 3417, slots := 69594, locals := 3289 }
def w_X0_outcomes (a0 : Option Nat) (a1 : Int32) (a2 : Int32) (a3 : Option Nat) (h : AH) (P : Int32 → AH → Prop) : Prop :=
  is_c h a0 [0] (
  w_X1_outcomes a0 a1 a2 h (fun y5 h5 =>
  s_L h5 a3 0 (Int32.toInt64 y5) fun h9 =>
  P 0 h9)
    (fun E9 h9 => (E9 = "java/lang/IllegalArgumentException" ∧ ∀ q9 : Nat,
    P 1 h9)))
theorem met_X0_outcomes (l : Launch) (hlt : l.stackTraces = false) (G : GG) (h : AH) (a0 : Option Nat) (a1 : Int32) (a2 : Int32) (a3 : Option Nat) (P : Int32 → AH → Prop) (hw : w_X0_outcomes a0 a1 a2 a3 h P) : ct_i l yX0_outcomes (wsW_ yX0_outcomes cX0_outcomes 5 (Option.some Jvm.ClassFile.FieldType.int) [((0 : Nat), (10 : Nat), (13 : Nat), (13 : Nat))]) rm_X0_outcomes G h [vR a0, vI a1, vI a2, vR a3] P := by
  refine j_startWi hlt [(0, vR a0), (1, vI a1), (2, vI a2), (3, vR a3)] (by decide) rfl rfl (fun x X eG er en hQ hex => ?_)
  subst eG
  refine j_aload_n X (pc := 0) 3 dX0_outcomes_0 rfl rfl ?_
  refine j_iconst X (pc := 1) 0 dX0_outcomes_1 (by decide) ?_
  refine j_aload_n X (pc := 2) 0 dX0_outcomes_2 rfl rfl ?_
  refine j_iload_n X (pc := 3) 1 dX0_outcomes_3 rfl rfl ?_
  refine j_iload_n X (pc := 4) 2 dX0_outcomes_4 rfl rfl ?_
  obtain ⟨b9, c9, f9, hr9, ho9, hc9, hw⟩ := hw
  obtain rfl := List.mem_singleton.mp hc9
  refine j_callXi (j_runVX (n8 := 2) (As := [vI a1, vI a2]) (rest := [vI 0, vR a3]) X (pc := 5) hr9 (met_X1_outcomes (xl x) X.hl (xG x) h a0 a1 a2 _ _ hw) ho9 (by decide) rfl q1666 q1667 q1668 q71 q1669 (by decide +kernel) dX0_outcomes_5 rfl ⟨Nat.le_of_ble_eq_true rfl, Nat.le_of_ble_eq_true rfl⟩ (Nat.le_of_ble_eq_true rfl) ⟨Nat.le_of_ble_eq_true rfl, Nat.le_of_ble_eq_true rfl⟩) ?_ (fun y5 h5 hw => ?_)
  · intro E9 h9 hx
    obtain ⟨rfl, hw⟩ := hx
    refine j_catch X (pc := 5) "java/lang/IllegalArgumentException" hex [] [] ⟨0, 10, 13, 13⟩ rfl (by intro y hy; cases hy) (by decide) (by decide) q291 q312 (fun q9 => ?_)
    have hw := hw q9
    refine j_astore X (pc := 13) [(4, vR (some q9)), (0, vR a0), (1, vI a1), (2, vI a2), (3, vR a3)] dX0_outcomes_13 (Nat.le_of_ble_eq_true rfl) rfl ?_
    refine j_iconst X (pc := 15) 1 dX0_outcomes_15 (by decide) ?_
    exact j_iret X (pc := 16) hQ er (Nat.le_of_ble_eq_true rfl) (Nat.le_of_ble_eq_true rfl) dX0_outcomes_16 hw
  refine j_i2l X (pc := 8) dX0_outcomes_8 ?_
  refine j_last X (pc := 9) dX0_outcomes_9 hw (fun h9 hw => ?_)
  refine j_goto X (pc := 10) 17 dX0_outcomes_10 (by decide) ?_
  refine j_iconst X (pc := 17) 0 dX0_outcomes_17 (by decide) ?_
  exact j_iret X (pc := 18) hQ er (Nat.le_of_ble_eq_true rfl) (Nat.le_of_ble_eq_true rfl) dX0_outcomes_18 hw
abbrev cX5_outcomes : ByteArray := prog_19_method_86_code
def yX5_outcomes : MethodName := ⟨RX5, "outcomes", "(II)I"⟩
def dkwX5_outcomes_1 : List UInt8 := [167, 0, 8, 42, 4, 182, 0, 172, 172]
abbrev dktX5_outcomes_1 : List UInt8 := dkwX5_outcomes_1 ++ []
def dkwX5_outcomes_0 : List UInt8 := [42, 3, 181, 0, 97, 27, 184, 0, 165, 153, 0, 16, 28, 3, 7, 184, 0, 101, 153, 0, 7, 4]
abbrev dktX5_outcomes_0 : List UInt8 := dkwX5_outcomes_0 ++ dktX5_outcomes_1
theorem dksX5_outcomes_0 : cX5_outcomes.data.toList.drop 0 = dktX5_outcomes_0 := by decide +kernel
theorem dksX5_outcomes_1 : cX5_outcomes.data.toList.drop 22 = dktX5_outcomes_1 := dk_seg dksX5_outcomes_0 22 rfl rfl
theorem dX5_outcomes_0 : decode cX5_outcomes 0 = .ok (.aload_n 0, 1) := dk_42 (dk_at dksX5_outcomes_0 0 rfl rfl)
theorem dX5_outcomes_1 : decode cX5_outcomes 1 = .ok (.iconst 0, 1) := dk_3 (dk_at dksX5_outcomes_0 1 rfl rfl)
theorem dX5_outcomes_2 : decode cX5_outcomes 2 = .ok (.putfield 97, 3) := dk_181 0 97 (dk_at dksX5_outcomes_0 2 rfl rfl)
theorem dX5_outcomes_5 : decode cX5_outcomes 5 = .ok (.iload_n 1, 1) := dk_27 (dk_at dksX5_outcomes_0 5 rfl rfl)
theorem dX5_outcomes_6 : decode cX5_outcomes 6 = .ok (.invokestatic 165, 3) := dk_184 0 165 (dk_at dksX5_outcomes_0 6 rfl rfl)
theorem dX5_outcomes_9 : decode cX5_outcomes 9 = .ok (.ifCond .eq 16, 3) := dk_153 0 16 (dk_at dksX5_outcomes_0 9 rfl rfl)
theorem dX5_outcomes_12 : decode cX5_outcomes 12 = .ok (.iload_n 2, 1) := dk_28 (dk_at dksX5_outcomes_0 12 rfl rfl)
theorem dX5_outcomes_13 : decode cX5_outcomes 13 = .ok (.iconst 0, 1) := dk_3 (dk_at dksX5_outcomes_0 13 rfl rfl)
theorem dX5_outcomes_14 : decode cX5_outcomes 14 = .ok (.iconst 4, 1) := dk_7 (dk_at dksX5_outcomes_0 14 rfl rfl)
theorem dX5_outcomes_15 : decode cX5_outcomes 15 = .ok (.invokestatic 101, 3) := dk_184 0 101 (dk_at dksX5_outcomes_0 15 rfl rfl)
theorem dX5_outcomes_18 : decode cX5_outcomes 18 = .ok (.ifCond .eq 7, 3) := dk_153 0 7 (dk_at dksX5_outcomes_0 18 rfl rfl)
theorem dX5_outcomes_21 : decode cX5_outcomes 21 = .ok (.iconst 1, 1) := dk_4 (dk_at dksX5_outcomes_0 21 rfl rfl)
theorem dX5_outcomes_22 : decode cX5_outcomes 22 = .ok (.goto 8, 3) := dk_167 0 8 (dk_at dksX5_outcomes_1 0 rfl rfl)
theorem dX5_outcomes_25 : decode cX5_outcomes 25 = .ok (.aload_n 0, 1) := dk_42 (dk_at dksX5_outcomes_1 3 rfl rfl)
theorem dX5_outcomes_26 : decode cX5_outcomes 26 = .ok (.iconst 1, 1) := dk_4 (dk_at dksX5_outcomes_1 4 rfl rfl)
theorem dX5_outcomes_27 : decode cX5_outcomes 27 = .ok (.invokevirtual 172, 3) := dk_182 0 172 (dk_at dksX5_outcomes_1 5 rfl rfl)
theorem dX5_outcomes_30 : decode cX5_outcomes 30 = .ok (.ireturn, 1) := dk_172 (dk_at dksX5_outcomes_1 8 rfl rfl)
abbrev rm_X5_outcomes : Room := { frames := 2, cells := 0, slots := 0, locals := 42 }
def w_X5_outcomes (a0 : Option Nat) (a1 : Int32) (a2 : Int32) (h : AH) (P : Int32 → AH → Prop) : Prop :=
  p_v h a0 4 0 (vI 0) fun h2 =>
  w_X5_isUser a1 h2 (fun y6 h6 =>
  ((y6 = 0 →
    is_c h6 a0 [4] (
    w_X5_fails a0 1 h6 (fun y27 h27 =>
    P y27 h27))) ∧
   (¬ y6 = 0 →
    w_X5_isBetween a2 0 4 h6 (fun y15 h15 =>
    ((y15 = 0 →
      is_c h15 a0 [4] (
      w_X5_fails a0 1 h15 (fun y27 h27 =>
      P y27 h27))) ∧
     (¬ y15 = 0 →
      P 1 h15))))))
theorem met_X5_outcomes (l : Launch) (hlt : l.stackTraces = false) (G : GG) (h : AH) (a0 : Option Nat) (a1 : Int32) (a2 : Int32) (P : Int32 → AH → Prop) (hw : w_X5_outcomes a0 a1 a2 h P) : ct_i l yX5_outcomes (ws_ yX5_outcomes cX5_outcomes 3 (Option.some Jvm.ClassFile.FieldType.int)) rm_X5_outcomes G h [vR a0, vI a1, vI a2] P := by
  refine j_starti hlt [(0, vR a0), (1, vI a1), (2, vI a2)] (plainFor_of_name (by decide)) rfl rfl (fun x X eG er en hQ => ?_)
  subst eG
  refine j_aload_n X (pc := 0) 0 dX5_outcomes_0 rfl rfl ?_
  refine j_iconst X (pc := 1) 0 dX5_outcomes_1 (by decide) ?_
  refine j_put (ci := 4) X (pc := 2) in_X5 rfl (by decide) 0 (by decide) q1872 (Or.inl rfl) tyX5 tyX5_ok nmX5 rfl rfl (ty := .int) (tyX5_ok 0 (by decide)) rfl rfl dX5_outcomes_2 hw (fun h2 hw => ?_)
  refine j_iload_n X (pc := 5) 1 dX5_outcomes_5 rfl rfl ?_
  refine j_calli (j_runS (n8 := 1) (As := [vI a1]) (rest := []) X (pc := 6) (met_X5_isUser (xl x) X.hl (xG x) h2 a1 _ hw) q1978 q1979 q78 q1980 (by decide +kernel) dX5_outcomes_6 rfl ⟨Nat.le_of_ble_eq_true rfl, Nat.le_of_ble_eq_true rfl⟩ (Nat.le_of_ble_eq_true rfl) ⟨Nat.le_of_ble_eq_true rfl, Nat.le_of_ble_eq_true rfl⟩) (fun y6 h6 hw => ?_)
  refine j_if_eq X (pc := 9) 25 dX5_outcomes_9 (by decide) hw (fun hw => ?_) (fun hw => ?_)
  · refine j_aload_n X (pc := 25) 0 dX5_outcomes_25 rfl rfl ?_
    refine j_iconst X (pc := 26) 1 dX5_outcomes_26 (by decide) ?_
    obtain ⟨b9, c9, f9, hr9, ho9, hc9, hw⟩ := hw
    obtain rfl := List.mem_singleton.mp hc9
    refine j_calli (j_runV (n8 := 1) (As := [vI 1]) (rest := []) X (pc := 27) hr9 (met_X5_fails (xl x) X.hl (xG x) h6 a0 1 _ hw) ho9 (by decide) rfl q1988 q1990 qs33 q78 q1991 (by decide +kernel) dX5_outcomes_27 rfl ⟨Nat.le_of_ble_eq_true rfl, Nat.le_of_ble_eq_true rfl⟩ (Nat.le_of_ble_eq_true rfl) ⟨Nat.le_of_ble_eq_true rfl, Nat.le_of_ble_eq_true rfl⟩) (fun y27 h27 hw => ?_)
    exact j_iret X (pc := 30) hQ er (Nat.le_of_ble_eq_true rfl) (Nat.le_of_ble_eq_true rfl) dX5_outcomes_30 hw
  · refine j_iload_n X (pc := 12) 2 dX5_outcomes_12 rfl rfl ?_
    refine j_iconst X (pc := 13) 0 dX5_outcomes_13 (by decide) ?_
    refine j_iconst X (pc := 14) 4 dX5_outcomes_14 (by decide) ?_
    refine j_calli (j_runS (n8 := 3) (As := [vI a2, vI 0, vI 4]) (rest := []) X (pc := 15) (met_X5_isBetween (xl x) X.hl (xG x) h6 a2 0 4 _ hw) q1981 q1982 q78 q1983 (by decide +kernel) dX5_outcomes_15 rfl ⟨Nat.le_of_ble_eq_true rfl, Nat.le_of_ble_eq_true rfl⟩ (Nat.le_of_ble_eq_true rfl) ⟨Nat.le_of_ble_eq_true rfl, Nat.le_of_ble_eq_true rfl⟩) (fun y15 h15 hw => ?_)
    refine j_if_eq X (pc := 18) 25 dX5_outcomes_18 (by decide) hw (fun hw => ?_) (fun hw => ?_)
    · refine j_aload_n X (pc := 25) 0 dX5_outcomes_25 rfl rfl ?_
      refine j_iconst X (pc := 26) 1 dX5_outcomes_26 (by decide) ?_
      obtain ⟨b9, c9, f9, hr9, ho9, hc9, hw⟩ := hw
      obtain rfl := List.mem_singleton.mp hc9
      refine j_calli (j_runV (n8 := 1) (As := [vI 1]) (rest := []) X (pc := 27) hr9 (met_X5_fails (xl x) X.hl (xG x) h15 a0 1 _ hw) ho9 (by decide) rfl q1988 q1990 qs33 q78 q1991 (by decide +kernel) dX5_outcomes_27 rfl ⟨Nat.le_of_ble_eq_true rfl, Nat.le_of_ble_eq_true rfl⟩ (Nat.le_of_ble_eq_true rfl) ⟨Nat.le_of_ble_eq_true rfl, Nat.le_of_ble_eq_true rfl⟩) (fun y27 h27 hw => ?_)
      exact j_iret X (pc := 30) hQ er (Nat.le_of_ble_eq_true rfl) (Nat.le_of_ble_eq_true rfl) dX5_outcomes_30 hw
    · refine j_iconst X (pc := 21) 1 dX5_outcomes_21 (by decide) ?_
      refine j_goto X (pc := 22) 30 dX5_outcomes_22 (by decide) ?_
      exact j_iret X (pc := 30) hQ er (Nat.le_of_ble_eq_true rfl) (Nat.le_of_ble_eq_true rfl) dX5_outcomes_30 hw
abbrev cX1_areAlike : ByteArray := prog_1_method_82_code
def yX1_areAlike : MethodName := ⟨RX1, "areAlike", "(II)Z"⟩
def dkwX1_areAlike_2 : List UInt8 := [172, 132, 5, 1, 167, 255, 226, 4, 172]
abbrev dktX1_areAlike_2 : List UInt8 := dkwX1_areAlike_2 ++ []
def dkwX1_areAlike_1 : List UInt8 := [16, 93, 162, 0, 29, 45, 180, 0, 139, 21, 5, 46, 25, 4, 180, 0, 139, 21, 5, 46, 159, 0, 5, 3]
abbrev dktX1_areAlike_1 : List UInt8 := dkwX1_areAlike_1 ++ dktX1_areAlike_2
def dkwX1_areAlike_0 : List UInt8 := [42, 27, 182, 0, 199, 180, 0, 136, 78, 42, 28, 182, 0, 199, 180, 0, 136, 58, 4, 3, 54, 5, 21, 5]
abbrev dktX1_areAlike_0 : List UInt8 := dkwX1_areAlike_0 ++ dktX1_areAlike_1
theorem dksX1_areAlike_0 : cX1_areAlike.data.toList.drop 0 = dktX1_areAlike_0 := by decide +kernel
theorem dksX1_areAlike_1 : cX1_areAlike.data.toList.drop 24 = dktX1_areAlike_1 := dk_seg dksX1_areAlike_0 24 rfl rfl
theorem dksX1_areAlike_2 : cX1_areAlike.data.toList.drop 48 = dktX1_areAlike_2 := dk_seg dksX1_areAlike_1 24 rfl rfl
theorem dX1_areAlike_0 : decode cX1_areAlike 0 = .ok (.aload_n 0, 1) := dk_42 (dk_at dksX1_areAlike_0 0 rfl rfl)
theorem dX1_areAlike_1 : decode cX1_areAlike 1 = .ok (.iload_n 1, 1) := dk_27 (dk_at dksX1_areAlike_0 1 rfl rfl)
theorem dX1_areAlike_2 : decode cX1_areAlike 2 = .ok (.invokevirtual 199, 3) := dk_182 0 199 (dk_at dksX1_areAlike_0 2 rfl rfl)
theorem dX1_areAlike_5 : decode cX1_areAlike 5 = .ok (.getfield 136, 3) := dk_180 0 136 (dk_at dksX1_areAlike_0 5 rfl rfl)
theorem dX1_areAlike_8 : decode cX1_areAlike 8 = .ok (.astore_n 3, 1) := dk_78 (dk_at dksX1_areAlike_0 8 rfl rfl)
theorem dX1_areAlike_9 : decode cX1_areAlike 9 = .ok (.aload_n 0, 1) := dk_42 (dk_at dksX1_areAlike_0 9 rfl rfl)
theorem dX1_areAlike_10 : decode cX1_areAlike 10 = .ok (.iload_n 2, 1) := dk_28 (dk_at dksX1_areAlike_0 10 rfl rfl)
theorem dX1_areAlike_11 : decode cX1_areAlike 11 = .ok (.invokevirtual 199, 3) := dk_182 0 199 (dk_at dksX1_areAlike_0 11 rfl rfl)
theorem dX1_areAlike_14 : decode cX1_areAlike 14 = .ok (.getfield 136, 3) := dk_180 0 136 (dk_at dksX1_areAlike_0 14 rfl rfl)
theorem dX1_areAlike_17 : decode cX1_areAlike 17 = .ok (.astore 4, 2) := dk_58 4 (dk_at dksX1_areAlike_0 17 rfl rfl)
theorem dX1_areAlike_19 : decode cX1_areAlike 19 = .ok (.iconst 0, 1) := dk_3 (dk_at dksX1_areAlike_0 19 rfl rfl)
theorem dX1_areAlike_20 : decode cX1_areAlike 20 = .ok (.istore 5, 2) := dk_54 5 (dk_at dksX1_areAlike_0 20 rfl rfl)
theorem dX1_areAlike_22 : decode cX1_areAlike 22 = .ok (.iload 5, 2) := dk_21 5 (dk_at dksX1_areAlike_0 22 rfl rfl)
theorem dX1_areAlike_24 : decode cX1_areAlike 24 = .ok (.bipush 93, 2) := dk_16 93 (dk_at dksX1_areAlike_1 0 rfl rfl)
theorem dX1_areAlike_26 : decode cX1_areAlike 26 = .ok (.if_icmp .ge 29, 3) := dk_162 0 29 (dk_at dksX1_areAlike_1 2 rfl rfl)
theorem dX1_areAlike_29 : decode cX1_areAlike 29 = .ok (.aload_n 3, 1) := dk_45 (dk_at dksX1_areAlike_1 5 rfl rfl)
theorem dX1_areAlike_30 : decode cX1_areAlike 30 = .ok (.getfield 139, 3) := dk_180 0 139 (dk_at dksX1_areAlike_1 6 rfl rfl)
theorem dX1_areAlike_33 : decode cX1_areAlike 33 = .ok (.iload 5, 2) := dk_21 5 (dk_at dksX1_areAlike_1 9 rfl rfl)
theorem dX1_areAlike_35 : decode cX1_areAlike 35 = .ok (.iaload, 1) := dk_46 (dk_at dksX1_areAlike_1 11 rfl rfl)
theorem dX1_areAlike_36 : decode cX1_areAlike 36 = .ok (.aload 4, 2) := dk_25 4 (dk_at dksX1_areAlike_1 12 rfl rfl)
theorem dX1_areAlike_38 : decode cX1_areAlike 38 = .ok (.getfield 139, 3) := dk_180 0 139 (dk_at dksX1_areAlike_1 14 rfl rfl)
theorem dX1_areAlike_41 : decode cX1_areAlike 41 = .ok (.iload 5, 2) := dk_21 5 (dk_at dksX1_areAlike_1 17 rfl rfl)
theorem dX1_areAlike_43 : decode cX1_areAlike 43 = .ok (.iaload, 1) := dk_46 (dk_at dksX1_areAlike_1 19 rfl rfl)
theorem dX1_areAlike_44 : decode cX1_areAlike 44 = .ok (.if_icmp .eq 5, 3) := dk_159 0 5 (dk_at dksX1_areAlike_1 20 rfl rfl)
theorem dX1_areAlike_47 : decode cX1_areAlike 47 = .ok (.iconst 0, 1) := dk_3 (dk_at dksX1_areAlike_1 23 rfl rfl)
theorem dX1_areAlike_48 : decode cX1_areAlike 48 = .ok (.ireturn, 1) := dk_172 (dk_at dksX1_areAlike_2 0 rfl rfl)
theorem dX1_areAlike_49 : decode cX1_areAlike 49 = .ok (.iinc 5 1, 3) := dk_132 5 1 (dk_at dksX1_areAlike_2 1 rfl rfl)
theorem dX1_areAlike_52 : decode cX1_areAlike 52 = .ok (.goto (-30), 3) := dk_167 255 226 (dk_at dksX1_areAlike_2 4 rfl rfl)
theorem dX1_areAlike_55 : decode cX1_areAlike 55 = .ok (.iconst 1, 1) := dk_4 (dk_at dksX1_areAlike_2 7 rfl rfl)
theorem dX1_areAlike_56 : decode cX1_areAlike 56 = .ok (.ireturn, 1) := dk_172 (dk_at dksX1_areAlike_2 8 rfl rfl)
abbrev rm_X1_areAlike : Room := { frames := 9, cells := 4, slots := 14, locals := 146 }
def w_X1_areAlike_22 (P : Int32 → AH → Prop) (PX : String → AH → Prop) (x3 : Option Nat) (x4 : Option Nat) (x5 : Int32) (h : AH) : Prop :=
  ∀ Z22 : Int32 → Prop, (∀ x5, (
      ((93 ≤ x5 →
        P 1 h) ∧
       (¬ 93 ≤ x5 →
        g_q h x3 1 0 fun y30 =>
        l_i h y30 0 x5 fun y35 =>
        g_q h x4 1 0 fun y38 =>
        l_i h y38 0 x5 fun y43 =>
        ((y35 = y43 →
          Z22 (x5 + 1)) ∧
         (¬ y35 = y43 →
          P 0 h)))))
      → Z22 x5) → Z22 x5
def w_X1_areAlike (a0 : Option Nat) (a1 : Int32) (a2 : Int32) (h : AH) (P : Int32 → AH → Prop) (PX : String → AH → Prop) : Prop :=
  is_c h a0 [0] (
  w_X1_board a0 a1 h (fun y2 h2 =>
  g_q h2 y2 2 1 fun y5 =>
  is_c h2 a0 [0] (
  w_X1_board a0 a2 h2 (fun y11 h11 =>
  g_q h11 y11 2 1 fun y14 =>
  w_X1_areAlike_22 P PX y5 y14 0 h11) PX)) PX)
theorem wk_X1_areAlike_22 {x : CX} (X : Ok x cX1_areAlike RX1 rm_X1_areAlike 6) (er : xrt x = (Option.some Jvm.ClassFile.FieldType.boolean)) (en : xnm x = yX1_areAlike.name) {P : Int32 → AH → Prop} {PX : String → AH → Prop} (hQ : xr_i x P) (hT : xt_ x PX) (hex : ∀ z ∈ x.2.2.2.2.2.2.2.2.2.1.exceptionTable.toList, False) (x3 : Option Nat) (x4 : Option Nat) (x5 : Int32) (h : AH) (hw : w_X1_areAlike_22 P PX x3 x4 x5 h) : J x h 4 14 22 [(3, vR x3), (4, vR x4), (5, vI x5)] [] := by
  refine hw (fun x5 => J x h 4 14 22 [(3, vR x3), (4, vR x4), (5, vI x5)] []) (fun x5 hw => ?_)
  refine j_iload X (pc := 22) 2 dX1_areAlike_22 rfl ?_
  refine j_bipush X (pc := 24) 93 dX1_areAlike_24 (by decide) ?_
  refine j_icmp_ge X (pc := 26) 55 dX1_areAlike_26 (by decide) hw (fun hw => ?_) (fun hw => ?_)
  · refine j_iconst X (pc := 55) 1 dX1_areAlike_55 (by decide) ?_
    exact j_zret X (pc := 56) (ty := .boolean) hQ er rfl (Nat.le_of_ble_eq_true rfl) (Nat.le_of_ble_eq_true rfl) dX1_areAlike_56 hw
  · refine j_aload_n X (pc := 29) 0 dX1_areAlike_29 rfl rfl ?_
    refine j_getqN (ci := 1) X (pc := 30) in_X2 rfl (by decide) 0 (by decide) q168 (Or.inl rfl) dX1_areAlike_30 hw (fun y30 hw => ?_)
    refine j_iload X (pc := 33) 2 dX1_areAlike_33 rfl ?_
    refine j_iald X (pc := 35) 0 rfl dX1_areAlike_35 hw (fun y35 hw => ?_)
    refine j_aload X (pc := 36) 1 dX1_areAlike_36 rfl ?_
    refine j_getqN (ci := 1) X (pc := 38) in_X2 rfl (by decide) 0 (by decide) q168 (Or.inl rfl) dX1_areAlike_38 hw (fun y38 hw => ?_)
    refine j_iload X (pc := 41) 2 dX1_areAlike_41 rfl ?_
    refine j_iald X (pc := 43) 0 rfl dX1_areAlike_43 hw (fun y43 hw => ?_)
    refine j_icmp_eq X (pc := 44) 49 dX1_areAlike_44 (by decide) hw (fun hw => ?_) (fun hw => ?_)
    · refine j_iinc X (pc := 49) 2 (x5 + 1) [(5, vI (x5 + 1)), (3, vR x3), (4, vR x4)] dX1_areAlike_49 rfl rfl (Nat.le_of_ble_eq_true rfl) rfl ?_
      refine j_goto X (pc := 52) 22 dX1_areAlike_52 (by decide) ?_
      refine j_lv [(3, vR x3), (4, vR x4), (5, vI (x5 + 1))] [1, 2, 0] rfl ?_
      refine j_cs (u' := 4) (v' := 14) (Nat.le_of_ble_eq_true rfl) (Nat.le_of_ble_eq_true rfl) ?_
      exact hw
    · refine j_iconst X (pc := 47) 0 dX1_areAlike_47 (by decide) ?_
      exact j_zret X (pc := 48) (ty := .boolean) hQ er rfl (Nat.le_of_ble_eq_true rfl) (Nat.le_of_ble_eq_true rfl) dX1_areAlike_48 hw
theorem met_X1_areAlike (l : Launch) (hlt : l.stackTraces = false) (G : GG) (h : AH) (a0 : Option Nat) (a1 : Int32) (a2 : Int32) (P : Int32 → AH → Prop) (PX : String → AH → Prop) (hw : w_X1_areAlike a0 a1 a2 h P PX) : cx_i l yX1_areAlike (ws_ yX1_areAlike cX1_areAlike 6 (Option.some Jvm.ClassFile.FieldType.boolean)) rm_X1_areAlike G h [vR a0, vI a1, vI a2] P PX := by
  refine j_startXi hlt [(0, vR a0), (1, vI a1), (2, vI a2)] (by decide) rfl rfl (fun x X eG er en hQ hT hex => ?_)
  subst eG
  refine j_aload_n X (pc := 0) 0 dX1_areAlike_0 rfl rfl ?_
  refine j_iload_n X (pc := 1) 1 dX1_areAlike_1 rfl rfl ?_
  obtain ⟨b9, c9, f9, hr9, ho9, hc9, hw⟩ := hw
  obtain rfl := List.mem_singleton.mp hc9
  refine j_callXq (j_runVX (n8 := 1) (As := [vI a1]) (rest := []) X (pc := 2) hr9 (met_X1_board (xl x) X.hl (xG x) h a0 a1 _ _ hw) ho9 (by decide) rfl q297 q299 qs0 q71 q300 (by decide +kernel) dX1_areAlike_2 rfl ⟨Nat.le_of_ble_eq_true rfl, Nat.le_of_ble_eq_true rfl⟩ (Nat.le_of_ble_eq_true rfl) ⟨Nat.le_of_ble_eq_true rfl, Nat.le_of_ble_eq_true rfl⟩) (fun E h9 hx => j_out X hT hex (Nat.le_of_ble_eq_true rfl) (Nat.le_of_ble_eq_true rfl) hx) (fun y2 h2 hw => ?_)
  refine j_getqN (ci := 2) X (pc := 5) in_X3 rfl (by decide) 1 (by decide) q210 (Or.inl rfl) dX1_areAlike_5 hw (fun y5 hw => ?_)
  refine j_astore_n X (pc := 8) [(3, vR y5), (0, vR a0), (1, vI a1), (2, vI a2)] dX1_areAlike_8 rfl (Nat.le_of_ble_eq_true rfl) rfl ?_
  refine j_aload_n X (pc := 9) 1 dX1_areAlike_9 rfl rfl ?_
  refine j_iload_n X (pc := 10) 3 dX1_areAlike_10 rfl rfl ?_
  obtain ⟨b9, c9, f9, hr9, ho9, hc9, hw⟩ := hw
  obtain rfl := List.mem_singleton.mp hc9
  refine j_callXq (j_runVX (n8 := 1) (As := [vI a2]) (rest := []) X (pc := 11) hr9 (met_X1_board (xl x) X.hl (xG x) h2 a0 a2 _ _ hw) ho9 (by decide) rfl q297 q299 qs0 q71 q300 (by decide +kernel) dX1_areAlike_11 rfl ⟨Nat.le_of_ble_eq_true rfl, Nat.le_of_ble_eq_true rfl⟩ (Nat.le_of_ble_eq_true rfl) ⟨Nat.le_of_ble_eq_true rfl, Nat.le_of_ble_eq_true rfl⟩) (fun E h9 hx => j_out X hT hex (Nat.le_of_ble_eq_true rfl) (Nat.le_of_ble_eq_true rfl) hx) (fun y11 h11 hw => ?_)
  refine j_getqN (ci := 2) X (pc := 14) in_X3 rfl (by decide) 1 (by decide) q210 (Or.inl rfl) dX1_areAlike_14 hw (fun y14 hw => ?_)
  refine j_astore X (pc := 17) [(4, vR y14), (3, vR y5), (0, vR a0), (1, vI a1), (2, vI a2)] dX1_areAlike_17 (Nat.le_of_ble_eq_true rfl) rfl ?_
  refine j_iconst X (pc := 19) 0 dX1_areAlike_19 (by decide) ?_
  refine j_istore X (pc := 20) [(5, vI 0), (4, vR y14), (3, vR y5), (0, vR a0), (1, vI a1), (2, vI a2)] dX1_areAlike_20 (Nat.le_of_ble_eq_true rfl) rfl ?_
  refine j_lv [(3, vR y5), (4, vR y14), (5, vI 0)] [2, 1, 0] rfl ?_
  refine j_cs (u' := 4) (v' := 14) (Nat.le_of_ble_eq_true rfl) (Nat.le_of_ble_eq_true rfl) ?_
  exact wk_X1_areAlike_22 X er en hQ hT hex y5 y14 0 h11 hw
abbrev cX0_areAlike : ByteArray := method_43_code
def yX0_areAlike : MethodName := ⟨RX0, "areAlike", "(LPlugboard;II[J)I"⟩
def dkwX0_areAlike_1 : List UInt8 := [3, 172]
abbrev dktX0_areAlike_1 : List UInt8 := dkwX0_areAlike_1 ++ []
def dkwX0_areAlike_0 : List UInt8 := [45, 3, 42, 27, 28, 182, 0, 148, 153, 0, 7, 10, 167, 0, 4, 9, 80, 167, 0, 7, 58, 4, 4, 172]
abbrev dktX0_areAlike_0 : List UInt8 := dkwX0_areAlike_0 ++ dktX0_areAlike_1
theorem dksX0_areAlike_0 : cX0_areAlike.data.toList.drop 0 = dktX0_areAlike_0 := by decide +kernel
theorem dksX0_areAlike_1 : cX0_areAlike.data.toList.drop 24 = dktX0_areAlike_1 := dk_seg dksX0_areAlike_0 24 rfl rfl
theorem dX0_areAlike_0 : decode cX0_areAlike 0 = .ok (.aload_n 3, 1) := dk_45 (dk_at dksX0_areAlike_0 0 rfl rfl)
theorem dX0_areAlike_1 : decode cX0_areAlike 1 = .ok (.iconst 0, 1) := dk_3 (dk_at dksX0_areAlike_0 1 rfl rfl)
theorem dX0_areAlike_2 : decode cX0_areAlike 2 = .ok (.aload_n 0, 1) := dk_42 (dk_at dksX0_areAlike_0 2 rfl rfl)
theorem dX0_areAlike_3 : decode cX0_areAlike 3 = .ok (.iload_n 1, 1) := dk_27 (dk_at dksX0_areAlike_0 3 rfl rfl)
theorem dX0_areAlike_4 : decode cX0_areAlike 4 = .ok (.iload_n 2, 1) := dk_28 (dk_at dksX0_areAlike_0 4 rfl rfl)
theorem dX0_areAlike_5 : decode cX0_areAlike 5 = .ok (.invokevirtual 148, 3) := dk_182 0 148 (dk_at dksX0_areAlike_0 5 rfl rfl)
theorem dX0_areAlike_8 : decode cX0_areAlike 8 = .ok (.ifCond .eq 7, 3) := dk_153 0 7 (dk_at dksX0_areAlike_0 8 rfl rfl)
theorem dX0_areAlike_11 : decode cX0_areAlike 11 = .ok (.lconst 1, 1) := dk_10 (dk_at dksX0_areAlike_0 11 rfl rfl)
theorem dX0_areAlike_12 : decode cX0_areAlike 12 = .ok (.goto 4, 3) := dk_167 0 4 (dk_at dksX0_areAlike_0 12 rfl rfl)
theorem dX0_areAlike_15 : decode cX0_areAlike 15 = .ok (.lconst 0, 1) := dk_9 (dk_at dksX0_areAlike_0 15 rfl rfl)
theorem dX0_areAlike_16 : decode cX0_areAlike 16 = .ok (.lastore, 1) := dk_80 (dk_at dksX0_areAlike_0 16 rfl rfl)
theorem dX0_areAlike_17 : decode cX0_areAlike 17 = .ok (.goto 7, 3) := dk_167 0 7 (dk_at dksX0_areAlike_0 17 rfl rfl)
theorem dX0_areAlike_20 : decode cX0_areAlike 20 = .ok (.astore 4, 2) := dk_58 4 (dk_at dksX0_areAlike_0 20 rfl rfl)
theorem dX0_areAlike_22 : decode cX0_areAlike 22 = .ok (.iconst 1, 1) := dk_4 (dk_at dksX0_areAlike_0 22 rfl rfl)
theorem dX0_areAlike_23 : decode cX0_areAlike 23 = .ok (.ireturn, 1) := dk_172 (dk_at dksX0_areAlike_0 23 rfl rfl)
theorem dX0_areAlike_24 : decode cX0_areAlike 24 = .ok (.iconst 0, 1) := dk_3 (dk_at dksX0_areAlike_1 0 rfl rfl)
theorem dX0_areAlike_25 : decode cX0_areAlike 25 = .ok (.ireturn, 1) := dk_172 (dk_at dksX0_areAlike_1 1 rfl rfl)
theorem q1802 : (Jvm.Cond.methodLink "PlugboardLaw" (148 : Nat) ({ cls := "Plugboard", name := "areAlike", desc := "(II)Z" } : Jvm.MethodName)) ∈ lw_all := lw_g (lw_at lw_m8 52 rfl) rfl
theorem q1803 : (Jvm.Cond.instanceMethod ({ cls := "Plugboard", name := "areAlike", desc := "(II)Z" } : Jvm.MethodName)) ∈ lw_all := lw_g (lw_at lw_m8 53 rfl) rfl
theorem q1804 : (Jvm.Cond.selects "Plugboard" ({ cls := "Plugboard", name := "areAlike", desc := "(II)Z" } : Jvm.MethodName) ({ cls := "Plugboard", name := "areAlike", desc := "(II)Z" } : Jvm.MethodName)) ∈ lw_all := lw_g (lw_at lw_m8 54 rfl) rfl
theorem q1805 : (Jvm.Cond.code ({ cls := "Plugboard", name := "areAlike", desc := "(II)Z" } : Jvm.MethodName) prog_1_method_82_code (6 : Nat) (Option.some Jvm.ClassFile.FieldType.boolean)) ∈ lw_all := lw_g (lw_at lw_m8 55 rfl) rfl
abbrev rm_X0_areAlike : Room := { frames := 10, cells := 4, slots := 14, locals := 171 }
def w_X0_areAlike (a0 : Option Nat) (a1 : Int32) (a2 : Int32) (a3 : Option Nat) (h : AH) (P : Int32 → AH → Prop) : Prop :=
  is_c h a0 [0] (
  w_X1_areAlike a0 a1 a2 h (fun y5 h5 =>
  ((y5 = 0 →
    s_L h5 a3 0 0 fun h16 =>
    P 0 h16) ∧
   (¬ y5 = 0 →
    s_L h5 a3 0 1 fun h16 =>
    P 0 h16)))
    (fun E9 h9 => (E9 = "java/lang/IllegalArgumentException" ∧ ∀ q9 : Nat,
    P 1 h9)))
theorem met_X0_areAlike (l : Launch) (hlt : l.stackTraces = false) (G : GG) (h : AH) (a0 : Option Nat) (a1 : Int32) (a2 : Int32) (a3 : Option Nat) (P : Int32 → AH → Prop) (hw : w_X0_areAlike a0 a1 a2 a3 h P) : ct_i l yX0_areAlike (wsW_ yX0_areAlike cX0_areAlike 5 (Option.some Jvm.ClassFile.FieldType.int) [((0 : Nat), (17 : Nat), (20 : Nat), (13 : Nat))]) rm_X0_areAlike G h [vR a0, vI a1, vI a2, vR a3] P := by
  refine j_startWi hlt [(0, vR a0), (1, vI a1), (2, vI a2), (3, vR a3)] (by decide) rfl rfl (fun x X eG er en hQ hex => ?_)
  subst eG
  refine j_aload_n X (pc := 0) 3 dX0_areAlike_0 rfl rfl ?_
  refine j_iconst X (pc := 1) 0 dX0_areAlike_1 (by decide) ?_
  refine j_aload_n X (pc := 2) 0 dX0_areAlike_2 rfl rfl ?_
  refine j_iload_n X (pc := 3) 1 dX0_areAlike_3 rfl rfl ?_
  refine j_iload_n X (pc := 4) 2 dX0_areAlike_4 rfl rfl ?_
  obtain ⟨b9, c9, f9, hr9, ho9, hc9, hw⟩ := hw
  obtain rfl := List.mem_singleton.mp hc9
  refine j_callXi (j_runVX (n8 := 2) (As := [vI a1, vI a2]) (rest := [vI 0, vR a3]) X (pc := 5) hr9 (met_X1_areAlike (xl x) X.hl (xG x) h a0 a1 a2 _ _ hw) ho9 (by decide) rfl q1802 q1803 q1804 q71 q1805 (by decide +kernel) dX0_areAlike_5 rfl ⟨Nat.le_of_ble_eq_true rfl, Nat.le_of_ble_eq_true rfl⟩ (Nat.le_of_ble_eq_true rfl) ⟨Nat.le_of_ble_eq_true rfl, Nat.le_of_ble_eq_true rfl⟩) ?_ (fun y5 h5 hw => ?_)
  · intro E9 h9 hx
    obtain ⟨rfl, hw⟩ := hx
    refine j_catch X (pc := 5) "java/lang/IllegalArgumentException" hex [] [] ⟨0, 17, 20, 13⟩ rfl (by intro y hy; cases hy) (by decide) (by decide) q291 q312 (fun q9 => ?_)
    have hw := hw q9
    refine j_astore X (pc := 20) [(4, vR (some q9)), (0, vR a0), (1, vI a1), (2, vI a2), (3, vR a3)] dX0_areAlike_20 (Nat.le_of_ble_eq_true rfl) rfl ?_
    refine j_iconst X (pc := 22) 1 dX0_areAlike_22 (by decide) ?_
    exact j_iret X (pc := 23) hQ er (Nat.le_of_ble_eq_true rfl) (Nat.le_of_ble_eq_true rfl) dX0_areAlike_23 hw
  refine j_if_eq X (pc := 8) 15 dX0_areAlike_8 (by decide) hw (fun hw => ?_) (fun hw => ?_)
  · refine j_lconst X (pc := 15) 0 dX0_areAlike_15 (by decide) ?_
    refine j_last X (pc := 16) dX0_areAlike_16 hw (fun h16 hw => ?_)
    refine j_goto X (pc := 17) 24 dX0_areAlike_17 (by decide) ?_
    refine j_iconst X (pc := 24) 0 dX0_areAlike_24 (by decide) ?_
    exact j_iret X (pc := 25) hQ er (Nat.le_of_ble_eq_true rfl) (Nat.le_of_ble_eq_true rfl) dX0_areAlike_25 hw
  · refine j_lconst X (pc := 11) 1 dX0_areAlike_11 (by decide) ?_
    refine j_goto X (pc := 12) 16 dX0_areAlike_12 (by decide) ?_
    refine j_last X (pc := 16) dX0_areAlike_16 hw (fun h16 hw => ?_)
    refine j_goto X (pc := 17) 24 dX0_areAlike_17 (by decide) ?_
    refine j_iconst X (pc := 24) 0 dX0_areAlike_24 (by decide) ?_
    exact j_iret X (pc := 25) hQ er (Nat.le_of_ble_eq_true rfl) (Nat.le_of_ble_eq_true rfl) dX0_areAlike_25 hw
abbrev cX5_areAlike : ByteArray := prog_19_method_87_code
def yX5_areAlike : MethodName := ⟨RX5, "areAlike", "(II)Z"⟩
def dkwX5_areAlike_4 : List UInt8 := [167, 255, 230, 4, 172]
abbrev dktX5_areAlike_4 : List UInt8 := dkwX5_areAlike_4 ++ []
def dkwX5_areAlike_3 : List UInt8 := [16, 93, 162, 0, 25, 45, 21, 4, 46, 42, 180, 0, 67, 21, 4, 46, 159, 0, 5, 3, 172, 132, 4, 1]
abbrev dktX5_areAlike_3 : List UInt8 := dkwX5_areAlike_3 ++ dktX5_areAlike_4
def dkwX5_areAlike_2 : List UInt8 := [42, 180, 0, 67, 21, 4, 46, 79, 132, 4, 1, 167, 255, 235, 42, 28, 182, 0, 161, 3, 54, 4, 21, 4]
abbrev dktX5_areAlike_2 : List UInt8 := dkwX5_areAlike_2 ++ dktX5_areAlike_3
def dkwX5_areAlike_1 : List UInt8 := [172, 42, 27, 182, 0, 161, 16, 93, 188, 10, 78, 3, 54, 4, 21, 4, 16, 93, 162, 0, 20, 45, 21, 4]
abbrev dktX5_areAlike_1 : List UInt8 := dkwX5_areAlike_1 ++ dktX5_areAlike_2
def dkwX5_areAlike_0 : List UInt8 := [42, 3, 181, 0, 97, 27, 184, 0, 165, 153, 0, 10, 28, 184, 0, 165, 154, 0, 9, 42, 4, 182, 0, 219]
abbrev dktX5_areAlike_0 : List UInt8 := dkwX5_areAlike_0 ++ dktX5_areAlike_1
theorem dksX5_areAlike_0 : cX5_areAlike.data.toList.drop 0 = dktX5_areAlike_0 := by decide +kernel
theorem dksX5_areAlike_1 : cX5_areAlike.data.toList.drop 24 = dktX5_areAlike_1 := dk_seg dksX5_areAlike_0 24 rfl rfl
theorem dksX5_areAlike_2 : cX5_areAlike.data.toList.drop 48 = dktX5_areAlike_2 := dk_seg dksX5_areAlike_1 24 rfl rfl
theorem dksX5_areAlike_3 : cX5_areAlike.data.toList.drop 72 = dktX5_areAlike_3 := dk_seg dksX5_areAlike_2 24 rfl rfl
theorem dksX5_areAlike_4 : cX5_areAlike.data.toList.drop 96 = dktX5_areAlike_4 := dk_seg dksX5_areAlike_3 24 rfl rfl
theorem dX5_areAlike_0 : decode cX5_areAlike 0 = .ok (.aload_n 0, 1) := dk_42 (dk_at dksX5_areAlike_0 0 rfl rfl)
theorem dX5_areAlike_1 : decode cX5_areAlike 1 = .ok (.iconst 0, 1) := dk_3 (dk_at dksX5_areAlike_0 1 rfl rfl)
theorem dX5_areAlike_2 : decode cX5_areAlike 2 = .ok (.putfield 97, 3) := dk_181 0 97 (dk_at dksX5_areAlike_0 2 rfl rfl)
theorem dX5_areAlike_5 : decode cX5_areAlike 5 = .ok (.iload_n 1, 1) := dk_27 (dk_at dksX5_areAlike_0 5 rfl rfl)
theorem dX5_areAlike_6 : decode cX5_areAlike 6 = .ok (.invokestatic 165, 3) := dk_184 0 165 (dk_at dksX5_areAlike_0 6 rfl rfl)
theorem dX5_areAlike_9 : decode cX5_areAlike 9 = .ok (.ifCond .eq 10, 3) := dk_153 0 10 (dk_at dksX5_areAlike_0 9 rfl rfl)
theorem dX5_areAlike_12 : decode cX5_areAlike 12 = .ok (.iload_n 2, 1) := dk_28 (dk_at dksX5_areAlike_0 12 rfl rfl)
theorem dX5_areAlike_13 : decode cX5_areAlike 13 = .ok (.invokestatic 165, 3) := dk_184 0 165 (dk_at dksX5_areAlike_0 13 rfl rfl)
theorem dX5_areAlike_16 : decode cX5_areAlike 16 = .ok (.ifCond .ne 9, 3) := dk_154 0 9 (dk_at dksX5_areAlike_0 16 rfl rfl)
theorem dX5_areAlike_19 : decode cX5_areAlike 19 = .ok (.aload_n 0, 1) := dk_42 (dk_at dksX5_areAlike_0 19 rfl rfl)
theorem dX5_areAlike_20 : decode cX5_areAlike 20 = .ok (.iconst 1, 1) := dk_4 (dk_at dksX5_areAlike_0 20 rfl rfl)
theorem dX5_areAlike_21 : decode cX5_areAlike 21 = .ok (.invokevirtual 219, 3) := dk_182 0 219 (dk_at dksX5_areAlike_0 21 rfl rfl)
theorem dX5_areAlike_24 : decode cX5_areAlike 24 = .ok (.ireturn, 1) := dk_172 (dk_at dksX5_areAlike_1 0 rfl rfl)
theorem dX5_areAlike_25 : decode cX5_areAlike 25 = .ok (.aload_n 0, 1) := dk_42 (dk_at dksX5_areAlike_1 1 rfl rfl)
theorem dX5_areAlike_26 : decode cX5_areAlike 26 = .ok (.iload_n 1, 1) := dk_27 (dk_at dksX5_areAlike_1 2 rfl rfl)
theorem dX5_areAlike_27 : decode cX5_areAlike 27 = .ok (.invokevirtual 161, 3) := dk_182 0 161 (dk_at dksX5_areAlike_1 3 rfl rfl)
theorem dX5_areAlike_30 : decode cX5_areAlike 30 = .ok (.bipush 93, 2) := dk_16 93 (dk_at dksX5_areAlike_1 6 rfl rfl)
theorem dX5_areAlike_32 : decode cX5_areAlike 32 = .ok (.newarray .int, 2) := dk_188_10 (dk_at dksX5_areAlike_1 8 rfl rfl)
theorem dX5_areAlike_34 : decode cX5_areAlike 34 = .ok (.astore_n 3, 1) := dk_78 (dk_at dksX5_areAlike_1 10 rfl rfl)
theorem dX5_areAlike_35 : decode cX5_areAlike 35 = .ok (.iconst 0, 1) := dk_3 (dk_at dksX5_areAlike_1 11 rfl rfl)
theorem dX5_areAlike_36 : decode cX5_areAlike 36 = .ok (.istore 4, 2) := dk_54 4 (dk_at dksX5_areAlike_1 12 rfl rfl)
theorem dX5_areAlike_38 : decode cX5_areAlike 38 = .ok (.iload 4, 2) := dk_21 4 (dk_at dksX5_areAlike_1 14 rfl rfl)
theorem dX5_areAlike_40 : decode cX5_areAlike 40 = .ok (.bipush 93, 2) := dk_16 93 (dk_at dksX5_areAlike_1 16 rfl rfl)
theorem dX5_areAlike_42 : decode cX5_areAlike 42 = .ok (.if_icmp .ge 20, 3) := dk_162 0 20 (dk_at dksX5_areAlike_1 18 rfl rfl)
theorem dX5_areAlike_45 : decode cX5_areAlike 45 = .ok (.aload_n 3, 1) := dk_45 (dk_at dksX5_areAlike_1 21 rfl rfl)
theorem dX5_areAlike_46 : decode cX5_areAlike 46 = .ok (.iload 4, 2) := dk_21 4 (dk_at dksX5_areAlike_1 22 rfl rfl)
theorem dX5_areAlike_48 : decode cX5_areAlike 48 = .ok (.aload_n 0, 1) := dk_42 (dk_at dksX5_areAlike_2 0 rfl rfl)
theorem dX5_areAlike_49 : decode cX5_areAlike 49 = .ok (.getfield 67, 3) := dk_180 0 67 (dk_at dksX5_areAlike_2 1 rfl rfl)
theorem dX5_areAlike_52 : decode cX5_areAlike 52 = .ok (.iload 4, 2) := dk_21 4 (dk_at dksX5_areAlike_2 4 rfl rfl)
theorem dX5_areAlike_54 : decode cX5_areAlike 54 = .ok (.iaload, 1) := dk_46 (dk_at dksX5_areAlike_2 6 rfl rfl)
theorem dX5_areAlike_55 : decode cX5_areAlike 55 = .ok (.iastore, 1) := dk_79 (dk_at dksX5_areAlike_2 7 rfl rfl)
theorem dX5_areAlike_56 : decode cX5_areAlike 56 = .ok (.iinc 4 1, 3) := dk_132 4 1 (dk_at dksX5_areAlike_2 8 rfl rfl)
theorem dX5_areAlike_59 : decode cX5_areAlike 59 = .ok (.goto (-21), 3) := dk_167 255 235 (dk_at dksX5_areAlike_2 11 rfl rfl)
theorem dX5_areAlike_62 : decode cX5_areAlike 62 = .ok (.aload_n 0, 1) := dk_42 (dk_at dksX5_areAlike_2 14 rfl rfl)
theorem dX5_areAlike_63 : decode cX5_areAlike 63 = .ok (.iload_n 2, 1) := dk_28 (dk_at dksX5_areAlike_2 15 rfl rfl)
theorem dX5_areAlike_64 : decode cX5_areAlike 64 = .ok (.invokevirtual 161, 3) := dk_182 0 161 (dk_at dksX5_areAlike_2 16 rfl rfl)
theorem dX5_areAlike_67 : decode cX5_areAlike 67 = .ok (.iconst 0, 1) := dk_3 (dk_at dksX5_areAlike_2 19 rfl rfl)
theorem dX5_areAlike_68 : decode cX5_areAlike 68 = .ok (.istore 4, 2) := dk_54 4 (dk_at dksX5_areAlike_2 20 rfl rfl)
theorem dX5_areAlike_70 : decode cX5_areAlike 70 = .ok (.iload 4, 2) := dk_21 4 (dk_at dksX5_areAlike_2 22 rfl rfl)
theorem dX5_areAlike_72 : decode cX5_areAlike 72 = .ok (.bipush 93, 2) := dk_16 93 (dk_at dksX5_areAlike_3 0 rfl rfl)
theorem dX5_areAlike_74 : decode cX5_areAlike 74 = .ok (.if_icmp .ge 25, 3) := dk_162 0 25 (dk_at dksX5_areAlike_3 2 rfl rfl)
theorem dX5_areAlike_77 : decode cX5_areAlike 77 = .ok (.aload_n 3, 1) := dk_45 (dk_at dksX5_areAlike_3 5 rfl rfl)
theorem dX5_areAlike_78 : decode cX5_areAlike 78 = .ok (.iload 4, 2) := dk_21 4 (dk_at dksX5_areAlike_3 6 rfl rfl)
theorem dX5_areAlike_80 : decode cX5_areAlike 80 = .ok (.iaload, 1) := dk_46 (dk_at dksX5_areAlike_3 8 rfl rfl)
theorem dX5_areAlike_81 : decode cX5_areAlike 81 = .ok (.aload_n 0, 1) := dk_42 (dk_at dksX5_areAlike_3 9 rfl rfl)
theorem dX5_areAlike_82 : decode cX5_areAlike 82 = .ok (.getfield 67, 3) := dk_180 0 67 (dk_at dksX5_areAlike_3 10 rfl rfl)
theorem dX5_areAlike_85 : decode cX5_areAlike 85 = .ok (.iload 4, 2) := dk_21 4 (dk_at dksX5_areAlike_3 13 rfl rfl)
theorem dX5_areAlike_87 : decode cX5_areAlike 87 = .ok (.iaload, 1) := dk_46 (dk_at dksX5_areAlike_3 15 rfl rfl)
theorem dX5_areAlike_88 : decode cX5_areAlike 88 = .ok (.if_icmp .eq 5, 3) := dk_159 0 5 (dk_at dksX5_areAlike_3 16 rfl rfl)
theorem dX5_areAlike_91 : decode cX5_areAlike 91 = .ok (.iconst 0, 1) := dk_3 (dk_at dksX5_areAlike_3 19 rfl rfl)
theorem dX5_areAlike_92 : decode cX5_areAlike 92 = .ok (.ireturn, 1) := dk_172 (dk_at dksX5_areAlike_3 20 rfl rfl)
theorem dX5_areAlike_93 : decode cX5_areAlike 93 = .ok (.iinc 4 1, 3) := dk_132 4 1 (dk_at dksX5_areAlike_3 21 rfl rfl)
theorem dX5_areAlike_96 : decode cX5_areAlike 96 = .ok (.goto (-26), 3) := dk_167 255 230 (dk_at dksX5_areAlike_4 0 rfl rfl)
theorem dX5_areAlike_99 : decode cX5_areAlike 99 = .ok (.iconst 1, 1) := dk_4 (dk_at dksX5_areAlike_4 3 rfl rfl)
theorem dX5_areAlike_100 : decode cX5_areAlike 100 = .ok (.ireturn, 1) := dk_172 (dk_at dksX5_areAlike_4 4 rfl rfl)
abbrev rm_X5_areAlike : Room := { frames := 3, cells := 1, slots := 93, locals := 66 }
def w_X5_areAlike_70 (P : Int32 → AH → Prop) (x0 : Option Nat) (x3 : Option Nat) (x4 : Int32) (h : AH) : Prop :=
  ∀ Z70 : Int32 → Prop, (∀ x4, (
      ((93 ≤ x4 →
        P 1 h) ∧
       (¬ 93 ≤ x4 →
        l_i h x3 0 x4 fun y80 =>
        g_q h x0 4 21 fun y82 =>
        l_i h y82 0 x4 fun y87 =>
        ((y80 = y87 →
          Z70 (x4 + 1)) ∧
         (¬ y80 = y87 →
          P 0 h)))))
      → Z70 x4) → Z70 x4
def w_X5_areAlike_38 (P : Int32 → AH → Prop) (x0 : Option Nat) (x2 : Int32) (x3 : Option Nat) (x4 : Int32) (h : AH) : Prop :=
  ∀ Z38 : Int32 → AH → Prop, (∀ x4 h, (
      ((93 ≤ x4 →
        is_c h x0 [4] (
        w_X5_builds x0 x2 h (fun h64 =>
        w_X5_areAlike_70 P x0 x3 0 h64))) ∧
       (¬ 93 ≤ x4 →
        g_q h x0 4 21 fun y49 =>
        l_i h y49 0 x4 fun y54 =>
        s_i h x3 0 x4 y54 fun h55 =>
        Z38 (x4 + 1) h55)))
      → Z38 x4 h) → Z38 x4 h
def w_X5_areAlike (a0 : Option Nat) (a1 : Int32) (a2 : Int32) (h : AH) (P : Int32 → AH → Prop) : Prop :=
  p_v h a0 4 0 (vI 0) fun h2 =>
  w_X5_isUser a1 h2 (fun y6 h6 =>
  ((y6 = 0 →
    is_c h6 a0 [4] (
    w_X5_isWrong a0 1 h6 (fun y21 h21 =>
    nrw .boolean y21 ∧
    P y21 h21))) ∧
   (¬ y6 = 0 →
    w_X5_isUser a2 h6 (fun y13 h13 =>
    ((y13 = 0 →
      is_c h13 a0 [4] (
      w_X5_isWrong a0 1 h13 (fun y21 h21 =>
      nrw .boolean y21 ∧
      P y21 h21))) ∧
     (¬ y13 = 0 →
      is_c h13 a0 [4] (
      w_X5_builds a0 a1 h13 (fun h27 =>
      mk_i h27 0 93 93 fun q32 h32 =>
      w_X5_areAlike_38 P a0 a2 (some q32) 0 h32))))))))
theorem wk_X5_areAlike_70 {x : CX} (X : Ok x cX5_areAlike RX5 rm_X5_areAlike 5) (er : xrt x = (Option.some Jvm.ClassFile.FieldType.boolean)) (en : xnm x = yX5_areAlike.name) {P : Int32 → AH → Prop} (hQ : xr_i x P) (x0 : Option Nat) (x3 : Option Nat) (x4 : Int32) (h : AH) (hw : w_X5_areAlike_70 P x0 x3 x4 h) : J x h 1 93 70 [(0, vR x0), (3, vR x3), (4, vI x4)] [] := by
  refine hw (fun x4 => J x h 1 93 70 [(0, vR x0), (3, vR x3), (4, vI x4)] []) (fun x4 hw => ?_)
  refine j_iload X (pc := 70) 2 dX5_areAlike_70 rfl ?_
  refine j_bipush X (pc := 72) 93 dX5_areAlike_72 (by decide) ?_
  refine j_icmp_ge X (pc := 74) 99 dX5_areAlike_74 (by decide) hw (fun hw => ?_) (fun hw => ?_)
  · refine j_iconst X (pc := 99) 1 dX5_areAlike_99 (by decide) ?_
    exact j_zret X (pc := 100) (ty := .boolean) hQ er rfl (Nat.le_of_ble_eq_true rfl) (Nat.le_of_ble_eq_true rfl) dX5_areAlike_100 hw
  · refine j_aload_n X (pc := 77) 1 dX5_areAlike_77 rfl rfl ?_
    refine j_iload X (pc := 78) 2 dX5_areAlike_78 rfl ?_
    refine j_iald X (pc := 80) 0 rfl dX5_areAlike_80 hw (fun y80 hw => ?_)
    refine j_aload_n X (pc := 81) 0 dX5_areAlike_81 rfl rfl ?_
    refine j_getq (ci := 4) X (pc := 82) in_X5 rfl (by decide) 21 (by decide) q1893 (Or.inl rfl) dX5_areAlike_82 hw (fun y82 hw => ?_)
    refine j_iload X (pc := 85) 2 dX5_areAlike_85 rfl ?_
    refine j_iald X (pc := 87) 0 rfl dX5_areAlike_87 hw (fun y87 hw => ?_)
    refine j_icmp_eq X (pc := 88) 93 dX5_areAlike_88 (by decide) hw (fun hw => ?_) (fun hw => ?_)
    · refine j_iinc X (pc := 93) 2 (x4 + 1) [(4, vI (x4 + 1)), (0, vR x0), (3, vR x3)] dX5_areAlike_93 rfl rfl (Nat.le_of_ble_eq_true rfl) rfl ?_
      refine j_goto X (pc := 96) 70 dX5_areAlike_96 (by decide) ?_
      refine j_lv [(0, vR x0), (3, vR x3), (4, vI (x4 + 1))] [1, 2, 0] rfl ?_
      refine j_cs (u' := 1) (v' := 93) (Nat.le_of_ble_eq_true rfl) (Nat.le_of_ble_eq_true rfl) ?_
      exact hw
    · refine j_iconst X (pc := 91) 0 dX5_areAlike_91 (by decide) ?_
      exact j_zret X (pc := 92) (ty := .boolean) hQ er rfl (Nat.le_of_ble_eq_true rfl) (Nat.le_of_ble_eq_true rfl) dX5_areAlike_92 hw
theorem wk_X5_areAlike_38 {x : CX} (X : Ok x cX5_areAlike RX5 rm_X5_areAlike 5) (er : xrt x = (Option.some Jvm.ClassFile.FieldType.boolean)) (en : xnm x = yX5_areAlike.name) {P : Int32 → AH → Prop} (hQ : xr_i x P) (x0 : Option Nat) (x2 : Int32) (x3 : Option Nat) (x4 : Int32) (h : AH) (hw : w_X5_areAlike_38 P x0 x2 x3 x4 h) : J x h 1 93 38 [(0, vR x0), (2, vI x2), (3, vR x3), (4, vI x4)] [] := by
  refine hw (fun x4 h => J x h 1 93 38 [(0, vR x0), (2, vI x2), (3, vR x3), (4, vI x4)] []) (fun x4 h hw => ?_)
  refine j_iload X (pc := 38) 3 dX5_areAlike_38 rfl ?_
  refine j_bipush X (pc := 40) 93 dX5_areAlike_40 (by decide) ?_
  refine j_icmp_ge X (pc := 42) 62 dX5_areAlike_42 (by decide) hw (fun hw => ?_) (fun hw => ?_)
  · refine j_aload_n X (pc := 62) 0 dX5_areAlike_62 rfl rfl ?_
    refine j_iload_n X (pc := 63) 1 dX5_areAlike_63 rfl rfl ?_
    obtain ⟨b9, c9, f9, hr9, ho9, hc9, hw⟩ := hw
    obtain rfl := List.mem_singleton.mp hc9
    refine j_callv (j_runV (n8 := 1) (As := [vI x2]) (rest := []) X (pc := 64) hr9 (met_X5_builds (xl x) X.hl (xG x) h x0 x2 _ hw) ho9 (by decide) rfl q1992 q1994 qs34 q78 q1995 (by decide +kernel) dX5_areAlike_64 rfl ⟨Nat.le_of_ble_eq_true rfl, Nat.le_of_ble_eq_true rfl⟩ (Nat.le_of_ble_eq_true rfl) ⟨Nat.le_of_ble_eq_true rfl, Nat.le_of_ble_eq_true rfl⟩) (fun h64 hw => ?_)
    refine j_iconst X (pc := 67) 0 dX5_areAlike_67 (by decide) ?_
    refine j_istore X (pc := 68) [(4, vI 0), (0, vR x0), (2, vI x2), (3, vR x3)] dX5_areAlike_68 (Nat.le_of_ble_eq_true rfl) rfl ?_
    refine j_lv [(0, vR x0), (3, vR x3), (4, vI 0)] [1, 3, 0] rfl ?_
    refine j_cs (u' := 1) (v' := 93) (Nat.le_of_ble_eq_true rfl) (Nat.le_of_ble_eq_true rfl) ?_
    exact wk_X5_areAlike_70 X er en hQ x0 x3 0 h64 hw
  · refine j_aload_n X (pc := 45) 2 dX5_areAlike_45 rfl rfl ?_
    refine j_iload X (pc := 46) 3 dX5_areAlike_46 rfl ?_
    refine j_aload_n X (pc := 48) 0 dX5_areAlike_48 rfl rfl ?_
    refine j_getq (ci := 4) X (pc := 49) in_X5 rfl (by decide) 21 (by decide) q1893 (Or.inl rfl) dX5_areAlike_49 hw (fun y49 hw => ?_)
    refine j_iload X (pc := 52) 3 dX5_areAlike_52 rfl ?_
    refine j_iald X (pc := 54) 0 rfl dX5_areAlike_54 hw (fun y54 hw => ?_)
    refine j_iast X (pc := 55) 0 rfl rfl dX5_areAlike_55 hw (fun h55 hw => ?_)
    refine j_iinc X (pc := 56) 3 (x4 + 1) [(4, vI (x4 + 1)), (0, vR x0), (2, vI x2), (3, vR x3)] dX5_areAlike_56 rfl rfl (Nat.le_of_ble_eq_true rfl) rfl ?_
    refine j_goto X (pc := 59) 38 dX5_areAlike_59 (by decide) ?_
    refine j_lv [(0, vR x0), (2, vI x2), (3, vR x3), (4, vI (x4 + 1))] [1, 2, 3, 0] rfl ?_
    refine j_cs (u' := 1) (v' := 93) (Nat.le_of_ble_eq_true rfl) (Nat.le_of_ble_eq_true rfl) ?_
    exact hw
theorem met_X5_areAlike (l : Launch) (hlt : l.stackTraces = false) (G : GG) (h : AH) (a0 : Option Nat) (a1 : Int32) (a2 : Int32) (P : Int32 → AH → Prop) (hw : w_X5_areAlike a0 a1 a2 h P) : ct_i l yX5_areAlike (ws_ yX5_areAlike cX5_areAlike 5 (Option.some Jvm.ClassFile.FieldType.boolean)) rm_X5_areAlike G h [vR a0, vI a1, vI a2] P := by
  refine j_starti hlt [(0, vR a0), (1, vI a1), (2, vI a2)] (plainFor_of_name (by decide)) rfl rfl (fun x X eG er en hQ => ?_)
  subst eG
  refine j_aload_n X (pc := 0) 0 dX5_areAlike_0 rfl rfl ?_
  refine j_iconst X (pc := 1) 0 dX5_areAlike_1 (by decide) ?_
  refine j_put (ci := 4) X (pc := 2) in_X5 rfl (by decide) 0 (by decide) q1872 (Or.inl rfl) tyX5 tyX5_ok nmX5 rfl rfl (ty := .int) (tyX5_ok 0 (by decide)) rfl rfl dX5_areAlike_2 hw (fun h2 hw => ?_)
  refine j_iload_n X (pc := 5) 1 dX5_areAlike_5 rfl rfl ?_
  refine j_calli (j_runS (n8 := 1) (As := [vI a1]) (rest := []) X (pc := 6) (met_X5_isUser (xl x) X.hl (xG x) h2 a1 _ hw) q1978 q1979 q78 q1980 (by decide +kernel) dX5_areAlike_6 rfl ⟨Nat.le_of_ble_eq_true rfl, Nat.le_of_ble_eq_true rfl⟩ (Nat.le_of_ble_eq_true rfl) ⟨Nat.le_of_ble_eq_true rfl, Nat.le_of_ble_eq_true rfl⟩) (fun y6 h6 hw => ?_)
  refine j_if_eq X (pc := 9) 19 dX5_areAlike_9 (by decide) hw (fun hw => ?_) (fun hw => ?_)
  · refine j_aload_n X (pc := 19) 0 dX5_areAlike_19 rfl rfl ?_
    refine j_iconst X (pc := 20) 1 dX5_areAlike_20 (by decide) ?_
    obtain ⟨b9, c9, f9, hr9, ho9, hc9, hw⟩ := hw
    obtain rfl := List.mem_singleton.mp hc9
    refine j_calli (j_runV (n8 := 1) (As := [vI 1]) (rest := []) X (pc := 21) hr9 (met_X5_isWrong (xl x) X.hl (xG x) h6 a0 1 _ hw) ho9 (by decide) rfl q2126 q2128 qs55 q78 q2129 (by decide +kernel) dX5_areAlike_21 rfl ⟨Nat.le_of_ble_eq_true rfl, Nat.le_of_ble_eq_true rfl⟩ (Nat.le_of_ble_eq_true rfl) ⟨Nat.le_of_ble_eq_true rfl, Nat.le_of_ble_eq_true rfl⟩) (fun y21 h21 hw => ?_)
    exact j_zret X (pc := 24) (ty := .boolean) hQ er hw.1.1 (Nat.le_of_ble_eq_true rfl) (Nat.le_of_ble_eq_true rfl) dX5_areAlike_24 hw.2
  · refine j_iload_n X (pc := 12) 2 dX5_areAlike_12 rfl rfl ?_
    refine j_calli (j_runS (n8 := 1) (As := [vI a2]) (rest := []) X (pc := 13) (met_X5_isUser (xl x) X.hl (xG x) h6 a2 _ hw) q1978 q1979 q78 q1980 (by decide +kernel) dX5_areAlike_13 rfl ⟨Nat.le_of_ble_eq_true rfl, Nat.le_of_ble_eq_true rfl⟩ (Nat.le_of_ble_eq_true rfl) ⟨Nat.le_of_ble_eq_true rfl, Nat.le_of_ble_eq_true rfl⟩) (fun y13 h13 hw => ?_)
    refine j_if_ne X (pc := 16) 25 dX5_areAlike_16 (by decide) hw (fun hw => ?_) (fun hw => ?_)
    · refine j_aload_n X (pc := 19) 0 dX5_areAlike_19 rfl rfl ?_
      refine j_iconst X (pc := 20) 1 dX5_areAlike_20 (by decide) ?_
      obtain ⟨b9, c9, f9, hr9, ho9, hc9, hw⟩ := hw
      obtain rfl := List.mem_singleton.mp hc9
      refine j_calli (j_runV (n8 := 1) (As := [vI 1]) (rest := []) X (pc := 21) hr9 (met_X5_isWrong (xl x) X.hl (xG x) h13 a0 1 _ hw) ho9 (by decide) rfl q2126 q2128 qs55 q78 q2129 (by decide +kernel) dX5_areAlike_21 rfl ⟨Nat.le_of_ble_eq_true rfl, Nat.le_of_ble_eq_true rfl⟩ (Nat.le_of_ble_eq_true rfl) ⟨Nat.le_of_ble_eq_true rfl, Nat.le_of_ble_eq_true rfl⟩) (fun y21 h21 hw => ?_)
      exact j_zret X (pc := 24) (ty := .boolean) hQ er hw.1.1 (Nat.le_of_ble_eq_true rfl) (Nat.le_of_ble_eq_true rfl) dX5_areAlike_24 hw.2
    · refine j_aload_n X (pc := 25) 0 dX5_areAlike_25 rfl rfl ?_
      refine j_iload_n X (pc := 26) 1 dX5_areAlike_26 rfl rfl ?_
      obtain ⟨b9, c9, f9, hr9, ho9, hc9, hw⟩ := hw
      obtain rfl := List.mem_singleton.mp hc9
      refine j_callv (j_runV (n8 := 1) (As := [vI a1]) (rest := []) X (pc := 27) hr9 (met_X5_builds (xl x) X.hl (xG x) h13 a0 a1 _ hw) ho9 (by decide) rfl q1992 q1994 qs34 q78 q1995 (by decide +kernel) dX5_areAlike_27 rfl ⟨Nat.le_of_ble_eq_true rfl, Nat.le_of_ble_eq_true rfl⟩ (Nat.le_of_ble_eq_true rfl) ⟨Nat.le_of_ble_eq_true rfl, Nat.le_of_ble_eq_true rfl⟩) (fun h27 hw => ?_)
      refine j_bipush X (pc := 30) 93 dX5_areAlike_30 (by decide) ?_
      refine j_newI X (pc := 32) 93 dX5_areAlike_32 q180 (by decide) (Nat.le_of_ble_eq_true rfl) (Nat.le_of_ble_eq_true rfl) hw (fun q32 h32 hw => ?_)
      refine j_astore_n X (pc := 34) [(3, vR (some q32)), (0, vR a0), (1, vI a1), (2, vI a2)] dX5_areAlike_34 rfl (Nat.le_of_ble_eq_true rfl) rfl ?_
      refine j_iconst X (pc := 35) 0 dX5_areAlike_35 (by decide) ?_
      refine j_istore X (pc := 36) [(4, vI 0), (3, vR (some q32)), (0, vR a0), (1, vI a1), (2, vI a2)] dX5_areAlike_36 (Nat.le_of_ble_eq_true rfl) rfl ?_
      refine j_lv [(0, vR a0), (2, vI a2), (3, vR (some q32)), (4, vI 0)] [2, 4, 1, 0] rfl ?_
      refine j_cs (u' := 1) (v' := 93) (Nat.le_of_ble_eq_true rfl) (Nat.le_of_ble_eq_true rfl) ?_
      exact wk_X5_areAlike_38 X er en hQ a0 a2 (some q32) 0 h32 hw
abbrev cX1_countFrames : ByteArray := prog_1_method_83_code
def yX1_countFrames : MethodName := ⟨RX1, "countFrames", "(LPlugboard$Board;)I"⟩
def dkwX1_countFrames_2 : List UInt8 := [167, 0, 8, 58, 5, 167, 255, 223, 167, 255, 220, 28, 172]
abbrev dktX1_countFrames_2 : List UInt8 := dkwX1_countFrames_2 ++ []
def dkwX1_countFrames_1 : List UInt8 := [153, 0, 33, 45, 185, 0, 185, 1, 0, 192, 0, 124, 58, 4, 43, 28, 25, 4, 83, 132, 2, 1]
abbrev dktX1_countFrames_1 : List UInt8 := dkwX1_countFrames_1 ++ dktX1_countFrames_2
def dkwX1_countFrames_0 : List UInt8 := [16, 12, 189, 0, 217, 76, 3, 61, 42, 182, 0, 169, 185, 0, 173, 1, 0, 78, 45, 185, 0, 179, 1, 0]
abbrev dktX1_countFrames_0 : List UInt8 := dkwX1_countFrames_0 ++ dktX1_countFrames_1
theorem dksX1_countFrames_0 : cX1_countFrames.data.toList.drop 0 = dktX1_countFrames_0 := by decide +kernel
theorem dksX1_countFrames_1 : cX1_countFrames.data.toList.drop 24 = dktX1_countFrames_1 := dk_seg dksX1_countFrames_0 24 rfl rfl
theorem dksX1_countFrames_2 : cX1_countFrames.data.toList.drop 46 = dktX1_countFrames_2 := dk_seg dksX1_countFrames_1 22 rfl rfl
theorem dX1_countFrames_0 : decode cX1_countFrames 0 = .ok (.bipush 12, 2) := dk_16 12 (dk_at dksX1_countFrames_0 0 rfl rfl)
theorem dX1_countFrames_2 : decode cX1_countFrames 2 = .ok (.anewarray 217, 3) := dk_189 0 217 (dk_at dksX1_countFrames_0 2 rfl rfl)
theorem dX1_countFrames_5 : decode cX1_countFrames 5 = .ok (.astore_n 1, 1) := dk_76 (dk_at dksX1_countFrames_0 5 rfl rfl)
theorem dX1_countFrames_6 : decode cX1_countFrames 6 = .ok (.iconst 0, 1) := dk_3 (dk_at dksX1_countFrames_0 6 rfl rfl)
theorem dX1_countFrames_7 : decode cX1_countFrames 7 = .ok (.istore_n 2, 1) := dk_61 (dk_at dksX1_countFrames_0 7 rfl rfl)
theorem dX1_countFrames_8 : decode cX1_countFrames 8 = .ok (.aload_n 0, 1) := dk_42 (dk_at dksX1_countFrames_0 8 rfl rfl)
theorem dX1_countFrames_9 : decode cX1_countFrames 9 = .ok (.invokevirtual 169, 3) := dk_182 0 169 (dk_at dksX1_countFrames_0 9 rfl rfl)
theorem dX1_countFrames_12 : decode cX1_countFrames 12 = .ok (.invokeinterface 173 1, 5) := by decide +kernel
theorem dX1_countFrames_17 : decode cX1_countFrames 17 = .ok (.astore_n 3, 1) := dk_78 (dk_at dksX1_countFrames_0 17 rfl rfl)
theorem dX1_countFrames_18 : decode cX1_countFrames 18 = .ok (.aload_n 3, 1) := dk_45 (dk_at dksX1_countFrames_0 18 rfl rfl)
theorem dX1_countFrames_19 : decode cX1_countFrames 19 = .ok (.invokeinterface 179 1, 5) := by decide +kernel
theorem dX1_countFrames_24 : decode cX1_countFrames 24 = .ok (.ifCond .eq 33, 3) := dk_153 0 33 (dk_at dksX1_countFrames_1 0 rfl rfl)
theorem dX1_countFrames_27 : decode cX1_countFrames 27 = .ok (.aload_n 3, 1) := dk_45 (dk_at dksX1_countFrames_1 3 rfl rfl)
theorem dX1_countFrames_28 : decode cX1_countFrames 28 = .ok (.invokeinterface 185 1, 5) := by decide +kernel
theorem dX1_countFrames_33 : decode cX1_countFrames 33 = .ok (.checkcast 124, 3) := dk_192 0 124 (dk_at dksX1_countFrames_1 9 rfl rfl)
theorem dX1_countFrames_36 : decode cX1_countFrames 36 = .ok (.astore 4, 2) := dk_58 4 (dk_at dksX1_countFrames_1 12 rfl rfl)
theorem dX1_countFrames_38 : decode cX1_countFrames 38 = .ok (.aload_n 1, 1) := dk_43 (dk_at dksX1_countFrames_1 14 rfl rfl)
theorem dX1_countFrames_39 : decode cX1_countFrames 39 = .ok (.iload_n 2, 1) := dk_28 (dk_at dksX1_countFrames_1 15 rfl rfl)
theorem dX1_countFrames_40 : decode cX1_countFrames 40 = .ok (.aload 4, 2) := dk_25 4 (dk_at dksX1_countFrames_1 16 rfl rfl)
theorem dX1_countFrames_42 : decode cX1_countFrames 42 = .ok (.aastore, 1) := dk_83 (dk_at dksX1_countFrames_1 18 rfl rfl)
theorem dX1_countFrames_43 : decode cX1_countFrames 43 = .ok (.iinc 2 1, 3) := dk_132 2 1 (dk_at dksX1_countFrames_1 19 rfl rfl)
theorem dX1_countFrames_46 : decode cX1_countFrames 46 = .ok (.goto 8, 3) := dk_167 0 8 (dk_at dksX1_countFrames_2 0 rfl rfl)
theorem dX1_countFrames_49 : decode cX1_countFrames 49 = .ok (.astore 5, 2) := dk_58 5 (dk_at dksX1_countFrames_2 3 rfl rfl)
theorem dX1_countFrames_51 : decode cX1_countFrames 51 = .ok (.goto (-33), 3) := dk_167 255 223 (dk_at dksX1_countFrames_2 5 rfl rfl)
theorem dX1_countFrames_54 : decode cX1_countFrames 54 = .ok (.goto (-36), 3) := dk_167 255 220 (dk_at dksX1_countFrames_2 8 rfl rfl)
theorem dX1_countFrames_57 : decode cX1_countFrames 57 = .ok (.iload_n 2, 1) := dk_28 (dk_at dksX1_countFrames_2 11 rfl rfl)
theorem dX1_countFrames_58 : decode cX1_countFrames 58 = .ok (.ireturn, 1) := dk_172 (dk_at dksX1_countFrames_2 12 rfl rfl)
theorem q1835 : (Jvm.Cond.classLink "Plugboard" (461 : Nat) "java/lang/ArrayStoreException") ∈ lw_all := lw_g (lw_at lw_m8 85 rfl) rfl
theorem q1847 : (Jvm.Cond.castable "java/lang/ArrayStoreException" "java/lang/ArrayStoreException") ∈ lw_tbl := lw_at lw_m8 97 rfl
abbrev rm_X1_countFrames : Room := { frames := 7, cells := 100, slots := 1000, locals := 10240 }
def w_X1_countFrames_18 (P : Int32 → AH → Prop) (x1 : Option Nat) (x2 : Int32) (x3 : Option Nat) (u9 : Nat) (v9 : Nat) (h : AH) : Prop :=
  ∀ Z18 : Int32 → Nat → Nat → AH → Prop, (∀ x2 u9 v9 h, (
      is_c h x3 [6] (
      u9 + 0 ≤ 100 ∧ v9 + 0 ≤ 1000 ∧
      w_X7_hasNext x3 h (fun y19 h19 =>
      ((y19 = 0 →
        u9 ≤ 100 ∧ v9 ≤ 1000 ∧
        P x2 h19) ∧
       (¬ y19 = 0 →
        is_c h19 x3 [6] (
        u9 + 0 ≤ 100 ∧ v9 + 0 ≤ 1000 ∧
        w_X7_next x3 h19 (fun y28 h28 =>
        is_c h28 y28 [7, 8] (
        u9 + 3 ≤ 100 ∧ v9 + 25 ≤ 1000 ∧
        s_F h28 x1 x2 y28 (fun h42 =>
        Z18 (x2 + 1) u9 v9 h42)
          (∀ q9 : Nat,
          Z18 x2 (u9 + 3) (v9 + 25) h28)))))))))
      → Z18 x2 u9 v9 h) → Z18 x2 u9 v9 h
def w_X1_countFrames (a0 : Option Nat) (h : AH) (P : Int32 → AH → Prop) : Prop :=
  mk_q h 12 12 12 fun q2 h2 =>
  is_c h2 a0 [2] (
  w_X3_seen a0 h2 (fun y9 h9 =>
  is_c h9 y9 [5] (
  w_X6_iterator y9 h9 (fun y12 h12 =>
  w_X1_countFrames_18 P (some q2) 0 y12 3 15 h12))))
theorem wk_X1_countFrames_18 {x : CX} (X : Ok x cX1_countFrames RX1 rm_X1_countFrames 6) (er : xrt x = (Option.some Jvm.ClassFile.FieldType.int)) (en : xnm x = yX1_countFrames.name) {P : Int32 → AH → Prop} (hQ : xr_i x P) (hex : x.2.2.2.2.2.2.2.2.2.1.exceptionTable.toList = tableOf [((38 : Nat), (46 : Nat), (49 : Nat), (461 : Nat))]) (x1 : Option Nat) (x2 : Int32) (x3 : Option Nat) (u9 : Nat) (v9 : Nat) (h : AH) (hw : w_X1_countFrames_18 P x1 x2 x3 u9 v9 h) : J x h u9 v9 18 [(1, vR x1), (2, vI x2), (3, vR x3)] [] := by
  refine hw (fun x2 u9 v9 h => J x h u9 v9 18 [(1, vR x1), (2, vI x2), (3, vR x3)] []) (fun x2 u9 v9 h hw => ?_)
  refine j_aload_n X (pc := 18) 2 dX1_countFrames_18 rfl rfl ?_
  obtain ⟨b9, c9, f9, hr9, ho9, hc9, hw⟩ := hw
  obtain rfl := List.mem_singleton.mp hc9
  obtain ⟨hu9, hv9, hw⟩ := hw
  refine j_call5i (j_runF (n8 := 0) (As := []) (rest := []) X (pc := 19) hr9 (met_X7_hasNext (xl x) X.hl (xG x) h x3 _ hw) ho9 (by decide) rfl q481 q485 q487 q85 q489 (fun U hU => kt_F2 hU) (by decide +kernel) dX1_countFrames_19 rfl ⟨Nat.le_of_ble_eq_true rfl, Nat.le_of_ble_eq_true rfl⟩ (Nat.le_of_ble_eq_true rfl) ⟨hu9, hv9⟩) (fun y19 h19 hw => ?_)
  refine j_if_eq X (pc := 24) 57 dX1_countFrames_24 (by decide) hw (fun hw => ?_) (fun hw => ?_)
  · refine j_iload_n X (pc := 57) 1 dX1_countFrames_57 rfl rfl ?_
    obtain ⟨hu9, hv9, hw⟩ := hw
    exact j_iret X (pc := 58) hQ er hu9 hv9 dX1_countFrames_58 hw
  · refine j_aload_n X (pc := 27) 2 dX1_countFrames_27 rfl rfl ?_
    obtain ⟨b9, c9, f9, hr9, ho9, hc9, hw⟩ := hw
    obtain rfl := List.mem_singleton.mp hc9
    obtain ⟨hu9, hv9, hw⟩ := hw
    refine j_call5q (j_runF (n8 := 0) (As := []) (rest := []) X (pc := 28) hr9 (met_X7_next (xl x) X.hl (xG x) h19 x3 _ hw) ho9 (by decide) rfl q499 q502 q504 q85 q506 (fun U hU => kt_F3 hU) (by decide +kernel) dX1_countFrames_28 rfl ⟨Nat.le_of_ble_eq_true rfl, Nat.le_of_ble_eq_true rfl⟩ (Nat.le_of_ble_eq_true rfl) ⟨hu9, hv9⟩) (fun y28 h28 hw => ?_)
    refine j_chk X (pc := 33) (L := [7, 8]) q550 (by intro ci hci; simp only [List.mem_cons, List.not_mem_nil, or_false] at hci; rcases hci with rfl | rfl <;> first | exact ⟨by decide, _, _, _, rfl, Or.inr q2343⟩ | exact ⟨by decide, _, _, _, rfl, Or.inr q2344⟩) dX1_countFrames_33 hw (fun hw => ?_)
    refine j_astore X (pc := 36) [(4, vR y28), (1, vR x1), (2, vI x2), (3, vR x3)] dX1_countFrames_36 (Nat.le_of_ble_eq_true rfl) rfl ?_
    refine j_aload_n X (pc := 38) 1 dX1_countFrames_38 rfl rfl ?_
    refine j_iload_n X (pc := 39) 2 dX1_countFrames_39 rfl rfl ?_
    refine j_aload X (pc := 40) 0 dX1_countFrames_40 rfl ?_
    obtain ⟨hu9, hv9, hw⟩ := hw
    refine j_aastF X (pc := 42) ⟨Nat.le_of_ble_eq_true rfl, Nat.le_of_ble_eq_true rfl⟩ hu9 hv9 dX1_countFrames_42 hw (fun h42 hw => ?_) (fun hw => j_catch X (pc := 42) "java/lang/ArrayStoreException" hex [] [] ⟨38, 46, 49, 461⟩ rfl (by intro y hy; cases hy) (by decide) (by decide) q1835 q1847 (fun q9 => ?_))
    rotate_left
    · have hw := hw q9
      refine j_astore X (pc := 49) [(5, vR (some q9)), (4, vR y28), (1, vR x1), (2, vI x2), (3, vR x3)] dX1_countFrames_49 (Nat.le_of_ble_eq_true rfl) rfl ?_
      refine j_goto X (pc := 51) 18 dX1_countFrames_51 (by decide) ?_
      refine j_lv [(1, vR x1), (2, vI x2), (3, vR x3)] [2, 3, 4] rfl ?_
      exact hw
    refine j_iinc X (pc := 43) 2 (x2 + 1) [(2, vI (x2 + 1)), (4, vR y28), (1, vR x1), (3, vR x3)] dX1_countFrames_43 rfl rfl (Nat.le_of_ble_eq_true rfl) rfl ?_
    refine j_goto X (pc := 46) 54 dX1_countFrames_46 (by decide) ?_
    refine j_goto X (pc := 54) 18 dX1_countFrames_54 (by decide) ?_
    refine j_lv [(1, vR x1), (2, vI (x2 + 1)), (3, vR x3)] [2, 0, 3] rfl ?_
    exact hw
theorem met_X1_countFrames (l : Launch) (hlt : l.stackTraces = false) (G : GG) (h : AH) (a0 : Option Nat) (P : Int32 → AH → Prop) (hw : w_X1_countFrames a0 h P) : ct_i l yX1_countFrames (wsW_ yX1_countFrames cX1_countFrames 6 (Option.some Jvm.ClassFile.FieldType.int) [((38 : Nat), (46 : Nat), (49 : Nat), (461 : Nat))]) rm_X1_countFrames G h [vR a0] P := by
  refine j_startWi hlt [(0, vR a0)] (by decide) rfl rfl (fun x X eG er en hQ hex => ?_)
  subst eG
  refine j_bipush X (pc := 0) 12 dX1_countFrames_0 (by decide) ?_
  refine j_newQ X (pc := 2) 12 rfl (by decide) 12 dX1_countFrames_2 q566 (fun U hU => kt_12 hU) (by decide) (Nat.le_of_ble_eq_true rfl) (Nat.le_of_ble_eq_true rfl) hw (fun q2 h2 hw => ?_)
  refine j_astore_n X (pc := 5) [(1, vR (some q2)), (0, vR a0)] dX1_countFrames_5 rfl (Nat.le_of_ble_eq_true rfl) rfl ?_
  refine j_iconst X (pc := 6) 0 dX1_countFrames_6 (by decide) ?_
  refine j_istore_n X (pc := 7) [(2, vI 0), (1, vR (some q2)), (0, vR a0)] dX1_countFrames_7 rfl (Nat.le_of_ble_eq_true rfl) rfl ?_
  refine j_aload_n X (pc := 8) 2 dX1_countFrames_8 rfl rfl ?_
  obtain ⟨b9, c9, f9, hr9, ho9, hc9, hw⟩ := hw
  obtain rfl := List.mem_singleton.mp hc9
  refine j_callq (j_runV (n8 := 0) (As := []) (rest := []) X (pc := 9) hr9 (met_X3_seen (xl x) X.hl (xG x) h2 a0 _ hw) ho9 (by decide) rfl q418 q419 q420 q76 q421 (by decide +kernel) dX1_countFrames_9 rfl ⟨Nat.le_of_ble_eq_true rfl, Nat.le_of_ble_eq_true rfl⟩ (Nat.le_of_ble_eq_true rfl) ⟨Nat.le_of_ble_eq_true rfl, Nat.le_of_ble_eq_true rfl⟩) (fun y9 h9 hw => ?_)
  obtain ⟨b9, c9, f9, hr9, ho9, hc9, hw⟩ := hw
  obtain rfl := List.mem_singleton.mp hc9
  refine j_call5q (j_runF (n8 := 0) (As := []) (rest := []) X (pc := 12) hr9 (met_X6_iterator (xl x) X.hl (xG x) h9 y9 _ hw) ho9 (by decide) rfl q433 q437 q439 q84 q441 (fun U hU => kt_F1 hU) (by decide +kernel) dX1_countFrames_12 rfl ⟨Nat.le_of_ble_eq_true rfl, Nat.le_of_ble_eq_true rfl⟩ (Nat.le_of_ble_eq_true rfl) ⟨Nat.le_of_ble_eq_true rfl, Nat.le_of_ble_eq_true rfl⟩) (fun y12 h12 hw => ?_)
  refine j_astore_n X (pc := 17) [(3, vR y12), (2, vI 0), (1, vR (some q2)), (0, vR a0)] dX1_countFrames_17 rfl (Nat.le_of_ble_eq_true rfl) rfl ?_
  refine j_lv [(1, vR (some q2)), (2, vI 0), (3, vR y12)] [2, 1, 0] rfl ?_
  exact wk_X1_countFrames_18 X er en hQ hex (some q2) 0 y12 3 15 h12 hw
abbrev cX1_frameShare : ByteArray := prog_1_method_84_code
def yX1_frameShare : MethodName := ⟨RX1, "frameShare", "(I)F"⟩
def dkwX1_frameShare_1 : List UInt8 := [184, 1, 210, 134, 29, 134, 110, 174]
abbrev dktX1_frameShare_1 : List UInt8 := dkwX1_frameShare_1 ++ []
def dkwX1_frameShare_0 : List UInt8 := [42, 27, 182, 0, 199, 77, 44, 182, 0, 210, 62, 29, 154, 0, 11, 187, 1, 207, 89, 183, 1, 209, 191, 44]
abbrev dktX1_frameShare_0 : List UInt8 := dkwX1_frameShare_0 ++ dktX1_frameShare_1
theorem dksX1_frameShare_0 : cX1_frameShare.data.toList.drop 0 = dktX1_frameShare_0 := by decide +kernel
theorem dksX1_frameShare_1 : cX1_frameShare.data.toList.drop 24 = dktX1_frameShare_1 := dk_seg dksX1_frameShare_0 24 rfl rfl
theorem dX1_frameShare_0 : decode cX1_frameShare 0 = .ok (.aload_n 0, 1) := dk_42 (dk_at dksX1_frameShare_0 0 rfl rfl)
theorem dX1_frameShare_1 : decode cX1_frameShare 1 = .ok (.iload_n 1, 1) := dk_27 (dk_at dksX1_frameShare_0 1 rfl rfl)
theorem dX1_frameShare_2 : decode cX1_frameShare 2 = .ok (.invokevirtual 199, 3) := dk_182 0 199 (dk_at dksX1_frameShare_0 2 rfl rfl)
theorem dX1_frameShare_5 : decode cX1_frameShare 5 = .ok (.astore_n 2, 1) := dk_77 (dk_at dksX1_frameShare_0 5 rfl rfl)
theorem dX1_frameShare_6 : decode cX1_frameShare 6 = .ok (.aload_n 2, 1) := dk_44 (dk_at dksX1_frameShare_0 6 rfl rfl)
theorem dX1_frameShare_7 : decode cX1_frameShare 7 = .ok (.invokevirtual 210, 3) := dk_182 0 210 (dk_at dksX1_frameShare_0 7 rfl rfl)
theorem dX1_frameShare_10 : decode cX1_frameShare 10 = .ok (.istore_n 3, 1) := dk_62 (dk_at dksX1_frameShare_0 10 rfl rfl)
theorem dX1_frameShare_11 : decode cX1_frameShare 11 = .ok (.iload_n 3, 1) := dk_29 (dk_at dksX1_frameShare_0 11 rfl rfl)
theorem dX1_frameShare_12 : decode cX1_frameShare 12 = .ok (.ifCond .ne 11, 3) := dk_154 0 11 (dk_at dksX1_frameShare_0 12 rfl rfl)
theorem dX1_frameShare_15 : decode cX1_frameShare 15 = .ok (.new 463, 3) := dk_187 1 207 (dk_at dksX1_frameShare_0 15 rfl rfl)
theorem dX1_frameShare_18 : decode cX1_frameShare 18 = .ok (.dup, 1) := dk_89 (dk_at dksX1_frameShare_0 18 rfl rfl)
theorem dX1_frameShare_19 : decode cX1_frameShare 19 = .ok (.invokespecial 465, 3) := dk_183 1 209 (dk_at dksX1_frameShare_0 19 rfl rfl)
theorem dX1_frameShare_22 : decode cX1_frameShare 22 = .ok (.athrow, 1) := dk_191 (dk_at dksX1_frameShare_0 22 rfl rfl)
theorem dX1_frameShare_23 : decode cX1_frameShare 23 = .ok (.aload_n 2, 1) := dk_44 (dk_at dksX1_frameShare_0 23 rfl rfl)
theorem dX1_frameShare_24 : decode cX1_frameShare 24 = .ok (.invokestatic 466, 3) := dk_184 1 210 (dk_at dksX1_frameShare_1 0 rfl rfl)
theorem dX1_frameShare_27 : decode cX1_frameShare 27 = .ok (.i2f, 1) := dk_134 (dk_at dksX1_frameShare_1 3 rfl rfl)
theorem dX1_frameShare_28 : decode cX1_frameShare 28 = .ok (.iload_n 3, 1) := dk_29 (dk_at dksX1_frameShare_1 4 rfl rfl)
theorem dX1_frameShare_29 : decode cX1_frameShare 29 = .ok (.i2f, 1) := dk_134 (dk_at dksX1_frameShare_1 5 rfl rfl)
theorem dX1_frameShare_30 : decode cX1_frameShare 30 = .ok (.fdiv, 1) := dk_110 (dk_at dksX1_frameShare_1 6 rfl rfl)
theorem dX1_frameShare_31 : decode cX1_frameShare 31 = .ok (.freturn, 1) := dk_174 (dk_at dksX1_frameShare_1 7 rfl rfl)
theorem q117 : (Jvm.Cond.initialized "java/lang/ArithmeticException") ∈ lw_all := lw_g (lw_at lw_m1 47 rfl) rfl
theorem q1827 : (Jvm.Cond.classLink "Plugboard" (463 : Nat) "java/lang/ArithmeticException") ∈ lw_all := lw_g (lw_at lw_m8 77 rfl) rfl
theorem q1832 : (Jvm.Cond.methodLink "Plugboard" (466 : Nat) ({ cls := "Plugboard", name := "countFrames", desc := "(LPlugboard$Board;)I" } : Jvm.MethodName)) ∈ lw_all := lw_g (lw_at lw_m8 82 rfl) rfl
theorem q1833 : (Jvm.Cond.static ({ cls := "Plugboard", name := "countFrames", desc := "(LPlugboard$Board;)I" } : Jvm.MethodName)) ∈ lw_all := lw_g (lw_at lw_m8 83 rfl) rfl
theorem q1834 : (Jvm.Cond.codeWith ({ cls := "Plugboard", name := "countFrames", desc := "(LPlugboard$Board;)I" } : Jvm.MethodName) prog_1_method_83_code (6 : Nat) (Option.some Jvm.ClassFile.FieldType.int) [((38 : Nat), (46 : Nat), (49 : Nat), (461 : Nat))]) ∈ lw_all := lw_g (lw_at lw_m8 84 rfl) rfl
abbrev rm_X1_frameShare : Room := { frames := 9, cells := 102, slots := 1007, locals := 10265 }
theorem at_X1_frameShare_15 : ∀ w ∈ vx_at0 RX1 465 "java/lang/ArithmeticException" ["java/lang/RuntimeException", "java/lang/Exception"], w ∈ lw_tbl := ah_in _ [79, 332, 341, 350, 353, 355, 333, 334, 125, 126, 335, 340, 351, 368, 322, 369, 324, 370, 326, 336, 338, 328, 1829, 1830, 1831, 360, 313, 360, 361, 362, 363, 315, 363, 364, 365, 333, 317, 1828, 1810, 1821, 1822, 343, 1816, 1817, 1819, 1815, 366, 330, 1814] (by decide +kernel)
def w_X1_frameShare (a0 : Option Nat) (a1 : Int32) (h : AH) (P : UInt32 → AH → Prop) (PX : String → AH → Prop) : Prop :=
  is_c h a0 [0] (
  w_X1_board a0 a1 h (fun y2 h2 =>
  is_c h2 y2 [2] (
  w_X3_countSeen y2 h2 (fun y7 h7 =>
  ((y7 = 0 →
    PX "java/lang/ArithmeticException" h7) ∧
   (¬ y7 = 0 →
    w_X1_countFrames y2 h7 (fun y24 h24 =>
    vf_n32 (FP.fdiv (FP.i2f y24) (FP.i2f y7)) ∧
    P (FP.fdiv (FP.i2f y24) (FP.i2f y7)) h24)))))) PX)
theorem met_X1_frameShare (l : Launch) (hlt : l.stackTraces = false) (G : GG) (h : AH) (a0 : Option Nat) (a1 : Int32) (P : UInt32 → AH → Prop) (PX : String → AH → Prop) (hw : w_X1_frameShare a0 a1 h P PX) : cx_f l yX1_frameShare (ws_ yX1_frameShare cX1_frameShare 4 (Option.some Jvm.ClassFile.FieldType.float)) rm_X1_frameShare G h [vR a0, vI a1] P PX := by
  refine j_startXf hlt [(0, vR a0), (1, vI a1)] (by decide) rfl rfl (fun x X eG er en hQ hT hex => ?_)
  subst eG
  refine j_aload_n X (pc := 0) 0 dX1_frameShare_0 rfl rfl ?_
  refine j_iload_n X (pc := 1) 1 dX1_frameShare_1 rfl rfl ?_
  obtain ⟨b9, c9, f9, hr9, ho9, hc9, hw⟩ := hw
  obtain rfl := List.mem_singleton.mp hc9
  refine j_callXq (j_runVX (n8 := 1) (As := [vI a1]) (rest := []) X (pc := 2) hr9 (met_X1_board (xl x) X.hl (xG x) h a0 a1 _ _ hw) ho9 (by decide) rfl q297 q299 qs0 q71 q300 (by decide +kernel) dX1_frameShare_2 rfl ⟨Nat.le_of_ble_eq_true rfl, Nat.le_of_ble_eq_true rfl⟩ (Nat.le_of_ble_eq_true rfl) ⟨Nat.le_of_ble_eq_true rfl, Nat.le_of_ble_eq_true rfl⟩) (fun E h9 hx => j_out X hT hex (Nat.le_of_ble_eq_true rfl) (Nat.le_of_ble_eq_true rfl) hx) (fun y2 h2 hw => ?_)
  refine j_astore_n X (pc := 5) [(2, vR y2), (0, vR a0), (1, vI a1)] dX1_frameShare_5 rfl (Nat.le_of_ble_eq_true rfl) rfl ?_
  refine j_aload_n X (pc := 6) 0 dX1_frameShare_6 rfl rfl ?_
  obtain ⟨b9, c9, f9, hr9, ho9, hc9, hw⟩ := hw
  obtain rfl := List.mem_singleton.mp hc9
  refine j_calli (j_runV (n8 := 0) (As := []) (rest := []) X (pc := 7) hr9 (met_X3_countSeen (xl x) X.hl (xG x) h2 y2 _ hw) ho9 (by decide) rfl q404 q405 q406 q76 q407 (by decide +kernel) dX1_frameShare_7 rfl ⟨Nat.le_of_ble_eq_true rfl, Nat.le_of_ble_eq_true rfl⟩ (Nat.le_of_ble_eq_true rfl) ⟨Nat.le_of_ble_eq_true rfl, Nat.le_of_ble_eq_true rfl⟩) (fun y7 h7 hw => ?_)
  refine j_istore_n X (pc := 10) [(3, vI y7), (2, vR y2), (0, vR a0), (1, vI a1)] dX1_frameShare_10 rfl (Nat.le_of_ble_eq_true rfl) rfl ?_
  refine j_iload_n X (pc := 11) 0 dX1_frameShare_11 rfl rfl ?_
  refine j_if_ne X (pc := 12) 23 dX1_frameShare_12 (by decide) hw (fun hw => ?_) (fun hw => ?_)
  · exact j_throw X (pc := 15) (names := ["java/lang/RuntimeException", "java/lang/Exception"]) hT hex (by decide +kernel) (by decide +kernel) q1827 q117 at_X1_frameShare_15 (by decide +kernel) dX1_frameShare_15 dX1_frameShare_18 dX1_frameShare_19 dX1_frameShare_22 ⟨Nat.le_of_ble_eq_true rfl, Nat.le_of_ble_eq_true rfl⟩ (Nat.le_of_ble_eq_true rfl) (Nat.le_of_ble_eq_true rfl) hw
  · refine j_aload_n X (pc := 23) 1 dX1_frameShare_23 rfl rfl ?_
    refine j_calli (j_runSW (n8 := 1) (As := [vR y2]) (rest := []) X (pc := 24) (met_X1_countFrames (xl x) X.hl (xG x) h7 y2 _ hw) q1832 q1833 q71 q1834 (by decide +kernel) dX1_frameShare_24 rfl ⟨Nat.le_of_ble_eq_true rfl, Nat.le_of_ble_eq_true rfl⟩ (Nat.le_of_ble_eq_true rfl) ⟨Nat.le_of_ble_eq_true rfl, Nat.le_of_ble_eq_true rfl⟩) (fun y24 h24 hw => ?_)
    refine j_i2f X (pc := 27) dX1_frameShare_27 ?_
    refine j_iload_n X (pc := 28) 0 dX1_frameShare_28 rfl rfl ?_
    refine j_i2f X (pc := 29) dX1_frameShare_29 ?_
    refine j_fdiv X (pc := 30) dX1_frameShare_30 hw (fun hw => ?_)
    exact j_fret X (pc := 31) hQ er (Nat.le_of_ble_eq_true rfl) (Nat.le_of_ble_eq_true rfl) dX1_frameShare_31 hw
abbrev cX0_frameShare : ByteArray := method_44_code
def yX0_frameShare : MethodName := ⟨RX0, "frameShare", "(LPlugboard;I[D)I"⟩
def dkwX0_frameShare_0 : List UInt8 := [44, 3, 42, 27, 182, 0, 151, 141, 82, 167, 0, 9, 78, 4, 172, 78, 5, 172, 3, 172]
abbrev dktX0_frameShare_0 : List UInt8 := dkwX0_frameShare_0 ++ []
theorem dksX0_frameShare_0 : cX0_frameShare.data.toList.drop 0 = dktX0_frameShare_0 := by decide +kernel
theorem dX0_frameShare_0 : decode cX0_frameShare 0 = .ok (.aload_n 2, 1) := dk_44 (dk_at dksX0_frameShare_0 0 rfl rfl)
theorem dX0_frameShare_1 : decode cX0_frameShare 1 = .ok (.iconst 0, 1) := dk_3 (dk_at dksX0_frameShare_0 1 rfl rfl)
theorem dX0_frameShare_2 : decode cX0_frameShare 2 = .ok (.aload_n 0, 1) := dk_42 (dk_at dksX0_frameShare_0 2 rfl rfl)
theorem dX0_frameShare_3 : decode cX0_frameShare 3 = .ok (.iload_n 1, 1) := dk_27 (dk_at dksX0_frameShare_0 3 rfl rfl)
theorem dX0_frameShare_4 : decode cX0_frameShare 4 = .ok (.invokevirtual 151, 3) := dk_182 0 151 (dk_at dksX0_frameShare_0 4 rfl rfl)
theorem dX0_frameShare_7 : decode cX0_frameShare 7 = .ok (.f2d, 1) := dk_141 (dk_at dksX0_frameShare_0 7 rfl rfl)
theorem dX0_frameShare_8 : decode cX0_frameShare 8 = .ok (.dastore, 1) := dk_82 (dk_at dksX0_frameShare_0 8 rfl rfl)
theorem dX0_frameShare_9 : decode cX0_frameShare 9 = .ok (.goto 9, 3) := dk_167 0 9 (dk_at dksX0_frameShare_0 9 rfl rfl)
theorem dX0_frameShare_12 : decode cX0_frameShare 12 = .ok (.astore_n 3, 1) := dk_78 (dk_at dksX0_frameShare_0 12 rfl rfl)
theorem dX0_frameShare_13 : decode cX0_frameShare 13 = .ok (.iconst 1, 1) := dk_4 (dk_at dksX0_frameShare_0 13 rfl rfl)
theorem dX0_frameShare_14 : decode cX0_frameShare 14 = .ok (.ireturn, 1) := dk_172 (dk_at dksX0_frameShare_0 14 rfl rfl)
theorem dX0_frameShare_15 : decode cX0_frameShare 15 = .ok (.astore_n 3, 1) := dk_78 (dk_at dksX0_frameShare_0 15 rfl rfl)
theorem dX0_frameShare_16 : decode cX0_frameShare 16 = .ok (.iconst 2, 1) := dk_5 (dk_at dksX0_frameShare_0 16 rfl rfl)
theorem dX0_frameShare_17 : decode cX0_frameShare 17 = .ok (.ireturn, 1) := dk_172 (dk_at dksX0_frameShare_0 17 rfl rfl)
theorem dX0_frameShare_18 : decode cX0_frameShare 18 = .ok (.iconst 0, 1) := dk_3 (dk_at dksX0_frameShare_0 18 rfl rfl)
theorem dX0_frameShare_19 : decode cX0_frameShare 19 = .ok (.ireturn, 1) := dk_172 (dk_at dksX0_frameShare_0 19 rfl rfl)
theorem q1809 : (Jvm.Cond.classLink "PlugboardLaw" (155 : Nat) "java/lang/ArithmeticException") ∈ lw_all := lw_g (lw_at lw_m8 59 rfl) rfl
theorem q1821 : (Jvm.Cond.castable "java/lang/ArithmeticException" "java/lang/ArithmeticException") ∈ lw_tbl := lw_at lw_m8 71 rfl
theorem q1823 : (Jvm.Cond.methodLink "PlugboardLaw" (151 : Nat) ({ cls := "Plugboard", name := "frameShare", desc := "(I)F" } : Jvm.MethodName)) ∈ lw_all := lw_g (lw_at lw_m8 73 rfl) rfl
theorem q1824 : (Jvm.Cond.instanceMethod ({ cls := "Plugboard", name := "frameShare", desc := "(I)F" } : Jvm.MethodName)) ∈ lw_all := lw_g (lw_at lw_m8 74 rfl) rfl
theorem q1825 : (Jvm.Cond.selects "Plugboard" ({ cls := "Plugboard", name := "frameShare", desc := "(I)F" } : Jvm.MethodName) ({ cls := "Plugboard", name := "frameShare", desc := "(I)F" } : Jvm.MethodName)) ∈ lw_all := lw_g (lw_at lw_m8 75 rfl) rfl
theorem q1826 : (Jvm.Cond.code ({ cls := "Plugboard", name := "frameShare", desc := "(I)F" } : Jvm.MethodName) prog_1_method_84_code (4 : Nat) (Option.some Jvm.ClassFile.FieldType.float)) ∈ lw_all := lw_g (lw_at lw_m8 76 rfl) rfl
abbrev rm_X0_frameShare : Room := { frames := 10, cells := 102, slots := 1007, locals := 10288 }
def w_X0_frameShare (a0 : Option Nat) (a1 : Int32) (a2 : Option Nat) (h : AH) (P : Int32 → AH → Prop) : Prop :=
  is_c h a0 [0] (
  w_X1_frameShare a0 a1 h (fun y4 h4 =>
  vf_n64 (FP.f2d y4) ∧
  s_D h4 a2 0 (FP.f2d y4) fun h8 =>
  P 0 h8)
    (fun E9 h9 => (E9 = "java/lang/IllegalArgumentException" ∧ ∀ q9 : Nat,
    P 1 h9) ∨
    (E9 = "java/lang/ArithmeticException" ∧ ∀ q9 : Nat,
    P 2 h9)))
theorem met_X0_frameShare (l : Launch) (hlt : l.stackTraces = false) (G : GG) (h : AH) (a0 : Option Nat) (a1 : Int32) (a2 : Option Nat) (P : Int32 → AH → Prop) (hw : w_X0_frameShare a0 a1 a2 h P) : ct_i l yX0_frameShare (wsW_ yX0_frameShare cX0_frameShare 4 (Option.some Jvm.ClassFile.FieldType.int) [((0 : Nat), (9 : Nat), (12 : Nat), (13 : Nat)), ((0 : Nat), (9 : Nat), (15 : Nat), (155 : Nat))]) rm_X0_frameShare G h [vR a0, vI a1, vR a2] P := by
  refine j_startWi hlt [(0, vR a0), (1, vI a1), (2, vR a2)] (by decide) rfl rfl (fun x X eG er en hQ hex => ?_)
  subst eG
  refine j_aload_n X (pc := 0) 2 dX0_frameShare_0 rfl rfl ?_
  refine j_iconst X (pc := 1) 0 dX0_frameShare_1 (by decide) ?_
  refine j_aload_n X (pc := 2) 0 dX0_frameShare_2 rfl rfl ?_
  refine j_iload_n X (pc := 3) 1 dX0_frameShare_3 rfl rfl ?_
  obtain ⟨b9, c9, f9, hr9, ho9, hc9, hw⟩ := hw
  obtain rfl := List.mem_singleton.mp hc9
  refine j_callXf (j_runVX (n8 := 1) (As := [vI a1]) (rest := [vI 0, vR a2]) X (pc := 4) hr9 (met_X1_frameShare (xl x) X.hl (xG x) h a0 a1 _ _ hw) ho9 (by decide) rfl q1823 q1824 q1825 q71 q1826 (by decide +kernel) dX0_frameShare_4 rfl ⟨Nat.le_of_ble_eq_true rfl, Nat.le_of_ble_eq_true rfl⟩ (Nat.le_of_ble_eq_true rfl) ⟨Nat.le_of_ble_eq_true rfl, Nat.le_of_ble_eq_true rfl⟩) ?_ (fun y4 h4 hw => ?_)
  · intro E9 h9 hx
    rcases hx with ⟨rfl, hw⟩ | ⟨rfl, hw⟩
    · refine j_catch X (pc := 4) "java/lang/IllegalArgumentException" hex [] [⟨0, 9, 15, 155⟩] ⟨0, 9, 12, 13⟩ rfl (by intro y hy; cases hy) (by decide) (by decide) q291 q312 (fun q9 => ?_)
      have hw := hw q9
      refine j_astore_n X (pc := 12) [(3, vR (some q9)), (0, vR a0), (1, vI a1), (2, vR a2)] dX0_frameShare_12 rfl (Nat.le_of_ble_eq_true rfl) rfl ?_
      refine j_iconst X (pc := 13) 1 dX0_frameShare_13 (by decide) ?_
      exact j_iret X (pc := 14) hQ er (Nat.le_of_ble_eq_true rfl) (Nat.le_of_ble_eq_true rfl) dX0_frameShare_14 hw
    · refine j_catch X (pc := 4) "java/lang/ArithmeticException" hex [⟨0, 9, 12, 13⟩] [] ⟨0, 9, 15, 155⟩ rfl (by intro y hy; simp only [List.mem_cons, List.not_mem_nil, or_false] at hy; subst hy; exact Or.inr ⟨by decide, "java/lang/IllegalArgumentException", q291, by decide +kernel⟩) (by decide) (by decide) q1809 q1821 (fun q9 => ?_)
      have hw := hw q9
      refine j_astore_n X (pc := 15) [(3, vR (some q9)), (0, vR a0), (1, vI a1), (2, vR a2)] dX0_frameShare_15 rfl (Nat.le_of_ble_eq_true rfl) rfl ?_
      refine j_iconst X (pc := 16) 2 dX0_frameShare_16 (by decide) ?_
      exact j_iret X (pc := 17) hQ er (Nat.le_of_ble_eq_true rfl) (Nat.le_of_ble_eq_true rfl) dX0_frameShare_17 hw
  refine j_f2d X (pc := 7) dX0_frameShare_7 hw (fun hw => ?_)
  refine j_dast X (pc := 8) dX0_frameShare_8 hw (fun h8 hw => ?_)
  refine j_goto X (pc := 9) 18 dX0_frameShare_9 (by decide) ?_
  refine j_iconst X (pc := 18) 0 dX0_frameShare_18 (by decide) ?_
  exact j_iret X (pc := 19) hQ er (Nat.le_of_ble_eq_true rfl) (Nat.le_of_ble_eq_true rfl) dX0_frameShare_19 hw
