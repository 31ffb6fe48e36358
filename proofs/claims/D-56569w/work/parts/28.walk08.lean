/-! walks (printed): Plugboard, Plugboard.Connector, Plugboard.End, PlugboardLaw, PlugboardModel, java/lang/Record -/
set_option maxRecDepth 100000
abbrev cX5_seenMany : ByteArray := prog_19_method_16_code
def yX5_seenMany : MethodName := ⟨RX5, "seenMany", "()I"⟩
def dkwX5_seenMany_1 : List UInt8 := [167, 0, 4, 3, 96, 60, 132, 2, 1, 167, 255, 229, 27, 172]
abbrev dktX5_seenMany_1 : List UInt8 := dkwX5_seenMany_1 ++ []
def dkwX5_seenMany_0 : List UInt8 := [3, 60, 3, 61, 28, 42, 180, 0, 119, 162, 0, 25, 27, 42, 28, 182, 0, 125, 153, 0, 7, 4]
abbrev dktX5_seenMany_0 : List UInt8 := dkwX5_seenMany_0 ++ dktX5_seenMany_1
theorem dksX5_seenMany_0 : cX5_seenMany.data.toList.drop 0 = dktX5_seenMany_0 := by decide +kernel
theorem dksX5_seenMany_1 : cX5_seenMany.data.toList.drop 22 = dktX5_seenMany_1 := dk_seg dksX5_seenMany_0 22 rfl rfl
theorem dX5_seenMany_0 : decode cX5_seenMany 0 = .ok (.iconst 0, 1) := dk_3 (dk_at dksX5_seenMany_0 0 rfl rfl)
theorem dX5_seenMany_1 : decode cX5_seenMany 1 = .ok (.istore_n 1, 1) := dk_60 (dk_at dksX5_seenMany_0 1 rfl rfl)
theorem dX5_seenMany_2 : decode cX5_seenMany 2 = .ok (.iconst 0, 1) := dk_3 (dk_at dksX5_seenMany_0 2 rfl rfl)
theorem dX5_seenMany_3 : decode cX5_seenMany 3 = .ok (.istore_n 2, 1) := dk_61 (dk_at dksX5_seenMany_0 3 rfl rfl)
theorem dX5_seenMany_4 : decode cX5_seenMany 4 = .ok (.iload_n 2, 1) := dk_28 (dk_at dksX5_seenMany_0 4 rfl rfl)
theorem dX5_seenMany_5 : decode cX5_seenMany 5 = .ok (.aload_n 0, 1) := dk_42 (dk_at dksX5_seenMany_0 5 rfl rfl)
theorem dX5_seenMany_6 : decode cX5_seenMany 6 = .ok (.getfield 119, 3) := dk_180 0 119 (dk_at dksX5_seenMany_0 6 rfl rfl)
theorem dX5_seenMany_9 : decode cX5_seenMany 9 = .ok (.if_icmp .ge 25, 3) := dk_162 0 25 (dk_at dksX5_seenMany_0 9 rfl rfl)
theorem dX5_seenMany_12 : decode cX5_seenMany 12 = .ok (.iload_n 1, 1) := dk_27 (dk_at dksX5_seenMany_0 12 rfl rfl)
theorem dX5_seenMany_13 : decode cX5_seenMany 13 = .ok (.aload_n 0, 1) := dk_42 (dk_at dksX5_seenMany_0 13 rfl rfl)
theorem dX5_seenMany_14 : decode cX5_seenMany 14 = .ok (.iload_n 2, 1) := dk_28 (dk_at dksX5_seenMany_0 14 rfl rfl)
theorem dX5_seenMany_15 : decode cX5_seenMany 15 = .ok (.invokevirtual 125, 3) := dk_182 0 125 (dk_at dksX5_seenMany_0 15 rfl rfl)
theorem dX5_seenMany_18 : decode cX5_seenMany 18 = .ok (.ifCond .eq 7, 3) := dk_153 0 7 (dk_at dksX5_seenMany_0 18 rfl rfl)
theorem dX5_seenMany_21 : decode cX5_seenMany 21 = .ok (.iconst 1, 1) := dk_4 (dk_at dksX5_seenMany_0 21 rfl rfl)
theorem dX5_seenMany_22 : decode cX5_seenMany 22 = .ok (.goto 4, 3) := dk_167 0 4 (dk_at dksX5_seenMany_1 0 rfl rfl)
theorem dX5_seenMany_25 : decode cX5_seenMany 25 = .ok (.iconst 0, 1) := dk_3 (dk_at dksX5_seenMany_1 3 rfl rfl)
theorem dX5_seenMany_26 : decode cX5_seenMany 26 = .ok (.iadd, 1) := dk_96 (dk_at dksX5_seenMany_1 4 rfl rfl)
theorem dX5_seenMany_27 : decode cX5_seenMany 27 = .ok (.istore_n 1, 1) := dk_60 (dk_at dksX5_seenMany_1 5 rfl rfl)
theorem dX5_seenMany_28 : decode cX5_seenMany 28 = .ok (.iinc 2 1, 3) := dk_132 2 1 (dk_at dksX5_seenMany_1 6 rfl rfl)
theorem dX5_seenMany_31 : decode cX5_seenMany 31 = .ok (.goto (-27), 3) := dk_167 255 229 (dk_at dksX5_seenMany_1 9 rfl rfl)
theorem dX5_seenMany_34 : decode cX5_seenMany 34 = .ok (.iload_n 1, 1) := dk_27 (dk_at dksX5_seenMany_1 12 rfl rfl)
theorem dX5_seenMany_35 : decode cX5_seenMany 35 = .ok (.ireturn, 1) := dk_172 (dk_at dksX5_seenMany_1 13 rfl rfl)
abbrev rm_X5_seenMany : Room := { frames := 2, cells := 0, slots := 0, locals := 43 }
def w_X5_seenMany_4 (P : Int32 → AH → Prop) (x0 : Option Nat) (x1 : Int32) (x2 : Int32) (h : AH) : Prop :=
  ∀ Z4 : Int32 → Int32 → AH → Prop, (∀ x1 x2 h, (
      g_i h x0 4 8 fun y6 =>
      ((y6 ≤ x2 →
        P x1 h) ∧
       (¬ y6 ≤ x2 →
        is_c h x0 [4] (
        w_X5_isSeen x0 x2 h (fun y15 h15 =>
        ((y15 = 0 →
          Z4 (x1 + 0) (x2 + 1) h15) ∧
         (¬ y15 = 0 →
          Z4 (x1 + 1) (x2 + 1) h15)))))))
      → Z4 x1 x2 h) → Z4 x1 x2 h
def w_X5_seenMany (a0 : Option Nat) (h : AH) (P : Int32 → AH → Prop) : Prop :=
  w_X5_seenMany_4 P a0 0 0 h
theorem wk_X5_seenMany_4 {x : CX} (X : Ok x cX5_seenMany RX5 rm_X5_seenMany 3) (er : xrt x = (Option.some Jvm.ClassFile.FieldType.int)) (en : xnm x = yX5_seenMany.name) {P : Int32 → AH → Prop} (hQ : xr_i x P) (x0 : Option Nat) (x1 : Int32) (x2 : Int32) (h : AH) (hw : w_X5_seenMany_4 P x0 x1 x2 h) : J x h 0 0 4 [(0, vR x0), (1, vI x1), (2, vI x2)] [] := by
  refine hw (fun x1 x2 h => J x h 0 0 4 [(0, vR x0), (1, vI x1), (2, vI x2)] []) (fun x1 x2 h hw => ?_)
  refine j_iload_n X (pc := 4) 2 dX5_seenMany_4 rfl rfl ?_
  refine j_aload_n X (pc := 5) 0 dX5_seenMany_5 rfl rfl ?_
  refine j_geti (ci := 4) X (pc := 6) in_X5 rfl (by decide) 8 (by decide) q1880 (Or.inl rfl) dX5_seenMany_6 hw (fun y6 hw => ?_)
  refine j_icmp_ge X (pc := 9) 34 dX5_seenMany_9 (by decide) hw (fun hw => ?_) (fun hw => ?_)
  · refine j_iload_n X (pc := 34) 1 dX5_seenMany_34 rfl rfl ?_
    exact j_iret X (pc := 35) hQ er (Nat.le_of_ble_eq_true rfl) (Nat.le_of_ble_eq_true rfl) dX5_seenMany_35 hw
  · refine j_iload_n X (pc := 12) 1 dX5_seenMany_12 rfl rfl ?_
    refine j_aload_n X (pc := 13) 0 dX5_seenMany_13 rfl rfl ?_
    refine j_iload_n X (pc := 14) 2 dX5_seenMany_14 rfl rfl ?_
    obtain ⟨b9, c9, f9, hr9, ho9, hc9, hw⟩ := hw
    obtain rfl := List.mem_singleton.mp hc9
    refine j_calli (j_runV (n8 := 1) (As := [vI x2]) (rest := [vI x1]) X (pc := 15) hr9 (met_X5_isSeen (xl x) X.hl (xG x) h x0 x2 _ hw) ho9 (by decide) rfl q2012 q2014 qs39 q78 q2015 (by decide +kernel) dX5_seenMany_15 rfl ⟨Nat.le_of_ble_eq_true rfl, Nat.le_of_ble_eq_true rfl⟩ (Nat.le_of_ble_eq_true rfl) ⟨Nat.le_of_ble_eq_true rfl, Nat.le_of_ble_eq_true rfl⟩) (fun y15 h15 hw => ?_)
    refine j_if_eq X (pc := 18) 25 dX5_seenMany_18 (by decide) hw (fun hw => ?_) (fun hw => ?_)
    · refine j_iconst X (pc := 25) 0 dX5_seenMany_25 (by decide) ?_
      refine j_iadd X (pc := 26) dX5_seenMany_26 ?_
      refine j_istore_n X (pc := 27) [(1, vI (x1 + 0)), (0, vR x0), (2, vI x2)] dX5_seenMany_27 rfl (Nat.le_of_ble_eq_true rfl) rfl ?_
      refine j_iinc X (pc := 28) 2 (x2 + 1) [(2, vI (x2 + 1)), (1, vI (x1 + 0)), (0, vR x0)] dX5_seenMany_28 rfl rfl (Nat.le_of_ble_eq_true rfl) rfl ?_
      refine j_goto X (pc := 31) 4 dX5_seenMany_31 (by decide) ?_
      refine j_lv [(0, vR x0), (1, vI (x1 + 0)), (2, vI (x2 + 1))] [2, 1, 0] rfl ?_
      refine j_cs (u' := 0) (v' := 0) (Nat.le_of_ble_eq_true rfl) (Nat.le_of_ble_eq_true rfl) ?_
      exact hw
    · refine j_iconst X (pc := 21) 1 dX5_seenMany_21 (by decide) ?_
      refine j_goto X (pc := 22) 26 dX5_seenMany_22 (by decide) ?_
      refine j_iadd X (pc := 26) dX5_seenMany_26 ?_
      refine j_istore_n X (pc := 27) [(1, vI (x1 + 1)), (0, vR x0), (2, vI x2)] dX5_seenMany_27 rfl (Nat.le_of_ble_eq_true rfl) rfl ?_
      refine j_iinc X (pc := 28) 2 (x2 + 1) [(2, vI (x2 + 1)), (1, vI (x1 + 1)), (0, vR x0)] dX5_seenMany_28 rfl rfl (Nat.le_of_ble_eq_true rfl) rfl ?_
      refine j_goto X (pc := 31) 4 dX5_seenMany_31 (by decide) ?_
      refine j_lv [(0, vR x0), (1, vI (x1 + 1)), (2, vI (x2 + 1))] [2, 1, 0] rfl ?_
      refine j_cs (u' := 0) (v' := 0) (Nat.le_of_ble_eq_true rfl) (Nat.le_of_ble_eq_true rfl) ?_
      exact hw
theorem met_X5_seenMany (l : Launch) (hlt : l.stackTraces = false) (G : GG) (h : AH) (a0 : Option Nat) (P : Int32 → AH → Prop) (hw : w_X5_seenMany a0 h P) : ct_i l yX5_seenMany (ws_ yX5_seenMany cX5_seenMany 3 (Option.some Jvm.ClassFile.FieldType.int)) rm_X5_seenMany G h [vR a0] P := by
  refine j_starti hlt [(0, vR a0)] (plainFor_of_name (by decide)) rfl rfl (fun x X eG er en hQ => ?_)
  subst eG
  refine j_iconst X (pc := 0) 0 dX5_seenMany_0 (by decide) ?_
  refine j_istore_n X (pc := 1) [(1, vI 0), (0, vR a0)] dX5_seenMany_1 rfl (Nat.le_of_ble_eq_true rfl) rfl ?_
  refine j_iconst X (pc := 2) 0 dX5_seenMany_2 (by decide) ?_
  refine j_istore_n X (pc := 3) [(2, vI 0), (1, vI 0), (0, vR a0)] dX5_seenMany_3 rfl (Nat.le_of_ble_eq_true rfl) rfl ?_
  refine j_lv [(0, vR a0), (1, vI 0), (2, vI 0)] [2, 1, 0] rfl ?_
  refine j_cs (u' := 0) (v' := 0) (Nat.le_of_ble_eq_true rfl) (Nat.le_of_ble_eq_true rfl) ?_
  exact wk_X5_seenMany_4 X er en hQ a0 0 0 h hw
abbrev cX5_remove : ByteArray := prog_19_method_34_code
def yX5_remove : MethodName := ⟨RX5, "remove", "(II)I"⟩
def dkwX5_remove_2 : List UInt8 := [172]
abbrev dktX5_remove_2 : List UInt8 := dkwX5_remove_2 ++ []
def dkwX5_remove_1 : List UInt8 := [180, 0, 97, 158, 0, 5, 3, 172, 42, 28, 3, 182, 0, 179, 42, 27, 4, 182, 0, 186, 42, 182, 0, 209]
abbrev dktX5_remove_1 : List UInt8 := dkwX5_remove_1 ++ dktX5_remove_2
def dkwX5_remove_0 : List UInt8 := [42, 27, 184, 0, 165, 153, 0, 12, 42, 27, 28, 182, 0, 193, 167, 0, 4, 4, 181, 0, 97, 42]
abbrev dktX5_remove_0 : List UInt8 := dkwX5_remove_0 ++ dktX5_remove_1
theorem dksX5_remove_0 : cX5_remove.data.toList.drop 0 = dktX5_remove_0 := by decide +kernel
theorem dksX5_remove_1 : cX5_remove.data.toList.drop 22 = dktX5_remove_1 := dk_seg dksX5_remove_0 22 rfl rfl
theorem dksX5_remove_2 : cX5_remove.data.toList.drop 46 = dktX5_remove_2 := dk_seg dksX5_remove_1 24 rfl rfl
theorem dX5_remove_0 : decode cX5_remove 0 = .ok (.aload_n 0, 1) := dk_42 (dk_at dksX5_remove_0 0 rfl rfl)
theorem dX5_remove_1 : decode cX5_remove 1 = .ok (.iload_n 1, 1) := dk_27 (dk_at dksX5_remove_0 1 rfl rfl)
theorem dX5_remove_2 : decode cX5_remove 2 = .ok (.invokestatic 165, 3) := dk_184 0 165 (dk_at dksX5_remove_0 2 rfl rfl)
theorem dX5_remove_5 : decode cX5_remove 5 = .ok (.ifCond .eq 12, 3) := dk_153 0 12 (dk_at dksX5_remove_0 5 rfl rfl)
theorem dX5_remove_8 : decode cX5_remove 8 = .ok (.aload_n 0, 1) := dk_42 (dk_at dksX5_remove_0 8 rfl rfl)
theorem dX5_remove_9 : decode cX5_remove 9 = .ok (.iload_n 1, 1) := dk_27 (dk_at dksX5_remove_0 9 rfl rfl)
theorem dX5_remove_10 : decode cX5_remove 10 = .ok (.iload_n 2, 1) := dk_28 (dk_at dksX5_remove_0 10 rfl rfl)
theorem dX5_remove_11 : decode cX5_remove 11 = .ok (.invokevirtual 193, 3) := dk_182 0 193 (dk_at dksX5_remove_0 11 rfl rfl)
theorem dX5_remove_14 : decode cX5_remove 14 = .ok (.goto 4, 3) := dk_167 0 4 (dk_at dksX5_remove_0 14 rfl rfl)
theorem dX5_remove_17 : decode cX5_remove 17 = .ok (.iconst 1, 1) := dk_4 (dk_at dksX5_remove_0 17 rfl rfl)
theorem dX5_remove_18 : decode cX5_remove 18 = .ok (.putfield 97, 3) := dk_181 0 97 (dk_at dksX5_remove_0 18 rfl rfl)
theorem dX5_remove_21 : decode cX5_remove 21 = .ok (.aload_n 0, 1) := dk_42 (dk_at dksX5_remove_0 21 rfl rfl)
theorem dX5_remove_22 : decode cX5_remove 22 = .ok (.getfield 97, 3) := dk_180 0 97 (dk_at dksX5_remove_1 0 rfl rfl)
theorem dX5_remove_25 : decode cX5_remove 25 = .ok (.ifCond .le 5, 3) := dk_158 0 5 (dk_at dksX5_remove_1 3 rfl rfl)
theorem dX5_remove_28 : decode cX5_remove 28 = .ok (.iconst 0, 1) := dk_3 (dk_at dksX5_remove_1 6 rfl rfl)
theorem dX5_remove_29 : decode cX5_remove 29 = .ok (.ireturn, 1) := dk_172 (dk_at dksX5_remove_1 7 rfl rfl)
theorem dX5_remove_30 : decode cX5_remove 30 = .ok (.aload_n 0, 1) := dk_42 (dk_at dksX5_remove_1 8 rfl rfl)
theorem dX5_remove_31 : decode cX5_remove 31 = .ok (.iload_n 2, 1) := dk_28 (dk_at dksX5_remove_1 9 rfl rfl)
theorem dX5_remove_32 : decode cX5_remove 32 = .ok (.iconst 0, 1) := dk_3 (dk_at dksX5_remove_1 10 rfl rfl)
theorem dX5_remove_33 : decode cX5_remove 33 = .ok (.invokevirtual 179, 3) := dk_182 0 179 (dk_at dksX5_remove_1 11 rfl rfl)
theorem dX5_remove_36 : decode cX5_remove 36 = .ok (.aload_n 0, 1) := dk_42 (dk_at dksX5_remove_1 14 rfl rfl)
theorem dX5_remove_37 : decode cX5_remove 37 = .ok (.iload_n 1, 1) := dk_27 (dk_at dksX5_remove_1 15 rfl rfl)
theorem dX5_remove_38 : decode cX5_remove 38 = .ok (.iconst 1, 1) := dk_4 (dk_at dksX5_remove_1 16 rfl rfl)
theorem dX5_remove_39 : decode cX5_remove 39 = .ok (.invokevirtual 186, 3) := dk_182 0 186 (dk_at dksX5_remove_1 17 rfl rfl)
theorem dX5_remove_42 : decode cX5_remove 42 = .ok (.aload_n 0, 1) := dk_42 (dk_at dksX5_remove_1 20 rfl rfl)
theorem dX5_remove_43 : decode cX5_remove 43 = .ok (.invokevirtual 209, 3) := dk_182 0 209 (dk_at dksX5_remove_1 21 rfl rfl)
theorem dX5_remove_46 : decode cX5_remove 46 = .ok (.ireturn, 1) := dk_172 (dk_at dksX5_remove_2 0 rfl rfl)
theorem q2087 : (Jvm.Cond.methodLink "PlugboardModel" (209 : Nat) ({ cls := "PlugboardModel", name := "seenMany", desc := "()I" } : Jvm.MethodName)) ∈ lw_all := lw_g (lw_at lw_m9 97 rfl) rfl
theorem q2089 : (Jvm.Cond.instanceMethod ({ cls := "PlugboardModel", name := "seenMany", desc := "()I" } : Jvm.MethodName)) ∈ lw_all := lw_g (lw_at lw_m9 99 rfl) rfl
theorem q2090 : (Jvm.Cond.code ({ cls := "PlugboardModel", name := "seenMany", desc := "()I" } : Jvm.MethodName) prog_19_method_16_code (3 : Nat) (Option.some Jvm.ClassFile.FieldType.int)) ∈ lw_all := lw_g (lw_at lw_m9 100 rfl) rfl
abbrev rm_X5_remove : Room := { frames := 4, cells := 0, slots := 0, locals := 90 }
def w_X5_remove_18 (P : Int32 → AH → Prop) (x0 : Option Nat) (x1 : Int32) (x2 : Int32) (t0 : Int32) (t1 : Option Nat) (h : AH) : Prop :=
  p_v h t1 4 0 (vI t0) fun h18 =>
  g_i h18 x0 4 0 fun y22 =>
  ((y22 ≤ 0 →
    is_c h18 x0 [4] (
    w_X5_plans x0 x2 0 h18 (fun h33 =>
    is_c h33 x0 [4] (
    w_X5_makes x0 x1 1 h33 (fun h39 =>
    is_c h39 x0 [4] (
    w_X5_seenMany x0 h39 (fun y43 h43 =>
    P y43 h43))))))) ∧
   (¬ y22 ≤ 0 →
    P 0 h18))
def w_X5_remove (a0 : Option Nat) (a1 : Int32) (a2 : Int32) (h : AH) (P : Int32 → AH → Prop) : Prop :=
  w_X5_isUser a1 h (fun y2 h2 =>
  ((y2 = 0 →
    w_X5_remove_18 P a0 a1 a2 1 a0 h2) ∧
   (¬ y2 = 0 →
    is_c h2 a0 [4] (
    w_X5_bar a0 a1 a2 h2 (fun y11 h11 =>
    w_X5_remove_18 P a0 a1 a2 y11 a0 h11)))))
theorem wk_X5_remove_18 {x : CX} (X : Ok x cX5_remove RX5 rm_X5_remove 3) (er : xrt x = (Option.some Jvm.ClassFile.FieldType.int)) (en : xnm x = yX5_remove.name) {P : Int32 → AH → Prop} (hQ : xr_i x P) (x0 : Option Nat) (x1 : Int32) (x2 : Int32) (t0 : Int32) (t1 : Option Nat) (h : AH) (hw : w_X5_remove_18 P x0 x1 x2 t0 t1 h) : J x h 0 0 18 [(0, vR x0), (1, vI x1), (2, vI x2)] [vI t0, vR t1] := by
  refine j_put (ci := 4) X (pc := 18) in_X5 rfl (by decide) 0 (by decide) q1872 (Or.inl rfl) tyX5 tyX5_ok nmX5 rfl rfl (ty := .int) (tyX5_ok 0 (by decide)) rfl rfl dX5_remove_18 hw (fun h18 hw => ?_)
  refine j_aload_n X (pc := 21) 0 dX5_remove_21 rfl rfl ?_
  refine j_geti (ci := 4) X (pc := 22) in_X5 rfl (by decide) 0 (by decide) q1872 (Or.inl rfl) dX5_remove_22 hw (fun y22 hw => ?_)
  refine j_if_le X (pc := 25) 30 dX5_remove_25 (by decide) hw (fun hw => ?_) (fun hw => ?_)
  · refine j_aload_n X (pc := 30) 0 dX5_remove_30 rfl rfl ?_
    refine j_iload_n X (pc := 31) 2 dX5_remove_31 rfl rfl ?_
    refine j_iconst X (pc := 32) 0 dX5_remove_32 (by decide) ?_
    obtain ⟨b9, c9, f9, hr9, ho9, hc9, hw⟩ := hw
    obtain rfl := List.mem_singleton.mp hc9
    refine j_callv (j_runV (n8 := 2) (As := [vI x2, vI 0]) (rest := []) X (pc := 33) hr9 (met_X5_plans (xl x) X.hl (xG x) h18 x0 x2 0 _ hw) ho9 (by decide) rfl q2021 q2023 qs41 q78 q2024 (by decide +kernel) dX5_remove_33 rfl ⟨Nat.le_of_ble_eq_true rfl, Nat.le_of_ble_eq_true rfl⟩ (Nat.le_of_ble_eq_true rfl) ⟨Nat.le_of_ble_eq_true rfl, Nat.le_of_ble_eq_true rfl⟩) (fun h33 hw => ?_)
    refine j_aload_n X (pc := 36) 0 dX5_remove_36 rfl rfl ?_
    refine j_iload_n X (pc := 37) 1 dX5_remove_37 rfl rfl ?_
    refine j_iconst X (pc := 38) 1 dX5_remove_38 (by decide) ?_
    obtain ⟨b9, c9, f9, hr9, ho9, hc9, hw⟩ := hw
    obtain rfl := List.mem_singleton.mp hc9
    refine j_callv (j_runV (n8 := 2) (As := [vI x1, vI 1]) (rest := []) X (pc := 39) hr9 (met_X5_makes (xl x) X.hl (xG x) h33 x0 x1 1 _ hw) ho9 (by decide) rfl q2030 q2032 qs43 q78 q2033 (by decide +kernel) dX5_remove_39 rfl ⟨Nat.le_of_ble_eq_true rfl, Nat.le_of_ble_eq_true rfl⟩ (Nat.le_of_ble_eq_true rfl) ⟨Nat.le_of_ble_eq_true rfl, Nat.le_of_ble_eq_true rfl⟩) (fun h39 hw => ?_)
    refine j_aload_n X (pc := 42) 0 dX5_remove_42 rfl rfl ?_
    obtain ⟨b9, c9, f9, hr9, ho9, hc9, hw⟩ := hw
    obtain rfl := List.mem_singleton.mp hc9
    refine j_calli (j_runV (n8 := 0) (As := []) (rest := []) X (pc := 43) hr9 (met_X5_seenMany (xl x) X.hl (xG x) h39 x0 _ hw) ho9 (by decide) rfl q2087 q2089 qs52 q78 q2090 (by decide +kernel) dX5_remove_43 rfl ⟨Nat.le_of_ble_eq_true rfl, Nat.le_of_ble_eq_true rfl⟩ (Nat.le_of_ble_eq_true rfl) ⟨Nat.le_of_ble_eq_true rfl, Nat.le_of_ble_eq_true rfl⟩) (fun y43 h43 hw => ?_)
    exact j_iret X (pc := 46) hQ er (Nat.le_of_ble_eq_true rfl) (Nat.le_of_ble_eq_true rfl) dX5_remove_46 hw
  · refine j_iconst X (pc := 28) 0 dX5_remove_28 (by decide) ?_
    exact j_iret X (pc := 29) hQ er (Nat.le_of_ble_eq_true rfl) (Nat.le_of_ble_eq_true rfl) dX5_remove_29 hw
theorem met_X5_remove (l : Launch) (hlt : l.stackTraces = false) (G : GG) (h : AH) (a0 : Option Nat) (a1 : Int32) (a2 : Int32) (P : Int32 → AH → Prop) (hw : w_X5_remove a0 a1 a2 h P) : ct_i l yX5_remove (ws_ yX5_remove cX5_remove 3 (Option.some Jvm.ClassFile.FieldType.int)) rm_X5_remove G h [vR a0, vI a1, vI a2] P := by
  refine j_starti hlt [(0, vR a0), (1, vI a1), (2, vI a2)] (plainFor_of_name (by decide)) rfl rfl (fun x X eG er en hQ => ?_)
  subst eG
  refine j_aload_n X (pc := 0) 0 dX5_remove_0 rfl rfl ?_
  refine j_iload_n X (pc := 1) 1 dX5_remove_1 rfl rfl ?_
  refine j_calli (j_runS (n8 := 1) (As := [vI a1]) (rest := [vR a0]) X (pc := 2) (met_X5_isUser (xl x) X.hl (xG x) h a1 _ hw) q1978 q1979 q78 q1980 (by decide +kernel) dX5_remove_2 rfl ⟨Nat.le_of_ble_eq_true rfl, Nat.le_of_ble_eq_true rfl⟩ (Nat.le_of_ble_eq_true rfl) ⟨Nat.le_of_ble_eq_true rfl, Nat.le_of_ble_eq_true rfl⟩) (fun y2 h2 hw => ?_)
  refine j_if_eq X (pc := 5) 17 dX5_remove_5 (by decide) hw (fun hw => ?_) (fun hw => ?_)
  · refine j_iconst X (pc := 17) 1 dX5_remove_17 (by decide) ?_
    refine j_cs (u' := 0) (v' := 0) (Nat.le_of_ble_eq_true rfl) (Nat.le_of_ble_eq_true rfl) ?_
    exact wk_X5_remove_18 X er en hQ a0 a1 a2 1 a0 h2 hw
  · refine j_aload_n X (pc := 8) 0 dX5_remove_8 rfl rfl ?_
    refine j_iload_n X (pc := 9) 1 dX5_remove_9 rfl rfl ?_
    refine j_iload_n X (pc := 10) 2 dX5_remove_10 rfl rfl ?_
    obtain ⟨b9, c9, f9, hr9, ho9, hc9, hw⟩ := hw
    obtain rfl := List.mem_singleton.mp hc9
    refine j_calli (j_runV (n8 := 2) (As := [vI a1, vI a2]) (rest := [vR a0]) X (pc := 11) hr9 (met_X5_bar (xl x) X.hl (xG x) h2 a0 a1 a2 _ hw) ho9 (by decide) rfl q2039 q2041 qs44 q78 q2042 (by decide +kernel) dX5_remove_11 rfl ⟨Nat.le_of_ble_eq_true rfl, Nat.le_of_ble_eq_true rfl⟩ (Nat.le_of_ble_eq_true rfl) ⟨Nat.le_of_ble_eq_true rfl, Nat.le_of_ble_eq_true rfl⟩) (fun y11 h11 hw => ?_)
    refine j_goto X (pc := 14) 18 dX5_remove_14 (by decide) ?_
    refine j_cs (u' := 0) (v' := 0) (Nat.le_of_ble_eq_true rfl) (Nat.le_of_ble_eq_true rfl) ?_
    exact wk_X5_remove_18 X er en hQ a0 a1 a2 y11 a0 h11 hw
abbrev cX1_lock : ByteArray := prog_1_method_26_code
def yX1_lock : MethodName := ⟨RX1, "lock", "(II)I"⟩
def dkwX1_lock_4 : List UInt8 := [54, 5, 167, 255, 214, 21, 5, 172]
abbrev dktX1_lock_4 : List UInt8 := dkwX1_lock_4 ++ []
def dkwX1_lock_3 : List UInt8 := [192, 0, 124, 58, 7, 21, 5, 45, 25, 7, 182, 1, 26, 27, 160, 0, 7, 4, 167, 0, 4, 3, 96]
abbrev dktX1_lock_3 : List UInt8 := dkwX1_lock_3 ++ dktX1_lock_4
def dkwX1_lock_2 : List UInt8 := [185, 0, 173, 1, 0, 58, 6, 25, 6, 185, 0, 179, 1, 0, 153, 0, 38, 25, 6, 185, 0, 185, 1, 0]
abbrev dktX1_lock_2 : List UInt8 := dkwX1_lock_2 ++ dktX1_lock_3
def dkwX1_lock_1 : List UInt8 := [182, 0, 207, 42, 45, 16, 36, 28, 96, 27, 4, 96, 182, 1, 11, 3, 54, 5, 45, 182, 0, 169]
abbrev dktX1_lock_1 : List UInt8 := dkwX1_lock_1 ++ dktX1_lock_2
def dkwX1_lock_0 : List UInt8 := [42, 27, 182, 0, 199, 78, 42, 45, 28, 182, 0, 241, 58, 4, 42, 45, 25, 4, 182, 0, 245, 42]
abbrev dktX1_lock_0 : List UInt8 := dkwX1_lock_0 ++ dktX1_lock_1
theorem dksX1_lock_0 : cX1_lock.data.toList.drop 0 = dktX1_lock_0 := by decide +kernel
theorem dksX1_lock_1 : cX1_lock.data.toList.drop 22 = dktX1_lock_1 := dk_seg dksX1_lock_0 22 rfl rfl
theorem dksX1_lock_2 : cX1_lock.data.toList.drop 44 = dktX1_lock_2 := dk_seg dksX1_lock_1 22 rfl rfl
theorem dksX1_lock_3 : cX1_lock.data.toList.drop 68 = dktX1_lock_3 := dk_seg dksX1_lock_2 24 rfl rfl
theorem dksX1_lock_4 : cX1_lock.data.toList.drop 91 = dktX1_lock_4 := dk_seg dksX1_lock_3 23 rfl rfl
theorem dX1_lock_0 : decode cX1_lock 0 = .ok (.aload_n 0, 1) := dk_42 (dk_at dksX1_lock_0 0 rfl rfl)
theorem dX1_lock_1 : decode cX1_lock 1 = .ok (.iload_n 1, 1) := dk_27 (dk_at dksX1_lock_0 1 rfl rfl)
theorem dX1_lock_2 : decode cX1_lock 2 = .ok (.invokevirtual 199, 3) := dk_182 0 199 (dk_at dksX1_lock_0 2 rfl rfl)
theorem dX1_lock_5 : decode cX1_lock 5 = .ok (.astore_n 3, 1) := dk_78 (dk_at dksX1_lock_0 5 rfl rfl)
theorem dX1_lock_6 : decode cX1_lock 6 = .ok (.aload_n 0, 1) := dk_42 (dk_at dksX1_lock_0 6 rfl rfl)
theorem dX1_lock_7 : decode cX1_lock 7 = .ok (.aload_n 3, 1) := dk_45 (dk_at dksX1_lock_0 7 rfl rfl)
theorem dX1_lock_8 : decode cX1_lock 8 = .ok (.iload_n 2, 1) := dk_28 (dk_at dksX1_lock_0 8 rfl rfl)
theorem dX1_lock_9 : decode cX1_lock 9 = .ok (.invokevirtual 241, 3) := dk_182 0 241 (dk_at dksX1_lock_0 9 rfl rfl)
theorem dX1_lock_12 : decode cX1_lock 12 = .ok (.astore 4, 2) := dk_58 4 (dk_at dksX1_lock_0 12 rfl rfl)
theorem dX1_lock_14 : decode cX1_lock 14 = .ok (.aload_n 0, 1) := dk_42 (dk_at dksX1_lock_0 14 rfl rfl)
theorem dX1_lock_15 : decode cX1_lock 15 = .ok (.aload_n 3, 1) := dk_45 (dk_at dksX1_lock_0 15 rfl rfl)
theorem dX1_lock_16 : decode cX1_lock 16 = .ok (.aload 4, 2) := dk_25 4 (dk_at dksX1_lock_0 16 rfl rfl)
theorem dX1_lock_18 : decode cX1_lock 18 = .ok (.invokevirtual 245, 3) := dk_182 0 245 (dk_at dksX1_lock_0 18 rfl rfl)
theorem dX1_lock_21 : decode cX1_lock 21 = .ok (.aload_n 0, 1) := dk_42 (dk_at dksX1_lock_0 21 rfl rfl)
theorem dX1_lock_22 : decode cX1_lock 22 = .ok (.invokevirtual 207, 3) := dk_182 0 207 (dk_at dksX1_lock_1 0 rfl rfl)
theorem dX1_lock_25 : decode cX1_lock 25 = .ok (.aload_n 0, 1) := dk_42 (dk_at dksX1_lock_1 3 rfl rfl)
theorem dX1_lock_26 : decode cX1_lock 26 = .ok (.aload_n 3, 1) := dk_45 (dk_at dksX1_lock_1 4 rfl rfl)
theorem dX1_lock_27 : decode cX1_lock 27 = .ok (.bipush 36, 2) := dk_16 36 (dk_at dksX1_lock_1 5 rfl rfl)
theorem dX1_lock_29 : decode cX1_lock 29 = .ok (.iload_n 2, 1) := dk_28 (dk_at dksX1_lock_1 7 rfl rfl)
theorem dX1_lock_30 : decode cX1_lock 30 = .ok (.iadd, 1) := dk_96 (dk_at dksX1_lock_1 8 rfl rfl)
theorem dX1_lock_31 : decode cX1_lock 31 = .ok (.iload_n 1, 1) := dk_27 (dk_at dksX1_lock_1 9 rfl rfl)
theorem dX1_lock_32 : decode cX1_lock 32 = .ok (.iconst 1, 1) := dk_4 (dk_at dksX1_lock_1 10 rfl rfl)
theorem dX1_lock_33 : decode cX1_lock 33 = .ok (.iadd, 1) := dk_96 (dk_at dksX1_lock_1 11 rfl rfl)
theorem dX1_lock_34 : decode cX1_lock 34 = .ok (.invokevirtual 267, 3) := dk_182 1 11 (dk_at dksX1_lock_1 12 rfl rfl)
theorem dX1_lock_37 : decode cX1_lock 37 = .ok (.iconst 0, 1) := dk_3 (dk_at dksX1_lock_1 15 rfl rfl)
theorem dX1_lock_38 : decode cX1_lock 38 = .ok (.istore 5, 2) := dk_54 5 (dk_at dksX1_lock_1 16 rfl rfl)
theorem dX1_lock_40 : decode cX1_lock 40 = .ok (.aload_n 3, 1) := dk_45 (dk_at dksX1_lock_1 18 rfl rfl)
theorem dX1_lock_41 : decode cX1_lock 41 = .ok (.invokevirtual 169, 3) := dk_182 0 169 (dk_at dksX1_lock_1 19 rfl rfl)
theorem dX1_lock_44 : decode cX1_lock 44 = .ok (.invokeinterface 173 1, 5) := by decide +kernel
theorem dX1_lock_49 : decode cX1_lock 49 = .ok (.astore 6, 2) := dk_58 6 (dk_at dksX1_lock_2 5 rfl rfl)
theorem dX1_lock_51 : decode cX1_lock 51 = .ok (.aload 6, 2) := dk_25 6 (dk_at dksX1_lock_2 7 rfl rfl)
theorem dX1_lock_53 : decode cX1_lock 53 = .ok (.invokeinterface 179 1, 5) := by decide +kernel
theorem dX1_lock_58 : decode cX1_lock 58 = .ok (.ifCond .eq 38, 3) := dk_153 0 38 (dk_at dksX1_lock_2 14 rfl rfl)
theorem dX1_lock_61 : decode cX1_lock 61 = .ok (.aload 6, 2) := dk_25 6 (dk_at dksX1_lock_2 17 rfl rfl)
theorem dX1_lock_63 : decode cX1_lock 63 = .ok (.invokeinterface 185 1, 5) := by decide +kernel
theorem dX1_lock_68 : decode cX1_lock 68 = .ok (.checkcast 124, 3) := dk_192 0 124 (dk_at dksX1_lock_3 0 rfl rfl)
theorem dX1_lock_71 : decode cX1_lock 71 = .ok (.astore 7, 2) := dk_58 7 (dk_at dksX1_lock_3 3 rfl rfl)
theorem dX1_lock_73 : decode cX1_lock 73 = .ok (.iload 5, 2) := dk_21 5 (dk_at dksX1_lock_3 5 rfl rfl)
theorem dX1_lock_75 : decode cX1_lock 75 = .ok (.aload_n 3, 1) := dk_45 (dk_at dksX1_lock_3 7 rfl rfl)
theorem dX1_lock_76 : decode cX1_lock 76 = .ok (.aload 7, 2) := dk_25 7 (dk_at dksX1_lock_3 8 rfl rfl)
theorem dX1_lock_78 : decode cX1_lock 78 = .ok (.invokevirtual 282, 3) := dk_182 1 26 (dk_at dksX1_lock_3 10 rfl rfl)
theorem dX1_lock_81 : decode cX1_lock 81 = .ok (.iload_n 1, 1) := dk_27 (dk_at dksX1_lock_3 13 rfl rfl)
theorem dX1_lock_82 : decode cX1_lock 82 = .ok (.if_icmp .ne 7, 3) := dk_160 0 7 (dk_at dksX1_lock_3 14 rfl rfl)
theorem dX1_lock_85 : decode cX1_lock 85 = .ok (.iconst 1, 1) := dk_4 (dk_at dksX1_lock_3 17 rfl rfl)
theorem dX1_lock_86 : decode cX1_lock 86 = .ok (.goto 4, 3) := dk_167 0 4 (dk_at dksX1_lock_3 18 rfl rfl)
theorem dX1_lock_89 : decode cX1_lock 89 = .ok (.iconst 0, 1) := dk_3 (dk_at dksX1_lock_3 21 rfl rfl)
theorem dX1_lock_90 : decode cX1_lock 90 = .ok (.iadd, 1) := dk_96 (dk_at dksX1_lock_3 22 rfl rfl)
theorem dX1_lock_91 : decode cX1_lock 91 = .ok (.istore 5, 2) := dk_54 5 (dk_at dksX1_lock_4 0 rfl rfl)
theorem dX1_lock_93 : decode cX1_lock 93 = .ok (.goto (-42), 3) := dk_167 255 214 (dk_at dksX1_lock_4 2 rfl rfl)
theorem dX1_lock_96 : decode cX1_lock 96 = .ok (.iload 5, 2) := dk_21 5 (dk_at dksX1_lock_4 5 rfl rfl)
theorem dX1_lock_98 : decode cX1_lock 98 = .ok (.ireturn, 1) := dk_172 (dk_at dksX1_lock_4 7 rfl rfl)
theorem q1236 : (Jvm.Cond.methodLink "Plugboard" (282 : Nat) ({ cls := "Plugboard$Board", name := "lockerOf", desc := "(LPlugboard$Shape;)I" } : Jvm.MethodName)) ∈ lw_all := lw_g (lw_at lw_m5 206 rfl) rfl
abbrev rm_X1_lock : Room := { frames := 11, cells := 17, slots := 221, locals := 270 }
def w_X1_lock_51 (P : Int32 → AH → Prop) (PX : String → AH → Prop) (x1 : Int32) (x3 : Option Nat) (x5 : Int32) (x6 : Option Nat) (h : AH) : Prop :=
  ∀ Z51 : Int32 → AH → Prop, (∀ x5 h, (
      is_c h x6 [6] (
      w_X7_hasNext x6 h (fun y53 h53 =>
      ((y53 = 0 →
        P x5 h53) ∧
       (¬ y53 = 0 →
        is_c h53 x6 [6] (
        w_X7_next x6 h53 (fun y63 h63 =>
        is_c h63 y63 [7, 8] (
        is_c h63 x3 [2] (
        w_X3_lockerOf x3 y63 h63 (fun y78 h78 =>
        ((y78 = x1 →
          Z51 (x5 + 1) h78) ∧
         (¬ y78 = x1 →
          Z51 (x5 + 0) h78))))))))))))
      → Z51 x5 h) → Z51 x5 h
def w_X1_lock (a0 : Option Nat) (a1 : Int32) (a2 : Int32) (h : AH) (P : Int32 → AH → Prop) (PX : String → AH → Prop) : Prop :=
  is_c h a0 [0] (
  w_X1_board a0 a1 h (fun y2 h2 =>
  is_c h2 a0 [0] (
  w_X1_shape a0 y2 a2 h2 (fun y9 h9 =>
  is_c h9 a0 [0] (
  w_X1_requireUnlocked a0 y2 y9 h9 (fun h18 =>
  is_c h18 a0 [0] (
  w_X1_requireRoom a0 h18 (fun h22 =>
  is_c h22 a0 [0] (
  w_X1_write a0 y2 (36 + a2) (a1 + 1) h22 (fun h34 =>
  is_c h34 y2 [2] (
  w_X3_seen y2 h34 (fun y41 h41 =>
  is_c h41 y41 [5] (
  w_X6_iterator y41 h41 (fun y44 h44 =>
  w_X1_lock_51 P PX a1 y2 0 y44 h44))))))) PX)) PX)) PX)) PX)
theorem wk_X1_lock_51 {x : CX} (X : Ok x cX1_lock RX1 rm_X1_lock 8) (er : xrt x = (Option.some Jvm.ClassFile.FieldType.int)) (en : xnm x = yX1_lock.name) {P : Int32 → AH → Prop} {PX : String → AH → Prop} (hQ : xr_i x P) (hT : xt_ x PX) (hex : ∀ z ∈ x.2.2.2.2.2.2.2.2.2.1.exceptionTable.toList, False) (x1 : Int32) (x3 : Option Nat) (x5 : Int32) (x6 : Option Nat) (h : AH) (hw : w_X1_lock_51 P PX x1 x3 x5 x6 h) : J x h 17 221 51 [(1, vI x1), (3, vR x3), (5, vI x5), (6, vR x6)] [] := by
  refine hw (fun x5 h => J x h 17 221 51 [(1, vI x1), (3, vR x3), (5, vI x5), (6, vR x6)] []) (fun x5 h hw => ?_)
  refine j_aload X (pc := 51) 3 dX1_lock_51 rfl ?_
  obtain ⟨b9, c9, f9, hr9, ho9, hc9, hw⟩ := hw
  obtain rfl := List.mem_singleton.mp hc9
  refine j_call5i (j_runF (n8 := 0) (As := []) (rest := []) X (pc := 53) hr9 (met_X7_hasNext (xl x) X.hl (xG x) h x6 _ hw) ho9 (by decide) rfl q481 q485 q487 q85 q489 (fun U hU => kt_F2 hU) (by decide +kernel) dX1_lock_53 rfl ⟨Nat.le_of_ble_eq_true rfl, Nat.le_of_ble_eq_true rfl⟩ (Nat.le_of_ble_eq_true rfl) ⟨Nat.le_of_ble_eq_true rfl, Nat.le_of_ble_eq_true rfl⟩) (fun y53 h53 hw => ?_)
  refine j_if_eq X (pc := 58) 96 dX1_lock_58 (by decide) hw (fun hw => ?_) (fun hw => ?_)
  · refine j_iload X (pc := 96) 2 dX1_lock_96 rfl ?_
    exact j_iret X (pc := 98) hQ er (Nat.le_of_ble_eq_true rfl) (Nat.le_of_ble_eq_true rfl) dX1_lock_98 hw
  · refine j_aload X (pc := 61) 3 dX1_lock_61 rfl ?_
    obtain ⟨b9, c9, f9, hr9, ho9, hc9, hw⟩ := hw
    obtain rfl := List.mem_singleton.mp hc9
    refine j_call5q (j_runF (n8 := 0) (As := []) (rest := []) X (pc := 63) hr9 (met_X7_next (xl x) X.hl (xG x) h53 x6 _ hw) ho9 (by decide) rfl q499 q502 q504 q85 q506 (fun U hU => kt_F3 hU) (by decide +kernel) dX1_lock_63 rfl ⟨Nat.le_of_ble_eq_true rfl, Nat.le_of_ble_eq_true rfl⟩ (Nat.le_of_ble_eq_true rfl) ⟨Nat.le_of_ble_eq_true rfl, Nat.le_of_ble_eq_true rfl⟩) (fun y63 h63 hw => ?_)
    refine j_chk X (pc := 68) (L := [7, 8]) q550 (by intro ci hci; simp only [List.mem_cons, List.not_mem_nil, or_false] at hci; rcases hci with rfl | rfl <;> first | exact ⟨by decide, _, _, _, rfl, Or.inr q2343⟩ | exact ⟨by decide, _, _, _, rfl, Or.inr q2344⟩) dX1_lock_68 hw (fun hw => ?_)
    refine j_astore X (pc := 71) [(7, vR y63), (1, vI x1), (3, vR x3), (5, vI x5), (6, vR x6)] dX1_lock_71 (Nat.le_of_ble_eq_true rfl) rfl ?_
    refine j_iload X (pc := 73) 3 dX1_lock_73 rfl ?_
    refine j_aload_n X (pc := 75) 2 dX1_lock_75 rfl rfl ?_
    refine j_aload X (pc := 76) 0 dX1_lock_76 rfl ?_
    obtain ⟨b9, c9, f9, hr9, ho9, hc9, hw⟩ := hw
    obtain rfl := List.mem_singleton.mp hc9
    refine j_calli (j_runV (n8 := 1) (As := [vR y63]) (rest := [vI x5]) X (pc := 78) hr9 (met_X3_lockerOf (xl x) X.hl (xG x) h63 x3 y63 _ hw) ho9 (by decide) rfl q1236 q1094 q1095 q76 q1096 (by decide +kernel) dX1_lock_78 rfl ⟨Nat.le_of_ble_eq_true rfl, Nat.le_of_ble_eq_true rfl⟩ (Nat.le_of_ble_eq_true rfl) ⟨Nat.le_of_ble_eq_true rfl, Nat.le_of_ble_eq_true rfl⟩) (fun y78 h78 hw => ?_)
    refine j_iload_n X (pc := 81) 1 dX1_lock_81 rfl rfl ?_
    refine j_icmp_ne X (pc := 82) 89 dX1_lock_82 (by decide) hw (fun hw => ?_) (fun hw => ?_)
    · refine j_iconst X (pc := 85) 1 dX1_lock_85 (by decide) ?_
      refine j_goto X (pc := 86) 90 dX1_lock_86 (by decide) ?_
      refine j_iadd X (pc := 90) dX1_lock_90 ?_
      refine j_istore X (pc := 91) [(5, vI (x5 + 1)), (7, vR y63), (1, vI x1), (3, vR x3), (6, vR x6)] dX1_lock_91 (Nat.le_of_ble_eq_true rfl) rfl ?_
      refine j_goto X (pc := 93) 51 dX1_lock_93 (by decide) ?_
      refine j_lv [(1, vI x1), (3, vR x3), (5, vI (x5 + 1)), (6, vR x6)] [2, 3, 0, 4] rfl ?_
      refine j_cs (u' := 17) (v' := 221) (Nat.le_of_ble_eq_true rfl) (Nat.le_of_ble_eq_true rfl) ?_
      exact hw
    · refine j_iconst X (pc := 89) 0 dX1_lock_89 (by decide) ?_
      refine j_iadd X (pc := 90) dX1_lock_90 ?_
      refine j_istore X (pc := 91) [(5, vI (x5 + 0)), (7, vR y63), (1, vI x1), (3, vR x3), (6, vR x6)] dX1_lock_91 (Nat.le_of_ble_eq_true rfl) rfl ?_
      refine j_goto X (pc := 93) 51 dX1_lock_93 (by decide) ?_
      refine j_lv [(1, vI x1), (3, vR x3), (5, vI (x5 + 0)), (6, vR x6)] [2, 3, 0, 4] rfl ?_
      refine j_cs (u' := 17) (v' := 221) (Nat.le_of_ble_eq_true rfl) (Nat.le_of_ble_eq_true rfl) ?_
      exact hw
theorem met_X1_lock (l : Launch) (hlt : l.stackTraces = false) (G : GG) (h : AH) (a0 : Option Nat) (a1 : Int32) (a2 : Int32) (P : Int32 → AH → Prop) (PX : String → AH → Prop) (hw : w_X1_lock a0 a1 a2 h P PX) : cx_i l yX1_lock (ws_ yX1_lock cX1_lock 8 (Option.some Jvm.ClassFile.FieldType.int)) rm_X1_lock G h [vR a0, vI a1, vI a2] P PX := by
  refine j_startXi hlt [(0, vR a0), (1, vI a1), (2, vI a2)] (by decide) rfl rfl (fun x X eG er en hQ hT hex => ?_)
  subst eG
  refine j_aload_n X (pc := 0) 0 dX1_lock_0 rfl rfl ?_
  refine j_iload_n X (pc := 1) 1 dX1_lock_1 rfl rfl ?_
  obtain ⟨b9, c9, f9, hr9, ho9, hc9, hw⟩ := hw
  obtain rfl := List.mem_singleton.mp hc9
  refine j_callXq (j_runVX (n8 := 1) (As := [vI a1]) (rest := []) X (pc := 2) hr9 (met_X1_board (xl x) X.hl (xG x) h a0 a1 _ _ hw) ho9 (by decide) rfl q297 q299 qs0 q71 q300 (by decide +kernel) dX1_lock_2 rfl ⟨Nat.le_of_ble_eq_true rfl, Nat.le_of_ble_eq_true rfl⟩ (Nat.le_of_ble_eq_true rfl) ⟨Nat.le_of_ble_eq_true rfl, Nat.le_of_ble_eq_true rfl⟩) (fun E h9 hx => j_out X hT hex (Nat.le_of_ble_eq_true rfl) (Nat.le_of_ble_eq_true rfl) hx) (fun y2 h2 hw => ?_)
  refine j_astore_n X (pc := 5) [(3, vR y2), (0, vR a0), (1, vI a1), (2, vI a2)] dX1_lock_5 rfl (Nat.le_of_ble_eq_true rfl) rfl ?_
  refine j_aload_n X (pc := 6) 1 dX1_lock_6 rfl rfl ?_
  refine j_aload_n X (pc := 7) 0 dX1_lock_7 rfl rfl ?_
  refine j_iload_n X (pc := 8) 3 dX1_lock_8 rfl rfl ?_
  obtain ⟨b9, c9, f9, hr9, ho9, hc9, hw⟩ := hw
  obtain rfl := List.mem_singleton.mp hc9
  refine j_callXq (j_runVX (n8 := 2) (As := [vR y2, vI a2]) (rest := []) X (pc := 9) hr9 (met_X1_shape (xl x) X.hl (xG x) h2 a0 y2 a2 _ _ hw) ho9 (by decide) rfl q1075 q1077 qs9 q71 q1078 (by decide +kernel) dX1_lock_9 rfl ⟨Nat.le_of_ble_eq_true rfl, Nat.le_of_ble_eq_true rfl⟩ (Nat.le_of_ble_eq_true rfl) ⟨Nat.le_of_ble_eq_true rfl, Nat.le_of_ble_eq_true rfl⟩) (fun E h9 hx => j_out X hT hex (Nat.le_of_ble_eq_true rfl) (Nat.le_of_ble_eq_true rfl) hx) (fun y9 h9 hw => ?_)
  refine j_astore X (pc := 12) [(4, vR y9), (3, vR y2), (0, vR a0), (1, vI a1), (2, vI a2)] dX1_lock_12 (Nat.le_of_ble_eq_true rfl) rfl ?_
  refine j_aload_n X (pc := 14) 2 dX1_lock_14 rfl rfl ?_
  refine j_aload_n X (pc := 15) 1 dX1_lock_15 rfl rfl ?_
  refine j_aload X (pc := 16) 0 dX1_lock_16 rfl ?_
  obtain ⟨b9, c9, f9, hr9, ho9, hc9, hw⟩ := hw
  obtain rfl := List.mem_singleton.mp hc9
  refine j_callXv (j_runVX (n8 := 2) (As := [vR y2, vR y9]) (rest := []) X (pc := 18) hr9 (met_X1_requireUnlocked (xl x) X.hl (xG x) h9 a0 y2 y9 _ _ hw) ho9 (by decide) rfl q1085 q1087 qs10 q71 q1088 (by decide +kernel) dX1_lock_18 rfl ⟨Nat.le_of_ble_eq_true rfl, Nat.le_of_ble_eq_true rfl⟩ (Nat.le_of_ble_eq_true rfl) ⟨Nat.le_of_ble_eq_true rfl, Nat.le_of_ble_eq_true rfl⟩) (fun E h9 hx => j_out X hT hex (Nat.le_of_ble_eq_true rfl) (Nat.le_of_ble_eq_true rfl) hx) (fun h18 hw => ?_)
  refine j_aload_n X (pc := 21) 2 dX1_lock_21 rfl rfl ?_
  obtain ⟨b9, c9, f9, hr9, ho9, hc9, hw⟩ := hw
  obtain rfl := List.mem_singleton.mp hc9
  refine j_callXv (j_runVX (n8 := 0) (As := []) (rest := []) X (pc := 22) hr9 (met_X1_requireRoom (xl x) X.hl (xG x) h18 a0 _ _ hw) ho9 (by decide) rfl q400 q402 qs2 q71 q403 (by decide +kernel) dX1_lock_22 rfl ⟨Nat.le_of_ble_eq_true rfl, Nat.le_of_ble_eq_true rfl⟩ (Nat.le_of_ble_eq_true rfl) ⟨Nat.le_of_ble_eq_true rfl, Nat.le_of_ble_eq_true rfl⟩) (fun E h9 hx => j_out X hT hex (Nat.le_of_ble_eq_true rfl) (Nat.le_of_ble_eq_true rfl) hx) (fun h22 hw => ?_)
  refine j_aload_n X (pc := 25) 2 dX1_lock_25 rfl rfl ?_
  refine j_aload_n X (pc := 26) 1 dX1_lock_26 rfl rfl ?_
  refine j_bipush X (pc := 27) 36 dX1_lock_27 (by decide) ?_
  refine j_iload_n X (pc := 29) 4 dX1_lock_29 rfl rfl ?_
  refine j_iadd X (pc := 30) dX1_lock_30 ?_
  refine j_iload_n X (pc := 31) 3 dX1_lock_31 rfl rfl ?_
  refine j_iconst X (pc := 32) 1 dX1_lock_32 (by decide) ?_
  refine j_iadd X (pc := 33) dX1_lock_33 ?_
  obtain ⟨b9, c9, f9, hr9, ho9, hc9, hw⟩ := hw
  obtain rfl := List.mem_singleton.mp hc9
  refine j_callv (j_runV (n8 := 3) (As := [vR y2, vI (36 + a2), vI (a1 + 1)]) (rest := []) X (pc := 34) hr9 (met_X1_write (xl x) X.hl (xG x) h22 a0 y2 (36 + a2) (a1 + 1) _ hw) ho9 (by decide) rfl q1189 q1191 qs12 q71 q1192 (by decide +kernel) dX1_lock_34 rfl ⟨Nat.le_of_ble_eq_true rfl, Nat.le_of_ble_eq_true rfl⟩ (Nat.le_of_ble_eq_true rfl) ⟨Nat.le_of_ble_eq_true rfl, Nat.le_of_ble_eq_true rfl⟩) (fun h34 hw => ?_)
  refine j_iconst X (pc := 37) 0 dX1_lock_37 (by decide) ?_
  refine j_istore X (pc := 38) [(5, vI 0), (4, vR y9), (3, vR y2), (0, vR a0), (1, vI a1), (2, vI a2)] dX1_lock_38 (Nat.le_of_ble_eq_true rfl) rfl ?_
  refine j_aload_n X (pc := 40) 2 dX1_lock_40 rfl rfl ?_
  obtain ⟨b9, c9, f9, hr9, ho9, hc9, hw⟩ := hw
  obtain rfl := List.mem_singleton.mp hc9
  refine j_callq (j_runV (n8 := 0) (As := []) (rest := []) X (pc := 41) hr9 (met_X3_seen (xl x) X.hl (xG x) h34 y2 _ hw) ho9 (by decide) rfl q418 q419 q420 q76 q421 (by decide +kernel) dX1_lock_41 rfl ⟨Nat.le_of_ble_eq_true rfl, Nat.le_of_ble_eq_true rfl⟩ (Nat.le_of_ble_eq_true rfl) ⟨Nat.le_of_ble_eq_true rfl, Nat.le_of_ble_eq_true rfl⟩) (fun y41 h41 hw => ?_)
  obtain ⟨b9, c9, f9, hr9, ho9, hc9, hw⟩ := hw
  obtain rfl := List.mem_singleton.mp hc9
  refine j_call5q (j_runF (n8 := 0) (As := []) (rest := []) X (pc := 44) hr9 (met_X6_iterator (xl x) X.hl (xG x) h41 y41 _ hw) ho9 (by decide) rfl q433 q437 q439 q84 q441 (fun U hU => kt_F1 hU) (by decide +kernel) dX1_lock_44 rfl ⟨Nat.le_of_ble_eq_true rfl, Nat.le_of_ble_eq_true rfl⟩ (Nat.le_of_ble_eq_true rfl) ⟨Nat.le_of_ble_eq_true rfl, Nat.le_of_ble_eq_true rfl⟩) (fun y44 h44 hw => ?_)
  refine j_astore X (pc := 49) [(6, vR y44), (5, vI 0), (4, vR y9), (3, vR y2), (0, vR a0), (1, vI a1), (2, vI a2)] dX1_lock_49 (Nat.le_of_ble_eq_true rfl) rfl ?_
  refine j_lv [(1, vI a1), (3, vR y2), (5, vI 0), (6, vR y44)] [5, 3, 1, 0] rfl ?_
  refine j_cs (u' := 17) (v' := 221) (Nat.le_of_ble_eq_true rfl) (Nat.le_of_ble_eq_true rfl) ?_
  exact wk_X1_lock_51 X er en hQ hT hex a1 y2 0 y44 h44 hw
abbrev cX0_lock : ByteArray := method_9_code
def yX0_lock : MethodName := ⟨RX0, "lock", "(LPlugboard;II[J)I"⟩
def dkwX0_lock_1 : List UInt8 := [172, 58, 4, 7, 172, 3, 172]
abbrev dktX0_lock_1 : List UInt8 := dkwX0_lock_1 ++ []
def dkwX0_lock_0 : List UInt8 := [45, 3, 42, 27, 28, 182, 0, 39, 133, 80, 167, 0, 19, 58, 4, 4, 172, 58, 4, 5, 172, 58, 4, 6]
abbrev dktX0_lock_0 : List UInt8 := dkwX0_lock_0 ++ dktX0_lock_1
theorem dksX0_lock_0 : cX0_lock.data.toList.drop 0 = dktX0_lock_0 := by decide +kernel
theorem dksX0_lock_1 : cX0_lock.data.toList.drop 24 = dktX0_lock_1 := dk_seg dksX0_lock_0 24 rfl rfl
theorem dX0_lock_0 : decode cX0_lock 0 = .ok (.aload_n 3, 1) := dk_45 (dk_at dksX0_lock_0 0 rfl rfl)
theorem dX0_lock_1 : decode cX0_lock 1 = .ok (.iconst 0, 1) := dk_3 (dk_at dksX0_lock_0 1 rfl rfl)
theorem dX0_lock_2 : decode cX0_lock 2 = .ok (.aload_n 0, 1) := dk_42 (dk_at dksX0_lock_0 2 rfl rfl)
theorem dX0_lock_3 : decode cX0_lock 3 = .ok (.iload_n 1, 1) := dk_27 (dk_at dksX0_lock_0 3 rfl rfl)
theorem dX0_lock_4 : decode cX0_lock 4 = .ok (.iload_n 2, 1) := dk_28 (dk_at dksX0_lock_0 4 rfl rfl)
theorem dX0_lock_5 : decode cX0_lock 5 = .ok (.invokevirtual 39, 3) := dk_182 0 39 (dk_at dksX0_lock_0 5 rfl rfl)
theorem dX0_lock_8 : decode cX0_lock 8 = .ok (.i2l, 1) := dk_133 (dk_at dksX0_lock_0 8 rfl rfl)
theorem dX0_lock_9 : decode cX0_lock 9 = .ok (.lastore, 1) := dk_80 (dk_at dksX0_lock_0 9 rfl rfl)
theorem dX0_lock_10 : decode cX0_lock 10 = .ok (.goto 19, 3) := dk_167 0 19 (dk_at dksX0_lock_0 10 rfl rfl)
theorem dX0_lock_13 : decode cX0_lock 13 = .ok (.astore 4, 2) := dk_58 4 (dk_at dksX0_lock_0 13 rfl rfl)
theorem dX0_lock_15 : decode cX0_lock 15 = .ok (.iconst 1, 1) := dk_4 (dk_at dksX0_lock_0 15 rfl rfl)
theorem dX0_lock_16 : decode cX0_lock 16 = .ok (.ireturn, 1) := dk_172 (dk_at dksX0_lock_0 16 rfl rfl)
theorem dX0_lock_17 : decode cX0_lock 17 = .ok (.astore 4, 2) := dk_58 4 (dk_at dksX0_lock_0 17 rfl rfl)
theorem dX0_lock_19 : decode cX0_lock 19 = .ok (.iconst 2, 1) := dk_5 (dk_at dksX0_lock_0 19 rfl rfl)
theorem dX0_lock_20 : decode cX0_lock 20 = .ok (.ireturn, 1) := dk_172 (dk_at dksX0_lock_0 20 rfl rfl)
theorem dX0_lock_21 : decode cX0_lock 21 = .ok (.astore 4, 2) := dk_58 4 (dk_at dksX0_lock_0 21 rfl rfl)
theorem dX0_lock_23 : decode cX0_lock 23 = .ok (.iconst 3, 1) := dk_6 (dk_at dksX0_lock_0 23 rfl rfl)
theorem dX0_lock_24 : decode cX0_lock 24 = .ok (.ireturn, 1) := dk_172 (dk_at dksX0_lock_1 0 rfl rfl)
theorem dX0_lock_25 : decode cX0_lock 25 = .ok (.astore 4, 2) := dk_58 4 (dk_at dksX0_lock_1 1 rfl rfl)
theorem dX0_lock_27 : decode cX0_lock 27 = .ok (.iconst 4, 1) := dk_7 (dk_at dksX0_lock_1 3 rfl rfl)
theorem dX0_lock_28 : decode cX0_lock 28 = .ok (.ireturn, 1) := dk_172 (dk_at dksX0_lock_1 4 rfl rfl)
theorem dX0_lock_29 : decode cX0_lock 29 = .ok (.iconst 0, 1) := dk_3 (dk_at dksX0_lock_1 5 rfl rfl)
theorem dX0_lock_30 : decode cX0_lock 30 = .ok (.ireturn, 1) := dk_172 (dk_at dksX0_lock_1 6 rfl rfl)
theorem q1232 : (Jvm.Cond.methodLink "PlugboardLaw" (39 : Nat) ({ cls := "Plugboard", name := "lock", desc := "(II)I" } : Jvm.MethodName)) ∈ lw_all := lw_g (lw_at lw_m5 202 rfl) rfl
theorem q1233 : (Jvm.Cond.instanceMethod ({ cls := "Plugboard", name := "lock", desc := "(II)I" } : Jvm.MethodName)) ∈ lw_all := lw_g (lw_at lw_m5 203 rfl) rfl
theorem q1234 : (Jvm.Cond.selects "Plugboard" ({ cls := "Plugboard", name := "lock", desc := "(II)I" } : Jvm.MethodName) ({ cls := "Plugboard", name := "lock", desc := "(II)I" } : Jvm.MethodName)) ∈ lw_all := lw_g (lw_at lw_m5 204 rfl) rfl
theorem q1235 : (Jvm.Cond.code ({ cls := "Plugboard", name := "lock", desc := "(II)I" } : Jvm.MethodName) prog_1_method_26_code (8 : Nat) (Option.some Jvm.ClassFile.FieldType.int)) ∈ lw_all := lw_g (lw_at lw_m5 205 rfl) rfl
abbrev rm_X0_lock : Room := { frames := 12, cells := 17, slots := 221, locals := 297 }
def w_X0_lock (a0 : Option Nat) (a1 : Int32) (a2 : Int32) (a3 : Option Nat) (h : AH) (P : Int32 → AH → Prop) : Prop :=
  is_c h a0 [0] (
  w_X1_lock a0 a1 a2 h (fun y5 h5 =>
  s_L h5 a3 0 (Int32.toInt64 y5) fun h9 =>
  P 0 h9)
    (fun E9 h9 => (E9 = "java/lang/IllegalArgumentException" ∧ ∀ q9 : Nat,
    P 1 h9) ∨
    (E9 = "java/util/NoSuchElementException" ∧ ∀ q9 : Nat,
    P 2 h9) ∨
    (E9 = "java/lang/UnsupportedOperationException" ∧ ∀ q9 : Nat,
    P 3 h9) ∨
    (E9 = "java/lang/IllegalStateException" ∧ ∀ q9 : Nat,
    P 4 h9)))
theorem met_X0_lock (l : Launch) (hlt : l.stackTraces = false) (G : GG) (h : AH) (a0 : Option Nat) (a1 : Int32) (a2 : Int32) (a3 : Option Nat) (P : Int32 → AH → Prop) (hw : w_X0_lock a0 a1 a2 a3 h P) : ct_i l yX0_lock (wsW_ yX0_lock cX0_lock 5 (Option.some Jvm.ClassFile.FieldType.int) [((0 : Nat), (10 : Nat), (13 : Nat), (13 : Nat)), ((0 : Nat), (10 : Nat), (17 : Nat), (21 : Nat)), ((0 : Nat), (10 : Nat), (21 : Nat), (23 : Nat)), ((0 : Nat), (10 : Nat), (25 : Nat), (15 : Nat))]) rm_X0_lock G h [vR a0, vI a1, vI a2, vR a3] P := by
  refine j_startWi hlt [(0, vR a0), (1, vI a1), (2, vI a2), (3, vR a3)] (by decide) rfl rfl (fun x X eG er en hQ hex => ?_)
  subst eG
  refine j_aload_n X (pc := 0) 3 dX0_lock_0 rfl rfl ?_
  refine j_iconst X (pc := 1) 0 dX0_lock_1 (by decide) ?_
  refine j_aload_n X (pc := 2) 0 dX0_lock_2 rfl rfl ?_
  refine j_iload_n X (pc := 3) 1 dX0_lock_3 rfl rfl ?_
  refine j_iload_n X (pc := 4) 2 dX0_lock_4 rfl rfl ?_
  obtain ⟨b9, c9, f9, hr9, ho9, hc9, hw⟩ := hw
  obtain rfl := List.mem_singleton.mp hc9
  refine j_callXi (j_runVX (n8 := 2) (As := [vI a1, vI a2]) (rest := [vI 0, vR a3]) X (pc := 5) hr9 (met_X1_lock (xl x) X.hl (xG x) h a0 a1 a2 _ _ hw) ho9 (by decide) rfl q1232 q1233 q1234 q71 q1235 (by decide +kernel) dX0_lock_5 rfl ⟨Nat.le_of_ble_eq_true rfl, Nat.le_of_ble_eq_true rfl⟩ (Nat.le_of_ble_eq_true rfl) ⟨Nat.le_of_ble_eq_true rfl, Nat.le_of_ble_eq_true rfl⟩) ?_ (fun y5 h5 hw => ?_)
  · intro E9 h9 hx
    rcases hx with ⟨rfl, hw⟩ | ⟨rfl, hw⟩ | ⟨rfl, hw⟩ | ⟨rfl, hw⟩
    · refine j_catch X (pc := 5) "java/lang/IllegalArgumentException" hex [] [⟨0, 10, 17, 21⟩, ⟨0, 10, 21, 23⟩, ⟨0, 10, 25, 15⟩] ⟨0, 10, 13, 13⟩ rfl (by intro y hy; cases hy) (by decide) (by decide) q291 q312 (fun q9 => ?_)
      have hw := hw q9
      refine j_astore X (pc := 13) [(4, vR (some q9)), (0, vR a0), (1, vI a1), (2, vI a2), (3, vR a3)] dX0_lock_13 (Nat.le_of_ble_eq_true rfl) rfl ?_
      refine j_iconst X (pc := 15) 1 dX0_lock_15 (by decide) ?_
      exact j_iret X (pc := 16) hQ er (Nat.le_of_ble_eq_true rfl) (Nat.le_of_ble_eq_true rfl) dX0_lock_16 hw
    · refine j_catch X (pc := 5) "java/util/NoSuchElementException" hex [⟨0, 10, 13, 13⟩] [⟨0, 10, 21, 23⟩, ⟨0, 10, 25, 15⟩] ⟨0, 10, 17, 21⟩ rfl (by intro y hy; simp only [List.mem_cons, List.not_mem_nil, or_false] at hy; subst hy; exact Or.inr ⟨by decide, "java/lang/IllegalArgumentException", q291, by decide +kernel⟩) (by decide) (by decide) q1068 q537 (fun q9 => ?_)
      have hw := hw q9
      refine j_astore X (pc := 17) [(4, vR (some q9)), (0, vR a0), (1, vI a1), (2, vI a2), (3, vR a3)] dX0_lock_17 (Nat.le_of_ble_eq_true rfl) rfl ?_
      refine j_iconst X (pc := 19) 2 dX0_lock_19 (by decide) ?_
      exact j_iret X (pc := 20) hQ er (Nat.le_of_ble_eq_true rfl) (Nat.le_of_ble_eq_true rfl) dX0_lock_20 hw
    · refine j_catch X (pc := 5) "java/lang/UnsupportedOperationException" hex [⟨0, 10, 13, 13⟩, ⟨0, 10, 17, 21⟩] [⟨0, 10, 25, 15⟩] ⟨0, 10, 21, 23⟩ rfl (by intro y hy; simp only [List.mem_cons, List.not_mem_nil, or_false] at hy; rcases hy with rfl | rfl <;> first | exact Or.inr ⟨by decide, "java/lang/IllegalArgumentException", q291, by decide +kernel⟩ | exact Or.inr ⟨by decide, "java/util/NoSuchElementException", q1068, by decide +kernel⟩) (by decide) (by decide) q1069 q1102 (fun q9 => ?_)
      have hw := hw q9
      refine j_astore X (pc := 21) [(4, vR (some q9)), (0, vR a0), (1, vI a1), (2, vI a2), (3, vR a3)] dX0_lock_21 (Nat.le_of_ble_eq_true rfl) rfl ?_
      refine j_iconst X (pc := 23) 3 dX0_lock_23 (by decide) ?_
      exact j_iret X (pc := 24) hQ er (Nat.le_of_ble_eq_true rfl) (Nat.le_of_ble_eq_true rfl) dX0_lock_24 hw
    · refine j_catch X (pc := 5) "java/lang/IllegalStateException" hex [⟨0, 10, 13, 13⟩, ⟨0, 10, 17, 21⟩, ⟨0, 10, 21, 23⟩] [] ⟨0, 10, 25, 15⟩ rfl (by intro y hy; simp only [List.mem_cons, List.not_mem_nil, or_false] at hy; rcases hy with rfl | rfl | rfl <;> first | exact Or.inr ⟨by decide, "java/lang/IllegalArgumentException", q291, by decide +kernel⟩ | exact Or.inr ⟨by decide, "java/util/NoSuchElementException", q1068, by decide +kernel⟩ | exact Or.inr ⟨by decide, "java/lang/UnsupportedOperationException", q1069, by decide +kernel⟩) (by decide) (by decide) q292 q387 (fun q9 => ?_)
      have hw := hw q9
      refine j_astore X (pc := 25) [(4, vR (some q9)), (0, vR a0), (1, vI a1), (2, vI a2), (3, vR a3)] dX0_lock_25 (Nat.le_of_ble_eq_true rfl) rfl ?_
      refine j_iconst X (pc := 27) 4 dX0_lock_27 (by decide) ?_
      exact j_iret X (pc := 28) hQ er (Nat.le_of_ble_eq_true rfl) (Nat.le_of_ble_eq_true rfl) dX0_lock_28 hw
  refine j_i2l X (pc := 8) dX0_lock_8 ?_
  refine j_last X (pc := 9) dX0_lock_9 hw (fun h9 hw => ?_)
  refine j_goto X (pc := 10) 29 dX0_lock_10 (by decide) ?_
  refine j_iconst X (pc := 29) 0 dX0_lock_29 (by decide) ?_
  exact j_iret X (pc := 30) hQ er (Nat.le_of_ble_eq_true rfl) (Nat.le_of_ble_eq_true rfl) dX0_lock_30 hw
abbrev cX5_lock : ByteArray := prog_19_method_35_code
def yX5_lock : MethodName := ⟨RX5, "lock", "(II)I"⟩
def dkwX5_lock_4 : List UInt8 := [167, 255, 213, 29, 172]
abbrev dktX5_lock_4 : List UInt8 := dkwX5_lock_4 ++ []
def dkwX5_lock_3 : List UInt8 := [180, 0, 67, 16, 36, 21, 4, 96, 46, 27, 160, 0, 7, 4, 167, 0, 4, 3, 96, 62, 132, 4, 1]
abbrev dktX5_lock_3 : List UInt8 := dkwX5_lock_3 ++ dktX5_lock_4
def dkwX5_lock_2 : List UInt8 := [62, 3, 54, 4, 21, 4, 42, 180, 0, 119, 162, 0, 40, 29, 42, 21, 4, 182, 0, 125, 153, 0, 21, 42]
abbrev dktX5_lock_2 : List UInt8 := dkwX5_lock_2 ++ dktX5_lock_3
def dkwX5_lock_1 : List UInt8 := [180, 0, 97, 158, 0, 5, 3, 172, 42, 16, 36, 28, 96, 27, 182, 0, 179, 42, 27, 4, 182, 0, 186, 3]
abbrev dktX5_lock_1 : List UInt8 := dkwX5_lock_1 ++ dktX5_lock_2
def dkwX5_lock_0 : List UInt8 := [42, 27, 184, 0, 165, 153, 0, 12, 42, 27, 28, 182, 0, 193, 167, 0, 4, 4, 181, 0, 97, 42]
abbrev dktX5_lock_0 : List UInt8 := dkwX5_lock_0 ++ dktX5_lock_1
theorem dksX5_lock_0 : cX5_lock.data.toList.drop 0 = dktX5_lock_0 := by decide +kernel
theorem dksX5_lock_1 : cX5_lock.data.toList.drop 22 = dktX5_lock_1 := dk_seg dksX5_lock_0 22 rfl rfl
theorem dksX5_lock_2 : cX5_lock.data.toList.drop 46 = dktX5_lock_2 := dk_seg dksX5_lock_1 24 rfl rfl
theorem dksX5_lock_3 : cX5_lock.data.toList.drop 70 = dktX5_lock_3 := dk_seg dksX5_lock_2 24 rfl rfl
theorem dksX5_lock_4 : cX5_lock.data.toList.drop 93 = dktX5_lock_4 := dk_seg dksX5_lock_3 23 rfl rfl
theorem dX5_lock_0 : decode cX5_lock 0 = .ok (.aload_n 0, 1) := dk_42 (dk_at dksX5_lock_0 0 rfl rfl)
theorem dX5_lock_1 : decode cX5_lock 1 = .ok (.iload_n 1, 1) := dk_27 (dk_at dksX5_lock_0 1 rfl rfl)
theorem dX5_lock_2 : decode cX5_lock 2 = .ok (.invokestatic 165, 3) := dk_184 0 165 (dk_at dksX5_lock_0 2 rfl rfl)
theorem dX5_lock_5 : decode cX5_lock 5 = .ok (.ifCond .eq 12, 3) := dk_153 0 12 (dk_at dksX5_lock_0 5 rfl rfl)
theorem dX5_lock_8 : decode cX5_lock 8 = .ok (.aload_n 0, 1) := dk_42 (dk_at dksX5_lock_0 8 rfl rfl)
theorem dX5_lock_9 : decode cX5_lock 9 = .ok (.iload_n 1, 1) := dk_27 (dk_at dksX5_lock_0 9 rfl rfl)
theorem dX5_lock_10 : decode cX5_lock 10 = .ok (.iload_n 2, 1) := dk_28 (dk_at dksX5_lock_0 10 rfl rfl)
theorem dX5_lock_11 : decode cX5_lock 11 = .ok (.invokevirtual 193, 3) := dk_182 0 193 (dk_at dksX5_lock_0 11 rfl rfl)
theorem dX5_lock_14 : decode cX5_lock 14 = .ok (.goto 4, 3) := dk_167 0 4 (dk_at dksX5_lock_0 14 rfl rfl)
theorem dX5_lock_17 : decode cX5_lock 17 = .ok (.iconst 1, 1) := dk_4 (dk_at dksX5_lock_0 17 rfl rfl)
theorem dX5_lock_18 : decode cX5_lock 18 = .ok (.putfield 97, 3) := dk_181 0 97 (dk_at dksX5_lock_0 18 rfl rfl)
theorem dX5_lock_21 : decode cX5_lock 21 = .ok (.aload_n 0, 1) := dk_42 (dk_at dksX5_lock_0 21 rfl rfl)
theorem dX5_lock_22 : decode cX5_lock 22 = .ok (.getfield 97, 3) := dk_180 0 97 (dk_at dksX5_lock_1 0 rfl rfl)
theorem dX5_lock_25 : decode cX5_lock 25 = .ok (.ifCond .le 5, 3) := dk_158 0 5 (dk_at dksX5_lock_1 3 rfl rfl)
theorem dX5_lock_28 : decode cX5_lock 28 = .ok (.iconst 0, 1) := dk_3 (dk_at dksX5_lock_1 6 rfl rfl)
theorem dX5_lock_29 : decode cX5_lock 29 = .ok (.ireturn, 1) := dk_172 (dk_at dksX5_lock_1 7 rfl rfl)
theorem dX5_lock_30 : decode cX5_lock 30 = .ok (.aload_n 0, 1) := dk_42 (dk_at dksX5_lock_1 8 rfl rfl)
theorem dX5_lock_31 : decode cX5_lock 31 = .ok (.bipush 36, 2) := dk_16 36 (dk_at dksX5_lock_1 9 rfl rfl)
theorem dX5_lock_33 : decode cX5_lock 33 = .ok (.iload_n 2, 1) := dk_28 (dk_at dksX5_lock_1 11 rfl rfl)
theorem dX5_lock_34 : decode cX5_lock 34 = .ok (.iadd, 1) := dk_96 (dk_at dksX5_lock_1 12 rfl rfl)
theorem dX5_lock_35 : decode cX5_lock 35 = .ok (.iload_n 1, 1) := dk_27 (dk_at dksX5_lock_1 13 rfl rfl)
theorem dX5_lock_36 : decode cX5_lock 36 = .ok (.invokevirtual 179, 3) := dk_182 0 179 (dk_at dksX5_lock_1 14 rfl rfl)
theorem dX5_lock_39 : decode cX5_lock 39 = .ok (.aload_n 0, 1) := dk_42 (dk_at dksX5_lock_1 17 rfl rfl)
theorem dX5_lock_40 : decode cX5_lock 40 = .ok (.iload_n 1, 1) := dk_27 (dk_at dksX5_lock_1 18 rfl rfl)
theorem dX5_lock_41 : decode cX5_lock 41 = .ok (.iconst 1, 1) := dk_4 (dk_at dksX5_lock_1 19 rfl rfl)
theorem dX5_lock_42 : decode cX5_lock 42 = .ok (.invokevirtual 186, 3) := dk_182 0 186 (dk_at dksX5_lock_1 20 rfl rfl)
theorem dX5_lock_45 : decode cX5_lock 45 = .ok (.iconst 0, 1) := dk_3 (dk_at dksX5_lock_1 23 rfl rfl)
theorem dX5_lock_46 : decode cX5_lock 46 = .ok (.istore_n 3, 1) := dk_62 (dk_at dksX5_lock_2 0 rfl rfl)
theorem dX5_lock_47 : decode cX5_lock 47 = .ok (.iconst 0, 1) := dk_3 (dk_at dksX5_lock_2 1 rfl rfl)
theorem dX5_lock_48 : decode cX5_lock 48 = .ok (.istore 4, 2) := dk_54 4 (dk_at dksX5_lock_2 2 rfl rfl)
theorem dX5_lock_50 : decode cX5_lock 50 = .ok (.iload 4, 2) := dk_21 4 (dk_at dksX5_lock_2 4 rfl rfl)
theorem dX5_lock_52 : decode cX5_lock 52 = .ok (.aload_n 0, 1) := dk_42 (dk_at dksX5_lock_2 6 rfl rfl)
theorem dX5_lock_53 : decode cX5_lock 53 = .ok (.getfield 119, 3) := dk_180 0 119 (dk_at dksX5_lock_2 7 rfl rfl)
theorem dX5_lock_56 : decode cX5_lock 56 = .ok (.if_icmp .ge 40, 3) := dk_162 0 40 (dk_at dksX5_lock_2 10 rfl rfl)
theorem dX5_lock_59 : decode cX5_lock 59 = .ok (.iload_n 3, 1) := dk_29 (dk_at dksX5_lock_2 13 rfl rfl)
theorem dX5_lock_60 : decode cX5_lock 60 = .ok (.aload_n 0, 1) := dk_42 (dk_at dksX5_lock_2 14 rfl rfl)
theorem dX5_lock_61 : decode cX5_lock 61 = .ok (.iload 4, 2) := dk_21 4 (dk_at dksX5_lock_2 15 rfl rfl)
theorem dX5_lock_63 : decode cX5_lock 63 = .ok (.invokevirtual 125, 3) := dk_182 0 125 (dk_at dksX5_lock_2 17 rfl rfl)
theorem dX5_lock_66 : decode cX5_lock 66 = .ok (.ifCond .eq 21, 3) := dk_153 0 21 (dk_at dksX5_lock_2 20 rfl rfl)
theorem dX5_lock_69 : decode cX5_lock 69 = .ok (.aload_n 0, 1) := dk_42 (dk_at dksX5_lock_2 23 rfl rfl)
theorem dX5_lock_70 : decode cX5_lock 70 = .ok (.getfield 67, 3) := dk_180 0 67 (dk_at dksX5_lock_3 0 rfl rfl)
theorem dX5_lock_73 : decode cX5_lock 73 = .ok (.bipush 36, 2) := dk_16 36 (dk_at dksX5_lock_3 3 rfl rfl)
theorem dX5_lock_75 : decode cX5_lock 75 = .ok (.iload 4, 2) := dk_21 4 (dk_at dksX5_lock_3 5 rfl rfl)
theorem dX5_lock_77 : decode cX5_lock 77 = .ok (.iadd, 1) := dk_96 (dk_at dksX5_lock_3 7 rfl rfl)
theorem dX5_lock_78 : decode cX5_lock 78 = .ok (.iaload, 1) := dk_46 (dk_at dksX5_lock_3 8 rfl rfl)
theorem dX5_lock_79 : decode cX5_lock 79 = .ok (.iload_n 1, 1) := dk_27 (dk_at dksX5_lock_3 9 rfl rfl)
theorem dX5_lock_80 : decode cX5_lock 80 = .ok (.if_icmp .ne 7, 3) := dk_160 0 7 (dk_at dksX5_lock_3 10 rfl rfl)
theorem dX5_lock_83 : decode cX5_lock 83 = .ok (.iconst 1, 1) := dk_4 (dk_at dksX5_lock_3 13 rfl rfl)
theorem dX5_lock_84 : decode cX5_lock 84 = .ok (.goto 4, 3) := dk_167 0 4 (dk_at dksX5_lock_3 14 rfl rfl)
theorem dX5_lock_87 : decode cX5_lock 87 = .ok (.iconst 0, 1) := dk_3 (dk_at dksX5_lock_3 17 rfl rfl)
theorem dX5_lock_88 : decode cX5_lock 88 = .ok (.iadd, 1) := dk_96 (dk_at dksX5_lock_3 18 rfl rfl)
theorem dX5_lock_89 : decode cX5_lock 89 = .ok (.istore_n 3, 1) := dk_62 (dk_at dksX5_lock_3 19 rfl rfl)
theorem dX5_lock_90 : decode cX5_lock 90 = .ok (.iinc 4 1, 3) := dk_132 4 1 (dk_at dksX5_lock_3 20 rfl rfl)
theorem dX5_lock_93 : decode cX5_lock 93 = .ok (.goto (-43), 3) := dk_167 255 213 (dk_at dksX5_lock_4 0 rfl rfl)
theorem dX5_lock_96 : decode cX5_lock 96 = .ok (.iload_n 3, 1) := dk_29 (dk_at dksX5_lock_4 3 rfl rfl)
theorem dX5_lock_97 : decode cX5_lock 97 = .ok (.ireturn, 1) := dk_172 (dk_at dksX5_lock_4 4 rfl rfl)
abbrev rm_X5_lock : Room := { frames := 4, cells := 0, slots := 0, locals := 90 }
def w_X5_lock_50 (P : Int32 → AH → Prop) (x0 : Option Nat) (x1 : Int32) (x3 : Int32) (x4 : Int32) (h : AH) : Prop :=
  ∀ Z50 : Int32 → Int32 → AH → Prop, (∀ x3 x4 h, (
      g_i h x0 4 8 fun y53 =>
      ((y53 ≤ x4 →
        P x3 h) ∧
       (¬ y53 ≤ x4 →
        is_c h x0 [4] (
        w_X5_isSeen x0 x4 h (fun y63 h63 =>
        ((y63 = 0 →
          Z50 (x3 + 0) (x4 + 1) h63) ∧
         (¬ y63 = 0 →
          g_q h63 x0 4 21 fun y70 =>
          l_i h63 y70 0 (36 + x4) fun y78 =>
          ((y78 = x1 →
            Z50 (x3 + 1) (x4 + 1) h63) ∧
           (¬ y78 = x1 →
            Z50 (x3 + 0) (x4 + 1) h63)))))))))
      → Z50 x3 x4 h) → Z50 x3 x4 h
def w_X5_lock_18 (P : Int32 → AH → Prop) (x0 : Option Nat) (x1 : Int32) (x2 : Int32) (t0 : Int32) (t1 : Option Nat) (h : AH) : Prop :=
  p_v h t1 4 0 (vI t0) fun h18 =>
  g_i h18 x0 4 0 fun y22 =>
  ((y22 ≤ 0 →
    is_c h18 x0 [4] (
    w_X5_plans x0 (36 + x2) x1 h18 (fun h36 =>
    is_c h36 x0 [4] (
    w_X5_makes x0 x1 1 h36 (fun h42 =>
    w_X5_lock_50 P x0 x1 0 0 h42))))) ∧
   (¬ y22 ≤ 0 →
    P 0 h18))
def w_X5_lock (a0 : Option Nat) (a1 : Int32) (a2 : Int32) (h : AH) (P : Int32 → AH → Prop) : Prop :=
  w_X5_isUser a1 h (fun y2 h2 =>
  ((y2 = 0 →
    w_X5_lock_18 P a0 a1 a2 1 a0 h2) ∧
   (¬ y2 = 0 →
    is_c h2 a0 [4] (
    w_X5_bar a0 a1 a2 h2 (fun y11 h11 =>
    w_X5_lock_18 P a0 a1 a2 y11 a0 h11)))))
theorem wk_X5_lock_50 {x : CX} (X : Ok x cX5_lock RX5 rm_X5_lock 5) (er : xrt x = (Option.some Jvm.ClassFile.FieldType.int)) (en : xnm x = yX5_lock.name) {P : Int32 → AH → Prop} (hQ : xr_i x P) (x0 : Option Nat) (x1 : Int32) (x3 : Int32) (x4 : Int32) (h : AH) (hw : w_X5_lock_50 P x0 x1 x3 x4 h) : J x h 0 0 50 [(0, vR x0), (1, vI x1), (3, vI x3), (4, vI x4)] [] := by
  refine hw (fun x3 x4 h => J x h 0 0 50 [(0, vR x0), (1, vI x1), (3, vI x3), (4, vI x4)] []) (fun x3 x4 h hw => ?_)
  refine j_iload X (pc := 50) 3 dX5_lock_50 rfl ?_
  refine j_aload_n X (pc := 52) 0 dX5_lock_52 rfl rfl ?_
  refine j_geti (ci := 4) X (pc := 53) in_X5 rfl (by decide) 8 (by decide) q1880 (Or.inl rfl) dX5_lock_53 hw (fun y53 hw => ?_)
  refine j_icmp_ge X (pc := 56) 96 dX5_lock_56 (by decide) hw (fun hw => ?_) (fun hw => ?_)
  · refine j_iload_n X (pc := 96) 2 dX5_lock_96 rfl rfl ?_
    exact j_iret X (pc := 97) hQ er (Nat.le_of_ble_eq_true rfl) (Nat.le_of_ble_eq_true rfl) dX5_lock_97 hw
  · refine j_iload_n X (pc := 59) 2 dX5_lock_59 rfl rfl ?_
    refine j_aload_n X (pc := 60) 0 dX5_lock_60 rfl rfl ?_
    refine j_iload X (pc := 61) 3 dX5_lock_61 rfl ?_
    obtain ⟨b9, c9, f9, hr9, ho9, hc9, hw⟩ := hw
    obtain rfl := List.mem_singleton.mp hc9
    refine j_calli (j_runV (n8 := 1) (As := [vI x4]) (rest := [vI x3]) X (pc := 63) hr9 (met_X5_isSeen (xl x) X.hl (xG x) h x0 x4 _ hw) ho9 (by decide) rfl q2012 q2014 qs39 q78 q2015 (by decide +kernel) dX5_lock_63 rfl ⟨Nat.le_of_ble_eq_true rfl, Nat.le_of_ble_eq_true rfl⟩ (Nat.le_of_ble_eq_true rfl) ⟨Nat.le_of_ble_eq_true rfl, Nat.le_of_ble_eq_true rfl⟩) (fun y63 h63 hw => ?_)
    refine j_if_eq X (pc := 66) 87 dX5_lock_66 (by decide) hw (fun hw => ?_) (fun hw => ?_)
    · refine j_iconst X (pc := 87) 0 dX5_lock_87 (by decide) ?_
      refine j_iadd X (pc := 88) dX5_lock_88 ?_
      refine j_istore_n X (pc := 89) [(3, vI (x3 + 0)), (0, vR x0), (1, vI x1), (4, vI x4)] dX5_lock_89 rfl (Nat.le_of_ble_eq_true rfl) rfl ?_
      refine j_iinc X (pc := 90) 3 (x4 + 1) [(4, vI (x4 + 1)), (3, vI (x3 + 0)), (0, vR x0), (1, vI x1)] dX5_lock_90 rfl rfl (Nat.le_of_ble_eq_true rfl) rfl ?_
      refine j_goto X (pc := 93) 50 dX5_lock_93 (by decide) ?_
      refine j_lv [(0, vR x0), (1, vI x1), (3, vI (x3 + 0)), (4, vI (x4 + 1))] [2, 3, 1, 0] rfl ?_
      refine j_cs (u' := 0) (v' := 0) (Nat.le_of_ble_eq_true rfl) (Nat.le_of_ble_eq_true rfl) ?_
      exact hw
    · refine j_aload_n X (pc := 69) 0 dX5_lock_69 rfl rfl ?_
      refine j_getq (ci := 4) X (pc := 70) in_X5 rfl (by decide) 21 (by decide) q1893 (Or.inl rfl) dX5_lock_70 hw (fun y70 hw => ?_)
      refine j_bipush X (pc := 73) 36 dX5_lock_73 (by decide) ?_
      refine j_iload X (pc := 75) 3 dX5_lock_75 rfl ?_
      refine j_iadd X (pc := 77) dX5_lock_77 ?_
      refine j_iald X (pc := 78) 0 rfl dX5_lock_78 hw (fun y78 hw => ?_)
      refine j_iload_n X (pc := 79) 1 dX5_lock_79 rfl rfl ?_
      refine j_icmp_ne X (pc := 80) 87 dX5_lock_80 (by decide) hw (fun hw => ?_) (fun hw => ?_)
      · refine j_iconst X (pc := 83) 1 dX5_lock_83 (by decide) ?_
        refine j_goto X (pc := 84) 88 dX5_lock_84 (by decide) ?_
        refine j_iadd X (pc := 88) dX5_lock_88 ?_
        refine j_istore_n X (pc := 89) [(3, vI (x3 + 1)), (0, vR x0), (1, vI x1), (4, vI x4)] dX5_lock_89 rfl (Nat.le_of_ble_eq_true rfl) rfl ?_
        refine j_iinc X (pc := 90) 3 (x4 + 1) [(4, vI (x4 + 1)), (3, vI (x3 + 1)), (0, vR x0), (1, vI x1)] dX5_lock_90 rfl rfl (Nat.le_of_ble_eq_true rfl) rfl ?_
        refine j_goto X (pc := 93) 50 dX5_lock_93 (by decide) ?_
        refine j_lv [(0, vR x0), (1, vI x1), (3, vI (x3 + 1)), (4, vI (x4 + 1))] [2, 3, 1, 0] rfl ?_
        refine j_cs (u' := 0) (v' := 0) (Nat.le_of_ble_eq_true rfl) (Nat.le_of_ble_eq_true rfl) ?_
        exact hw
      · refine j_iconst X (pc := 87) 0 dX5_lock_87 (by decide) ?_
        refine j_iadd X (pc := 88) dX5_lock_88 ?_
        refine j_istore_n X (pc := 89) [(3, vI (x3 + 0)), (0, vR x0), (1, vI x1), (4, vI x4)] dX5_lock_89 rfl (Nat.le_of_ble_eq_true rfl) rfl ?_
        refine j_iinc X (pc := 90) 3 (x4 + 1) [(4, vI (x4 + 1)), (3, vI (x3 + 0)), (0, vR x0), (1, vI x1)] dX5_lock_90 rfl rfl (Nat.le_of_ble_eq_true rfl) rfl ?_
        refine j_goto X (pc := 93) 50 dX5_lock_93 (by decide) ?_
        refine j_lv [(0, vR x0), (1, vI x1), (3, vI (x3 + 0)), (4, vI (x4 + 1))] [2, 3, 1, 0] rfl ?_
        refine j_cs (u' := 0) (v' := 0) (Nat.le_of_ble_eq_true rfl) (Nat.le_of_ble_eq_true rfl) ?_
        exact hw
theorem wk_X5_lock_18 {x : CX} (X : Ok x cX5_lock RX5 rm_X5_lock 5) (er : xrt x = (Option.some Jvm.ClassFile.FieldType.int)) (en : xnm x = yX5_lock.name) {P : Int32 → AH → Prop} (hQ : xr_i x P) (x0 : Option Nat) (x1 : Int32) (x2 : Int32) (t0 : Int32) (t1 : Option Nat) (h : AH) (hw : w_X5_lock_18 P x0 x1 x2 t0 t1 h) : J x h 0 0 18 [(0, vR x0), (1, vI x1), (2, vI x2)] [vI t0, vR t1] := by
  refine j_put (ci := 4) X (pc := 18) in_X5 rfl (by decide) 0 (by decide) q1872 (Or.inl rfl) tyX5 tyX5_ok nmX5 rfl rfl (ty := .int) (tyX5_ok 0 (by decide)) rfl rfl dX5_lock_18 hw (fun h18 hw => ?_)
  refine j_aload_n X (pc := 21) 0 dX5_lock_21 rfl rfl ?_
  refine j_geti (ci := 4) X (pc := 22) in_X5 rfl (by decide) 0 (by decide) q1872 (Or.inl rfl) dX5_lock_22 hw (fun y22 hw => ?_)
  refine j_if_le X (pc := 25) 30 dX5_lock_25 (by decide) hw (fun hw => ?_) (fun hw => ?_)
  · refine j_aload_n X (pc := 30) 0 dX5_lock_30 rfl rfl ?_
    refine j_bipush X (pc := 31) 36 dX5_lock_31 (by decide) ?_
    refine j_iload_n X (pc := 33) 2 dX5_lock_33 rfl rfl ?_
    refine j_iadd X (pc := 34) dX5_lock_34 ?_
    refine j_iload_n X (pc := 35) 1 dX5_lock_35 rfl rfl ?_
    obtain ⟨b9, c9, f9, hr9, ho9, hc9, hw⟩ := hw
    obtain rfl := List.mem_singleton.mp hc9
    refine j_callv (j_runV (n8 := 2) (As := [vI (36 + x2), vI x1]) (rest := []) X (pc := 36) hr9 (met_X5_plans (xl x) X.hl (xG x) h18 x0 (36 + x2) x1 _ hw) ho9 (by decide) rfl q2021 q2023 qs41 q78 q2024 (by decide +kernel) dX5_lock_36 rfl ⟨Nat.le_of_ble_eq_true rfl, Nat.le_of_ble_eq_true rfl⟩ (Nat.le_of_ble_eq_true rfl) ⟨Nat.le_of_ble_eq_true rfl, Nat.le_of_ble_eq_true rfl⟩) (fun h36 hw => ?_)
    refine j_aload_n X (pc := 39) 0 dX5_lock_39 rfl rfl ?_
    refine j_iload_n X (pc := 40) 1 dX5_lock_40 rfl rfl ?_
    refine j_iconst X (pc := 41) 1 dX5_lock_41 (by decide) ?_
    obtain ⟨b9, c9, f9, hr9, ho9, hc9, hw⟩ := hw
    obtain rfl := List.mem_singleton.mp hc9
    refine j_callv (j_runV (n8 := 2) (As := [vI x1, vI 1]) (rest := []) X (pc := 42) hr9 (met_X5_makes (xl x) X.hl (xG x) h36 x0 x1 1 _ hw) ho9 (by decide) rfl q2030 q2032 qs43 q78 q2033 (by decide +kernel) dX5_lock_42 rfl ⟨Nat.le_of_ble_eq_true rfl, Nat.le_of_ble_eq_true rfl⟩ (Nat.le_of_ble_eq_true rfl) ⟨Nat.le_of_ble_eq_true rfl, Nat.le_of_ble_eq_true rfl⟩) (fun h42 hw => ?_)
    refine j_iconst X (pc := 45) 0 dX5_lock_45 (by decide) ?_
    refine j_istore_n X (pc := 46) [(3, vI 0), (0, vR x0), (1, vI x1), (2, vI x2)] dX5_lock_46 rfl (Nat.le_of_ble_eq_true rfl) rfl ?_
    refine j_iconst X (pc := 47) 0 dX5_lock_47 (by decide) ?_
    refine j_istore X (pc := 48) [(4, vI 0), (3, vI 0), (0, vR x0), (1, vI x1), (2, vI x2)] dX5_lock_48 (Nat.le_of_ble_eq_true rfl) rfl ?_
    refine j_lv [(0, vR x0), (1, vI x1), (3, vI 0), (4, vI 0)] [2, 3, 1, 0] rfl ?_
    refine j_cs (u' := 0) (v' := 0) (Nat.le_of_ble_eq_true rfl) (Nat.le_of_ble_eq_true rfl) ?_
    exact wk_X5_lock_50 X er en hQ x0 x1 0 0 h42 hw
  · refine j_iconst X (pc := 28) 0 dX5_lock_28 (by decide) ?_
    exact j_iret X (pc := 29) hQ er (Nat.le_of_ble_eq_true rfl) (Nat.le_of_ble_eq_true rfl) dX5_lock_29 hw
theorem met_X5_lock (l : Launch) (hlt : l.stackTraces = false) (G : GG) (h : AH) (a0 : Option Nat) (a1 : Int32) (a2 : Int32) (P : Int32 → AH → Prop) (hw : w_X5_lock a0 a1 a2 h P) : ct_i l yX5_lock (ws_ yX5_lock cX5_lock 5 (Option.some Jvm.ClassFile.FieldType.int)) rm_X5_lock G h [vR a0, vI a1, vI a2] P := by
  refine j_starti hlt [(0, vR a0), (1, vI a1), (2, vI a2)] (plainFor_of_name (by decide)) rfl rfl (fun x X eG er en hQ => ?_)
  subst eG
  refine j_aload_n X (pc := 0) 0 dX5_lock_0 rfl rfl ?_
  refine j_iload_n X (pc := 1) 1 dX5_lock_1 rfl rfl ?_
  refine j_calli (j_runS (n8 := 1) (As := [vI a1]) (rest := [vR a0]) X (pc := 2) (met_X5_isUser (xl x) X.hl (xG x) h a1 _ hw) q1978 q1979 q78 q1980 (by decide +kernel) dX5_lock_2 rfl ⟨Nat.le_of_ble_eq_true rfl, Nat.le_of_ble_eq_true rfl⟩ (Nat.le_of_ble_eq_true rfl) ⟨Nat.le_of_ble_eq_true rfl, Nat.le_of_ble_eq_true rfl⟩) (fun y2 h2 hw => ?_)
  refine j_if_eq X (pc := 5) 17 dX5_lock_5 (by decide) hw (fun hw => ?_) (fun hw => ?_)
  · refine j_iconst X (pc := 17) 1 dX5_lock_17 (by decide) ?_
    refine j_cs (u' := 0) (v' := 0) (Nat.le_of_ble_eq_true rfl) (Nat.le_of_ble_eq_true rfl) ?_
    exact wk_X5_lock_18 X er en hQ a0 a1 a2 1 a0 h2 hw
  · refine j_aload_n X (pc := 8) 0 dX5_lock_8 rfl rfl ?_
    refine j_iload_n X (pc := 9) 1 dX5_lock_9 rfl rfl ?_
    refine j_iload_n X (pc := 10) 2 dX5_lock_10 rfl rfl ?_
    obtain ⟨b9, c9, f9, hr9, ho9, hc9, hw⟩ := hw
    obtain rfl := List.mem_singleton.mp hc9
    refine j_calli (j_runV (n8 := 2) (As := [vI a1, vI a2]) (rest := [vR a0]) X (pc := 11) hr9 (met_X5_bar (xl x) X.hl (xG x) h2 a0 a1 a2 _ hw) ho9 (by decide) rfl q2039 q2041 qs44 q78 q2042 (by decide +kernel) dX5_lock_11 rfl ⟨Nat.le_of_ble_eq_true rfl, Nat.le_of_ble_eq_true rfl⟩ (Nat.le_of_ble_eq_true rfl) ⟨Nat.le_of_ble_eq_true rfl, Nat.le_of_ble_eq_true rfl⟩) (fun y11 h11 hw => ?_)
    refine j_goto X (pc := 14) 18 dX5_lock_14 (by decide) ?_
    refine j_cs (u' := 0) (v' := 0) (Nat.le_of_ble_eq_true rfl) (Nat.le_of_ble_eq_true rfl) ?_
    exact wk_X5_lock_18 X er en hQ a0 a1 a2 y11 a0 h11 hw
abbrev cX1_unlock : ByteArray := prog_1_method_27_code
def yX1_unlock : MethodName := ⟨RX1, "unlock", "(II)I"⟩
def dkwX1_unlock_2 : List UInt8 := [172]
abbrev dktX1_unlock_2 : List UInt8 := dkwX1_unlock_2 ++ []
def dkwX1_unlock_1 : List UInt8 := [4, 167, 0, 4, 3, 184, 0, 232, 42, 182, 0, 207, 42, 45, 16, 36, 28, 96, 3, 182, 1, 11, 21, 4]
abbrev dktX1_unlock_1 : List UInt8 := dkwX1_unlock_1 ++ dktX1_unlock_2
def dkwX1_unlock_0 : List UInt8 := [42, 27, 182, 0, 199, 78, 45, 42, 45, 28, 182, 0, 241, 182, 1, 26, 54, 4, 21, 4, 2, 159, 0, 7]
abbrev dktX1_unlock_0 : List UInt8 := dkwX1_unlock_0 ++ dktX1_unlock_1
theorem dksX1_unlock_0 : cX1_unlock.data.toList.drop 0 = dktX1_unlock_0 := by decide +kernel
theorem dksX1_unlock_1 : cX1_unlock.data.toList.drop 24 = dktX1_unlock_1 := dk_seg dksX1_unlock_0 24 rfl rfl
theorem dksX1_unlock_2 : cX1_unlock.data.toList.drop 48 = dktX1_unlock_2 := dk_seg dksX1_unlock_1 24 rfl rfl
theorem dX1_unlock_0 : decode cX1_unlock 0 = .ok (.aload_n 0, 1) := dk_42 (dk_at dksX1_unlock_0 0 rfl rfl)
theorem dX1_unlock_1 : decode cX1_unlock 1 = .ok (.iload_n 1, 1) := dk_27 (dk_at dksX1_unlock_0 1 rfl rfl)
theorem dX1_unlock_2 : decode cX1_unlock 2 = .ok (.invokevirtual 199, 3) := dk_182 0 199 (dk_at dksX1_unlock_0 2 rfl rfl)
theorem dX1_unlock_5 : decode cX1_unlock 5 = .ok (.astore_n 3, 1) := dk_78 (dk_at dksX1_unlock_0 5 rfl rfl)
theorem dX1_unlock_6 : decode cX1_unlock 6 = .ok (.aload_n 3, 1) := dk_45 (dk_at dksX1_unlock_0 6 rfl rfl)
theorem dX1_unlock_7 : decode cX1_unlock 7 = .ok (.aload_n 0, 1) := dk_42 (dk_at dksX1_unlock_0 7 rfl rfl)
theorem dX1_unlock_8 : decode cX1_unlock 8 = .ok (.aload_n 3, 1) := dk_45 (dk_at dksX1_unlock_0 8 rfl rfl)
theorem dX1_unlock_9 : decode cX1_unlock 9 = .ok (.iload_n 2, 1) := dk_28 (dk_at dksX1_unlock_0 9 rfl rfl)
theorem dX1_unlock_10 : decode cX1_unlock 10 = .ok (.invokevirtual 241, 3) := dk_182 0 241 (dk_at dksX1_unlock_0 10 rfl rfl)
theorem dX1_unlock_13 : decode cX1_unlock 13 = .ok (.invokevirtual 282, 3) := dk_182 1 26 (dk_at dksX1_unlock_0 13 rfl rfl)
theorem dX1_unlock_16 : decode cX1_unlock 16 = .ok (.istore 4, 2) := dk_54 4 (dk_at dksX1_unlock_0 16 rfl rfl)
theorem dX1_unlock_18 : decode cX1_unlock 18 = .ok (.iload 4, 2) := dk_21 4 (dk_at dksX1_unlock_0 18 rfl rfl)
theorem dX1_unlock_20 : decode cX1_unlock 20 = .ok (.iconst (-1), 1) := dk_2 (dk_at dksX1_unlock_0 20 rfl rfl)
theorem dX1_unlock_21 : decode cX1_unlock 21 = .ok (.if_icmp .eq 7, 3) := dk_159 0 7 (dk_at dksX1_unlock_0 21 rfl rfl)
theorem dX1_unlock_24 : decode cX1_unlock 24 = .ok (.iconst 1, 1) := dk_4 (dk_at dksX1_unlock_1 0 rfl rfl)
theorem dX1_unlock_25 : decode cX1_unlock 25 = .ok (.goto 4, 3) := dk_167 0 4 (dk_at dksX1_unlock_1 1 rfl rfl)
theorem dX1_unlock_28 : decode cX1_unlock 28 = .ok (.iconst 0, 1) := dk_3 (dk_at dksX1_unlock_1 4 rfl rfl)
theorem dX1_unlock_29 : decode cX1_unlock 29 = .ok (.invokestatic 232, 3) := dk_184 0 232 (dk_at dksX1_unlock_1 5 rfl rfl)
theorem dX1_unlock_32 : decode cX1_unlock 32 = .ok (.aload_n 0, 1) := dk_42 (dk_at dksX1_unlock_1 8 rfl rfl)
theorem dX1_unlock_33 : decode cX1_unlock 33 = .ok (.invokevirtual 207, 3) := dk_182 0 207 (dk_at dksX1_unlock_1 9 rfl rfl)
theorem dX1_unlock_36 : decode cX1_unlock 36 = .ok (.aload_n 0, 1) := dk_42 (dk_at dksX1_unlock_1 12 rfl rfl)
theorem dX1_unlock_37 : decode cX1_unlock 37 = .ok (.aload_n 3, 1) := dk_45 (dk_at dksX1_unlock_1 13 rfl rfl)
theorem dX1_unlock_38 : decode cX1_unlock 38 = .ok (.bipush 36, 2) := dk_16 36 (dk_at dksX1_unlock_1 14 rfl rfl)
theorem dX1_unlock_40 : decode cX1_unlock 40 = .ok (.iload_n 2, 1) := dk_28 (dk_at dksX1_unlock_1 16 rfl rfl)
theorem dX1_unlock_41 : decode cX1_unlock 41 = .ok (.iadd, 1) := dk_96 (dk_at dksX1_unlock_1 17 rfl rfl)
theorem dX1_unlock_42 : decode cX1_unlock 42 = .ok (.iconst 0, 1) := dk_3 (dk_at dksX1_unlock_1 18 rfl rfl)
theorem dX1_unlock_43 : decode cX1_unlock 43 = .ok (.invokevirtual 267, 3) := dk_182 1 11 (dk_at dksX1_unlock_1 19 rfl rfl)
theorem dX1_unlock_46 : decode cX1_unlock 46 = .ok (.iload 4, 2) := dk_21 4 (dk_at dksX1_unlock_1 22 rfl rfl)
theorem dX1_unlock_48 : decode cX1_unlock 48 = .ok (.ireturn, 1) := dk_172 (dk_at dksX1_unlock_2 0 rfl rfl)
abbrev rm_X1_unlock : Room := { frames := 11, cells := 15, slots := 218, locals := 270 }
def w_X1_unlock_29 (P : Int32 → AH → Prop) (PX : String → AH → Prop) (x0 : Option Nat) (x2 : Int32) (x3 : Option Nat) (x4 : Int32) (t0 : Int32) (h : AH) : Prop :=
  w_X1_requireSupported t0 h (fun h29 =>
  is_c h29 x0 [0] (
  w_X1_requireRoom x0 h29 (fun h33 =>
  is_c h33 x0 [0] (
  w_X1_write x0 x3 (36 + x2) 0 h33 (fun h43 =>
  P x4 h43))) PX)) PX
def w_X1_unlock (a0 : Option Nat) (a1 : Int32) (a2 : Int32) (h : AH) (P : Int32 → AH → Prop) (PX : String → AH → Prop) : Prop :=
  is_c h a0 [0] (
  w_X1_board a0 a1 h (fun y2 h2 =>
  is_c h2 a0 [0] (
  w_X1_shape a0 y2 a2 h2 (fun y10 h10 =>
  is_c h10 y2 [2] (
  w_X3_lockerOf y2 y10 h10 (fun y13 h13 =>
  ((y13 = (-1) →
    w_X1_unlock_29 P PX a0 a2 y2 y13 0 h13) ∧
   (¬ y13 = (-1) →
    w_X1_unlock_29 P PX a0 a2 y2 y13 1 h13))))) PX)) PX)
theorem wk_X1_unlock_29 {x : CX} (X : Ok x cX1_unlock RX1 rm_X1_unlock 5) (er : xrt x = (Option.some Jvm.ClassFile.FieldType.int)) (en : xnm x = yX1_unlock.name) {P : Int32 → AH → Prop} {PX : String → AH → Prop} (hQ : xr_i x P) (hT : xt_ x PX) (hex : ∀ z ∈ x.2.2.2.2.2.2.2.2.2.1.exceptionTable.toList, False) (x0 : Option Nat) (x2 : Int32) (x3 : Option Nat) (x4 : Int32) (t0 : Int32) (h : AH) (hw : w_X1_unlock_29 P PX x0 x2 x3 x4 t0 h) : J x h 3 13 29 [(0, vR x0), (2, vI x2), (3, vR x3), (4, vI x4)] [vI t0] := by
  refine j_callXv (j_runSX (n8 := 1) (As := [vI t0]) (rest := []) X (pc := 29) (met_X1_requireSupported (xl x) X.hl (xG x) h t0 _ _ hw) q1097 q1098 q71 q1099 (by decide +kernel) dX1_unlock_29 rfl ⟨Nat.le_of_ble_eq_true rfl, Nat.le_of_ble_eq_true rfl⟩ (Nat.le_of_ble_eq_true rfl) ⟨Nat.le_of_ble_eq_true rfl, Nat.le_of_ble_eq_true rfl⟩) (fun E h9 hx => j_out X hT hex (Nat.le_of_ble_eq_true rfl) (Nat.le_of_ble_eq_true rfl) hx) (fun h29 hw => ?_)
  refine j_aload_n X (pc := 32) 0 dX1_unlock_32 rfl rfl ?_
  obtain ⟨b9, c9, f9, hr9, ho9, hc9, hw⟩ := hw
  obtain rfl := List.mem_singleton.mp hc9
  refine j_callXv (j_runVX (n8 := 0) (As := []) (rest := []) X (pc := 33) hr9 (met_X1_requireRoom (xl x) X.hl (xG x) h29 x0 _ _ hw) ho9 (by decide) rfl q400 q402 qs2 q71 q403 (by decide +kernel) dX1_unlock_33 rfl ⟨Nat.le_of_ble_eq_true rfl, Nat.le_of_ble_eq_true rfl⟩ (Nat.le_of_ble_eq_true rfl) ⟨Nat.le_of_ble_eq_true rfl, Nat.le_of_ble_eq_true rfl⟩) (fun E h9 hx => j_out X hT hex (Nat.le_of_ble_eq_true rfl) (Nat.le_of_ble_eq_true rfl) hx) (fun h33 hw => ?_)
  refine j_aload_n X (pc := 36) 0 dX1_unlock_36 rfl rfl ?_
  refine j_aload_n X (pc := 37) 2 dX1_unlock_37 rfl rfl ?_
  refine j_bipush X (pc := 38) 36 dX1_unlock_38 (by decide) ?_
  refine j_iload_n X (pc := 40) 1 dX1_unlock_40 rfl rfl ?_
  refine j_iadd X (pc := 41) dX1_unlock_41 ?_
  refine j_iconst X (pc := 42) 0 dX1_unlock_42 (by decide) ?_
  obtain ⟨b9, c9, f9, hr9, ho9, hc9, hw⟩ := hw
  obtain rfl := List.mem_singleton.mp hc9
  refine j_callv (j_runV (n8 := 3) (As := [vR x3, vI (36 + x2), vI 0]) (rest := []) X (pc := 43) hr9 (met_X1_write (xl x) X.hl (xG x) h33 x0 x3 (36 + x2) 0 _ hw) ho9 (by decide) rfl q1189 q1191 qs12 q71 q1192 (by decide +kernel) dX1_unlock_43 rfl ⟨Nat.le_of_ble_eq_true rfl, Nat.le_of_ble_eq_true rfl⟩ (Nat.le_of_ble_eq_true rfl) ⟨Nat.le_of_ble_eq_true rfl, Nat.le_of_ble_eq_true rfl⟩) (fun h43 hw => ?_)
  refine j_iload X (pc := 46) 3 dX1_unlock_46 rfl ?_
  exact j_iret X (pc := 48) hQ er (Nat.le_of_ble_eq_true rfl) (Nat.le_of_ble_eq_true rfl) dX1_unlock_48 hw
theorem met_X1_unlock (l : Launch) (hlt : l.stackTraces = false) (G : GG) (h : AH) (a0 : Option Nat) (a1 : Int32) (a2 : Int32) (P : Int32 → AH → Prop) (PX : String → AH → Prop) (hw : w_X1_unlock a0 a1 a2 h P PX) : cx_i l yX1_unlock (ws_ yX1_unlock cX1_unlock 5 (Option.some Jvm.ClassFile.FieldType.int)) rm_X1_unlock G h [vR a0, vI a1, vI a2] P PX := by
  refine j_startXi hlt [(0, vR a0), (1, vI a1), (2, vI a2)] (by decide) rfl rfl (fun x X eG er en hQ hT hex => ?_)
  subst eG
  refine j_aload_n X (pc := 0) 0 dX1_unlock_0 rfl rfl ?_
  refine j_iload_n X (pc := 1) 1 dX1_unlock_1 rfl rfl ?_
  obtain ⟨b9, c9, f9, hr9, ho9, hc9, hw⟩ := hw
  obtain rfl := List.mem_singleton.mp hc9
  refine j_callXq (j_runVX (n8 := 1) (As := [vI a1]) (rest := []) X (pc := 2) hr9 (met_X1_board (xl x) X.hl (xG x) h a0 a1 _ _ hw) ho9 (by decide) rfl q297 q299 qs0 q71 q300 (by decide +kernel) dX1_unlock_2 rfl ⟨Nat.le_of_ble_eq_true rfl, Nat.le_of_ble_eq_true rfl⟩ (Nat.le_of_ble_eq_true rfl) ⟨Nat.le_of_ble_eq_true rfl, Nat.le_of_ble_eq_true rfl⟩) (fun E h9 hx => j_out X hT hex (Nat.le_of_ble_eq_true rfl) (Nat.le_of_ble_eq_true rfl) hx) (fun y2 h2 hw => ?_)
  refine j_astore_n X (pc := 5) [(3, vR y2), (0, vR a0), (1, vI a1), (2, vI a2)] dX1_unlock_5 rfl (Nat.le_of_ble_eq_true rfl) rfl ?_
  refine j_aload_n X (pc := 6) 0 dX1_unlock_6 rfl rfl ?_
  refine j_aload_n X (pc := 7) 1 dX1_unlock_7 rfl rfl ?_
  refine j_aload_n X (pc := 8) 0 dX1_unlock_8 rfl rfl ?_
  refine j_iload_n X (pc := 9) 3 dX1_unlock_9 rfl rfl ?_
  obtain ⟨b9, c9, f9, hr9, ho9, hc9, hw⟩ := hw
  obtain rfl := List.mem_singleton.mp hc9
  refine j_callXq (j_runVX (n8 := 2) (As := [vR y2, vI a2]) (rest := [vR y2]) X (pc := 10) hr9 (met_X1_shape (xl x) X.hl (xG x) h2 a0 y2 a2 _ _ hw) ho9 (by decide) rfl q1075 q1077 qs9 q71 q1078 (by decide +kernel) dX1_unlock_10 rfl ⟨Nat.le_of_ble_eq_true rfl, Nat.le_of_ble_eq_true rfl⟩ (Nat.le_of_ble_eq_true rfl) ⟨Nat.le_of_ble_eq_true rfl, Nat.le_of_ble_eq_true rfl⟩) (fun E h9 hx => j_out X hT hex (Nat.le_of_ble_eq_true rfl) (Nat.le_of_ble_eq_true rfl) hx) (fun y10 h10 hw => ?_)
  obtain ⟨b9, c9, f9, hr9, ho9, hc9, hw⟩ := hw
  obtain rfl := List.mem_singleton.mp hc9
  refine j_calli (j_runV (n8 := 1) (As := [vR y10]) (rest := []) X (pc := 13) hr9 (met_X3_lockerOf (xl x) X.hl (xG x) h10 y2 y10 _ hw) ho9 (by decide) rfl q1236 q1094 q1095 q76 q1096 (by decide +kernel) dX1_unlock_13 rfl ⟨Nat.le_of_ble_eq_true rfl, Nat.le_of_ble_eq_true rfl⟩ (Nat.le_of_ble_eq_true rfl) ⟨Nat.le_of_ble_eq_true rfl, Nat.le_of_ble_eq_true rfl⟩) (fun y13 h13 hw => ?_)
  refine j_istore X (pc := 16) [(4, vI y13), (3, vR y2), (0, vR a0), (1, vI a1), (2, vI a2)] dX1_unlock_16 (Nat.le_of_ble_eq_true rfl) rfl ?_
  refine j_iload X (pc := 18) 0 dX1_unlock_18 rfl ?_
  refine j_iconst X (pc := 20) (-1) dX1_unlock_20 (by decide) ?_
  refine j_icmp_eq X (pc := 21) 28 dX1_unlock_21 (by decide) hw (fun hw => ?_) (fun hw => ?_)
  · refine j_iconst X (pc := 28) 0 dX1_unlock_28 (by decide) ?_
    refine j_lv [(0, vR a0), (2, vI a2), (3, vR y2), (4, vI y13)] [2, 4, 1, 0] rfl ?_
    refine j_cs (u' := 3) (v' := 13) (Nat.le_of_ble_eq_true rfl) (Nat.le_of_ble_eq_true rfl) ?_
    exact wk_X1_unlock_29 X er en hQ hT hex a0 a2 y2 y13 0 h13 hw
  · refine j_iconst X (pc := 24) 1 dX1_unlock_24 (by decide) ?_
    refine j_goto X (pc := 25) 29 dX1_unlock_25 (by decide) ?_
    refine j_lv [(0, vR a0), (2, vI a2), (3, vR y2), (4, vI y13)] [2, 4, 1, 0] rfl ?_
    refine j_cs (u' := 3) (v' := 13) (Nat.le_of_ble_eq_true rfl) (Nat.le_of_ble_eq_true rfl) ?_
    exact wk_X1_unlock_29 X er en hQ hT hex a0 a2 y2 y13 1 h13 hw
abbrev cX0_unlock : ByteArray := method_10_code
def yX0_unlock : MethodName := ⟨RX0, "unlock", "(LPlugboard;II[J)I"⟩
def dkwX0_unlock_1 : List UInt8 := [172, 58, 4, 7, 172, 3, 172]
abbrev dktX0_unlock_1 : List UInt8 := dkwX0_unlock_1 ++ []
def dkwX0_unlock_0 : List UInt8 := [45, 3, 42, 27, 28, 182, 0, 42, 133, 80, 167, 0, 19, 58, 4, 4, 172, 58, 4, 5, 172, 58, 4, 6]
abbrev dktX0_unlock_0 : List UInt8 := dkwX0_unlock_0 ++ dktX0_unlock_1
theorem dksX0_unlock_0 : cX0_unlock.data.toList.drop 0 = dktX0_unlock_0 := by decide +kernel
theorem dksX0_unlock_1 : cX0_unlock.data.toList.drop 24 = dktX0_unlock_1 := dk_seg dksX0_unlock_0 24 rfl rfl
theorem dX0_unlock_0 : decode cX0_unlock 0 = .ok (.aload_n 3, 1) := dk_45 (dk_at dksX0_unlock_0 0 rfl rfl)
theorem dX0_unlock_1 : decode cX0_unlock 1 = .ok (.iconst 0, 1) := dk_3 (dk_at dksX0_unlock_0 1 rfl rfl)
theorem dX0_unlock_2 : decode cX0_unlock 2 = .ok (.aload_n 0, 1) := dk_42 (dk_at dksX0_unlock_0 2 rfl rfl)
theorem dX0_unlock_3 : decode cX0_unlock 3 = .ok (.iload_n 1, 1) := dk_27 (dk_at dksX0_unlock_0 3 rfl rfl)
theorem dX0_unlock_4 : decode cX0_unlock 4 = .ok (.iload_n 2, 1) := dk_28 (dk_at dksX0_unlock_0 4 rfl rfl)
theorem dX0_unlock_5 : decode cX0_unlock 5 = .ok (.invokevirtual 42, 3) := dk_182 0 42 (dk_at dksX0_unlock_0 5 rfl rfl)
theorem dX0_unlock_8 : decode cX0_unlock 8 = .ok (.i2l, 1) := dk_133 (dk_at dksX0_unlock_0 8 rfl rfl)
theorem dX0_unlock_9 : decode cX0_unlock 9 = .ok (.lastore, 1) := dk_80 (dk_at dksX0_unlock_0 9 rfl rfl)
theorem dX0_unlock_10 : decode cX0_unlock 10 = .ok (.goto 19, 3) := dk_167 0 19 (dk_at dksX0_unlock_0 10 rfl rfl)
theorem dX0_unlock_13 : decode cX0_unlock 13 = .ok (.astore 4, 2) := dk_58 4 (dk_at dksX0_unlock_0 13 rfl rfl)
theorem dX0_unlock_15 : decode cX0_unlock 15 = .ok (.iconst 1, 1) := dk_4 (dk_at dksX0_unlock_0 15 rfl rfl)
theorem dX0_unlock_16 : decode cX0_unlock 16 = .ok (.ireturn, 1) := dk_172 (dk_at dksX0_unlock_0 16 rfl rfl)
theorem dX0_unlock_17 : decode cX0_unlock 17 = .ok (.astore 4, 2) := dk_58 4 (dk_at dksX0_unlock_0 17 rfl rfl)
theorem dX0_unlock_19 : decode cX0_unlock 19 = .ok (.iconst 2, 1) := dk_5 (dk_at dksX0_unlock_0 19 rfl rfl)
theorem dX0_unlock_20 : decode cX0_unlock 20 = .ok (.ireturn, 1) := dk_172 (dk_at dksX0_unlock_0 20 rfl rfl)
theorem dX0_unlock_21 : decode cX0_unlock 21 = .ok (.astore 4, 2) := dk_58 4 (dk_at dksX0_unlock_0 21 rfl rfl)
theorem dX0_unlock_23 : decode cX0_unlock 23 = .ok (.iconst 3, 1) := dk_6 (dk_at dksX0_unlock_0 23 rfl rfl)
theorem dX0_unlock_24 : decode cX0_unlock 24 = .ok (.ireturn, 1) := dk_172 (dk_at dksX0_unlock_1 0 rfl rfl)
theorem dX0_unlock_25 : decode cX0_unlock 25 = .ok (.astore 4, 2) := dk_58 4 (dk_at dksX0_unlock_1 1 rfl rfl)
theorem dX0_unlock_27 : decode cX0_unlock 27 = .ok (.iconst 4, 1) := dk_7 (dk_at dksX0_unlock_1 3 rfl rfl)
theorem dX0_unlock_28 : decode cX0_unlock 28 = .ok (.ireturn, 1) := dk_172 (dk_at dksX0_unlock_1 4 rfl rfl)
theorem dX0_unlock_29 : decode cX0_unlock 29 = .ok (.iconst 0, 1) := dk_3 (dk_at dksX0_unlock_1 5 rfl rfl)
theorem dX0_unlock_30 : decode cX0_unlock 30 = .ok (.ireturn, 1) := dk_172 (dk_at dksX0_unlock_1 6 rfl rfl)
theorem q1240 : (Jvm.Cond.methodLink "PlugboardLaw" (42 : Nat) ({ cls := "Plugboard", name := "unlock", desc := "(II)I" } : Jvm.MethodName)) ∈ lw_all := lw_g (lw_at lw_m5 210 rfl) rfl
theorem q1241 : (Jvm.Cond.instanceMethod ({ cls := "Plugboard", name := "unlock", desc := "(II)I" } : Jvm.MethodName)) ∈ lw_all := lw_g (lw_at lw_m5 211 rfl) rfl
theorem q1242 : (Jvm.Cond.selects "Plugboard" ({ cls := "Plugboard", name := "unlock", desc := "(II)I" } : Jvm.MethodName) ({ cls := "Plugboard", name := "unlock", desc := "(II)I" } : Jvm.MethodName)) ∈ lw_all := lw_g (lw_at lw_m5 212 rfl) rfl
theorem q1243 : (Jvm.Cond.code ({ cls := "Plugboard", name := "unlock", desc := "(II)I" } : Jvm.MethodName) prog_1_method_27_code (5 : Nat) (Option.some Jvm.ClassFile.FieldType.int)) ∈ lw_all := lw_g (lw_at lw_m5 213 rfl) rfl
abbrev rm_X0_unlock : Room := { frames := 12, cells := 15, slots := 218, locals := 294 }
def w_X0_unlock (a0 : Option Nat) (a1 : Int32) (a2 : Int32) (a3 : Option Nat) (h : AH) (P : Int32 → AH → Prop) : Prop :=
  is_c h a0 [0] (
  w_X1_unlock a0 a1 a2 h (fun y5 h5 =>
  s_L h5 a3 0 (Int32.toInt64 y5) fun h9 =>
  P 0 h9)
    (fun E9 h9 => (E9 = "java/lang/IllegalArgumentException" ∧ ∀ q9 : Nat,
    P 1 h9) ∨
    (E9 = "java/util/NoSuchElementException" ∧ ∀ q9 : Nat,
    P 2 h9) ∨
    (E9 = "java/lang/UnsupportedOperationException" ∧ ∀ q9 : Nat,
    P 3 h9) ∨
    (E9 = "java/lang/IllegalStateException" ∧ ∀ q9 : Nat,
    P 4 h9)))
theorem met_X0_unlock (l : Launch) (hlt : l.stackTraces = false) (G : GG) (h : AH) (a0 : Option Nat) (a1 : Int32) (a2 : Int32) (a3 : Option Nat) (P : Int32 → AH → Prop) (hw : w_X0_unlock a0 a1 a2 a3 h P) : ct_i l yX0_unlock (wsW_ yX0_unlock cX0_unlock 5 (Option.some Jvm.ClassFile.FieldType.int) [((0 : Nat), (10 : Nat), (13 : Nat), (13 : Nat)), ((0 : Nat), (10 : Nat), (17 : Nat), (21 : Nat)), ((0 : Nat), (10 : Nat), (21 : Nat), (23 : Nat)), ((0 : Nat), (10 : Nat), (25 : Nat), (15 : Nat))]) rm_X0_unlock G h [vR a0, vI a1, vI a2, vR a3] P := by
  refine j_startWi hlt [(0, vR a0), (1, vI a1), (2, vI a2), (3, vR a3)] (by decide) rfl rfl (fun x X eG er en hQ hex => ?_)
  subst eG
  refine j_aload_n X (pc := 0) 3 dX0_unlock_0 rfl rfl ?_
  refine j_iconst X (pc := 1) 0 dX0_unlock_1 (by decide) ?_
  refine j_aload_n X (pc := 2) 0 dX0_unlock_2 rfl rfl ?_
  refine j_iload_n X (pc := 3) 1 dX0_unlock_3 rfl rfl ?_
  refine j_iload_n X (pc := 4) 2 dX0_unlock_4 rfl rfl ?_
  obtain ⟨b9, c9, f9, hr9, ho9, hc9, hw⟩ := hw
  obtain rfl := List.mem_singleton.mp hc9
  refine j_callXi (j_runVX (n8 := 2) (As := [vI a1, vI a2]) (rest := [vI 0, vR a3]) X (pc := 5) hr9 (met_X1_unlock (xl x) X.hl (xG x) h a0 a1 a2 _ _ hw) ho9 (by decide) rfl q1240 q1241 q1242 q71 q1243 (by decide +kernel) dX0_unlock_5 rfl ⟨Nat.le_of_ble_eq_true rfl, Nat.le_of_ble_eq_true rfl⟩ (Nat.le_of_ble_eq_true rfl) ⟨Nat.le_of_ble_eq_true rfl, Nat.le_of_ble_eq_true rfl⟩) ?_ (fun y5 h5 hw => ?_)
  · intro E9 h9 hx
    rcases hx with ⟨rfl, hw⟩ | ⟨rfl, hw⟩ | ⟨rfl, hw⟩ | ⟨rfl, hw⟩
    · refine j_catch X (pc := 5) "java/lang/IllegalArgumentException" hex [] [⟨0, 10, 17, 21⟩, ⟨0, 10, 21, 23⟩, ⟨0, 10, 25, 15⟩] ⟨0, 10, 13, 13⟩ rfl (by intro y hy; cases hy) (by decide) (by decide) q291 q312 (fun q9 => ?_)
      have hw := hw q9
      refine j_astore X (pc := 13) [(4, vR (some q9)), (0, vR a0), (1, vI a1), (2, vI a2), (3, vR a3)] dX0_unlock_13 (Nat.le_of_ble_eq_true rfl) rfl ?_
      refine j_iconst X (pc := 15) 1 dX0_unlock_15 (by decide) ?_
      exact j_iret X (pc := 16) hQ er (Nat.le_of_ble_eq_true rfl) (Nat.le_of_ble_eq_true rfl) dX0_unlock_16 hw
    · refine j_catch X (pc := 5) "java/util/NoSuchElementException" hex [⟨0, 10, 13, 13⟩] [⟨0, 10, 21, 23⟩, ⟨0, 10, 25, 15⟩] ⟨0, 10, 17, 21⟩ rfl (by intro y hy; simp only [List.mem_cons, List.not_mem_nil, or_false] at hy; subst hy; exact Or.inr ⟨by decide, "java/lang/IllegalArgumentException", q291, by decide +kernel⟩) (by decide) (by decide) q1068 q537 (fun q9 => ?_)
      have hw := hw q9
      refine j_astore X (pc := 17) [(4, vR (some q9)), (0, vR a0), (1, vI a1), (2, vI a2), (3, vR a3)] dX0_unlock_17 (Nat.le_of_ble_eq_true rfl) rfl ?_
      refine j_iconst X (pc := 19) 2 dX0_unlock_19 (by decide) ?_
      exact j_iret X (pc := 20) hQ er (Nat.le_of_ble_eq_true rfl) (Nat.le_of_ble_eq_true rfl) dX0_unlock_20 hw
    · refine j_catch X (pc := 5) "java/lang/UnsupportedOperationException" hex [⟨0, 10, 13, 13⟩, ⟨0, 10, 17, 21⟩] [⟨0, 10, 25, 15⟩] ⟨0, 10, 21, 23⟩ rfl (by intro y hy; simp only [List.mem_cons, List.not_mem_nil, or_false] at hy; rcases hy with rfl | rfl <;> first | exact Or.inr ⟨by decide, "java/lang/IllegalArgumentException", q291, by decide +kernel⟩ | exact Or.inr ⟨by decide, "java/util/NoSuchElementException", q1068, by decide +kernel⟩) (by decide) (by decide) q1069 q1102 (fun q9 => ?_)
      have hw := hw q9
      refine j_astore X (pc := 21) [(4, vR (some q9)), (0, vR a0), (1, vI a1), (2, vI a2), (3, vR a3)] dX0_unlock_21 (Nat.le_of_ble_eq_true rfl) rfl ?_
      refine j_iconst X (pc := 23) 3 dX0_unlock_23 (by decide) ?_
      exact j_iret X (pc := 24) hQ er (Nat.le_of_ble_eq_true rfl) (Nat.le_of_ble_eq_true rfl) dX0_unlock_24 hw
    · refine j_catch X (pc := 5) "java/lang/IllegalStateException" hex [⟨0, 10, 13, 13⟩, ⟨0, 10, 17, 21⟩, ⟨0, 10, 21, 23⟩] [] ⟨0, 10, 25, 15⟩ rfl (by intro y hy; simp only [List.mem_cons, List.not_mem_nil, or_false] at hy; rcases hy with rfl | rfl | rfl <;> first | exact Or.inr ⟨by decide, "java/lang/IllegalArgumentException", q291, by decide +kernel⟩ | exact Or.inr ⟨by decide, "java/util/NoSuchElementException", q1068, by decide +kernel⟩ | exact Or.inr ⟨by decide, "java/lang/UnsupportedOperationException", q1069, by decide +kernel⟩) (by decide) (by decide) q292 q387 (fun q9 => ?_)
      have hw := hw q9
      refine j_astore X (pc := 25) [(4, vR (some q9)), (0, vR a0), (1, vI a1), (2, vI a2), (3, vR a3)] dX0_unlock_25 (Nat.le_of_ble_eq_true rfl) rfl ?_
      refine j_iconst X (pc := 27) 4 dX0_unlock_27 (by decide) ?_
      exact j_iret X (pc := 28) hQ er (Nat.le_of_ble_eq_true rfl) (Nat.le_of_ble_eq_true rfl) dX0_unlock_28 hw
  refine j_i2l X (pc := 8) dX0_unlock_8 ?_
  refine j_last X (pc := 9) dX0_unlock_9 hw (fun h9 hw => ?_)
  refine j_goto X (pc := 10) 29 dX0_unlock_10 (by decide) ?_
  refine j_iconst X (pc := 29) 0 dX0_unlock_29 (by decide) ?_
  exact j_iret X (pc := 30) hQ er (Nat.le_of_ble_eq_true rfl) (Nat.le_of_ble_eq_true rfl) dX0_unlock_30 hw
abbrev cX5_unlock : ByteArray := prog_19_method_36_code
def yX5_unlock : MethodName := ⟨RX5, "unlock", "(II)I"⟩
def dkwX5_unlock_3 : List UInt8 := [182, 0, 172, 172, 42, 16, 36, 28, 96, 2, 182, 0, 179, 42, 27, 4, 182, 0, 186, 29, 172]
abbrev dktX5_unlock_3 : List UInt8 := dkwX5_unlock_3 ++ []
def dkwX5_unlock_2 : List UInt8 := [2, 160, 0, 9, 42, 6, 182, 0, 172, 172, 42, 180, 0, 108, 17, 0, 250, 160, 0, 9, 42, 7]
abbrev dktX5_unlock_2 : List UInt8 := dkwX5_unlock_2 ++ dktX5_unlock_3
def dkwX5_unlock_1 : List UInt8 := [28, 182, 0, 125, 154, 0, 9, 42, 5, 182, 0, 172, 172, 42, 180, 0, 67, 16, 36, 28, 96, 46, 62, 29]
abbrev dktX5_unlock_1 : List UInt8 := dkwX5_unlock_1 ++ dktX5_unlock_2
def dkwX5_unlock_0 : List UInt8 := [42, 3, 181, 0, 97, 27, 184, 0, 165, 154, 0, 9, 42, 4, 182, 0, 172, 172, 42, 27, 182, 0, 161, 42]
abbrev dktX5_unlock_0 : List UInt8 := dkwX5_unlock_0 ++ dktX5_unlock_1
theorem dksX5_unlock_0 : cX5_unlock.data.toList.drop 0 = dktX5_unlock_0 := by decide +kernel
theorem dksX5_unlock_1 : cX5_unlock.data.toList.drop 24 = dktX5_unlock_1 := dk_seg dksX5_unlock_0 24 rfl rfl
theorem dksX5_unlock_2 : cX5_unlock.data.toList.drop 48 = dktX5_unlock_2 := dk_seg dksX5_unlock_1 24 rfl rfl
theorem dksX5_unlock_3 : cX5_unlock.data.toList.drop 70 = dktX5_unlock_3 := dk_seg dksX5_unlock_2 22 rfl rfl
theorem dX5_unlock_0 : decode cX5_unlock 0 = .ok (.aload_n 0, 1) := dk_42 (dk_at dksX5_unlock_0 0 rfl rfl)
theorem dX5_unlock_1 : decode cX5_unlock 1 = .ok (.iconst 0, 1) := dk_3 (dk_at dksX5_unlock_0 1 rfl rfl)
theorem dX5_unlock_2 : decode cX5_unlock 2 = .ok (.putfield 97, 3) := dk_181 0 97 (dk_at dksX5_unlock_0 2 rfl rfl)
theorem dX5_unlock_5 : decode cX5_unlock 5 = .ok (.iload_n 1, 1) := dk_27 (dk_at dksX5_unlock_0 5 rfl rfl)
theorem dX5_unlock_6 : decode cX5_unlock 6 = .ok (.invokestatic 165, 3) := dk_184 0 165 (dk_at dksX5_unlock_0 6 rfl rfl)
theorem dX5_unlock_9 : decode cX5_unlock 9 = .ok (.ifCond .ne 9, 3) := dk_154 0 9 (dk_at dksX5_unlock_0 9 rfl rfl)
theorem dX5_unlock_12 : decode cX5_unlock 12 = .ok (.aload_n 0, 1) := dk_42 (dk_at dksX5_unlock_0 12 rfl rfl)
theorem dX5_unlock_13 : decode cX5_unlock 13 = .ok (.iconst 1, 1) := dk_4 (dk_at dksX5_unlock_0 13 rfl rfl)
theorem dX5_unlock_14 : decode cX5_unlock 14 = .ok (.invokevirtual 172, 3) := dk_182 0 172 (dk_at dksX5_unlock_0 14 rfl rfl)
theorem dX5_unlock_17 : decode cX5_unlock 17 = .ok (.ireturn, 1) := dk_172 (dk_at dksX5_unlock_0 17 rfl rfl)
theorem dX5_unlock_18 : decode cX5_unlock 18 = .ok (.aload_n 0, 1) := dk_42 (dk_at dksX5_unlock_0 18 rfl rfl)
theorem dX5_unlock_19 : decode cX5_unlock 19 = .ok (.iload_n 1, 1) := dk_27 (dk_at dksX5_unlock_0 19 rfl rfl)
theorem dX5_unlock_20 : decode cX5_unlock 20 = .ok (.invokevirtual 161, 3) := dk_182 0 161 (dk_at dksX5_unlock_0 20 rfl rfl)
theorem dX5_unlock_23 : decode cX5_unlock 23 = .ok (.aload_n 0, 1) := dk_42 (dk_at dksX5_unlock_0 23 rfl rfl)
theorem dX5_unlock_24 : decode cX5_unlock 24 = .ok (.iload_n 2, 1) := dk_28 (dk_at dksX5_unlock_1 0 rfl rfl)
theorem dX5_unlock_25 : decode cX5_unlock 25 = .ok (.invokevirtual 125, 3) := dk_182 0 125 (dk_at dksX5_unlock_1 1 rfl rfl)
theorem dX5_unlock_28 : decode cX5_unlock 28 = .ok (.ifCond .ne 9, 3) := dk_154 0 9 (dk_at dksX5_unlock_1 4 rfl rfl)
theorem dX5_unlock_31 : decode cX5_unlock 31 = .ok (.aload_n 0, 1) := dk_42 (dk_at dksX5_unlock_1 7 rfl rfl)
theorem dX5_unlock_32 : decode cX5_unlock 32 = .ok (.iconst 2, 1) := dk_5 (dk_at dksX5_unlock_1 8 rfl rfl)
theorem dX5_unlock_33 : decode cX5_unlock 33 = .ok (.invokevirtual 172, 3) := dk_182 0 172 (dk_at dksX5_unlock_1 9 rfl rfl)
theorem dX5_unlock_36 : decode cX5_unlock 36 = .ok (.ireturn, 1) := dk_172 (dk_at dksX5_unlock_1 12 rfl rfl)
theorem dX5_unlock_37 : decode cX5_unlock 37 = .ok (.aload_n 0, 1) := dk_42 (dk_at dksX5_unlock_1 13 rfl rfl)
theorem dX5_unlock_38 : decode cX5_unlock 38 = .ok (.getfield 67, 3) := dk_180 0 67 (dk_at dksX5_unlock_1 14 rfl rfl)
theorem dX5_unlock_41 : decode cX5_unlock 41 = .ok (.bipush 36, 2) := dk_16 36 (dk_at dksX5_unlock_1 17 rfl rfl)
theorem dX5_unlock_43 : decode cX5_unlock 43 = .ok (.iload_n 2, 1) := dk_28 (dk_at dksX5_unlock_1 19 rfl rfl)
theorem dX5_unlock_44 : decode cX5_unlock 44 = .ok (.iadd, 1) := dk_96 (dk_at dksX5_unlock_1 20 rfl rfl)
theorem dX5_unlock_45 : decode cX5_unlock 45 = .ok (.iaload, 1) := dk_46 (dk_at dksX5_unlock_1 21 rfl rfl)
theorem dX5_unlock_46 : decode cX5_unlock 46 = .ok (.istore_n 3, 1) := dk_62 (dk_at dksX5_unlock_1 22 rfl rfl)
theorem dX5_unlock_47 : decode cX5_unlock 47 = .ok (.iload_n 3, 1) := dk_29 (dk_at dksX5_unlock_1 23 rfl rfl)
theorem dX5_unlock_48 : decode cX5_unlock 48 = .ok (.iconst (-1), 1) := dk_2 (dk_at dksX5_unlock_2 0 rfl rfl)
theorem dX5_unlock_49 : decode cX5_unlock 49 = .ok (.if_icmp .ne 9, 3) := dk_160 0 9 (dk_at dksX5_unlock_2 1 rfl rfl)
theorem dX5_unlock_52 : decode cX5_unlock 52 = .ok (.aload_n 0, 1) := dk_42 (dk_at dksX5_unlock_2 4 rfl rfl)
theorem dX5_unlock_53 : decode cX5_unlock 53 = .ok (.iconst 3, 1) := dk_6 (dk_at dksX5_unlock_2 5 rfl rfl)
theorem dX5_unlock_54 : decode cX5_unlock 54 = .ok (.invokevirtual 172, 3) := dk_182 0 172 (dk_at dksX5_unlock_2 6 rfl rfl)
theorem dX5_unlock_57 : decode cX5_unlock 57 = .ok (.ireturn, 1) := dk_172 (dk_at dksX5_unlock_2 9 rfl rfl)
theorem dX5_unlock_58 : decode cX5_unlock 58 = .ok (.aload_n 0, 1) := dk_42 (dk_at dksX5_unlock_2 10 rfl rfl)
theorem dX5_unlock_59 : decode cX5_unlock 59 = .ok (.getfield 108, 3) := dk_180 0 108 (dk_at dksX5_unlock_2 11 rfl rfl)
theorem dX5_unlock_62 : decode cX5_unlock 62 = .ok (.sipush 250, 3) := dk_17 0 250 (dk_at dksX5_unlock_2 14 rfl rfl)
theorem dX5_unlock_65 : decode cX5_unlock 65 = .ok (.if_icmp .ne 9, 3) := dk_160 0 9 (dk_at dksX5_unlock_2 17 rfl rfl)
theorem dX5_unlock_68 : decode cX5_unlock 68 = .ok (.aload_n 0, 1) := dk_42 (dk_at dksX5_unlock_2 20 rfl rfl)
theorem dX5_unlock_69 : decode cX5_unlock 69 = .ok (.iconst 4, 1) := dk_7 (dk_at dksX5_unlock_2 21 rfl rfl)
theorem dX5_unlock_70 : decode cX5_unlock 70 = .ok (.invokevirtual 172, 3) := dk_182 0 172 (dk_at dksX5_unlock_3 0 rfl rfl)
theorem dX5_unlock_73 : decode cX5_unlock 73 = .ok (.ireturn, 1) := dk_172 (dk_at dksX5_unlock_3 3 rfl rfl)
theorem dX5_unlock_74 : decode cX5_unlock 74 = .ok (.aload_n 0, 1) := dk_42 (dk_at dksX5_unlock_3 4 rfl rfl)
theorem dX5_unlock_75 : decode cX5_unlock 75 = .ok (.bipush 36, 2) := dk_16 36 (dk_at dksX5_unlock_3 5 rfl rfl)
theorem dX5_unlock_77 : decode cX5_unlock 77 = .ok (.iload_n 2, 1) := dk_28 (dk_at dksX5_unlock_3 7 rfl rfl)
theorem dX5_unlock_78 : decode cX5_unlock 78 = .ok (.iadd, 1) := dk_96 (dk_at dksX5_unlock_3 8 rfl rfl)
theorem dX5_unlock_79 : decode cX5_unlock 79 = .ok (.iconst (-1), 1) := dk_2 (dk_at dksX5_unlock_3 9 rfl rfl)
theorem dX5_unlock_80 : decode cX5_unlock 80 = .ok (.invokevirtual 179, 3) := dk_182 0 179 (dk_at dksX5_unlock_3 10 rfl rfl)
theorem dX5_unlock_83 : decode cX5_unlock 83 = .ok (.aload_n 0, 1) := dk_42 (dk_at dksX5_unlock_3 13 rfl rfl)
theorem dX5_unlock_84 : decode cX5_unlock 84 = .ok (.iload_n 1, 1) := dk_27 (dk_at dksX5_unlock_3 14 rfl rfl)
theorem dX5_unlock_85 : decode cX5_unlock 85 = .ok (.iconst 1, 1) := dk_4 (dk_at dksX5_unlock_3 15 rfl rfl)
theorem dX5_unlock_86 : decode cX5_unlock 86 = .ok (.invokevirtual 186, 3) := dk_182 0 186 (dk_at dksX5_unlock_3 16 rfl rfl)
theorem dX5_unlock_89 : decode cX5_unlock 89 = .ok (.iload_n 3, 1) := dk_29 (dk_at dksX5_unlock_3 19 rfl rfl)
theorem dX5_unlock_90 : decode cX5_unlock 90 = .ok (.ireturn, 1) := dk_172 (dk_at dksX5_unlock_3 20 rfl rfl)
abbrev rm_X5_unlock : Room := { frames := 4, cells := 0, slots := 0, locals := 90 }
def w_X5_unlock (a0 : Option Nat) (a1 : Int32) (a2 : Int32) (h : AH) (P : Int32 → AH → Prop) : Prop :=
  p_v h a0 4 0 (vI 0) fun h2 =>
  w_X5_isUser a1 h2 (fun y6 h6 =>
  ((y6 = 0 →
    is_c h6 a0 [4] (
    w_X5_fails a0 1 h6 (fun y14 h14 =>
    P y14 h14))) ∧
   (¬ y6 = 0 →
    is_c h6 a0 [4] (
    w_X5_builds a0 a1 h6 (fun h20 =>
    is_c h20 a0 [4] (
    w_X5_isSeen a0 a2 h20 (fun y25 h25 =>
    ((y25 = 0 →
      is_c h25 a0 [4] (
      w_X5_fails a0 2 h25 (fun y33 h33 =>
      P y33 h33))) ∧
     (¬ y25 = 0 →
      g_q h25 a0 4 21 fun y38 =>
      l_i h25 y38 0 (36 + a2) fun y45 =>
      ((y45 = (-1) →
        is_c h25 a0 [4] (
        w_X5_fails a0 3 h25 (fun y54 h54 =>
        P y54 h54))) ∧
       (¬ y45 = (-1) →
        g_i h25 a0 4 20 fun y59 =>
        ((y59 = 250 →
          is_c h25 a0 [4] (
          w_X5_fails a0 4 h25 (fun y70 h70 =>
          P y70 h70))) ∧
         (¬ y59 = 250 →
          is_c h25 a0 [4] (
          w_X5_plans a0 (36 + a2) (-1) h25 (fun h80 =>
          is_c h80 a0 [4] (
          w_X5_makes a0 a1 1 h80 (fun h86 =>
          P y45 h86)))))))))))))))))
theorem met_X5_unlock (l : Launch) (hlt : l.stackTraces = false) (G : GG) (h : AH) (a0 : Option Nat) (a1 : Int32) (a2 : Int32) (P : Int32 → AH → Prop) (hw : w_X5_unlock a0 a1 a2 h P) : ct_i l yX5_unlock (ws_ yX5_unlock cX5_unlock 4 (Option.some Jvm.ClassFile.FieldType.int)) rm_X5_unlock G h [vR a0, vI a1, vI a2] P := by
  refine j_starti hlt [(0, vR a0), (1, vI a1), (2, vI a2)] (plainFor_of_name (by decide)) rfl rfl (fun x X eG er en hQ => ?_)
  subst eG
  refine j_aload_n X (pc := 0) 0 dX5_unlock_0 rfl rfl ?_
  refine j_iconst X (pc := 1) 0 dX5_unlock_1 (by decide) ?_
  refine j_put (ci := 4) X (pc := 2) in_X5 rfl (by decide) 0 (by decide) q1872 (Or.inl rfl) tyX5 tyX5_ok nmX5 rfl rfl (ty := .int) (tyX5_ok 0 (by decide)) rfl rfl dX5_unlock_2 hw (fun h2 hw => ?_)
  refine j_iload_n X (pc := 5) 1 dX5_unlock_5 rfl rfl ?_
  refine j_calli (j_runS (n8 := 1) (As := [vI a1]) (rest := []) X (pc := 6) (met_X5_isUser (xl x) X.hl (xG x) h2 a1 _ hw) q1978 q1979 q78 q1980 (by decide +kernel) dX5_unlock_6 rfl ⟨Nat.le_of_ble_eq_true rfl, Nat.le_of_ble_eq_true rfl⟩ (Nat.le_of_ble_eq_true rfl) ⟨Nat.le_of_ble_eq_true rfl, Nat.le_of_ble_eq_true rfl⟩) (fun y6 h6 hw => ?_)
  refine j_if_ne X (pc := 9) 18 dX5_unlock_9 (by decide) hw (fun hw => ?_) (fun hw => ?_)
  · refine j_aload_n X (pc := 12) 0 dX5_unlock_12 rfl rfl ?_
    refine j_iconst X (pc := 13) 1 dX5_unlock_13 (by decide) ?_
    obtain ⟨b9, c9, f9, hr9, ho9, hc9, hw⟩ := hw
    obtain rfl := List.mem_singleton.mp hc9
    refine j_calli (j_runV (n8 := 1) (As := [vI 1]) (rest := []) X (pc := 14) hr9 (met_X5_fails (xl x) X.hl (xG x) h6 a0 1 _ hw) ho9 (by decide) rfl q1988 q1990 qs33 q78 q1991 (by decide +kernel) dX5_unlock_14 rfl ⟨Nat.le_of_ble_eq_true rfl, Nat.le_of_ble_eq_true rfl⟩ (Nat.le_of_ble_eq_true rfl) ⟨Nat.le_of_ble_eq_true rfl, Nat.le_of_ble_eq_true rfl⟩) (fun y14 h14 hw => ?_)
    exact j_iret X (pc := 17) hQ er (Nat.le_of_ble_eq_true rfl) (Nat.le_of_ble_eq_true rfl) dX5_unlock_17 hw
  · refine j_aload_n X (pc := 18) 0 dX5_unlock_18 rfl rfl ?_
    refine j_iload_n X (pc := 19) 1 dX5_unlock_19 rfl rfl ?_
    obtain ⟨b9, c9, f9, hr9, ho9, hc9, hw⟩ := hw
    obtain rfl := List.mem_singleton.mp hc9
    refine j_callv (j_runV (n8 := 1) (As := [vI a1]) (rest := []) X (pc := 20) hr9 (met_X5_builds (xl x) X.hl (xG x) h6 a0 a1 _ hw) ho9 (by decide) rfl q1992 q1994 qs34 q78 q1995 (by decide +kernel) dX5_unlock_20 rfl ⟨Nat.le_of_ble_eq_true rfl, Nat.le_of_ble_eq_true rfl⟩ (Nat.le_of_ble_eq_true rfl) ⟨Nat.le_of_ble_eq_true rfl, Nat.le_of_ble_eq_true rfl⟩) (fun h20 hw => ?_)
    refine j_aload_n X (pc := 23) 0 dX5_unlock_23 rfl rfl ?_
    refine j_iload_n X (pc := 24) 2 dX5_unlock_24 rfl rfl ?_
    obtain ⟨b9, c9, f9, hr9, ho9, hc9, hw⟩ := hw
    obtain rfl := List.mem_singleton.mp hc9
    refine j_calli (j_runV (n8 := 1) (As := [vI a2]) (rest := []) X (pc := 25) hr9 (met_X5_isSeen (xl x) X.hl (xG x) h20 a0 a2 _ hw) ho9 (by decide) rfl q2012 q2014 qs39 q78 q2015 (by decide +kernel) dX5_unlock_25 rfl ⟨Nat.le_of_ble_eq_true rfl, Nat.le_of_ble_eq_true rfl⟩ (Nat.le_of_ble_eq_true rfl) ⟨Nat.le_of_ble_eq_true rfl, Nat.le_of_ble_eq_true rfl⟩) (fun y25 h25 hw => ?_)
    refine j_if_ne X (pc := 28) 37 dX5_unlock_28 (by decide) hw (fun hw => ?_) (fun hw => ?_)
    · refine j_aload_n X (pc := 31) 0 dX5_unlock_31 rfl rfl ?_
      refine j_iconst X (pc := 32) 2 dX5_unlock_32 (by decide) ?_
      obtain ⟨b9, c9, f9, hr9, ho9, hc9, hw⟩ := hw
      obtain rfl := List.mem_singleton.mp hc9
      refine j_calli (j_runV (n8 := 1) (As := [vI 2]) (rest := []) X (pc := 33) hr9 (met_X5_fails (xl x) X.hl (xG x) h25 a0 2 _ hw) ho9 (by decide) rfl q1988 q1990 qs33 q78 q1991 (by decide +kernel) dX5_unlock_33 rfl ⟨Nat.le_of_ble_eq_true rfl, Nat.le_of_ble_eq_true rfl⟩ (Nat.le_of_ble_eq_true rfl) ⟨Nat.le_of_ble_eq_true rfl, Nat.le_of_ble_eq_true rfl⟩) (fun y33 h33 hw => ?_)
      exact j_iret X (pc := 36) hQ er (Nat.le_of_ble_eq_true rfl) (Nat.le_of_ble_eq_true rfl) dX5_unlock_36 hw
    · refine j_aload_n X (pc := 37) 0 dX5_unlock_37 rfl rfl ?_
      refine j_getq (ci := 4) X (pc := 38) in_X5 rfl (by decide) 21 (by decide) q1893 (Or.inl rfl) dX5_unlock_38 hw (fun y38 hw => ?_)
      refine j_bipush X (pc := 41) 36 dX5_unlock_41 (by decide) ?_
      refine j_iload_n X (pc := 43) 2 dX5_unlock_43 rfl rfl ?_
      refine j_iadd X (pc := 44) dX5_unlock_44 ?_
      refine j_iald X (pc := 45) 0 rfl dX5_unlock_45 hw (fun y45 hw => ?_)
      refine j_istore_n X (pc := 46) [(3, vI y45), (0, vR a0), (1, vI a1), (2, vI a2)] dX5_unlock_46 rfl (Nat.le_of_ble_eq_true rfl) rfl ?_
      refine j_iload_n X (pc := 47) 0 dX5_unlock_47 rfl rfl ?_
      refine j_iconst X (pc := 48) (-1) dX5_unlock_48 (by decide) ?_
      refine j_icmp_ne X (pc := 49) 58 dX5_unlock_49 (by decide) hw (fun hw => ?_) (fun hw => ?_)
      · refine j_aload_n X (pc := 52) 1 dX5_unlock_52 rfl rfl ?_
        refine j_iconst X (pc := 53) 3 dX5_unlock_53 (by decide) ?_
        obtain ⟨b9, c9, f9, hr9, ho9, hc9, hw⟩ := hw
        obtain rfl := List.mem_singleton.mp hc9
        refine j_calli (j_runV (n8 := 1) (As := [vI 3]) (rest := []) X (pc := 54) hr9 (met_X5_fails (xl x) X.hl (xG x) h25 a0 3 _ hw) ho9 (by decide) rfl q1988 q1990 qs33 q78 q1991 (by decide +kernel) dX5_unlock_54 rfl ⟨Nat.le_of_ble_eq_true rfl, Nat.le_of_ble_eq_true rfl⟩ (Nat.le_of_ble_eq_true rfl) ⟨Nat.le_of_ble_eq_true rfl, Nat.le_of_ble_eq_true rfl⟩) (fun y54 h54 hw => ?_)
        exact j_iret X (pc := 57) hQ er (Nat.le_of_ble_eq_true rfl) (Nat.le_of_ble_eq_true rfl) dX5_unlock_57 hw
      · refine j_aload_n X (pc := 58) 1 dX5_unlock_58 rfl rfl ?_
        refine j_geti (ci := 4) X (pc := 59) in_X5 rfl (by decide) 20 (by decide) q1892 (Or.inl rfl) dX5_unlock_59 hw (fun y59 hw => ?_)
        refine j_sipush X (pc := 62) 250 dX5_unlock_62 (by decide) ?_
        refine j_icmp_ne X (pc := 65) 74 dX5_unlock_65 (by decide) hw (fun hw => ?_) (fun hw => ?_)
        · refine j_aload_n X (pc := 68) 1 dX5_unlock_68 rfl rfl ?_
          refine j_iconst X (pc := 69) 4 dX5_unlock_69 (by decide) ?_
          obtain ⟨b9, c9, f9, hr9, ho9, hc9, hw⟩ := hw
          obtain rfl := List.mem_singleton.mp hc9
          refine j_calli (j_runV (n8 := 1) (As := [vI 4]) (rest := []) X (pc := 70) hr9 (met_X5_fails (xl x) X.hl (xG x) h25 a0 4 _ hw) ho9 (by decide) rfl q1988 q1990 qs33 q78 q1991 (by decide +kernel) dX5_unlock_70 rfl ⟨Nat.le_of_ble_eq_true rfl, Nat.le_of_ble_eq_true rfl⟩ (Nat.le_of_ble_eq_true rfl) ⟨Nat.le_of_ble_eq_true rfl, Nat.le_of_ble_eq_true rfl⟩) (fun y70 h70 hw => ?_)
          exact j_iret X (pc := 73) hQ er (Nat.le_of_ble_eq_true rfl) (Nat.le_of_ble_eq_true rfl) dX5_unlock_73 hw
        · refine j_aload_n X (pc := 74) 1 dX5_unlock_74 rfl rfl ?_
          refine j_bipush X (pc := 75) 36 dX5_unlock_75 (by decide) ?_
          refine j_iload_n X (pc := 77) 3 dX5_unlock_77 rfl rfl ?_
          refine j_iadd X (pc := 78) dX5_unlock_78 ?_
          refine j_iconst X (pc := 79) (-1) dX5_unlock_79 (by decide) ?_
          obtain ⟨b9, c9, f9, hr9, ho9, hc9, hw⟩ := hw
          obtain rfl := List.mem_singleton.mp hc9
          refine j_callv (j_runV (n8 := 2) (As := [vI (36 + a2), vI (-1)]) (rest := []) X (pc := 80) hr9 (met_X5_plans (xl x) X.hl (xG x) h25 a0 (36 + a2) (-1) _ hw) ho9 (by decide) rfl q2021 q2023 qs41 q78 q2024 (by decide +kernel) dX5_unlock_80 rfl ⟨Nat.le_of_ble_eq_true rfl, Nat.le_of_ble_eq_true rfl⟩ (Nat.le_of_ble_eq_true rfl) ⟨Nat.le_of_ble_eq_true rfl, Nat.le_of_ble_eq_true rfl⟩) (fun h80 hw => ?_)
          refine j_aload_n X (pc := 83) 1 dX5_unlock_83 rfl rfl ?_
          refine j_iload_n X (pc := 84) 2 dX5_unlock_84 rfl rfl ?_
          refine j_iconst X (pc := 85) 1 dX5_unlock_85 (by decide) ?_
          obtain ⟨b9, c9, f9, hr9, ho9, hc9, hw⟩ := hw
          obtain rfl := List.mem_singleton.mp hc9
          refine j_callv (j_runV (n8 := 2) (As := [vI a1, vI 1]) (rest := []) X (pc := 86) hr9 (met_X5_makes (xl x) X.hl (xG x) h80 a0 a1 1 _ hw) ho9 (by decide) rfl q2030 q2032 qs43 q78 q2033 (by decide +kernel) dX5_unlock_86 rfl ⟨Nat.le_of_ble_eq_true rfl, Nat.le_of_ble_eq_true rfl⟩ (Nat.le_of_ble_eq_true rfl) ⟨Nat.le_of_ble_eq_true rfl, Nat.le_of_ble_eq_true rfl⟩) (fun h86 hw => ?_)
          refine j_iload_n X (pc := 89) 0 dX5_unlock_89 rfl rfl ?_
          exact j_iret X (pc := 90) hQ er (Nat.le_of_ble_eq_true rfl) (Nat.le_of_ble_eq_true rfl) dX5_unlock_90 hw
abbrev cX1_isSide : ByteArray := prog_1_method_28_code
def yX1_isSide : MethodName := ⟨RX1, "isSide", "(C)Z"⟩
def dkwX1_isSide_1 : List UInt8 := [4, 167, 0, 4, 3, 172]
abbrev dktX1_isSide_1 : List UInt8 := dkwX1_isSide_1 ++ []
def dkwX1_isSide_0 : List UInt8 := [26, 16, 116, 159, 0, 21, 26, 16, 98, 159, 0, 15, 26, 16, 108, 159, 0, 9, 26, 16, 114, 160, 0, 7]
abbrev dktX1_isSide_0 : List UInt8 := dkwX1_isSide_0 ++ dktX1_isSide_1
theorem dksX1_isSide_0 : cX1_isSide.data.toList.drop 0 = dktX1_isSide_0 := by decide +kernel
theorem dksX1_isSide_1 : cX1_isSide.data.toList.drop 24 = dktX1_isSide_1 := dk_seg dksX1_isSide_0 24 rfl rfl
theorem dX1_isSide_0 : decode cX1_isSide 0 = .ok (.iload_n 0, 1) := dk_26 (dk_at dksX1_isSide_0 0 rfl rfl)
theorem dX1_isSide_1 : decode cX1_isSide 1 = .ok (.bipush 116, 2) := dk_16 116 (dk_at dksX1_isSide_0 1 rfl rfl)
theorem dX1_isSide_3 : decode cX1_isSide 3 = .ok (.if_icmp .eq 21, 3) := dk_159 0 21 (dk_at dksX1_isSide_0 3 rfl rfl)
theorem dX1_isSide_6 : decode cX1_isSide 6 = .ok (.iload_n 0, 1) := dk_26 (dk_at dksX1_isSide_0 6 rfl rfl)
theorem dX1_isSide_7 : decode cX1_isSide 7 = .ok (.bipush 98, 2) := dk_16 98 (dk_at dksX1_isSide_0 7 rfl rfl)
theorem dX1_isSide_9 : decode cX1_isSide 9 = .ok (.if_icmp .eq 15, 3) := dk_159 0 15 (dk_at dksX1_isSide_0 9 rfl rfl)
theorem dX1_isSide_12 : decode cX1_isSide 12 = .ok (.iload_n 0, 1) := dk_26 (dk_at dksX1_isSide_0 12 rfl rfl)
theorem dX1_isSide_13 : decode cX1_isSide 13 = .ok (.bipush 108, 2) := dk_16 108 (dk_at dksX1_isSide_0 13 rfl rfl)
theorem dX1_isSide_15 : decode cX1_isSide 15 = .ok (.if_icmp .eq 9, 3) := dk_159 0 9 (dk_at dksX1_isSide_0 15 rfl rfl)
theorem dX1_isSide_18 : decode cX1_isSide 18 = .ok (.iload_n 0, 1) := dk_26 (dk_at dksX1_isSide_0 18 rfl rfl)
theorem dX1_isSide_19 : decode cX1_isSide 19 = .ok (.bipush 114, 2) := dk_16 114 (dk_at dksX1_isSide_0 19 rfl rfl)
theorem dX1_isSide_21 : decode cX1_isSide 21 = .ok (.if_icmp .ne 7, 3) := dk_160 0 7 (dk_at dksX1_isSide_0 21 rfl rfl)
theorem dX1_isSide_24 : decode cX1_isSide 24 = .ok (.iconst 1, 1) := dk_4 (dk_at dksX1_isSide_1 0 rfl rfl)
theorem dX1_isSide_25 : decode cX1_isSide 25 = .ok (.goto 4, 3) := dk_167 0 4 (dk_at dksX1_isSide_1 1 rfl rfl)
theorem dX1_isSide_28 : decode cX1_isSide 28 = .ok (.iconst 0, 1) := dk_3 (dk_at dksX1_isSide_1 4 rfl rfl)
theorem dX1_isSide_29 : decode cX1_isSide 29 = .ok (.ireturn, 1) := dk_172 (dk_at dksX1_isSide_1 5 rfl rfl)
abbrev rm_X1_isSide : Room := { frames := 0, cells := 0, slots := 0, locals := 0 }
def w_X1_isSide (a0 : Int32) (h : AH) (P : Int32 → AH → Prop) : Prop :=
  ((a0 = 116 →
    P 1 h) ∧
   (¬ a0 = 116 →
    ((a0 = 98 →
      P 1 h) ∧
     (¬ a0 = 98 →
      ((a0 = 108 →
        P 1 h) ∧
       (¬ a0 = 108 →
        ((a0 = 114 →
          P 1 h) ∧
         (¬ a0 = 114 →
          P 0 h))))))))
theorem met_X1_isSide (l : Launch) (hlt : l.stackTraces = false) (G : GG) (h : AH) (a0 : Int32) (P : Int32 → AH → Prop) (hw : w_X1_isSide a0 h P) : ct_i l yX1_isSide (ws_ yX1_isSide cX1_isSide 1 (Option.some Jvm.ClassFile.FieldType.boolean)) rm_X1_isSide G h [vI a0] P := by
  refine j_starti hlt [(0, vI a0)] (plainFor_of_name (by decide)) rfl rfl (fun x X eG er en hQ => ?_)
  subst eG
  refine j_iload_n X (pc := 0) 0 dX1_isSide_0 rfl rfl ?_
  refine j_bipush X (pc := 1) 116 dX1_isSide_1 (by decide) ?_
  refine j_icmp_eq X (pc := 3) 24 dX1_isSide_3 (by decide) hw (fun hw => ?_) (fun hw => ?_)
  · refine j_iconst X (pc := 24) 1 dX1_isSide_24 (by decide) ?_
    refine j_goto X (pc := 25) 29 dX1_isSide_25 (by decide) ?_
    exact j_zret X (pc := 29) (ty := .boolean) hQ er rfl (Nat.le_of_ble_eq_true rfl) (Nat.le_of_ble_eq_true rfl) dX1_isSide_29 hw
  · refine j_iload_n X (pc := 6) 0 dX1_isSide_6 rfl rfl ?_
    refine j_bipush X (pc := 7) 98 dX1_isSide_7 (by decide) ?_
    refine j_icmp_eq X (pc := 9) 24 dX1_isSide_9 (by decide) hw (fun hw => ?_) (fun hw => ?_)
    · refine j_iconst X (pc := 24) 1 dX1_isSide_24 (by decide) ?_
      refine j_goto X (pc := 25) 29 dX1_isSide_25 (by decide) ?_
      exact j_zret X (pc := 29) (ty := .boolean) hQ er rfl (Nat.le_of_ble_eq_true rfl) (Nat.le_of_ble_eq_true rfl) dX1_isSide_29 hw
    · refine j_iload_n X (pc := 12) 0 dX1_isSide_12 rfl rfl ?_
      refine j_bipush X (pc := 13) 108 dX1_isSide_13 (by decide) ?_
      refine j_icmp_eq X (pc := 15) 24 dX1_isSide_15 (by decide) hw (fun hw => ?_) (fun hw => ?_)
      · refine j_iconst X (pc := 24) 1 dX1_isSide_24 (by decide) ?_
        refine j_goto X (pc := 25) 29 dX1_isSide_25 (by decide) ?_
        exact j_zret X (pc := 29) (ty := .boolean) hQ er rfl (Nat.le_of_ble_eq_true rfl) (Nat.le_of_ble_eq_true rfl) dX1_isSide_29 hw
      · refine j_iload_n X (pc := 18) 0 dX1_isSide_18 rfl rfl ?_
        refine j_bipush X (pc := 19) 114 dX1_isSide_19 (by decide) ?_
        refine j_icmp_ne X (pc := 21) 28 dX1_isSide_21 (by decide) hw (fun hw => ?_) (fun hw => ?_)
        · refine j_iconst X (pc := 24) 1 dX1_isSide_24 (by decide) ?_
          refine j_goto X (pc := 25) 29 dX1_isSide_25 (by decide) ?_
          exact j_zret X (pc := 29) (ty := .boolean) hQ er rfl (Nat.le_of_ble_eq_true rfl) (Nat.le_of_ble_eq_true rfl) dX1_isSide_29 hw
        · refine j_iconst X (pc := 28) 0 dX1_isSide_28 (by decide) ?_
          exact j_zret X (pc := 29) (ty := .boolean) hQ er rfl (Nat.le_of_ble_eq_true rfl) (Nat.le_of_ble_eq_true rfl) dX1_isSide_29 hw
abbrev cJ25_init : ByteArray := prog_40_method_1_code
def yJ25_init : MethodName := ⟨RJ25, "<init>", "()V"⟩
theorem dJ25_init_0 : decode cJ25_init 0 = .ok (.aload_n 0, 1) := by decide +kernel
theorem dJ25_init_1 : decode cJ25_init 1 = .ok (.invokespecial 1, 3) := by decide +kernel
theorem dJ25_init_4 : decode cJ25_init 4 = .ok (.return_, 1) := by decide +kernel
theorem q1262 : (Jvm.Cond.methodLink "java/lang/Record" (1 : Nat) ({ cls := "java/lang/Object", name := "<init>", desc := "()V" } : Jvm.MethodName)) ∈ lw_all := lw_g (lw_at lw_m5 232 rfl) rfl
abbrev rm_J25_init : Room := { frames := 1, cells := 0, slots := 0, locals := 12 }
def w_J25_init (a0 : Option Nat) (h : AH) (P : AH → Prop) : Prop :=
  nn a0 (
  P h)
theorem met_J25_init (l : Launch) (hlt : l.stackTraces = false) (G : GG) (h : AH) (a0 : Option Nat) (P : AH → Prop) (hw : w_J25_init a0 h P) : ct_v l yJ25_init (ws_ yJ25_init cJ25_init 1 (Option.none : Option Jvm.ClassFile.FieldType)) rm_J25_init G h [vR a0] P := by
  refine j_startv hlt [(0, vR a0)] (plainFor_of_name (by decide)) rfl rfl (fun x X eG er en hQ => ?_)
  subst eG
  refine j_aload_n X (pc := 0) 0 dJ25_init_0 rfl rfl ?_
  obtain ⟨b9, hr9, hw⟩ := hw
  refine j_obj X (pc := 1) hr9 q1262 q125 q126 dJ25_init_1 ⟨Nat.le_of_ble_eq_true rfl, Nat.le_of_ble_eq_true rfl⟩ ?_
  exact j_vret X (pc := 4) hQ er (Nat.le_of_ble_eq_true rfl) (Nat.le_of_ble_eq_true rfl) dJ25_init_4 hw
abbrev cX14_init : ByteArray := prog_8_method_1_code
def yX14_init : MethodName := ⟨RX14, "<init>", "(LPlugboard$Shape;C)V"⟩
def dkwX14_init_0 : List UInt8 := [42, 183, 0, 1, 42, 43, 181, 0, 7, 42, 28, 181, 0, 13, 177]
abbrev dktX14_init_0 : List UInt8 := dkwX14_init_0 ++ []
theorem dksX14_init_0 : cX14_init.data.toList.drop 0 = dktX14_init_0 := by decide +kernel
theorem dX14_init_0 : decode cX14_init 0 = .ok (.aload_n 0, 1) := dk_42 (dk_at dksX14_init_0 0 rfl rfl)
theorem dX14_init_1 : decode cX14_init 1 = .ok (.invokespecial 1, 3) := dk_183 0 1 (dk_at dksX14_init_0 1 rfl rfl)
theorem dX14_init_4 : decode cX14_init 4 = .ok (.aload_n 0, 1) := dk_42 (dk_at dksX14_init_0 4 rfl rfl)
theorem dX14_init_5 : decode cX14_init 5 = .ok (.aload_n 1, 1) := dk_43 (dk_at dksX14_init_0 5 rfl rfl)
theorem dX14_init_6 : decode cX14_init 6 = .ok (.putfield 7, 3) := dk_181 0 7 (dk_at dksX14_init_0 6 rfl rfl)
theorem dX14_init_9 : decode cX14_init 9 = .ok (.aload_n 0, 1) := dk_42 (dk_at dksX14_init_0 9 rfl rfl)
theorem dX14_init_10 : decode cX14_init 10 = .ok (.iload_n 2, 1) := dk_28 (dk_at dksX14_init_0 10 rfl rfl)
theorem dX14_init_11 : decode cX14_init 11 = .ok (.putfield 13, 3) := dk_181 0 13 (dk_at dksX14_init_0 11 rfl rfl)
theorem dX14_init_14 : decode cX14_init 14 = .ok (.return_, 1) := dk_177 (dk_at dksX14_init_0 14 rfl rfl)
theorem q111 : (Jvm.Cond.initialized "java/lang/Record") ∈ lw_all := lw_g (lw_at lw_m1 41 rfl) rfl
theorem q1259 : (Jvm.Cond.methodLink "Plugboard$End" (1 : Nat) ({ cls := "java/lang/Record", name := "<init>", desc := "()V" } : Jvm.MethodName)) ∈ lw_all := lw_g (lw_at lw_m5 229 rfl) rfl
theorem q1260 : (Jvm.Cond.instanceMethod ({ cls := "java/lang/Record", name := "<init>", desc := "()V" } : Jvm.MethodName)) ∈ lw_all := lw_g (lw_at lw_m5 230 rfl) rfl
theorem q1261 : (Jvm.Cond.code ({ cls := "java/lang/Record", name := "<init>", desc := "()V" } : Jvm.MethodName) prog_40_method_1_code (1 : Nat) (Option.none : Option Jvm.ClassFile.FieldType)) ∈ lw_all := lw_g (lw_at lw_m5 231 rfl) rfl
theorem q1263 : (Jvm.Cond.fieldLink "Plugboard$End" (7 : Nat) "Plugboard$End" "shape" "LPlugboard$Shape;") ∈ lw_all := lw_g (lw_at lw_m5 233 rfl) rfl
theorem q1264 : (Jvm.Cond.fieldLink "Plugboard$End" (13 : Nat) "Plugboard$End" "side" "C") ∈ lw_all := lw_g (lw_at lw_m5 234 rfl) rfl
abbrev rm_X14_init : Room := { frames := 2, cells := 0, slots := 0, locals := 32 }
def w_X14_init (a0 : Option Nat) (a1 : Option Nat) (a2 : Int32) (h : AH) (P : AH → Prop) : Prop :=
  nn a0 (
  w_J25_init a0 h (fun h1 =>
  p_v h1 a0 12 0 (vR a1) fun h6 =>
  nrw .char a2 ∧
  p_v h6 a0 12 1 (vI a2) fun h11 =>
  P h11))
theorem met_X14_init (l : Launch) (hlt : l.stackTraces = false) (G : GG) (h : AH) (a0 : Option Nat) (a1 : Option Nat) (a2 : Int32) (P : AH → Prop) (hw : w_X14_init a0 a1 a2 h P) : ct_v l yX14_init (ws_ yX14_init cX14_init 3 (Option.none : Option Jvm.ClassFile.FieldType)) rm_X14_init G h [vR a0, vR a1, vI a2] P := by
  refine j_startv hlt [(0, vR a0), (1, vR a1), (2, vI a2)] (plainFor_of_name (by decide)) rfl rfl (fun x X eG er en hQ => ?_)
  subst eG
  refine j_aload_n X (pc := 0) 0 dX14_init_0 rfl rfl ?_
  obtain ⟨b9, hr9, hw⟩ := hw
  refine j_callv (j_runI (n8 := 0) (As := []) (rest := []) X (pc := 1) hr9 (met_J25_init (xl x) X.hl (xG x) h a0 _ hw) q1259 q1260 q111 q1261 (by decide +kernel) dX14_init_1 rfl ⟨Nat.le_of_ble_eq_true rfl, Nat.le_of_ble_eq_true rfl⟩ (Nat.le_of_ble_eq_true rfl) ⟨Nat.le_of_ble_eq_true rfl, Nat.le_of_ble_eq_true rfl⟩) (fun h1 hw => ?_)
  refine j_aload_n X (pc := 4) 0 dX14_init_4 rfl rfl ?_
  refine j_aload_n X (pc := 5) 1 dX14_init_5 rfl rfl ?_
  refine j_putF (ci := 12) X (pc := 6) in_X14 rfl (by decide) 0 (by decide) q1263 (Or.inl rfl) tyX14 tyX14_ok nmX14 rfl en rfl rfl (ty := (.object "Plugboard$Shape")) (tyX14_ok 0 (by decide)) (rt_nar _ rfl _) (rt_fit _ rfl _) dX14_init_6 hw (fun h6 hw => ?_)
  refine j_aload_n X (pc := 9) 0 dX14_init_9 rfl rfl ?_
  refine j_iload_n X (pc := 10) 2 dX14_init_10 rfl rfl ?_
  have hnr := hw.1
  have hw := hw.2
  refine j_putF (ci := 12) X (pc := 11) in_X14 rfl (by decide) 1 (by decide) q1264 (Or.inl rfl) tyX14 tyX14_ok nmX14 rfl en rfl rfl (ty := .char) (tyX14_ok 1 (by decide)) hnr.1 hnr.2 dX14_init_11 hw (fun h11 hw => ?_)
  exact j_vret X (pc := 14) hQ er (Nat.le_of_ble_eq_true rfl) (Nat.le_of_ble_eq_true rfl) dX14_init_14 hw
abbrev cX15_init : ByteArray := prog_7_method_1_code
def yX15_init : MethodName := ⟨RX15, "<init>", "(ILPlugboard$End;LPlugboard$End;)V"⟩
def dkwX15_init_0 : List UInt8 := [42, 183, 0, 1, 42, 27, 181, 0, 7, 42, 44, 181, 0, 13, 42, 45, 181, 0, 17, 177]
abbrev dktX15_init_0 : List UInt8 := dkwX15_init_0 ++ []
theorem dksX15_init_0 : cX15_init.data.toList.drop 0 = dktX15_init_0 := by decide +kernel
theorem dX15_init_0 : decode cX15_init 0 = .ok (.aload_n 0, 1) := dk_42 (dk_at dksX15_init_0 0 rfl rfl)
theorem dX15_init_1 : decode cX15_init 1 = .ok (.invokespecial 1, 3) := dk_183 0 1 (dk_at dksX15_init_0 1 rfl rfl)
theorem dX15_init_4 : decode cX15_init 4 = .ok (.aload_n 0, 1) := dk_42 (dk_at dksX15_init_0 4 rfl rfl)
theorem dX15_init_5 : decode cX15_init 5 = .ok (.iload_n 1, 1) := dk_27 (dk_at dksX15_init_0 5 rfl rfl)
theorem dX15_init_6 : decode cX15_init 6 = .ok (.putfield 7, 3) := dk_181 0 7 (dk_at dksX15_init_0 6 rfl rfl)
theorem dX15_init_9 : decode cX15_init 9 = .ok (.aload_n 0, 1) := dk_42 (dk_at dksX15_init_0 9 rfl rfl)
theorem dX15_init_10 : decode cX15_init 10 = .ok (.aload_n 2, 1) := dk_44 (dk_at dksX15_init_0 10 rfl rfl)
theorem dX15_init_11 : decode cX15_init 11 = .ok (.putfield 13, 3) := dk_181 0 13 (dk_at dksX15_init_0 11 rfl rfl)
theorem dX15_init_14 : decode cX15_init 14 = .ok (.aload_n 0, 1) := dk_42 (dk_at dksX15_init_0 14 rfl rfl)
theorem dX15_init_15 : decode cX15_init 15 = .ok (.aload_n 3, 1) := dk_45 (dk_at dksX15_init_0 15 rfl rfl)
theorem dX15_init_16 : decode cX15_init 16 = .ok (.putfield 17, 3) := dk_181 0 17 (dk_at dksX15_init_0 16 rfl rfl)
theorem dX15_init_19 : decode cX15_init 19 = .ok (.return_, 1) := dk_177 (dk_at dksX15_init_0 19 rfl rfl)
theorem q1275 : (Jvm.Cond.methodLink "Plugboard$Connector" (1 : Nat) ({ cls := "java/lang/Record", name := "<init>", desc := "()V" } : Jvm.MethodName)) ∈ lw_all := lw_g (lw_at lw_m6 5 rfl) rfl
theorem q1276 : (Jvm.Cond.fieldLink "Plugboard$Connector" (7 : Nat) "Plugboard$Connector" "number" "I") ∈ lw_all := lw_g (lw_at lw_m6 6 rfl) rfl
theorem q1277 : (Jvm.Cond.fieldLink "Plugboard$Connector" (13 : Nat) "Plugboard$Connector" "from" "LPlugboard$End;") ∈ lw_all := lw_g (lw_at lw_m6 7 rfl) rfl
theorem q1278 : (Jvm.Cond.fieldLink "Plugboard$Connector" (17 : Nat) "Plugboard$Connector" "to" "LPlugboard$End;") ∈ lw_all := lw_g (lw_at lw_m6 8 rfl) rfl
abbrev rm_X15_init : Room := { frames := 2, cells := 0, slots := 0, locals := 32 }
def w_X15_init (a0 : Option Nat) (a1 : Int32) (a2 : Option Nat) (a3 : Option Nat) (h : AH) (P : AH → Prop) : Prop :=
  nn a0 (
  w_J25_init a0 h (fun h1 =>
  p_v h1 a0 13 0 (vI a1) fun h6 =>
  p_v h6 a0 13 1 (vR a2) fun h11 =>
  p_v h11 a0 13 2 (vR a3) fun h16 =>
  P h16))
theorem met_X15_init (l : Launch) (hlt : l.stackTraces = false) (G : GG) (h : AH) (a0 : Option Nat) (a1 : Int32) (a2 : Option Nat) (a3 : Option Nat) (P : AH → Prop) (hw : w_X15_init a0 a1 a2 a3 h P) : ct_v l yX15_init (ws_ yX15_init cX15_init 4 (Option.none : Option Jvm.ClassFile.FieldType)) rm_X15_init G h [vR a0, vI a1, vR a2, vR a3] P := by
  refine j_startv hlt [(0, vR a0), (1, vI a1), (2, vR a2), (3, vR a3)] (plainFor_of_name (by decide)) rfl rfl (fun x X eG er en hQ => ?_)
  subst eG
  refine j_aload_n X (pc := 0) 0 dX15_init_0 rfl rfl ?_
  obtain ⟨b9, hr9, hw⟩ := hw
  refine j_callv (j_runI (n8 := 0) (As := []) (rest := []) X (pc := 1) hr9 (met_J25_init (xl x) X.hl (xG x) h a0 _ hw) q1275 q1260 q111 q1261 (by decide +kernel) dX15_init_1 rfl ⟨Nat.le_of_ble_eq_true rfl, Nat.le_of_ble_eq_true rfl⟩ (Nat.le_of_ble_eq_true rfl) ⟨Nat.le_of_ble_eq_true rfl, Nat.le_of_ble_eq_true rfl⟩) (fun h1 hw => ?_)
  refine j_aload_n X (pc := 4) 0 dX15_init_4 rfl rfl ?_
  refine j_iload_n X (pc := 5) 1 dX15_init_5 rfl rfl ?_
  refine j_putF (ci := 13) X (pc := 6) in_X15 rfl (by decide) 0 (by decide) q1276 (Or.inl rfl) tyX15 tyX15_ok nmX15 rfl en rfl rfl (ty := .int) (tyX15_ok 0 (by decide)) rfl rfl dX15_init_6 hw (fun h6 hw => ?_)
  refine j_aload_n X (pc := 9) 0 dX15_init_9 rfl rfl ?_
  refine j_aload_n X (pc := 10) 2 dX15_init_10 rfl rfl ?_
  refine j_putF (ci := 13) X (pc := 11) in_X15 rfl (by decide) 1 (by decide) q1277 (Or.inl rfl) tyX15 tyX15_ok nmX15 rfl en rfl rfl (ty := (.object "Plugboard$End")) (tyX15_ok 1 (by decide)) (rt_nar _ rfl _) (rt_fit _ rfl _) dX15_init_11 hw (fun h11 hw => ?_)
  refine j_aload_n X (pc := 14) 0 dX15_init_14 rfl rfl ?_
  refine j_aload_n X (pc := 15) 3 dX15_init_15 rfl rfl ?_
  refine j_putF (ci := 13) X (pc := 16) in_X15 rfl (by decide) 2 (by decide) q1278 (Or.inl rfl) tyX15 tyX15_ok nmX15 rfl en rfl rfl (ty := (.object "Plugboard$End")) (tyX15_ok 2 (by decide)) (rt_nar _ rfl _) (rt_fit _ rfl _) dX15_init_16 hw (fun h16 hw => ?_)
  exact j_vret X (pc := 19) hQ er (Nat.le_of_ble_eq_true rfl) (Nat.le_of_ble_eq_true rfl) dX15_init_19 hw
abbrev cX1_connect : ByteArray := prog_1_method_29_code
def yX1_connect : MethodName := ⟨RX1, "connect", "(IICIC)I"⟩
def dkwX1_connect_6 : List UInt8 := [182, 1, 11, 21, 9, 172]
abbrev dktX1_connect_6 : List UInt8 := dkwX1_connect_6 ++ []
def dkwX1_connect_5 : List UInt8 := [21, 9, 25, 7, 25, 8, 183, 1, 40, 182, 0, 157, 87, 42, 25, 6, 16, 48, 21, 9, 96, 4]
abbrev dktX1_connect_5 : List UInt8 := dkwX1_connect_5 ++ dktX1_connect_6
def dkwX1_connect_4 : List UInt8 := [184, 0, 127, 42, 182, 0, 207, 42, 180, 0, 59, 182, 0, 126, 54, 9, 42, 180, 0, 59, 187, 1, 38, 89]
abbrev dktX1_connect_4 : List UInt8 := dkwX1_connect_4 ++ dktX1_connect_5
def dkwX1_connect_3 : List UInt8 := [21, 5, 183, 1, 35, 58, 8, 42, 180, 0, 59, 182, 0, 126, 16, 8, 162, 0, 7, 4, 167, 0, 4, 3]
abbrev dktX1_connect_3 : List UInt8 := dkwX1_connect_3 ++ dktX1_connect_4
def dkwX1_connect_2 : List UInt8 := [25, 6, 28, 182, 0, 241, 29, 183, 1, 35, 58, 7, 187, 1, 33, 89, 42, 25, 6, 21, 4, 182, 0, 241]
abbrev dktX1_connect_2 : List UInt8 := dkwX1_connect_2 ++ dktX1_connect_3
def dkwX1_connect_1 : List UInt8 := [84, 89, 5, 28, 21, 4, 159, 0, 7, 4, 167, 0, 4, 3, 84, 184, 0, 25, 187, 1, 33, 89, 42]
abbrev dktX1_connect_1 : List UInt8 := dkwX1_connect_1 ++ dktX1_connect_2
def dkwX1_connect_0 : List UInt8 := [42, 27, 182, 0, 199, 58, 6, 6, 188, 4, 89, 3, 29, 184, 1, 29, 84, 89, 4, 21, 5, 184, 1, 29]
abbrev dktX1_connect_0 : List UInt8 := dkwX1_connect_0 ++ dktX1_connect_1
theorem dksX1_connect_0 : cX1_connect.data.toList.drop 0 = dktX1_connect_0 := by decide +kernel
theorem dksX1_connect_1 : cX1_connect.data.toList.drop 24 = dktX1_connect_1 := dk_seg dksX1_connect_0 24 rfl rfl
theorem dksX1_connect_2 : cX1_connect.data.toList.drop 47 = dktX1_connect_2 := dk_seg dksX1_connect_1 23 rfl rfl
theorem dksX1_connect_3 : cX1_connect.data.toList.drop 71 = dktX1_connect_3 := dk_seg dksX1_connect_2 24 rfl rfl
theorem dksX1_connect_4 : cX1_connect.data.toList.drop 95 = dktX1_connect_4 := dk_seg dksX1_connect_3 24 rfl rfl
theorem dksX1_connect_5 : cX1_connect.data.toList.drop 119 = dktX1_connect_5 := dk_seg dksX1_connect_4 24 rfl rfl
theorem dksX1_connect_6 : cX1_connect.data.toList.drop 141 = dktX1_connect_6 := dk_seg dksX1_connect_5 22 rfl rfl
theorem dX1_connect_0 : decode cX1_connect 0 = .ok (.aload_n 0, 1) := dk_42 (dk_at dksX1_connect_0 0 rfl rfl)
theorem dX1_connect_1 : decode cX1_connect 1 = .ok (.iload_n 1, 1) := dk_27 (dk_at dksX1_connect_0 1 rfl rfl)
theorem dX1_connect_2 : decode cX1_connect 2 = .ok (.invokevirtual 199, 3) := dk_182 0 199 (dk_at dksX1_connect_0 2 rfl rfl)
theorem dX1_connect_5 : decode cX1_connect 5 = .ok (.astore 6, 2) := dk_58 6 (dk_at dksX1_connect_0 5 rfl rfl)
theorem dX1_connect_7 : decode cX1_connect 7 = .ok (.iconst 3, 1) := dk_6 (dk_at dksX1_connect_0 7 rfl rfl)
theorem dX1_connect_8 : decode cX1_connect 8 = .ok (.newarray .boolean, 2) := dk_188_4 (dk_at dksX1_connect_0 8 rfl rfl)
theorem dX1_connect_10 : decode cX1_connect 10 = .ok (.dup, 1) := dk_89 (dk_at dksX1_connect_0 10 rfl rfl)
theorem dX1_connect_11 : decode cX1_connect 11 = .ok (.iconst 0, 1) := dk_3 (dk_at dksX1_connect_0 11 rfl rfl)
theorem dX1_connect_12 : decode cX1_connect 12 = .ok (.iload_n 3, 1) := dk_29 (dk_at dksX1_connect_0 12 rfl rfl)
theorem dX1_connect_13 : decode cX1_connect 13 = .ok (.invokestatic 285, 3) := dk_184 1 29 (dk_at dksX1_connect_0 13 rfl rfl)
theorem dX1_connect_16 : decode cX1_connect 16 = .ok (.bastore, 1) := dk_84 (dk_at dksX1_connect_0 16 rfl rfl)
theorem dX1_connect_17 : decode cX1_connect 17 = .ok (.dup, 1) := dk_89 (dk_at dksX1_connect_0 17 rfl rfl)
theorem dX1_connect_18 : decode cX1_connect 18 = .ok (.iconst 1, 1) := dk_4 (dk_at dksX1_connect_0 18 rfl rfl)
theorem dX1_connect_19 : decode cX1_connect 19 = .ok (.iload 5, 2) := dk_21 5 (dk_at dksX1_connect_0 19 rfl rfl)
theorem dX1_connect_21 : decode cX1_connect 21 = .ok (.invokestatic 285, 3) := dk_184 1 29 (dk_at dksX1_connect_0 21 rfl rfl)
theorem dX1_connect_24 : decode cX1_connect 24 = .ok (.bastore, 1) := dk_84 (dk_at dksX1_connect_1 0 rfl rfl)
theorem dX1_connect_25 : decode cX1_connect 25 = .ok (.dup, 1) := dk_89 (dk_at dksX1_connect_1 1 rfl rfl)
theorem dX1_connect_26 : decode cX1_connect 26 = .ok (.iconst 2, 1) := dk_5 (dk_at dksX1_connect_1 2 rfl rfl)
theorem dX1_connect_27 : decode cX1_connect 27 = .ok (.iload_n 2, 1) := dk_28 (dk_at dksX1_connect_1 3 rfl rfl)
theorem dX1_connect_28 : decode cX1_connect 28 = .ok (.iload 4, 2) := dk_21 4 (dk_at dksX1_connect_1 4 rfl rfl)
theorem dX1_connect_30 : decode cX1_connect 30 = .ok (.if_icmp .eq 7, 3) := dk_159 0 7 (dk_at dksX1_connect_1 6 rfl rfl)
theorem dX1_connect_33 : decode cX1_connect 33 = .ok (.iconst 1, 1) := dk_4 (dk_at dksX1_connect_1 9 rfl rfl)
theorem dX1_connect_34 : decode cX1_connect 34 = .ok (.goto 4, 3) := dk_167 0 4 (dk_at dksX1_connect_1 10 rfl rfl)
theorem dX1_connect_37 : decode cX1_connect 37 = .ok (.iconst 0, 1) := dk_3 (dk_at dksX1_connect_1 13 rfl rfl)
theorem dX1_connect_38 : decode cX1_connect 38 = .ok (.bastore, 1) := dk_84 (dk_at dksX1_connect_1 14 rfl rfl)
theorem dX1_connect_39 : decode cX1_connect 39 = .ok (.invokestatic 25, 3) := dk_184 0 25 (dk_at dksX1_connect_1 15 rfl rfl)
theorem dX1_connect_42 : decode cX1_connect 42 = .ok (.new 289, 3) := dk_187 1 33 (dk_at dksX1_connect_1 18 rfl rfl)
theorem dX1_connect_45 : decode cX1_connect 45 = .ok (.dup, 1) := dk_89 (dk_at dksX1_connect_1 21 rfl rfl)
theorem dX1_connect_46 : decode cX1_connect 46 = .ok (.aload_n 0, 1) := dk_42 (dk_at dksX1_connect_1 22 rfl rfl)
theorem dX1_connect_47 : decode cX1_connect 47 = .ok (.aload 6, 2) := dk_25 6 (dk_at dksX1_connect_2 0 rfl rfl)
theorem dX1_connect_49 : decode cX1_connect 49 = .ok (.iload_n 2, 1) := dk_28 (dk_at dksX1_connect_2 2 rfl rfl)
theorem dX1_connect_50 : decode cX1_connect 50 = .ok (.invokevirtual 241, 3) := dk_182 0 241 (dk_at dksX1_connect_2 3 rfl rfl)
theorem dX1_connect_53 : decode cX1_connect 53 = .ok (.iload_n 3, 1) := dk_29 (dk_at dksX1_connect_2 6 rfl rfl)
theorem dX1_connect_54 : decode cX1_connect 54 = .ok (.invokespecial 291, 3) := dk_183 1 35 (dk_at dksX1_connect_2 7 rfl rfl)
theorem dX1_connect_57 : decode cX1_connect 57 = .ok (.astore 7, 2) := dk_58 7 (dk_at dksX1_connect_2 10 rfl rfl)
theorem dX1_connect_59 : decode cX1_connect 59 = .ok (.new 289, 3) := dk_187 1 33 (dk_at dksX1_connect_2 12 rfl rfl)
theorem dX1_connect_62 : decode cX1_connect 62 = .ok (.dup, 1) := dk_89 (dk_at dksX1_connect_2 15 rfl rfl)
theorem dX1_connect_63 : decode cX1_connect 63 = .ok (.aload_n 0, 1) := dk_42 (dk_at dksX1_connect_2 16 rfl rfl)
theorem dX1_connect_64 : decode cX1_connect 64 = .ok (.aload 6, 2) := dk_25 6 (dk_at dksX1_connect_2 17 rfl rfl)
theorem dX1_connect_66 : decode cX1_connect 66 = .ok (.iload 4, 2) := dk_21 4 (dk_at dksX1_connect_2 19 rfl rfl)
theorem dX1_connect_68 : decode cX1_connect 68 = .ok (.invokevirtual 241, 3) := dk_182 0 241 (dk_at dksX1_connect_2 21 rfl rfl)
theorem dX1_connect_71 : decode cX1_connect 71 = .ok (.iload 5, 2) := dk_21 5 (dk_at dksX1_connect_3 0 rfl rfl)
theorem dX1_connect_73 : decode cX1_connect 73 = .ok (.invokespecial 291, 3) := dk_183 1 35 (dk_at dksX1_connect_3 2 rfl rfl)
theorem dX1_connect_76 : decode cX1_connect 76 = .ok (.astore 8, 2) := dk_58 8 (dk_at dksX1_connect_3 5 rfl rfl)
theorem dX1_connect_78 : decode cX1_connect 78 = .ok (.aload_n 0, 1) := dk_42 (dk_at dksX1_connect_3 7 rfl rfl)
theorem dX1_connect_79 : decode cX1_connect 79 = .ok (.getfield 59, 3) := dk_180 0 59 (dk_at dksX1_connect_3 8 rfl rfl)
theorem dX1_connect_82 : decode cX1_connect 82 = .ok (.invokevirtual 126, 3) := dk_182 0 126 (dk_at dksX1_connect_3 11 rfl rfl)
theorem dX1_connect_85 : decode cX1_connect 85 = .ok (.bipush 8, 2) := dk_16 8 (dk_at dksX1_connect_3 14 rfl rfl)
theorem dX1_connect_87 : decode cX1_connect 87 = .ok (.if_icmp .ge 7, 3) := dk_162 0 7 (dk_at dksX1_connect_3 16 rfl rfl)
theorem dX1_connect_90 : decode cX1_connect 90 = .ok (.iconst 1, 1) := dk_4 (dk_at dksX1_connect_3 19 rfl rfl)
theorem dX1_connect_91 : decode cX1_connect 91 = .ok (.goto 4, 3) := dk_167 0 4 (dk_at dksX1_connect_3 20 rfl rfl)
theorem dX1_connect_94 : decode cX1_connect 94 = .ok (.iconst 0, 1) := dk_3 (dk_at dksX1_connect_3 23 rfl rfl)
theorem dX1_connect_95 : decode cX1_connect 95 = .ok (.invokestatic 127, 3) := dk_184 0 127 (dk_at dksX1_connect_4 0 rfl rfl)
theorem dX1_connect_98 : decode cX1_connect 98 = .ok (.aload_n 0, 1) := dk_42 (dk_at dksX1_connect_4 3 rfl rfl)
theorem dX1_connect_99 : decode cX1_connect 99 = .ok (.invokevirtual 207, 3) := dk_182 0 207 (dk_at dksX1_connect_4 4 rfl rfl)
theorem dX1_connect_102 : decode cX1_connect 102 = .ok (.aload_n 0, 1) := dk_42 (dk_at dksX1_connect_4 7 rfl rfl)
theorem dX1_connect_103 : decode cX1_connect 103 = .ok (.getfield 59, 3) := dk_180 0 59 (dk_at dksX1_connect_4 8 rfl rfl)
theorem dX1_connect_106 : decode cX1_connect 106 = .ok (.invokevirtual 126, 3) := dk_182 0 126 (dk_at dksX1_connect_4 11 rfl rfl)
theorem dX1_connect_109 : decode cX1_connect 109 = .ok (.istore 9, 2) := dk_54 9 (dk_at dksX1_connect_4 14 rfl rfl)
theorem dX1_connect_111 : decode cX1_connect 111 = .ok (.aload_n 0, 1) := dk_42 (dk_at dksX1_connect_4 16 rfl rfl)
theorem dX1_connect_112 : decode cX1_connect 112 = .ok (.getfield 59, 3) := dk_180 0 59 (dk_at dksX1_connect_4 17 rfl rfl)
theorem dX1_connect_115 : decode cX1_connect 115 = .ok (.new 294, 3) := dk_187 1 38 (dk_at dksX1_connect_4 20 rfl rfl)
theorem dX1_connect_118 : decode cX1_connect 118 = .ok (.dup, 1) := dk_89 (dk_at dksX1_connect_4 23 rfl rfl)
theorem dX1_connect_119 : decode cX1_connect 119 = .ok (.iload 9, 2) := dk_21 9 (dk_at dksX1_connect_5 0 rfl rfl)
theorem dX1_connect_121 : decode cX1_connect 121 = .ok (.aload 7, 2) := dk_25 7 (dk_at dksX1_connect_5 2 rfl rfl)
theorem dX1_connect_123 : decode cX1_connect 123 = .ok (.aload 8, 2) := dk_25 8 (dk_at dksX1_connect_5 4 rfl rfl)
theorem dX1_connect_125 : decode cX1_connect 125 = .ok (.invokespecial 296, 3) := dk_183 1 40 (dk_at dksX1_connect_5 6 rfl rfl)
theorem dX1_connect_128 : decode cX1_connect 128 = .ok (.invokevirtual 157, 3) := dk_182 0 157 (dk_at dksX1_connect_5 9 rfl rfl)
theorem dX1_connect_131 : decode cX1_connect 131 = .ok (.pop, 1) := dk_87 (dk_at dksX1_connect_5 12 rfl rfl)
theorem dX1_connect_132 : decode cX1_connect 132 = .ok (.aload_n 0, 1) := dk_42 (dk_at dksX1_connect_5 13 rfl rfl)
theorem dX1_connect_133 : decode cX1_connect 133 = .ok (.aload 6, 2) := dk_25 6 (dk_at dksX1_connect_5 14 rfl rfl)
theorem dX1_connect_135 : decode cX1_connect 135 = .ok (.bipush 48, 2) := dk_16 48 (dk_at dksX1_connect_5 16 rfl rfl)
theorem dX1_connect_137 : decode cX1_connect 137 = .ok (.iload 9, 2) := dk_21 9 (dk_at dksX1_connect_5 18 rfl rfl)
theorem dX1_connect_139 : decode cX1_connect 139 = .ok (.iadd, 1) := dk_96 (dk_at dksX1_connect_5 20 rfl rfl)
theorem dX1_connect_140 : decode cX1_connect 140 = .ok (.iconst 1, 1) := dk_4 (dk_at dksX1_connect_5 21 rfl rfl)
theorem dX1_connect_141 : decode cX1_connect 141 = .ok (.invokevirtual 267, 3) := dk_182 1 11 (dk_at dksX1_connect_6 0 rfl rfl)
theorem dX1_connect_144 : decode cX1_connect 144 = .ok (.iload 9, 2) := dk_21 9 (dk_at dksX1_connect_6 3 rfl rfl)
theorem dX1_connect_146 : decode cX1_connect 146 = .ok (.ireturn, 1) := dk_172 (dk_at dksX1_connect_6 5 rfl rfl)
theorem q112 : (Jvm.Cond.initialized "Plugboard$End") ∈ lw_all := lw_g (lw_at lw_m1 42 rfl) rfl
theorem q113 : (Jvm.Cond.initialized "Plugboard$Connector") ∈ lw_all := lw_g (lw_at lw_m1 43 rfl) rfl
theorem q1251 : (Jvm.Cond.methodLink "Plugboard" (285 : Nat) ({ cls := "Plugboard", name := "isSide", desc := "(C)Z" } : Jvm.MethodName)) ∈ lw_all := lw_g (lw_at lw_m5 221 rfl) rfl
theorem q1252 : (Jvm.Cond.static ({ cls := "Plugboard", name := "isSide", desc := "(C)Z" } : Jvm.MethodName)) ∈ lw_all := lw_g (lw_at lw_m5 222 rfl) rfl
theorem q1253 : (Jvm.Cond.code ({ cls := "Plugboard", name := "isSide", desc := "(C)Z" } : Jvm.MethodName) prog_1_method_28_code (1 : Nat) (Option.some Jvm.ClassFile.FieldType.boolean)) ∈ lw_all := lw_g (lw_at lw_m5 223 rfl) rfl
theorem q1254 : (Jvm.Cond.classLink "Plugboard" (289 : Nat) "Plugboard$End") ∈ lw_all := lw_g (lw_at lw_m5 224 rfl) rfl
theorem q1255 : (Jvm.Cond.instantiable "Plugboard$End" (2 : Nat)) ∈ lw_all := lw_g (lw_at lw_m5 225 rfl) rfl
theorem q1256 : (Jvm.Cond.methodLinkNest "Plugboard" (291 : Nat) ({ cls := "Plugboard$End", name := "<init>", desc := "(LPlugboard$Shape;C)V" } : Jvm.MethodName) "Plugboard") ∈ lw_tbl := lw_at lw_m5 226 rfl
theorem q1257 : (Jvm.Cond.instanceMethod ({ cls := "Plugboard$End", name := "<init>", desc := "(LPlugboard$Shape;C)V" } : Jvm.MethodName)) ∈ lw_all := lw_g (lw_at lw_m5 227 rfl) rfl
theorem q1258 : (Jvm.Cond.code ({ cls := "Plugboard$End", name := "<init>", desc := "(LPlugboard$Shape;C)V" } : Jvm.MethodName) prog_8_method_1_code (3 : Nat) (Option.none : Option Jvm.ClassFile.FieldType)) ∈ lw_all := lw_g (lw_at lw_m5 228 rfl) rfl
theorem q1270 : (Jvm.Cond.classLink "Plugboard" (294 : Nat) "Plugboard$Connector") ∈ lw_all := lw_g (lw_at lw_m6 0 rfl) rfl
theorem q1271 : (Jvm.Cond.instantiable "Plugboard$Connector" (3 : Nat)) ∈ lw_all := lw_g (lw_at lw_m6 1 rfl) rfl
theorem q1272 : (Jvm.Cond.methodLinkNest "Plugboard" (296 : Nat) ({ cls := "Plugboard$Connector", name := "<init>", desc := "(ILPlugboard$End;LPlugboard$End;)V" } : Jvm.MethodName) "Plugboard") ∈ lw_tbl := lw_at lw_m6 2 rfl
theorem q1273 : (Jvm.Cond.instanceMethod ({ cls := "Plugboard$Connector", name := "<init>", desc := "(ILPlugboard$End;LPlugboard$End;)V" } : Jvm.MethodName)) ∈ lw_all := lw_g (lw_at lw_m6 3 rfl) rfl
theorem q1274 : (Jvm.Cond.code ({ cls := "Plugboard$Connector", name := "<init>", desc := "(ILPlugboard$End;LPlugboard$End;)V" } : Jvm.MethodName) prog_7_method_1_code (4 : Nat) (Option.none : Option Jvm.ClassFile.FieldType)) ∈ lw_all := lw_g (lw_at lw_m6 4 rfl) rfl
abbrev rm_X1_connect : Room := { frames := 11, cells := 22, slots := 304, locals := 270 }
def w_X1_connect_95 (P : Int32 → AH → Prop) (PX : String → AH → Prop) (x0 : Option Nat) (x6 : Option Nat) (x7 : Option Nat) (x8 : Option Nat) (t0 : Int32) (h : AH) : Prop :=
  w_X1_requireState t0 h (fun h95 =>
  is_c h95 x0 [0] (
  w_X1_requireRoom x0 h95 (fun h99 =>
  g_q h99 x0 0 1 fun y103 =>
  is_c h99 y103 [15] (
  w_J2_size y103 h99 (fun y106 h106 =>
  g_q h106 x0 0 1 fun y112 =>
  mk h106 (.inr (13, dvX15)) fun q115 h115 =>
  w_X15_init (some q115) y106 x7 x8 h115 (fun h125 =>
  is_c h125 y112 [15] (
  w_J2_add y112 (some q115) h125 (fun y128 h128 =>
  is_c h128 x0 [0] (
  w_X1_write x0 x6 (48 + y106) 1 h128 (fun h141 =>
  P y106 h141)))))))) PX)) PX
def w_X1_connect_38 (P : Int32 → AH → Prop) (PX : String → AH → Prop) (x0 : Option Nat) (x2 : Int32) (x3 : Int32) (x4 : Int32) (x5 : Int32) (x6 : Option Nat) (t0 : Int32) (t1 : Int32) (t2 : Option Nat) (t3 : Option Nat) (h : AH) : Prop :=
  nrw .boolean t0 ∧
  s_i h t2 1 t1 t0 fun h38 =>
  w_X1_require t3 h38 (fun h39 =>
  mk h39 (.inr (12, dvX14)) fun q42 h42 =>
  is_c h42 x0 [0] (
  w_X1_shape x0 x6 x2 h42 (fun y50 h50 =>
  w_X14_init (some q42) y50 x3 h50 (fun h54 =>
  mk h54 (.inr (12, dvX14)) fun q59 h59 =>
  is_c h59 x0 [0] (
  w_X1_shape x0 x6 x4 h59 (fun y68 h68 =>
  w_X14_init (some q59) y68 x5 h68 (fun h73 =>
  g_q h73 x0 0 1 fun y79 =>
  is_c h73 y79 [15] (
  w_J2_size y79 h73 (fun y82 h82 =>
  ((8 ≤ y82 →
    w_X1_connect_95 P PX x0 x6 (some q42) (some q59) 0 h82) ∧
   (¬ 8 ≤ y82 →
    w_X1_connect_95 P PX x0 x6 (some q42) (some q59) 1 h82)))))) PX))) PX)) PX
def w_X1_connect (a0 : Option Nat) (a1 : Int32) (a2 : Int32) (a3 : Int32) (a4 : Int32) (a5 : Int32) (h : AH) (P : Int32 → AH → Prop) (PX : String → AH → Prop) : Prop :=
  is_c h a0 [0] (
  w_X1_board a0 a1 h (fun y2 h2 =>
  mk_i h2 1 3 3 fun q8 h8 =>
  w_X1_isSide a3 h8 (fun y13 h13 =>
  nrw .boolean y13 ∧
  s_i h13 (some q8) 1 0 y13 fun h16 =>
  w_X1_isSide a5 h16 (fun y21 h21 =>
  nrw .boolean y21 ∧
  s_i h21 (some q8) 1 1 y21 fun h24 =>
  ((a2 = a4 →
    w_X1_connect_38 P PX a0 a2 a3 a4 a5 y2 0 2 (some q8) (some q8) h24) ∧
   (¬ a2 = a4 →
    w_X1_connect_38 P PX a0 a2 a3 a4 a5 y2 1 2 (some q8) (some q8) h24))))) PX)
theorem wk_X1_connect_95 {x : CX} (X : Ok x cX1_connect RX1 rm_X1_connect 10) (er : xrt x = (Option.some Jvm.ClassFile.FieldType.int)) (en : xnm x = yX1_connect.name) {P : Int32 → AH → Prop} {PX : String → AH → Prop} (hQ : xr_i x P) (hT : xt_ x PX) (hex : ∀ z ∈ x.2.2.2.2.2.2.2.2.2.1.exceptionTable.toList, False) (x0 : Option Nat) (x6 : Option Nat) (x7 : Option Nat) (x8 : Option Nat) (t0 : Int32) (h : AH) (hw : w_X1_connect_95 P PX x0 x6 x7 x8 t0 h) : J x h 8 32 95 [(0, vR x0), (6, vR x6), (7, vR x7), (8, vR x8)] [vI t0] := by
  refine j_callXv (j_runSX (n8 := 1) (As := [vI t0]) (rest := []) X (pc := 95) (met_X1_requireState (xl x) X.hl (xG x) h t0 _ _ hw) q382 q383 q71 q384 (by decide +kernel) dX1_connect_95 rfl ⟨Nat.le_of_ble_eq_true rfl, Nat.le_of_ble_eq_true rfl⟩ (Nat.le_of_ble_eq_true rfl) ⟨Nat.le_of_ble_eq_true rfl, Nat.le_of_ble_eq_true rfl⟩) (fun E h9 hx => j_out X hT hex (Nat.le_of_ble_eq_true rfl) (Nat.le_of_ble_eq_true rfl) hx) (fun h95 hw => ?_)
  refine j_aload_n X (pc := 98) 0 dX1_connect_98 rfl rfl ?_
  obtain ⟨b9, c9, f9, hr9, ho9, hc9, hw⟩ := hw
  obtain rfl := List.mem_singleton.mp hc9
  refine j_callXv (j_runVX (n8 := 0) (As := []) (rest := []) X (pc := 99) hr9 (met_X1_requireRoom (xl x) X.hl (xG x) h95 x0 _ _ hw) ho9 (by decide) rfl q400 q402 qs2 q71 q403 (by decide +kernel) dX1_connect_99 rfl ⟨Nat.le_of_ble_eq_true rfl, Nat.le_of_ble_eq_true rfl⟩ (Nat.le_of_ble_eq_true rfl) ⟨Nat.le_of_ble_eq_true rfl, Nat.le_of_ble_eq_true rfl⟩) (fun E h9 hx => j_out X hT hex (Nat.le_of_ble_eq_true rfl) (Nat.le_of_ble_eq_true rfl) hx) (fun h99 hw => ?_)
  refine j_aload_n X (pc := 102) 0 dX1_connect_102 rfl rfl ?_
  refine j_getq (ci := 0) X (pc := 103) in_X1 rfl (by decide) 1 (by decide) q242 (Or.inl rfl) dX1_connect_103 hw (fun y103 hw => ?_)
  obtain ⟨b9, c9, f9, hr9, ho9, hc9, hw⟩ := hw
  obtain rfl := List.mem_singleton.mp hc9
  refine j_calli (j_runV (n8 := 0) (As := []) (rest := []) X (pc := 106) hr9 (met_J2_size (xl x) X.hl (xG x) h99 y103 _ hw) ho9 (by decide) rfl q284 q285 q286 q74 q287 (by decide +kernel) dX1_connect_106 rfl ⟨Nat.le_of_ble_eq_true rfl, Nat.le_of_ble_eq_true rfl⟩ (Nat.le_of_ble_eq_true rfl) ⟨Nat.le_of_ble_eq_true rfl, Nat.le_of_ble_eq_true rfl⟩) (fun y106 h106 hw => ?_)
  refine j_istore X (pc := 109) [(9, vI y106), (0, vR x0), (6, vR x6), (7, vR x7), (8, vR x8)] dX1_connect_109 (Nat.le_of_ble_eq_true rfl) rfl ?_
  refine j_aload_n X (pc := 111) 1 dX1_connect_111 rfl rfl ?_
  refine j_getq (ci := 0) X (pc := 112) in_X1 rfl (by decide) 1 (by decide) q242 (Or.inl rfl) dX1_connect_112 hw (fun y112 hw => ?_)
  refine j_new (ci := 13) X (pc := 115) in_X15 rfl (by decide) tyX15 tyX15_ok q1270 q1271 q113 (fs := dvX15) dfX15 (Nat.le_of_ble_eq_true rfl) (Nat.le_of_ble_eq_true rfl) dX1_connect_115 hw (fun q115 h115 hw => ?_)
  refine j_dup X (pc := 118) dX1_connect_118 rfl ?_
  refine j_iload X (pc := 119) 0 dX1_connect_119 rfl ?_
  refine j_aload X (pc := 121) 3 dX1_connect_121 rfl ?_
  refine j_aload X (pc := 123) 4 dX1_connect_123 rfl ?_
  refine j_callv (j_runIN (n8 := 3) (As := [vI y106, vR x7, vR x8]) (rest := [vR (some q115), vR y112]) X (pc := 125) rfl (met_X15_init (xl x) X.hl (xG x) h115 (some q115) y106 x7 x8 _ hw) q1272 q1273 q113 q1274 (by decide +kernel) dX1_connect_125 rfl ⟨Nat.le_of_ble_eq_true rfl, Nat.le_of_ble_eq_true rfl⟩ (Nat.le_of_ble_eq_true rfl) ⟨Nat.le_of_ble_eq_true rfl, Nat.le_of_ble_eq_true rfl⟩) (fun h125 hw => ?_)
  obtain ⟨b9, c9, f9, hr9, ho9, hc9, hw⟩ := hw
  obtain rfl := List.mem_singleton.mp hc9
  refine j_calli (j_runV (n8 := 1) (As := [vR (some q115)]) (rest := []) X (pc := 128) hr9 (met_J2_add (xl x) X.hl (xG x) h125 y112 (some q115) _ hw) ho9 (by decide) rfl q602 q603 q604 q74 q605 (by decide +kernel) dX1_connect_128 rfl ⟨Nat.le_of_ble_eq_true rfl, Nat.le_of_ble_eq_true rfl⟩ (Nat.le_of_ble_eq_true rfl) ⟨Nat.le_of_ble_eq_true rfl, Nat.le_of_ble_eq_true rfl⟩) (fun y128 h128 hw => ?_)
  refine j_pop X (pc := 131) dX1_connect_131 rfl ?_
  refine j_aload_n X (pc := 132) 1 dX1_connect_132 rfl rfl ?_
  refine j_aload X (pc := 133) 2 dX1_connect_133 rfl ?_
  refine j_bipush X (pc := 135) 48 dX1_connect_135 (by decide) ?_
  refine j_iload X (pc := 137) 0 dX1_connect_137 rfl ?_
  refine j_iadd X (pc := 139) dX1_connect_139 ?_
  refine j_iconst X (pc := 140) 1 dX1_connect_140 (by decide) ?_
  obtain ⟨b9, c9, f9, hr9, ho9, hc9, hw⟩ := hw
  obtain rfl := List.mem_singleton.mp hc9
  refine j_callv (j_runV (n8 := 3) (As := [vR x6, vI (48 + y106), vI 1]) (rest := []) X (pc := 141) hr9 (met_X1_write (xl x) X.hl (xG x) h128 x0 x6 (48 + y106) 1 _ hw) ho9 (by decide) rfl q1189 q1191 qs12 q71 q1192 (by decide +kernel) dX1_connect_141 rfl ⟨Nat.le_of_ble_eq_true rfl, Nat.le_of_ble_eq_true rfl⟩ (Nat.le_of_ble_eq_true rfl) ⟨Nat.le_of_ble_eq_true rfl, Nat.le_of_ble_eq_true rfl⟩) (fun h141 hw => ?_)
  refine j_iload X (pc := 144) 0 dX1_connect_144 rfl ?_
  exact j_iret X (pc := 146) hQ er (Nat.le_of_ble_eq_true rfl) (Nat.le_of_ble_eq_true rfl) dX1_connect_146 hw
theorem wk_X1_connect_38 {x : CX} (X : Ok x cX1_connect RX1 rm_X1_connect 10) (er : xrt x = (Option.some Jvm.ClassFile.FieldType.int)) (en : xnm x = yX1_connect.name) {P : Int32 → AH → Prop} {PX : String → AH → Prop} (hQ : xr_i x P) (hT : xt_ x PX) (hex : ∀ z ∈ x.2.2.2.2.2.2.2.2.2.1.exceptionTable.toList, False) (x0 : Option Nat) (x2 : Int32) (x3 : Int32) (x4 : Int32) (x5 : Int32) (x6 : Option Nat) (t0 : Int32) (t1 : Int32) (t2 : Option Nat) (t3 : Option Nat) (h : AH) (hw : w_X1_connect_38 P PX x0 x2 x3 x4 x5 x6 t0 t1 t2 t3 h) : J x h 3 10 38 [(0, vR x0), (2, vI x2), (3, vI x3), (4, vI x4), (5, vI x5), (6, vR x6)] [vI t0, vI t1, vR t2, vR t3] := by
  have hnr := hw.1
  have hw := hw.2
  refine j_zast X (pc := 38) 1 rfl rfl hnr dX1_connect_38 hw (fun h38 hw => ?_)
  refine j_callXv (j_runSX (n8 := 1) (As := [vR t3]) (rest := []) X (pc := 39) (met_X1_require (xl x) X.hl (xG x) h38 t3 _ _ hw) q307 q308 q71 q309 (by decide +kernel) dX1_connect_39 rfl ⟨Nat.le_of_ble_eq_true rfl, Nat.le_of_ble_eq_true rfl⟩ (Nat.le_of_ble_eq_true rfl) ⟨Nat.le_of_ble_eq_true rfl, Nat.le_of_ble_eq_true rfl⟩) (fun E h9 hx => j_out X hT hex (Nat.le_of_ble_eq_true rfl) (Nat.le_of_ble_eq_true rfl) hx) (fun h39 hw => ?_)
  refine j_new (ci := 12) X (pc := 42) in_X14 rfl (by decide) tyX14 tyX14_ok q1254 q1255 q112 (fs := dvX14) dfX14 (Nat.le_of_ble_eq_true rfl) (Nat.le_of_ble_eq_true rfl) dX1_connect_42 hw (fun q42 h42 hw => ?_)
  refine j_dup X (pc := 45) dX1_connect_45 rfl ?_
  refine j_aload_n X (pc := 46) 0 dX1_connect_46 rfl rfl ?_
  refine j_aload X (pc := 47) 5 dX1_connect_47 rfl ?_
  refine j_iload_n X (pc := 49) 1 dX1_connect_49 rfl rfl ?_
  obtain ⟨b9, c9, f9, hr9, ho9, hc9, hw⟩ := hw
  obtain rfl := List.mem_singleton.mp hc9
  refine j_callXq (j_runVX (n8 := 2) (As := [vR x6, vI x2]) (rest := [vR (some q42), vR (some q42)]) X (pc := 50) hr9 (met_X1_shape (xl x) X.hl (xG x) h42 x0 x6 x2 _ _ hw) ho9 (by decide) rfl q1075 q1077 qs9 q71 q1078 (by decide +kernel) dX1_connect_50 rfl ⟨Nat.le_of_ble_eq_true rfl, Nat.le_of_ble_eq_true rfl⟩ (Nat.le_of_ble_eq_true rfl) ⟨Nat.le_of_ble_eq_true rfl, Nat.le_of_ble_eq_true rfl⟩) (fun E h9 hx => j_out X hT hex (Nat.le_of_ble_eq_true rfl) (Nat.le_of_ble_eq_true rfl) hx) (fun y50 h50 hw => ?_)
  refine j_iload_n X (pc := 53) 2 dX1_connect_53 rfl rfl ?_
  refine j_callv (j_runIN (n8 := 2) (As := [vR y50, vI x3]) (rest := [vR (some q42)]) X (pc := 54) rfl (met_X14_init (xl x) X.hl (xG x) h50 (some q42) y50 x3 _ hw) q1256 q1257 q112 q1258 (by decide +kernel) dX1_connect_54 rfl ⟨Nat.le_of_ble_eq_true rfl, Nat.le_of_ble_eq_true rfl⟩ (Nat.le_of_ble_eq_true rfl) ⟨Nat.le_of_ble_eq_true rfl, Nat.le_of_ble_eq_true rfl⟩) (fun h54 hw => ?_)
  refine j_astore X (pc := 57) [(7, vR (some q42)), (0, vR x0), (2, vI x2), (3, vI x3), (4, vI x4), (5, vI x5), (6, vR x6)] dX1_connect_57 (Nat.le_of_ble_eq_true rfl) rfl ?_
  refine j_new (ci := 12) X (pc := 59) in_X14 rfl (by decide) tyX14 tyX14_ok q1254 q1255 q112 (fs := dvX14) dfX14 (Nat.le_of_ble_eq_true rfl) (Nat.le_of_ble_eq_true rfl) dX1_connect_59 hw (fun q59 h59 hw => ?_)
  refine j_dup X (pc := 62) dX1_connect_62 rfl ?_
  refine j_aload_n X (pc := 63) 1 dX1_connect_63 rfl rfl ?_
  refine j_aload X (pc := 64) 6 dX1_connect_64 rfl ?_
  refine j_iload X (pc := 66) 4 dX1_connect_66 rfl ?_
  obtain ⟨b9, c9, f9, hr9, ho9, hc9, hw⟩ := hw
  obtain rfl := List.mem_singleton.mp hc9
  refine j_callXq (j_runVX (n8 := 2) (As := [vR x6, vI x4]) (rest := [vR (some q59), vR (some q59)]) X (pc := 68) hr9 (met_X1_shape (xl x) X.hl (xG x) h59 x0 x6 x4 _ _ hw) ho9 (by decide) rfl q1075 q1077 qs9 q71 q1078 (by decide +kernel) dX1_connect_68 rfl ⟨Nat.le_of_ble_eq_true rfl, Nat.le_of_ble_eq_true rfl⟩ (Nat.le_of_ble_eq_true rfl) ⟨Nat.le_of_ble_eq_true rfl, Nat.le_of_ble_eq_true rfl⟩) (fun E h9 hx => j_out X hT hex (Nat.le_of_ble_eq_true rfl) (Nat.le_of_ble_eq_true rfl) hx) (fun y68 h68 hw => ?_)
  refine j_iload X (pc := 71) 5 dX1_connect_71 rfl ?_
  refine j_callv (j_runIN (n8 := 2) (As := [vR y68, vI x5]) (rest := [vR (some q59)]) X (pc := 73) rfl (met_X14_init (xl x) X.hl (xG x) h68 (some q59) y68 x5 _ hw) q1256 q1257 q112 q1258 (by decide +kernel) dX1_connect_73 rfl ⟨Nat.le_of_ble_eq_true rfl, Nat.le_of_ble_eq_true rfl⟩ (Nat.le_of_ble_eq_true rfl) ⟨Nat.le_of_ble_eq_true rfl, Nat.le_of_ble_eq_true rfl⟩) (fun h73 hw => ?_)
  refine j_astore X (pc := 76) [(8, vR (some q59)), (7, vR (some q42)), (0, vR x0), (2, vI x2), (3, vI x3), (4, vI x4), (5, vI x5), (6, vR x6)] dX1_connect_76 (Nat.le_of_ble_eq_true rfl) rfl ?_
  refine j_aload_n X (pc := 78) 2 dX1_connect_78 rfl rfl ?_
  refine j_getq (ci := 0) X (pc := 79) in_X1 rfl (by decide) 1 (by decide) q242 (Or.inl rfl) dX1_connect_79 hw (fun y79 hw => ?_)
  obtain ⟨b9, c9, f9, hr9, ho9, hc9, hw⟩ := hw
  obtain rfl := List.mem_singleton.mp hc9
  refine j_calli (j_runV (n8 := 0) (As := []) (rest := []) X (pc := 82) hr9 (met_J2_size (xl x) X.hl (xG x) h73 y79 _ hw) ho9 (by decide) rfl q284 q285 q286 q74 q287 (by decide +kernel) dX1_connect_82 rfl ⟨Nat.le_of_ble_eq_true rfl, Nat.le_of_ble_eq_true rfl⟩ (Nat.le_of_ble_eq_true rfl) ⟨Nat.le_of_ble_eq_true rfl, Nat.le_of_ble_eq_true rfl⟩) (fun y82 h82 hw => ?_)
  refine j_bipush X (pc := 85) 8 dX1_connect_85 (by decide) ?_
  refine j_icmp_ge X (pc := 87) 94 dX1_connect_87 (by decide) hw (fun hw => ?_) (fun hw => ?_)
  · refine j_iconst X (pc := 94) 0 dX1_connect_94 (by decide) ?_
    refine j_lv [(0, vR x0), (6, vR x6), (7, vR (some q42)), (8, vR (some q59))] [2, 7, 1, 0] rfl ?_
    refine j_cs (u' := 8) (v' := 32) (Nat.le_of_ble_eq_true rfl) (Nat.le_of_ble_eq_true rfl) ?_
    exact wk_X1_connect_95 X er en hQ hT hex x0 x6 (some q42) (some q59) 0 h82 hw
  · refine j_iconst X (pc := 90) 1 dX1_connect_90 (by decide) ?_
    refine j_goto X (pc := 91) 95 dX1_connect_91 (by decide) ?_
    refine j_lv [(0, vR x0), (6, vR x6), (7, vR (some q42)), (8, vR (some q59))] [2, 7, 1, 0] rfl ?_
    refine j_cs (u' := 8) (v' := 32) (Nat.le_of_ble_eq_true rfl) (Nat.le_of_ble_eq_true rfl) ?_
    exact wk_X1_connect_95 X er en hQ hT hex x0 x6 (some q42) (some q59) 1 h82 hw
theorem met_X1_connect (l : Launch) (hlt : l.stackTraces = false) (G : GG) (h : AH) (a0 : Option Nat) (a1 : Int32) (a2 : Int32) (a3 : Int32) (a4 : Int32) (a5 : Int32) (P : Int32 → AH → Prop) (PX : String → AH → Prop) (hw : w_X1_connect a0 a1 a2 a3 a4 a5 h P PX) : cx_i l yX1_connect (ws_ yX1_connect cX1_connect 10 (Option.some Jvm.ClassFile.FieldType.int)) rm_X1_connect G h [vR a0, vI a1, vI a2, vI a3, vI a4, vI a5] P PX := by
  refine j_startXi hlt [(0, vR a0), (1, vI a1), (2, vI a2), (3, vI a3), (4, vI a4), (5, vI a5)] (by decide) rfl rfl (fun x X eG er en hQ hT hex => ?_)
  subst eG
  refine j_aload_n X (pc := 0) 0 dX1_connect_0 rfl rfl ?_
  refine j_iload_n X (pc := 1) 1 dX1_connect_1 rfl rfl ?_
  obtain ⟨b9, c9, f9, hr9, ho9, hc9, hw⟩ := hw
  obtain rfl := List.mem_singleton.mp hc9
  refine j_callXq (j_runVX (n8 := 1) (As := [vI a1]) (rest := []) X (pc := 2) hr9 (met_X1_board (xl x) X.hl (xG x) h a0 a1 _ _ hw) ho9 (by decide) rfl q297 q299 qs0 q71 q300 (by decide +kernel) dX1_connect_2 rfl ⟨Nat.le_of_ble_eq_true rfl, Nat.le_of_ble_eq_true rfl⟩ (Nat.le_of_ble_eq_true rfl) ⟨Nat.le_of_ble_eq_true rfl, Nat.le_of_ble_eq_true rfl⟩) (fun E h9 hx => j_out X hT hex (Nat.le_of_ble_eq_true rfl) (Nat.le_of_ble_eq_true rfl) hx) (fun y2 h2 hw => ?_)
  refine j_astore X (pc := 5) [(6, vR y2), (0, vR a0), (1, vI a1), (2, vI a2), (3, vI a3), (4, vI a4), (5, vI a5)] dX1_connect_5 (Nat.le_of_ble_eq_true rfl) rfl ?_
  refine j_iconst X (pc := 7) 3 dX1_connect_7 (by decide) ?_
  refine j_newZ X (pc := 8) 3 dX1_connect_8 q233 (by decide) (Nat.le_of_ble_eq_true rfl) (Nat.le_of_ble_eq_true rfl) hw (fun q8 h8 hw => ?_)
  refine j_dup X (pc := 10) dX1_connect_10 rfl ?_
  refine j_iconst X (pc := 11) 0 dX1_connect_11 (by decide) ?_
  refine j_iload_n X (pc := 12) 4 dX1_connect_12 rfl rfl ?_
  refine j_calli (j_runS (n8 := 1) (As := [vI a3]) (rest := [vI 0, vR (some q8), vR (some q8)]) X (pc := 13) (met_X1_isSide (xl x) X.hl (xG x) h8 a3 _ hw) q1251 q1252 q71 q1253 (by decide +kernel) dX1_connect_13 rfl ⟨Nat.le_of_ble_eq_true rfl, Nat.le_of_ble_eq_true rfl⟩ (Nat.le_of_ble_eq_true rfl) ⟨Nat.le_of_ble_eq_true rfl, Nat.le_of_ble_eq_true rfl⟩) (fun y13 h13 hw => ?_)
  have hnr := hw.1
  have hw := hw.2
  refine j_zast X (pc := 16) 1 rfl rfl hnr dX1_connect_16 hw (fun h16 hw => ?_)
  refine j_dup X (pc := 17) dX1_connect_17 rfl ?_
  refine j_iconst X (pc := 18) 1 dX1_connect_18 (by decide) ?_
  refine j_iload X (pc := 19) 6 dX1_connect_19 rfl ?_
  refine j_calli (j_runS (n8 := 1) (As := [vI a5]) (rest := [vI 1, vR (some q8), vR (some q8)]) X (pc := 21) (met_X1_isSide (xl x) X.hl (xG x) h16 a5 _ hw) q1251 q1252 q71 q1253 (by decide +kernel) dX1_connect_21 rfl ⟨Nat.le_of_ble_eq_true rfl, Nat.le_of_ble_eq_true rfl⟩ (Nat.le_of_ble_eq_true rfl) ⟨Nat.le_of_ble_eq_true rfl, Nat.le_of_ble_eq_true rfl⟩) (fun y21 h21 hw => ?_)
  have hnr := hw.1
  have hw := hw.2
  refine j_zast X (pc := 24) 1 rfl rfl hnr dX1_connect_24 hw (fun h24 hw => ?_)
  refine j_dup X (pc := 25) dX1_connect_25 rfl ?_
  refine j_iconst X (pc := 26) 2 dX1_connect_26 (by decide) ?_
  refine j_iload_n X (pc := 27) 3 dX1_connect_27 rfl rfl ?_
  refine j_iload X (pc := 28) 5 dX1_connect_28 rfl ?_
  refine j_icmp_eq X (pc := 30) 37 dX1_connect_30 (by decide) hw (fun hw => ?_) (fun hw => ?_)
  · refine j_iconst X (pc := 37) 0 dX1_connect_37 (by decide) ?_
    refine j_lv [(0, vR a0), (2, vI a2), (3, vI a3), (4, vI a4), (5, vI a5), (6, vR y2)] [1, 3, 4, 5, 6, 0] rfl ?_
    refine j_cs (u' := 3) (v' := 10) (Nat.le_of_ble_eq_true rfl) (Nat.le_of_ble_eq_true rfl) ?_
    exact wk_X1_connect_38 X er en hQ hT hex a0 a2 a3 a4 a5 y2 0 2 (some q8) (some q8) h24 hw
  · refine j_iconst X (pc := 33) 1 dX1_connect_33 (by decide) ?_
    refine j_goto X (pc := 34) 38 dX1_connect_34 (by decide) ?_
    refine j_lv [(0, vR a0), (2, vI a2), (3, vI a3), (4, vI a4), (5, vI a5), (6, vR y2)] [1, 3, 4, 5, 6, 0] rfl ?_
    refine j_cs (u' := 3) (v' := 10) (Nat.le_of_ble_eq_true rfl) (Nat.le_of_ble_eq_true rfl) ?_
    exact wk_X1_connect_38 X er en hQ hT hex a0 a2 a3 a4 a5 y2 1 2 (some q8) (some q8) h24 hw
