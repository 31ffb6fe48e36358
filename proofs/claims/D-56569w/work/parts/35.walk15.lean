/-! walks (printed): Plugboard, Plugboard.End, PlugboardLaw -/
set_option maxRecDepth 100000
abbrev cX1_layFree : ByteArray := prog_1_method_61_code
def yX1_layFree : MethodName := ⟨RX1, "layFree", "(LPlugboard$Board;)V"⟩
def dkwX1_layFree_2 : List UInt8 := [167, 255, 210, 177]
abbrev dktX1_layFree_2 : List UInt8 := dkwX1_layFree_2 ++ []
def dkwX1_layFree_1 : List UInt8 := [43, 29, 28, 182, 1, 117, 199, 0, 7, 4, 167, 0, 4, 3, 84, 132, 3, 1, 167, 255, 224, 132, 2, 1]
abbrev dktX1_layFree_1 : List UInt8 := dkwX1_layFree_1 ++ dktX1_layFree_2
def dkwX1_layFree_0 : List UInt8 := [3, 61, 28, 16, 16, 162, 0, 46, 3, 62, 29, 16, 24, 162, 0, 32, 42, 180, 0, 96, 28, 50, 29, 42]
abbrev dktX1_layFree_0 : List UInt8 := dkwX1_layFree_0 ++ dktX1_layFree_1
theorem dksX1_layFree_0 : cX1_layFree.data.toList.drop 0 = dktX1_layFree_0 := by decide +kernel
theorem dksX1_layFree_1 : cX1_layFree.data.toList.drop 24 = dktX1_layFree_1 := dk_seg dksX1_layFree_0 24 rfl rfl
theorem dksX1_layFree_2 : cX1_layFree.data.toList.drop 48 = dktX1_layFree_2 := dk_seg dksX1_layFree_1 24 rfl rfl
theorem dX1_layFree_0 : decode cX1_layFree 0 = .ok (.iconst 0, 1) := dk_3 (dk_at dksX1_layFree_0 0 rfl rfl)
theorem dX1_layFree_1 : decode cX1_layFree 1 = .ok (.istore_n 2, 1) := dk_61 (dk_at dksX1_layFree_0 1 rfl rfl)
theorem dX1_layFree_2 : decode cX1_layFree 2 = .ok (.iload_n 2, 1) := dk_28 (dk_at dksX1_layFree_0 2 rfl rfl)
theorem dX1_layFree_3 : decode cX1_layFree 3 = .ok (.bipush 16, 2) := dk_16 16 (dk_at dksX1_layFree_0 3 rfl rfl)
theorem dX1_layFree_5 : decode cX1_layFree 5 = .ok (.if_icmp .ge 46, 3) := dk_162 0 46 (dk_at dksX1_layFree_0 5 rfl rfl)
theorem dX1_layFree_8 : decode cX1_layFree 8 = .ok (.iconst 0, 1) := dk_3 (dk_at dksX1_layFree_0 8 rfl rfl)
theorem dX1_layFree_9 : decode cX1_layFree 9 = .ok (.istore_n 3, 1) := dk_62 (dk_at dksX1_layFree_0 9 rfl rfl)
theorem dX1_layFree_10 : decode cX1_layFree 10 = .ok (.iload_n 3, 1) := dk_29 (dk_at dksX1_layFree_0 10 rfl rfl)
theorem dX1_layFree_11 : decode cX1_layFree 11 = .ok (.bipush 24, 2) := dk_16 24 (dk_at dksX1_layFree_0 11 rfl rfl)
theorem dX1_layFree_13 : decode cX1_layFree 13 = .ok (.if_icmp .ge 32, 3) := dk_162 0 32 (dk_at dksX1_layFree_0 13 rfl rfl)
theorem dX1_layFree_16 : decode cX1_layFree 16 = .ok (.aload_n 0, 1) := dk_42 (dk_at dksX1_layFree_0 16 rfl rfl)
theorem dX1_layFree_17 : decode cX1_layFree 17 = .ok (.getfield 96, 3) := dk_180 0 96 (dk_at dksX1_layFree_0 17 rfl rfl)
theorem dX1_layFree_20 : decode cX1_layFree 20 = .ok (.iload_n 2, 1) := dk_28 (dk_at dksX1_layFree_0 20 rfl rfl)
theorem dX1_layFree_21 : decode cX1_layFree 21 = .ok (.aaload, 1) := dk_50 (dk_at dksX1_layFree_0 21 rfl rfl)
theorem dX1_layFree_22 : decode cX1_layFree 22 = .ok (.iload_n 3, 1) := dk_29 (dk_at dksX1_layFree_0 22 rfl rfl)
theorem dX1_layFree_23 : decode cX1_layFree 23 = .ok (.aload_n 0, 1) := dk_42 (dk_at dksX1_layFree_0 23 rfl rfl)
theorem dX1_layFree_24 : decode cX1_layFree 24 = .ok (.aload_n 1, 1) := dk_43 (dk_at dksX1_layFree_1 0 rfl rfl)
theorem dX1_layFree_25 : decode cX1_layFree 25 = .ok (.iload_n 3, 1) := dk_29 (dk_at dksX1_layFree_1 1 rfl rfl)
theorem dX1_layFree_26 : decode cX1_layFree 26 = .ok (.iload_n 2, 1) := dk_28 (dk_at dksX1_layFree_1 2 rfl rfl)
theorem dX1_layFree_27 : decode cX1_layFree 27 = .ok (.invokevirtual 373, 3) := dk_182 1 117 (dk_at dksX1_layFree_1 3 rfl rfl)
theorem dX1_layFree_30 : decode cX1_layFree 30 = .ok (.ifnonnull 7, 3) := dk_199 0 7 (dk_at dksX1_layFree_1 6 rfl rfl)
theorem dX1_layFree_33 : decode cX1_layFree 33 = .ok (.iconst 1, 1) := dk_4 (dk_at dksX1_layFree_1 9 rfl rfl)
theorem dX1_layFree_34 : decode cX1_layFree 34 = .ok (.goto 4, 3) := dk_167 0 4 (dk_at dksX1_layFree_1 10 rfl rfl)
theorem dX1_layFree_37 : decode cX1_layFree 37 = .ok (.iconst 0, 1) := dk_3 (dk_at dksX1_layFree_1 13 rfl rfl)
theorem dX1_layFree_38 : decode cX1_layFree 38 = .ok (.bastore, 1) := dk_84 (dk_at dksX1_layFree_1 14 rfl rfl)
theorem dX1_layFree_39 : decode cX1_layFree 39 = .ok (.iinc 3 1, 3) := dk_132 3 1 (dk_at dksX1_layFree_1 15 rfl rfl)
theorem dX1_layFree_42 : decode cX1_layFree 42 = .ok (.goto (-32), 3) := dk_167 255 224 (dk_at dksX1_layFree_1 18 rfl rfl)
theorem dX1_layFree_45 : decode cX1_layFree 45 = .ok (.iinc 2 1, 3) := dk_132 2 1 (dk_at dksX1_layFree_1 21 rfl rfl)
theorem dX1_layFree_48 : decode cX1_layFree 48 = .ok (.goto (-46), 3) := dk_167 255 210 (dk_at dksX1_layFree_2 0 rfl rfl)
theorem dX1_layFree_51 : decode cX1_layFree 51 = .ok (.return_, 1) := dk_177 (dk_at dksX1_layFree_2 3 rfl rfl)
abbrev rm_X1_layFree : Room := { frames := 4, cells := 0, slots := 0, locals := 91 }
def w_X1_layFree_10 (P : AH → Prop) (Z2 : Int32 → AH → Prop) (x0 : Option Nat) (x1 : Option Nat) (x2 : Int32) (x3 : Int32) (h : AH) : Prop :=
  ∀ Z10 : Int32 → AH → Prop, (∀ x3 h, (
      ((24 ≤ x3 →
        Z2 (x2 + 1) h) ∧
       (¬ 24 ≤ x3 →
        g_q h x0 0 8 fun y17 =>
        l_q h y17 x2 fun y21 =>
        is_c h x0 [0] (
        w_X1_top x0 x1 x3 x2 h (fun y27 h27 =>
        ((y27 = (none : Option Nat) →
          s_i h27 y21 1 x3 1 fun h38 =>
          Z10 (x3 + 1) h38) ∧
         (¬ y27 = (none : Option Nat) →
          s_i h27 y21 1 x3 0 fun h38 =>
          Z10 (x3 + 1) h38)))))))
      → Z10 x3 h) → Z10 x3 h
def w_X1_layFree_2 (P : AH → Prop) (x0 : Option Nat) (x1 : Option Nat) (x2 : Int32) (h : AH) : Prop :=
  ∀ Z2 : Int32 → AH → Prop, (∀ x2 h, (
      ((16 ≤ x2 →
        P h) ∧
       (¬ 16 ≤ x2 →
        w_X1_layFree_10 P Z2 x0 x1 x2 0 h)))
      → Z2 x2 h) → Z2 x2 h
def w_X1_layFree (a0 : Option Nat) (a1 : Option Nat) (h : AH) (P : AH → Prop) : Prop :=
  w_X1_layFree_2 P a0 a1 0 h
theorem wk_X1_layFree_10 {x : CX} (X : Ok x cX1_layFree RX1 rm_X1_layFree 4) (er : xrt x = (Option.none : Option Jvm.ClassFile.FieldType)) (en : xnm x = yX1_layFree.name) {P : AH → Prop} (hQ : xr_v x P) (Z2 : Int32 → AH → Prop) (x0 : Option Nat) (x1 : Option Nat) (x2 : Int32) (x3 : Int32) (h : AH) (hZ2 : ∀ x2 h, Z2 x2 h → J x h 0 0 2 [(0, vR x0), (1, vR x1), (2, vI x2)] []) (hw : w_X1_layFree_10 P Z2 x0 x1 x2 x3 h) : J x h 0 0 10 [(0, vR x0), (1, vR x1), (2, vI x2), (3, vI x3)] [] := by
  refine hw (fun x3 h => J x h 0 0 10 [(0, vR x0), (1, vR x1), (2, vI x2), (3, vI x3)] []) (fun x3 h hw => ?_)
  refine j_iload_n X (pc := 10) 3 dX1_layFree_10 rfl rfl ?_
  refine j_bipush X (pc := 11) 24 dX1_layFree_11 (by decide) ?_
  refine j_icmp_ge X (pc := 13) 45 dX1_layFree_13 (by decide) hw (fun hw => ?_) (fun hw => ?_)
  · refine j_iinc X (pc := 45) 2 (x2 + 1) [(2, vI (x2 + 1)), (0, vR x0), (1, vR x1), (3, vI x3)] dX1_layFree_45 rfl rfl (Nat.le_of_ble_eq_true rfl) rfl ?_
    refine j_goto X (pc := 48) 2 dX1_layFree_48 (by decide) ?_
    refine j_lv [(0, vR x0), (1, vR x1), (2, vI (x2 + 1))] [1, 2, 0] rfl ?_
    refine j_cs (u' := 0) (v' := 0) (Nat.le_of_ble_eq_true rfl) (Nat.le_of_ble_eq_true rfl) ?_
    exact hZ2 (x2 + 1) h hw
  · refine j_aload_n X (pc := 16) 0 dX1_layFree_16 rfl rfl ?_
    refine j_getq (ci := 0) X (pc := 17) in_X1 rfl (by decide) 8 (by decide) q251 (Or.inl rfl) dX1_layFree_17 hw (fun y17 hw => ?_)
    refine j_iload_n X (pc := 20) 2 dX1_layFree_20 rfl rfl ?_
    refine j_aald X (pc := 21) dX1_layFree_21 hw (fun y21 hw => ?_)
    refine j_iload_n X (pc := 22) 3 dX1_layFree_22 rfl rfl ?_
    refine j_aload_n X (pc := 23) 0 dX1_layFree_23 rfl rfl ?_
    refine j_aload_n X (pc := 24) 1 dX1_layFree_24 rfl rfl ?_
    refine j_iload_n X (pc := 25) 3 dX1_layFree_25 rfl rfl ?_
    refine j_iload_n X (pc := 26) 2 dX1_layFree_26 rfl rfl ?_
    obtain ⟨b9, c9, f9, hr9, ho9, hc9, hw⟩ := hw
    obtain rfl := List.mem_singleton.mp hc9
    refine j_callq (j_runV (n8 := 3) (As := [vR x1, vI x3, vI x2]) (rest := [vI x3, vR y21]) X (pc := 27) hr9 (met_X1_top (xl x) X.hl (xG x) h x0 x1 x3 x2 _ hw) ho9 (by decide) rfl q1491 q1493 qs18 q71 q1494 (by decide +kernel) dX1_layFree_27 rfl ⟨Nat.le_of_ble_eq_true rfl, Nat.le_of_ble_eq_true rfl⟩ (Nat.le_of_ble_eq_true rfl) ⟨Nat.le_of_ble_eq_true rfl, Nat.le_of_ble_eq_true rfl⟩) (fun y27 h27 hw => ?_)
    refine j_ifnonnull X (pc := 30) 37 dX1_layFree_30 (by decide) hw (fun hw => ?_) (fun hw => ?_)
    · refine j_iconst X (pc := 33) 1 dX1_layFree_33 (by decide) ?_
      refine j_goto X (pc := 34) 38 dX1_layFree_34 (by decide) ?_
      refine j_zast X (pc := 38) 1 rfl rfl ⟨rfl, rfl⟩ dX1_layFree_38 hw (fun h38 hw => ?_)
      refine j_iinc X (pc := 39) 3 (x3 + 1) [(3, vI (x3 + 1)), (0, vR x0), (1, vR x1), (2, vI x2)] dX1_layFree_39 rfl rfl (Nat.le_of_ble_eq_true rfl) rfl ?_
      refine j_goto X (pc := 42) 10 dX1_layFree_42 (by decide) ?_
      refine j_lv [(0, vR x0), (1, vR x1), (2, vI x2), (3, vI (x3 + 1))] [1, 2, 3, 0] rfl ?_
      refine j_cs (u' := 0) (v' := 0) (Nat.le_of_ble_eq_true rfl) (Nat.le_of_ble_eq_true rfl) ?_
      exact hw
    · refine j_iconst X (pc := 37) 0 dX1_layFree_37 (by decide) ?_
      refine j_zast X (pc := 38) 1 rfl rfl ⟨rfl, rfl⟩ dX1_layFree_38 hw (fun h38 hw => ?_)
      refine j_iinc X (pc := 39) 3 (x3 + 1) [(3, vI (x3 + 1)), (0, vR x0), (1, vR x1), (2, vI x2)] dX1_layFree_39 rfl rfl (Nat.le_of_ble_eq_true rfl) rfl ?_
      refine j_goto X (pc := 42) 10 dX1_layFree_42 (by decide) ?_
      refine j_lv [(0, vR x0), (1, vR x1), (2, vI x2), (3, vI (x3 + 1))] [1, 2, 3, 0] rfl ?_
      refine j_cs (u' := 0) (v' := 0) (Nat.le_of_ble_eq_true rfl) (Nat.le_of_ble_eq_true rfl) ?_
      exact hw
theorem wk_X1_layFree_2 {x : CX} (X : Ok x cX1_layFree RX1 rm_X1_layFree 4) (er : xrt x = (Option.none : Option Jvm.ClassFile.FieldType)) (en : xnm x = yX1_layFree.name) {P : AH → Prop} (hQ : xr_v x P) (x0 : Option Nat) (x1 : Option Nat) (x2 : Int32) (h : AH) (hw : w_X1_layFree_2 P x0 x1 x2 h) : J x h 0 0 2 [(0, vR x0), (1, vR x1), (2, vI x2)] [] := by
  refine hw (fun x2 h => J x h 0 0 2 [(0, vR x0), (1, vR x1), (2, vI x2)] []) (fun x2 h hw => ?_)
  refine j_iload_n X (pc := 2) 2 dX1_layFree_2 rfl rfl ?_
  refine j_bipush X (pc := 3) 16 dX1_layFree_3 (by decide) ?_
  refine j_icmp_ge X (pc := 5) 51 dX1_layFree_5 (by decide) hw (fun hw => ?_) (fun hw => ?_)
  · exact j_vret X (pc := 51) hQ er (Nat.le_of_ble_eq_true rfl) (Nat.le_of_ble_eq_true rfl) dX1_layFree_51 hw
  · refine j_iconst X (pc := 8) 0 dX1_layFree_8 (by decide) ?_
    refine j_istore_n X (pc := 9) [(3, vI 0), (0, vR x0), (1, vR x1), (2, vI x2)] dX1_layFree_9 rfl (Nat.le_of_ble_eq_true rfl) rfl ?_
    refine j_lv [(0, vR x0), (1, vR x1), (2, vI x2), (3, vI 0)] [1, 2, 3, 0] rfl ?_
    refine j_cs (u' := 0) (v' := 0) (Nat.le_of_ble_eq_true rfl) (Nat.le_of_ble_eq_true rfl) ?_
    exact wk_X1_layFree_10 X er en hQ _ x0 x1 x2 0 h (fun x2_ h_ hz => hz) hw
theorem met_X1_layFree (l : Launch) (hlt : l.stackTraces = false) (G : GG) (h : AH) (a0 : Option Nat) (a1 : Option Nat) (P : AH → Prop) (hw : w_X1_layFree a0 a1 h P) : ct_v l yX1_layFree (ws_ yX1_layFree cX1_layFree 4 (Option.none : Option Jvm.ClassFile.FieldType)) rm_X1_layFree G h [vR a0, vR a1] P := by
  refine j_startv hlt [(0, vR a0), (1, vR a1)] (plainFor_of_name (by decide)) rfl rfl (fun x X eG er en hQ => ?_)
  subst eG
  refine j_iconst X (pc := 0) 0 dX1_layFree_0 (by decide) ?_
  refine j_istore_n X (pc := 1) [(2, vI 0), (0, vR a0), (1, vR a1)] dX1_layFree_1 rfl (Nat.le_of_ble_eq_true rfl) rfl ?_
  refine j_lv [(0, vR a0), (1, vR a1), (2, vI 0)] [1, 2, 0] rfl ?_
  refine j_cs (u' := 0) (v' := 0) (Nat.le_of_ble_eq_true rfl) (Nat.le_of_ble_eq_true rfl) ?_
  exact wk_X1_layFree_2 X er en hQ a0 a1 0 h hw
abbrev cX14_side : ByteArray := prog_8_method_6_code
def yX14_side : MethodName := ⟨RX14, "side", "()C"⟩
theorem dX14_side_0 : decode cX14_side 0 = .ok (.aload_n 0, 1) := by decide +kernel
theorem dX14_side_1 : decode cX14_side 1 = .ok (.getfield 13, 3) := by decide +kernel
theorem dX14_side_4 : decode cX14_side 4 = .ok (.ireturn, 1) := by decide +kernel
abbrev rm_X14_side : Room := { frames := 0, cells := 0, slots := 0, locals := 0 }
def w_X14_side (a0 : Option Nat) (h : AH) (P : Int32 → AH → Prop) : Prop :=
  g_i h a0 12 1 fun y1 =>
  nrw .char y1 ∧
  P y1 h
theorem met_X14_side (l : Launch) (hlt : l.stackTraces = false) (G : GG) (h : AH) (a0 : Option Nat) (P : Int32 → AH → Prop) (hw : w_X14_side a0 h P) : ct_i l yX14_side (ws_ yX14_side cX14_side 1 (Option.some Jvm.ClassFile.FieldType.char)) rm_X14_side G h [vR a0] P := by
  refine j_starti hlt [(0, vR a0)] (plainFor_of_name (by decide)) rfl rfl (fun x X eG er en hQ => ?_)
  subst eG
  refine j_aload_n X (pc := 0) 0 dX14_side_0 rfl rfl ?_
  refine j_geti (ci := 12) X (pc := 1) in_X14 rfl (by decide) 1 (by decide) q1264 (Or.inl rfl) dX14_side_1 hw (fun y1 hw => ?_)
  exact j_zret X (pc := 4) (ty := .char) hQ er hw.1.1 (Nat.le_of_ble_eq_true rfl) (Nat.le_of_ble_eq_true rfl) dX14_side_4 hw.2
abbrev cX1_isFreeAt : ByteArray := prog_1_method_62_code
def yX1_isFreeAt : MethodName := ⟨RX1, "isFreeAt", "([[ZII)Z"⟩
def dkwX1_isFreeAt_1 : List UInt8 := [51, 153, 0, 7, 4, 167, 0, 4, 3, 172]
abbrev dktX1_isFreeAt_1 : List UInt8 := dkwX1_isFreeAt_1 ++ []
def dkwX1_isFreeAt_0 : List UInt8 := [28, 3, 16, 15, 184, 0, 21, 153, 0, 25, 27, 3, 16, 23, 184, 0, 21, 153, 0, 15, 42, 28, 50, 27]
abbrev dktX1_isFreeAt_0 : List UInt8 := dkwX1_isFreeAt_0 ++ dktX1_isFreeAt_1
theorem dksX1_isFreeAt_0 : cX1_isFreeAt.data.toList.drop 0 = dktX1_isFreeAt_0 := by decide +kernel
theorem dksX1_isFreeAt_1 : cX1_isFreeAt.data.toList.drop 24 = dktX1_isFreeAt_1 := dk_seg dksX1_isFreeAt_0 24 rfl rfl
theorem dX1_isFreeAt_0 : decode cX1_isFreeAt 0 = .ok (.iload_n 2, 1) := dk_28 (dk_at dksX1_isFreeAt_0 0 rfl rfl)
theorem dX1_isFreeAt_1 : decode cX1_isFreeAt 1 = .ok (.iconst 0, 1) := dk_3 (dk_at dksX1_isFreeAt_0 1 rfl rfl)
theorem dX1_isFreeAt_2 : decode cX1_isFreeAt 2 = .ok (.bipush 15, 2) := dk_16 15 (dk_at dksX1_isFreeAt_0 2 rfl rfl)
theorem dX1_isFreeAt_4 : decode cX1_isFreeAt 4 = .ok (.invokestatic 21, 3) := dk_184 0 21 (dk_at dksX1_isFreeAt_0 4 rfl rfl)
theorem dX1_isFreeAt_7 : decode cX1_isFreeAt 7 = .ok (.ifCond .eq 25, 3) := dk_153 0 25 (dk_at dksX1_isFreeAt_0 7 rfl rfl)
theorem dX1_isFreeAt_10 : decode cX1_isFreeAt 10 = .ok (.iload_n 1, 1) := dk_27 (dk_at dksX1_isFreeAt_0 10 rfl rfl)
theorem dX1_isFreeAt_11 : decode cX1_isFreeAt 11 = .ok (.iconst 0, 1) := dk_3 (dk_at dksX1_isFreeAt_0 11 rfl rfl)
theorem dX1_isFreeAt_12 : decode cX1_isFreeAt 12 = .ok (.bipush 23, 2) := dk_16 23 (dk_at dksX1_isFreeAt_0 12 rfl rfl)
theorem dX1_isFreeAt_14 : decode cX1_isFreeAt 14 = .ok (.invokestatic 21, 3) := dk_184 0 21 (dk_at dksX1_isFreeAt_0 14 rfl rfl)
theorem dX1_isFreeAt_17 : decode cX1_isFreeAt 17 = .ok (.ifCond .eq 15, 3) := dk_153 0 15 (dk_at dksX1_isFreeAt_0 17 rfl rfl)
theorem dX1_isFreeAt_20 : decode cX1_isFreeAt 20 = .ok (.aload_n 0, 1) := dk_42 (dk_at dksX1_isFreeAt_0 20 rfl rfl)
theorem dX1_isFreeAt_21 : decode cX1_isFreeAt 21 = .ok (.iload_n 2, 1) := dk_28 (dk_at dksX1_isFreeAt_0 21 rfl rfl)
theorem dX1_isFreeAt_22 : decode cX1_isFreeAt 22 = .ok (.aaload, 1) := dk_50 (dk_at dksX1_isFreeAt_0 22 rfl rfl)
theorem dX1_isFreeAt_23 : decode cX1_isFreeAt 23 = .ok (.iload_n 1, 1) := dk_27 (dk_at dksX1_isFreeAt_0 23 rfl rfl)
theorem dX1_isFreeAt_24 : decode cX1_isFreeAt 24 = .ok (.baload, 1) := dk_51 (dk_at dksX1_isFreeAt_1 0 rfl rfl)
theorem dX1_isFreeAt_25 : decode cX1_isFreeAt 25 = .ok (.ifCond .eq 7, 3) := dk_153 0 7 (dk_at dksX1_isFreeAt_1 1 rfl rfl)
theorem dX1_isFreeAt_28 : decode cX1_isFreeAt 28 = .ok (.iconst 1, 1) := dk_4 (dk_at dksX1_isFreeAt_1 4 rfl rfl)
theorem dX1_isFreeAt_29 : decode cX1_isFreeAt 29 = .ok (.goto 4, 3) := dk_167 0 4 (dk_at dksX1_isFreeAt_1 5 rfl rfl)
theorem dX1_isFreeAt_32 : decode cX1_isFreeAt 32 = .ok (.iconst 0, 1) := dk_3 (dk_at dksX1_isFreeAt_1 8 rfl rfl)
theorem dX1_isFreeAt_33 : decode cX1_isFreeAt 33 = .ok (.ireturn, 1) := dk_172 (dk_at dksX1_isFreeAt_1 9 rfl rfl)
abbrev rm_X1_isFreeAt : Room := { frames := 1, cells := 0, slots := 0, locals := 22 }
def w_X1_isFreeAt (a0 : Option Nat) (a1 : Int32) (a2 : Int32) (h : AH) (P : Int32 → AH → Prop) : Prop :=
  w_X1_isBetween a2 0 15 h (fun y4 h4 =>
  ((y4 = 0 →
    P 0 h4) ∧
   (¬ y4 = 0 →
    w_X1_isBetween a1 0 23 h4 (fun y14 h14 =>
    ((y14 = 0 →
      P 0 h14) ∧
     (¬ y14 = 0 →
      l_q h14 a0 a2 fun y22 =>
      l_i h14 y22 1 a1 fun y24 =>
      ((y24 = 0 →
        P 0 h14) ∧
       (¬ y24 = 0 →
        P 1 h14))))))))
theorem met_X1_isFreeAt (l : Launch) (hlt : l.stackTraces = false) (G : GG) (h : AH) (a0 : Option Nat) (a1 : Int32) (a2 : Int32) (P : Int32 → AH → Prop) (hw : w_X1_isFreeAt a0 a1 a2 h P) : ct_i l yX1_isFreeAt (ws_ yX1_isFreeAt cX1_isFreeAt 3 (Option.some Jvm.ClassFile.FieldType.boolean)) rm_X1_isFreeAt G h [vR a0, vI a1, vI a2] P := by
  refine j_starti hlt [(0, vR a0), (1, vI a1), (2, vI a2)] (plainFor_of_name (by decide)) rfl rfl (fun x X eG er en hQ => ?_)
  subst eG
  refine j_iload_n X (pc := 0) 2 dX1_isFreeAt_0 rfl rfl ?_
  refine j_iconst X (pc := 1) 0 dX1_isFreeAt_1 (by decide) ?_
  refine j_bipush X (pc := 2) 15 dX1_isFreeAt_2 (by decide) ?_
  refine j_calli (j_runS (n8 := 3) (As := [vI a2, vI 0, vI 15]) (rest := []) X (pc := 4) (met_X1_isBetween (xl x) X.hl (xG x) h a2 0 15 _ hw) q304 q305 q71 q306 (by decide +kernel) dX1_isFreeAt_4 rfl ⟨Nat.le_of_ble_eq_true rfl, Nat.le_of_ble_eq_true rfl⟩ (Nat.le_of_ble_eq_true rfl) ⟨Nat.le_of_ble_eq_true rfl, Nat.le_of_ble_eq_true rfl⟩) (fun y4 h4 hw => ?_)
  refine j_if_eq X (pc := 7) 32 dX1_isFreeAt_7 (by decide) hw (fun hw => ?_) (fun hw => ?_)
  · refine j_iconst X (pc := 32) 0 dX1_isFreeAt_32 (by decide) ?_
    exact j_zret X (pc := 33) (ty := .boolean) hQ er rfl (Nat.le_of_ble_eq_true rfl) (Nat.le_of_ble_eq_true rfl) dX1_isFreeAt_33 hw
  · refine j_iload_n X (pc := 10) 1 dX1_isFreeAt_10 rfl rfl ?_
    refine j_iconst X (pc := 11) 0 dX1_isFreeAt_11 (by decide) ?_
    refine j_bipush X (pc := 12) 23 dX1_isFreeAt_12 (by decide) ?_
    refine j_calli (j_runS (n8 := 3) (As := [vI a1, vI 0, vI 23]) (rest := []) X (pc := 14) (met_X1_isBetween (xl x) X.hl (xG x) h4 a1 0 23 _ hw) q304 q305 q71 q306 (by decide +kernel) dX1_isFreeAt_14 rfl ⟨Nat.le_of_ble_eq_true rfl, Nat.le_of_ble_eq_true rfl⟩ (Nat.le_of_ble_eq_true rfl) ⟨Nat.le_of_ble_eq_true rfl, Nat.le_of_ble_eq_true rfl⟩) (fun y14 h14 hw => ?_)
    refine j_if_eq X (pc := 17) 32 dX1_isFreeAt_17 (by decide) hw (fun hw => ?_) (fun hw => ?_)
    · refine j_iconst X (pc := 32) 0 dX1_isFreeAt_32 (by decide) ?_
      exact j_zret X (pc := 33) (ty := .boolean) hQ er rfl (Nat.le_of_ble_eq_true rfl) (Nat.le_of_ble_eq_true rfl) dX1_isFreeAt_33 hw
    · refine j_aload_n X (pc := 20) 0 dX1_isFreeAt_20 rfl rfl ?_
      refine j_iload_n X (pc := 21) 2 dX1_isFreeAt_21 rfl rfl ?_
      refine j_aald X (pc := 22) dX1_isFreeAt_22 hw (fun y22 hw => ?_)
      refine j_iload_n X (pc := 23) 1 dX1_isFreeAt_23 rfl rfl ?_
      refine j_zald X (pc := 24) 1 rfl dX1_isFreeAt_24 hw (fun y24 hw => ?_)
      refine j_if_eq X (pc := 25) 32 dX1_isFreeAt_25 (by decide) hw (fun hw => ?_) (fun hw => ?_)
      · refine j_iconst X (pc := 32) 0 dX1_isFreeAt_32 (by decide) ?_
        exact j_zret X (pc := 33) (ty := .boolean) hQ er rfl (Nat.le_of_ble_eq_true rfl) (Nat.le_of_ble_eq_true rfl) dX1_isFreeAt_33 hw
      · refine j_iconst X (pc := 28) 1 dX1_isFreeAt_28 (by decide) ?_
        refine j_goto X (pc := 29) 33 dX1_isFreeAt_29 (by decide) ?_
        exact j_zret X (pc := 33) (ty := .boolean) hQ er rfl (Nat.le_of_ble_eq_true rfl) (Nat.le_of_ble_eq_true rfl) dX1_isFreeAt_33 hw
abbrev cX1_cellOf : ByteArray := prog_1_method_63_code
def yX1_cellOf : MethodName := ⟨RX1, "cellOf", "(LPlugboard$Board;LPlugboard$End;)I"⟩
def dkwX1_cellOf_6 : List UInt8 := [21, 4, 21, 5, 184, 1, 130, 153, 0, 14, 16, 24, 21, 5, 104, 21, 4, 96, 167, 0, 4, 2, 172]
abbrev dktX1_cellOf_6 : List UInt8 := dkwX1_cellOf_6 ++ []
def dkwX1_cellOf_5 : List UInt8 := [180, 0, 235, 96, 54, 4, 21, 5, 45, 180, 0, 238, 4, 100, 5, 108, 96, 54, 5, 42, 180, 0, 96]
abbrev dktX1_cellOf_5 : List UInt8 := dkwX1_cellOf_5 ++ dktX1_cellOf_6
def dkwX1_cellOf_4 : List UInt8 := [132, 4, 255, 21, 5, 45, 180, 0, 238, 4, 100, 5, 108, 96, 54, 5, 167, 0, 25, 21, 4, 45]
abbrev dktX1_cellOf_4 : List UInt8 := dkwX1_cellOf_4 ++ dktX1_cellOf_5
def dkwX1_cellOf_3 : List UInt8 := [180, 0, 235, 4, 100, 5, 108, 96, 54, 4, 21, 5, 45, 180, 0, 238, 96, 54, 5, 167, 0, 44]
abbrev dktX1_cellOf_3 : List UInt8 := dkwX1_cellOf_3 ++ dktX1_cellOf_4
def dkwX1_cellOf_2 : List UInt8 := [21, 4, 45, 180, 0, 235, 4, 100, 5, 108, 96, 54, 4, 132, 5, 255, 167, 0, 69, 21, 4, 45]
abbrev dktX1_cellOf_2 : List UInt8 := dkwX1_cellOf_2 ++ dktX1_cellOf_3
def dkwX1_cellOf_1 : List UInt8 := [171, 0, 0, 0, 96, 0, 0, 0, 3, 0, 0, 0, 98, 0, 0, 0, 52, 0, 0, 0, 108, 0, 0, 0, 77, 0, 0, 0, 116, 0, 0, 0, 33]
abbrev dktX1_cellOf_1 : List UInt8 := dkwX1_cellOf_1 ++ dktX1_cellOf_2
def dkwX1_cellOf_0 : List UInt8 := [44, 182, 1, 123, 78, 43, 45, 182, 0, 249, 54, 4, 43, 45, 182, 0, 253, 54, 5, 44, 182, 1, 126]
abbrev dktX1_cellOf_0 : List UInt8 := dkwX1_cellOf_0 ++ dktX1_cellOf_1
theorem dksX1_cellOf_0 : cX1_cellOf.data.toList.drop 0 = dktX1_cellOf_0 := by decide +kernel
theorem dksX1_cellOf_1 : cX1_cellOf.data.toList.drop 23 = dktX1_cellOf_1 := dk_seg dksX1_cellOf_0 23 rfl rfl
theorem dksX1_cellOf_2 : cX1_cellOf.data.toList.drop 56 = dktX1_cellOf_2 := dk_seg dksX1_cellOf_1 33 rfl rfl
theorem dksX1_cellOf_3 : cX1_cellOf.data.toList.drop 78 = dktX1_cellOf_3 := dk_seg dksX1_cellOf_2 22 rfl rfl
theorem dksX1_cellOf_4 : cX1_cellOf.data.toList.drop 100 = dktX1_cellOf_4 := dk_seg dksX1_cellOf_3 22 rfl rfl
theorem dksX1_cellOf_5 : cX1_cellOf.data.toList.drop 122 = dktX1_cellOf_5 := dk_seg dksX1_cellOf_4 22 rfl rfl
theorem dksX1_cellOf_6 : cX1_cellOf.data.toList.drop 145 = dktX1_cellOf_6 := dk_seg dksX1_cellOf_5 23 rfl rfl
theorem dX1_cellOf_0 : decode cX1_cellOf 0 = .ok (.aload_n 2, 1) := dk_44 (dk_at dksX1_cellOf_0 0 rfl rfl)
theorem dX1_cellOf_1 : decode cX1_cellOf 1 = .ok (.invokevirtual 379, 3) := dk_182 1 123 (dk_at dksX1_cellOf_0 1 rfl rfl)
theorem dX1_cellOf_4 : decode cX1_cellOf 4 = .ok (.astore_n 3, 1) := dk_78 (dk_at dksX1_cellOf_0 4 rfl rfl)
theorem dX1_cellOf_5 : decode cX1_cellOf 5 = .ok (.aload_n 1, 1) := dk_43 (dk_at dksX1_cellOf_0 5 rfl rfl)
theorem dX1_cellOf_6 : decode cX1_cellOf 6 = .ok (.aload_n 3, 1) := dk_45 (dk_at dksX1_cellOf_0 6 rfl rfl)
theorem dX1_cellOf_7 : decode cX1_cellOf 7 = .ok (.invokevirtual 249, 3) := dk_182 0 249 (dk_at dksX1_cellOf_0 7 rfl rfl)
theorem dX1_cellOf_10 : decode cX1_cellOf 10 = .ok (.istore 4, 2) := dk_54 4 (dk_at dksX1_cellOf_0 10 rfl rfl)
theorem dX1_cellOf_12 : decode cX1_cellOf 12 = .ok (.aload_n 1, 1) := dk_43 (dk_at dksX1_cellOf_0 12 rfl rfl)
theorem dX1_cellOf_13 : decode cX1_cellOf 13 = .ok (.aload_n 3, 1) := dk_45 (dk_at dksX1_cellOf_0 13 rfl rfl)
theorem dX1_cellOf_14 : decode cX1_cellOf 14 = .ok (.invokevirtual 253, 3) := dk_182 0 253 (dk_at dksX1_cellOf_0 14 rfl rfl)
theorem dX1_cellOf_17 : decode cX1_cellOf 17 = .ok (.istore 5, 2) := dk_54 5 (dk_at dksX1_cellOf_0 17 rfl rfl)
theorem dX1_cellOf_19 : decode cX1_cellOf 19 = .ok (.aload_n 2, 1) := dk_44 (dk_at dksX1_cellOf_0 19 rfl rfl)
theorem dX1_cellOf_20 : decode cX1_cellOf 20 = .ok (.invokevirtual 382, 3) := dk_182 1 126 (dk_at dksX1_cellOf_0 20 rfl rfl)
theorem dX1_cellOf_23 : decode cX1_cellOf 23 = .ok (.lookupswitch 96 #[(98, 52), (108, 77), (116, 33)], 33) := by decide +kernel
theorem dX1_cellOf_56 : decode cX1_cellOf 56 = .ok (.iload 4, 2) := dk_21 4 (dk_at dksX1_cellOf_2 0 rfl rfl)
theorem dX1_cellOf_58 : decode cX1_cellOf 58 = .ok (.aload_n 3, 1) := dk_45 (dk_at dksX1_cellOf_2 2 rfl rfl)
theorem dX1_cellOf_59 : decode cX1_cellOf 59 = .ok (.getfield 235, 3) := dk_180 0 235 (dk_at dksX1_cellOf_2 3 rfl rfl)
theorem dX1_cellOf_62 : decode cX1_cellOf 62 = .ok (.iconst 1, 1) := dk_4 (dk_at dksX1_cellOf_2 6 rfl rfl)
theorem dX1_cellOf_63 : decode cX1_cellOf 63 = .ok (.isub, 1) := dk_100 (dk_at dksX1_cellOf_2 7 rfl rfl)
theorem dX1_cellOf_64 : decode cX1_cellOf 64 = .ok (.iconst 2, 1) := dk_5 (dk_at dksX1_cellOf_2 8 rfl rfl)
theorem dX1_cellOf_65 : decode cX1_cellOf 65 = .ok (.idiv, 1) := dk_108 (dk_at dksX1_cellOf_2 9 rfl rfl)
theorem dX1_cellOf_66 : decode cX1_cellOf 66 = .ok (.iadd, 1) := dk_96 (dk_at dksX1_cellOf_2 10 rfl rfl)
theorem dX1_cellOf_67 : decode cX1_cellOf 67 = .ok (.istore 4, 2) := dk_54 4 (dk_at dksX1_cellOf_2 11 rfl rfl)
theorem dX1_cellOf_69 : decode cX1_cellOf 69 = .ok (.iinc 5 (-1), 3) := dk_132 5 255 (dk_at dksX1_cellOf_2 13 rfl rfl)
theorem dX1_cellOf_72 : decode cX1_cellOf 72 = .ok (.goto 69, 3) := dk_167 0 69 (dk_at dksX1_cellOf_2 16 rfl rfl)
theorem dX1_cellOf_75 : decode cX1_cellOf 75 = .ok (.iload 4, 2) := dk_21 4 (dk_at dksX1_cellOf_2 19 rfl rfl)
theorem dX1_cellOf_77 : decode cX1_cellOf 77 = .ok (.aload_n 3, 1) := dk_45 (dk_at dksX1_cellOf_2 21 rfl rfl)
theorem dX1_cellOf_78 : decode cX1_cellOf 78 = .ok (.getfield 235, 3) := dk_180 0 235 (dk_at dksX1_cellOf_3 0 rfl rfl)
theorem dX1_cellOf_81 : decode cX1_cellOf 81 = .ok (.iconst 1, 1) := dk_4 (dk_at dksX1_cellOf_3 3 rfl rfl)
theorem dX1_cellOf_82 : decode cX1_cellOf 82 = .ok (.isub, 1) := dk_100 (dk_at dksX1_cellOf_3 4 rfl rfl)
theorem dX1_cellOf_83 : decode cX1_cellOf 83 = .ok (.iconst 2, 1) := dk_5 (dk_at dksX1_cellOf_3 5 rfl rfl)
theorem dX1_cellOf_84 : decode cX1_cellOf 84 = .ok (.idiv, 1) := dk_108 (dk_at dksX1_cellOf_3 6 rfl rfl)
theorem dX1_cellOf_85 : decode cX1_cellOf 85 = .ok (.iadd, 1) := dk_96 (dk_at dksX1_cellOf_3 7 rfl rfl)
theorem dX1_cellOf_86 : decode cX1_cellOf 86 = .ok (.istore 4, 2) := dk_54 4 (dk_at dksX1_cellOf_3 8 rfl rfl)
theorem dX1_cellOf_88 : decode cX1_cellOf 88 = .ok (.iload 5, 2) := dk_21 5 (dk_at dksX1_cellOf_3 10 rfl rfl)
theorem dX1_cellOf_90 : decode cX1_cellOf 90 = .ok (.aload_n 3, 1) := dk_45 (dk_at dksX1_cellOf_3 12 rfl rfl)
theorem dX1_cellOf_91 : decode cX1_cellOf 91 = .ok (.getfield 238, 3) := dk_180 0 238 (dk_at dksX1_cellOf_3 13 rfl rfl)
theorem dX1_cellOf_94 : decode cX1_cellOf 94 = .ok (.iadd, 1) := dk_96 (dk_at dksX1_cellOf_3 16 rfl rfl)
theorem dX1_cellOf_95 : decode cX1_cellOf 95 = .ok (.istore 5, 2) := dk_54 5 (dk_at dksX1_cellOf_3 17 rfl rfl)
theorem dX1_cellOf_97 : decode cX1_cellOf 97 = .ok (.goto 44, 3) := dk_167 0 44 (dk_at dksX1_cellOf_3 19 rfl rfl)
theorem dX1_cellOf_100 : decode cX1_cellOf 100 = .ok (.iinc 4 (-1), 3) := dk_132 4 255 (dk_at dksX1_cellOf_4 0 rfl rfl)
theorem dX1_cellOf_103 : decode cX1_cellOf 103 = .ok (.iload 5, 2) := dk_21 5 (dk_at dksX1_cellOf_4 3 rfl rfl)
theorem dX1_cellOf_105 : decode cX1_cellOf 105 = .ok (.aload_n 3, 1) := dk_45 (dk_at dksX1_cellOf_4 5 rfl rfl)
theorem dX1_cellOf_106 : decode cX1_cellOf 106 = .ok (.getfield 238, 3) := dk_180 0 238 (dk_at dksX1_cellOf_4 6 rfl rfl)
theorem dX1_cellOf_109 : decode cX1_cellOf 109 = .ok (.iconst 1, 1) := dk_4 (dk_at dksX1_cellOf_4 9 rfl rfl)
theorem dX1_cellOf_110 : decode cX1_cellOf 110 = .ok (.isub, 1) := dk_100 (dk_at dksX1_cellOf_4 10 rfl rfl)
theorem dX1_cellOf_111 : decode cX1_cellOf 111 = .ok (.iconst 2, 1) := dk_5 (dk_at dksX1_cellOf_4 11 rfl rfl)
theorem dX1_cellOf_112 : decode cX1_cellOf 112 = .ok (.idiv, 1) := dk_108 (dk_at dksX1_cellOf_4 12 rfl rfl)
theorem dX1_cellOf_113 : decode cX1_cellOf 113 = .ok (.iadd, 1) := dk_96 (dk_at dksX1_cellOf_4 13 rfl rfl)
theorem dX1_cellOf_114 : decode cX1_cellOf 114 = .ok (.istore 5, 2) := dk_54 5 (dk_at dksX1_cellOf_4 14 rfl rfl)
theorem dX1_cellOf_116 : decode cX1_cellOf 116 = .ok (.goto 25, 3) := dk_167 0 25 (dk_at dksX1_cellOf_4 16 rfl rfl)
theorem dX1_cellOf_119 : decode cX1_cellOf 119 = .ok (.iload 4, 2) := dk_21 4 (dk_at dksX1_cellOf_4 19 rfl rfl)
theorem dX1_cellOf_121 : decode cX1_cellOf 121 = .ok (.aload_n 3, 1) := dk_45 (dk_at dksX1_cellOf_4 21 rfl rfl)
theorem dX1_cellOf_122 : decode cX1_cellOf 122 = .ok (.getfield 235, 3) := dk_180 0 235 (dk_at dksX1_cellOf_5 0 rfl rfl)
theorem dX1_cellOf_125 : decode cX1_cellOf 125 = .ok (.iadd, 1) := dk_96 (dk_at dksX1_cellOf_5 3 rfl rfl)
theorem dX1_cellOf_126 : decode cX1_cellOf 126 = .ok (.istore 4, 2) := dk_54 4 (dk_at dksX1_cellOf_5 4 rfl rfl)
theorem dX1_cellOf_128 : decode cX1_cellOf 128 = .ok (.iload 5, 2) := dk_21 5 (dk_at dksX1_cellOf_5 6 rfl rfl)
theorem dX1_cellOf_130 : decode cX1_cellOf 130 = .ok (.aload_n 3, 1) := dk_45 (dk_at dksX1_cellOf_5 8 rfl rfl)
theorem dX1_cellOf_131 : decode cX1_cellOf 131 = .ok (.getfield 238, 3) := dk_180 0 238 (dk_at dksX1_cellOf_5 9 rfl rfl)
theorem dX1_cellOf_134 : decode cX1_cellOf 134 = .ok (.iconst 1, 1) := dk_4 (dk_at dksX1_cellOf_5 12 rfl rfl)
theorem dX1_cellOf_135 : decode cX1_cellOf 135 = .ok (.isub, 1) := dk_100 (dk_at dksX1_cellOf_5 13 rfl rfl)
theorem dX1_cellOf_136 : decode cX1_cellOf 136 = .ok (.iconst 2, 1) := dk_5 (dk_at dksX1_cellOf_5 14 rfl rfl)
theorem dX1_cellOf_137 : decode cX1_cellOf 137 = .ok (.idiv, 1) := dk_108 (dk_at dksX1_cellOf_5 15 rfl rfl)
theorem dX1_cellOf_138 : decode cX1_cellOf 138 = .ok (.iadd, 1) := dk_96 (dk_at dksX1_cellOf_5 16 rfl rfl)
theorem dX1_cellOf_139 : decode cX1_cellOf 139 = .ok (.istore 5, 2) := dk_54 5 (dk_at dksX1_cellOf_5 17 rfl rfl)
theorem dX1_cellOf_141 : decode cX1_cellOf 141 = .ok (.aload_n 0, 1) := dk_42 (dk_at dksX1_cellOf_5 19 rfl rfl)
theorem dX1_cellOf_142 : decode cX1_cellOf 142 = .ok (.getfield 96, 3) := dk_180 0 96 (dk_at dksX1_cellOf_5 20 rfl rfl)
theorem dX1_cellOf_145 : decode cX1_cellOf 145 = .ok (.iload 4, 2) := dk_21 4 (dk_at dksX1_cellOf_6 0 rfl rfl)
theorem dX1_cellOf_147 : decode cX1_cellOf 147 = .ok (.iload 5, 2) := dk_21 5 (dk_at dksX1_cellOf_6 2 rfl rfl)
theorem dX1_cellOf_149 : decode cX1_cellOf 149 = .ok (.invokestatic 386, 3) := dk_184 1 130 (dk_at dksX1_cellOf_6 4 rfl rfl)
theorem dX1_cellOf_152 : decode cX1_cellOf 152 = .ok (.ifCond .eq 14, 3) := dk_153 0 14 (dk_at dksX1_cellOf_6 7 rfl rfl)
theorem dX1_cellOf_155 : decode cX1_cellOf 155 = .ok (.bipush 24, 2) := dk_16 24 (dk_at dksX1_cellOf_6 10 rfl rfl)
theorem dX1_cellOf_157 : decode cX1_cellOf 157 = .ok (.iload 5, 2) := dk_21 5 (dk_at dksX1_cellOf_6 12 rfl rfl)
theorem dX1_cellOf_159 : decode cX1_cellOf 159 = .ok (.imul, 1) := dk_104 (dk_at dksX1_cellOf_6 14 rfl rfl)
theorem dX1_cellOf_160 : decode cX1_cellOf 160 = .ok (.iload 4, 2) := dk_21 4 (dk_at dksX1_cellOf_6 15 rfl rfl)
theorem dX1_cellOf_162 : decode cX1_cellOf 162 = .ok (.iadd, 1) := dk_96 (dk_at dksX1_cellOf_6 17 rfl rfl)
theorem dX1_cellOf_163 : decode cX1_cellOf 163 = .ok (.goto 4, 3) := dk_167 0 4 (dk_at dksX1_cellOf_6 18 rfl rfl)
theorem dX1_cellOf_166 : decode cX1_cellOf 166 = .ok (.iconst (-1), 1) := dk_2 (dk_at dksX1_cellOf_6 21 rfl rfl)
theorem dX1_cellOf_167 : decode cX1_cellOf 167 = .ok (.ireturn, 1) := dk_172 (dk_at dksX1_cellOf_6 22 rfl rfl)
theorem q1540 : (Jvm.Cond.methodLink "Plugboard" (379 : Nat) ({ cls := "Plugboard$End", name := "shape", desc := "()LPlugboard$Shape;" } : Jvm.MethodName)) ∈ lw_all := lw_g (lw_at lw_m7 30 rfl) rfl
theorem q1541 : (Jvm.Cond.methodLink "Plugboard" (382 : Nat) ({ cls := "Plugboard$End", name := "side", desc := "()C" } : Jvm.MethodName)) ∈ lw_all := lw_g (lw_at lw_m7 31 rfl) rfl
theorem q1542 : (Jvm.Cond.instanceMethod ({ cls := "Plugboard$End", name := "side", desc := "()C" } : Jvm.MethodName)) ∈ lw_all := lw_g (lw_at lw_m7 32 rfl) rfl
theorem q1543 : (Jvm.Cond.selects "Plugboard$End" ({ cls := "Plugboard$End", name := "side", desc := "()C" } : Jvm.MethodName) ({ cls := "Plugboard$End", name := "side", desc := "()C" } : Jvm.MethodName)) ∈ lw_all := lw_g (lw_at lw_m7 33 rfl) rfl
theorem q1544 : (Jvm.Cond.code ({ cls := "Plugboard$End", name := "side", desc := "()C" } : Jvm.MethodName) prog_8_method_6_code (1 : Nat) (Option.some Jvm.ClassFile.FieldType.char)) ∈ lw_all := lw_g (lw_at lw_m7 34 rfl) rfl
theorem q1545 : (Jvm.Cond.methodLink "Plugboard" (386 : Nat) ({ cls := "Plugboard", name := "isFreeAt", desc := "([[ZII)Z" } : Jvm.MethodName)) ∈ lw_all := lw_g (lw_at lw_m7 35 rfl) rfl
theorem q1546 : (Jvm.Cond.static ({ cls := "Plugboard", name := "isFreeAt", desc := "([[ZII)Z" } : Jvm.MethodName)) ∈ lw_all := lw_g (lw_at lw_m7 36 rfl) rfl
theorem q1547 : (Jvm.Cond.code ({ cls := "Plugboard", name := "isFreeAt", desc := "([[ZII)Z" } : Jvm.MethodName) prog_1_method_62_code (3 : Nat) (Option.some Jvm.ClassFile.FieldType.boolean)) ∈ lw_all := lw_g (lw_at lw_m7 37 rfl) rfl
abbrev rm_X1_cellOf : Room := { frames := 2, cells := 0, slots := 0, locals := 44 }
def w_X1_cellOf_141 (P : Int32 → AH → Prop) (x0 : Option Nat) (x4 : Int32) (x5 : Int32) (h : AH) : Prop :=
  g_q h x0 0 8 fun y142 =>
  w_X1_isFreeAt y142 x4 x5 h (fun y149 h149 =>
  ((y149 = 0 →
    P (-1) h149) ∧
   (¬ y149 = 0 →
    P ((24 * x5) + x4) h149)))
def w_X1_cellOf (a0 : Option Nat) (a1 : Option Nat) (a2 : Option Nat) (h : AH) (P : Int32 → AH → Prop) : Prop :=
  is_c h a2 [12] (
  w_X14_shape a2 h (fun y1 h1 =>
  is_c h1 a1 [2] (
  w_X3_columnOf a1 y1 h1 (fun y7 h7 =>
  is_c h7 a1 [2] (
  w_X3_rowOf a1 y1 h7 (fun y14 h14 =>
  is_c h14 a2 [12] (
  w_X14_side a2 h14 (fun y20 h20 =>
  ((y20 = Int32.ofInt 98 →
    g_iS h20 y1 1 fun y78 =>
    ¬ (2 : Int32) = 0 ∧
    g_iS h20 y1 2 fun y91 =>
    w_X1_cellOf_141 P a0 (y7 + ((y78 - 1) / 2)) (y14 + y91) h20) ∧
   (y20 = Int32.ofInt 108 →
    g_iS h20 y1 2 fun y106 =>
    ¬ (2 : Int32) = 0 ∧
    w_X1_cellOf_141 P a0 (y7 + (-1)) (y14 + ((y106 - 1) / 2)) h20) ∧
   (y20 = Int32.ofInt 116 →
    g_iS h20 y1 1 fun y59 =>
    ¬ (2 : Int32) = 0 ∧
    w_X1_cellOf_141 P a0 (y7 + ((y59 - 1) / 2)) (y14 + (-1)) h20) ∧
   (¬ y20 = Int32.ofInt 98 → ¬ y20 = Int32.ofInt 108 → ¬ y20 = Int32.ofInt 116 →
    g_iS h20 y1 1 fun y122 =>
    g_iS h20 y1 2 fun y131 =>
    ¬ (2 : Int32) = 0 ∧
    w_X1_cellOf_141 P a0 (y7 + y122) (y14 + ((y131 - 1) / 2)) h20))))))))))
theorem wk_X1_cellOf_141 {x : CX} (X : Ok x cX1_cellOf RX1 rm_X1_cellOf 6) (er : xrt x = (Option.some Jvm.ClassFile.FieldType.int)) (en : xnm x = yX1_cellOf.name) {P : Int32 → AH → Prop} (hQ : xr_i x P) (x0 : Option Nat) (x4 : Int32) (x5 : Int32) (h : AH) (hw : w_X1_cellOf_141 P x0 x4 x5 h) : J x h 0 0 141 [(0, vR x0), (4, vI x4), (5, vI x5)] [] := by
  refine j_aload_n X (pc := 141) 0 dX1_cellOf_141 rfl rfl ?_
  refine j_getq (ci := 0) X (pc := 142) in_X1 rfl (by decide) 8 (by decide) q251 (Or.inl rfl) dX1_cellOf_142 hw (fun y142 hw => ?_)
  refine j_iload X (pc := 145) 1 dX1_cellOf_145 rfl ?_
  refine j_iload X (pc := 147) 2 dX1_cellOf_147 rfl ?_
  refine j_calli (j_runS (n8 := 3) (As := [vR y142, vI x4, vI x5]) (rest := []) X (pc := 149) (met_X1_isFreeAt (xl x) X.hl (xG x) h y142 x4 x5 _ hw) q1545 q1546 q71 q1547 (by decide +kernel) dX1_cellOf_149 rfl ⟨Nat.le_of_ble_eq_true rfl, Nat.le_of_ble_eq_true rfl⟩ (Nat.le_of_ble_eq_true rfl) ⟨Nat.le_of_ble_eq_true rfl, Nat.le_of_ble_eq_true rfl⟩) (fun y149 h149 hw => ?_)
  refine j_if_eq X (pc := 152) 166 dX1_cellOf_152 (by decide) hw (fun hw => ?_) (fun hw => ?_)
  · refine j_iconst X (pc := 166) (-1) dX1_cellOf_166 (by decide) ?_
    exact j_iret X (pc := 167) hQ er (Nat.le_of_ble_eq_true rfl) (Nat.le_of_ble_eq_true rfl) dX1_cellOf_167 hw
  · refine j_bipush X (pc := 155) 24 dX1_cellOf_155 (by decide) ?_
    refine j_iload X (pc := 157) 2 dX1_cellOf_157 rfl ?_
    refine j_imul X (pc := 159) dX1_cellOf_159 ?_
    refine j_iload X (pc := 160) 1 dX1_cellOf_160 rfl ?_
    refine j_iadd X (pc := 162) dX1_cellOf_162 ?_
    refine j_goto X (pc := 163) 167 dX1_cellOf_163 (by decide) ?_
    exact j_iret X (pc := 167) hQ er (Nat.le_of_ble_eq_true rfl) (Nat.le_of_ble_eq_true rfl) dX1_cellOf_167 hw
theorem met_X1_cellOf (l : Launch) (hlt : l.stackTraces = false) (G : GG) (h : AH) (a0 : Option Nat) (a1 : Option Nat) (a2 : Option Nat) (P : Int32 → AH → Prop) (hw : w_X1_cellOf a0 a1 a2 h P) : ct_i l yX1_cellOf (ws_ yX1_cellOf cX1_cellOf 6 (Option.some Jvm.ClassFile.FieldType.int)) rm_X1_cellOf G h [vR a0, vR a1, vR a2] P := by
  refine j_starti hlt [(0, vR a0), (1, vR a1), (2, vR a2)] (plainFor_of_name (by decide)) rfl rfl (fun x X eG er en hQ => ?_)
  subst eG
  refine j_aload_n X (pc := 0) 2 dX1_cellOf_0 rfl rfl ?_
  obtain ⟨b9, c9, f9, hr9, ho9, hc9, hw⟩ := hw
  obtain rfl := List.mem_singleton.mp hc9
  refine j_callq (j_runV (n8 := 0) (As := []) (rest := []) X (pc := 1) hr9 (met_X14_shape (xl x) X.hl (xG x) h a2 _ hw) ho9 (by decide) rfl q1540 q1307 q1308 q112 q1309 (by decide +kernel) dX1_cellOf_1 rfl ⟨Nat.le_of_ble_eq_true rfl, Nat.le_of_ble_eq_true rfl⟩ (Nat.le_of_ble_eq_true rfl) ⟨Nat.le_of_ble_eq_true rfl, Nat.le_of_ble_eq_true rfl⟩) (fun y1 h1 hw => ?_)
  refine j_astore_n X (pc := 4) [(3, vR y1), (0, vR a0), (1, vR a1), (2, vR a2)] dX1_cellOf_4 rfl (Nat.le_of_ble_eq_true rfl) rfl ?_
  refine j_aload_n X (pc := 5) 2 dX1_cellOf_5 rfl rfl ?_
  refine j_aload_n X (pc := 6) 0 dX1_cellOf_6 rfl rfl ?_
  obtain ⟨b9, c9, f9, hr9, ho9, hc9, hw⟩ := hw
  obtain rfl := List.mem_singleton.mp hc9
  refine j_calli (j_runV (n8 := 1) (As := [vR y1]) (rest := []) X (pc := 7) hr9 (met_X3_columnOf (xl x) X.hl (xG x) h1 a1 y1 _ hw) ho9 (by decide) rfl q1115 q1116 q1117 q76 q1118 (by decide +kernel) dX1_cellOf_7 rfl ⟨Nat.le_of_ble_eq_true rfl, Nat.le_of_ble_eq_true rfl⟩ (Nat.le_of_ble_eq_true rfl) ⟨Nat.le_of_ble_eq_true rfl, Nat.le_of_ble_eq_true rfl⟩) (fun y7 h7 hw => ?_)
  refine j_istore X (pc := 10) [(4, vI y7), (3, vR y1), (0, vR a0), (1, vR a1), (2, vR a2)] dX1_cellOf_10 (Nat.le_of_ble_eq_true rfl) rfl ?_
  refine j_aload_n X (pc := 12) 3 dX1_cellOf_12 rfl rfl ?_
  refine j_aload_n X (pc := 13) 1 dX1_cellOf_13 rfl rfl ?_
  obtain ⟨b9, c9, f9, hr9, ho9, hc9, hw⟩ := hw
  obtain rfl := List.mem_singleton.mp hc9
  refine j_calli (j_runV (n8 := 1) (As := [vR y1]) (rest := []) X (pc := 14) hr9 (met_X3_rowOf (xl x) X.hl (xG x) h7 a1 y1 _ hw) ho9 (by decide) rfl q1119 q1120 q1121 q76 q1122 (by decide +kernel) dX1_cellOf_14 rfl ⟨Nat.le_of_ble_eq_true rfl, Nat.le_of_ble_eq_true rfl⟩ (Nat.le_of_ble_eq_true rfl) ⟨Nat.le_of_ble_eq_true rfl, Nat.le_of_ble_eq_true rfl⟩) (fun y14 h14 hw => ?_)
  refine j_istore X (pc := 17) [(5, vI y14), (4, vI y7), (3, vR y1), (0, vR a0), (1, vR a1), (2, vR a2)] dX1_cellOf_17 (Nat.le_of_ble_eq_true rfl) rfl ?_
  refine j_aload_n X (pc := 19) 5 dX1_cellOf_19 rfl rfl ?_
  obtain ⟨b9, c9, f9, hr9, ho9, hc9, hw⟩ := hw
  obtain rfl := List.mem_singleton.mp hc9
  refine j_calli (j_runV (n8 := 0) (As := []) (rest := []) X (pc := 20) hr9 (met_X14_side (xl x) X.hl (xG x) h14 a2 _ hw) ho9 (by decide) rfl q1541 q1542 q1543 q112 q1544 (by decide +kernel) dX1_cellOf_20 rfl ⟨Nat.le_of_ble_eq_true rfl, Nat.le_of_ble_eq_true rfl⟩ (Nat.le_of_ble_eq_true rfl) ⟨Nat.le_of_ble_eq_true rfl, Nat.le_of_ble_eq_true rfl⟩) (fun y20 h20 hw => ?_)
  refine j_look3 X (pc := 23) 119 75 100 56 dX1_cellOf_23 (by decide) (by decide) (by decide) (by decide) (by decide) (by decide) (by decide) (by decide) hw (fun hw => ?_) (fun hw => ?_) (fun hw => ?_) (fun hw => ?_)
  · refine j_iload X (pc := 75) 1 dX1_cellOf_75 rfl ?_
    refine j_aload_n X (pc := 77) 2 dX1_cellOf_77 rfl rfl ?_
    refine j_getiSN X (pc := 78) 1 (by decide) q581 dX1_cellOf_78 hw (fun y78 hw => ?_)
    refine j_iconst X (pc := 81) 1 dX1_cellOf_81 (by decide) ?_
    refine j_isub X (pc := 82) dX1_cellOf_82 ?_
    refine j_iconst X (pc := 83) 2 dX1_cellOf_83 (by decide) ?_
    refine j_idiv X (pc := 84) dX1_cellOf_84 hw (fun hw => ?_)
    refine j_iadd X (pc := 85) dX1_cellOf_85 ?_
    refine j_istore X (pc := 86) [(4, vI (y7 + ((y78 - 1) / 2))), (5, vI y14), (3, vR y1), (0, vR a0), (1, vR a1), (2, vR a2)] dX1_cellOf_86 (Nat.le_of_ble_eq_true rfl) rfl ?_
    refine j_iload X (pc := 88) 1 dX1_cellOf_88 rfl ?_
    refine j_aload_n X (pc := 90) 2 dX1_cellOf_90 rfl rfl ?_
    refine j_getiSN X (pc := 91) 2 (by decide) q584 dX1_cellOf_91 hw (fun y91 hw => ?_)
    refine j_iadd X (pc := 94) dX1_cellOf_94 ?_
    refine j_istore X (pc := 95) [(5, vI (y14 + y91)), (4, vI (y7 + ((y78 - 1) / 2))), (3, vR y1), (0, vR a0), (1, vR a1), (2, vR a2)] dX1_cellOf_95 (Nat.le_of_ble_eq_true rfl) rfl ?_
    refine j_goto X (pc := 97) 141 dX1_cellOf_97 (by decide) ?_
    refine j_lv [(0, vR a0), (4, vI (y7 + ((y78 - 1) / 2))), (5, vI (y14 + y91))] [3, 1, 0] rfl ?_
    refine j_cs (u' := 0) (v' := 0) (Nat.le_of_ble_eq_true rfl) (Nat.le_of_ble_eq_true rfl) ?_
    exact wk_X1_cellOf_141 X er en hQ a0 (y7 + ((y78 - 1) / 2)) (y14 + y91) h20 hw
  · refine j_iinc X (pc := 100) 1 (y7 + (-1)) [(4, vI (y7 + (-1))), (5, vI y14), (3, vR y1), (0, vR a0), (1, vR a1), (2, vR a2)] dX1_cellOf_100 rfl rfl (Nat.le_of_ble_eq_true rfl) rfl ?_
    refine j_iload X (pc := 103) 1 dX1_cellOf_103 rfl ?_
    refine j_aload_n X (pc := 105) 2 dX1_cellOf_105 rfl rfl ?_
    refine j_getiSN X (pc := 106) 2 (by decide) q584 dX1_cellOf_106 hw (fun y106 hw => ?_)
    refine j_iconst X (pc := 109) 1 dX1_cellOf_109 (by decide) ?_
    refine j_isub X (pc := 110) dX1_cellOf_110 ?_
    refine j_iconst X (pc := 111) 2 dX1_cellOf_111 (by decide) ?_
    refine j_idiv X (pc := 112) dX1_cellOf_112 hw (fun hw => ?_)
    refine j_iadd X (pc := 113) dX1_cellOf_113 ?_
    refine j_istore X (pc := 114) [(5, vI (y14 + ((y106 - 1) / 2))), (4, vI (y7 + (-1))), (3, vR y1), (0, vR a0), (1, vR a1), (2, vR a2)] dX1_cellOf_114 (Nat.le_of_ble_eq_true rfl) rfl ?_
    refine j_goto X (pc := 116) 141 dX1_cellOf_116 (by decide) ?_
    refine j_lv [(0, vR a0), (4, vI (y7 + (-1))), (5, vI (y14 + ((y106 - 1) / 2)))] [3, 1, 0] rfl ?_
    refine j_cs (u' := 0) (v' := 0) (Nat.le_of_ble_eq_true rfl) (Nat.le_of_ble_eq_true rfl) ?_
    exact wk_X1_cellOf_141 X er en hQ a0 (y7 + (-1)) (y14 + ((y106 - 1) / 2)) h20 hw
  · refine j_iload X (pc := 56) 1 dX1_cellOf_56 rfl ?_
    refine j_aload_n X (pc := 58) 2 dX1_cellOf_58 rfl rfl ?_
    refine j_getiSN X (pc := 59) 1 (by decide) q581 dX1_cellOf_59 hw (fun y59 hw => ?_)
    refine j_iconst X (pc := 62) 1 dX1_cellOf_62 (by decide) ?_
    refine j_isub X (pc := 63) dX1_cellOf_63 ?_
    refine j_iconst X (pc := 64) 2 dX1_cellOf_64 (by decide) ?_
    refine j_idiv X (pc := 65) dX1_cellOf_65 hw (fun hw => ?_)
    refine j_iadd X (pc := 66) dX1_cellOf_66 ?_
    refine j_istore X (pc := 67) [(4, vI (y7 + ((y59 - 1) / 2))), (5, vI y14), (3, vR y1), (0, vR a0), (1, vR a1), (2, vR a2)] dX1_cellOf_67 (Nat.le_of_ble_eq_true rfl) rfl ?_
    refine j_iinc X (pc := 69) 1 (y14 + (-1)) [(5, vI (y14 + (-1))), (4, vI (y7 + ((y59 - 1) / 2))), (3, vR y1), (0, vR a0), (1, vR a1), (2, vR a2)] dX1_cellOf_69 rfl rfl (Nat.le_of_ble_eq_true rfl) rfl ?_
    refine j_goto X (pc := 72) 141 dX1_cellOf_72 (by decide) ?_
    refine j_lv [(0, vR a0), (4, vI (y7 + ((y59 - 1) / 2))), (5, vI (y14 + (-1)))] [3, 1, 0] rfl ?_
    refine j_cs (u' := 0) (v' := 0) (Nat.le_of_ble_eq_true rfl) (Nat.le_of_ble_eq_true rfl) ?_
    exact wk_X1_cellOf_141 X er en hQ a0 (y7 + ((y59 - 1) / 2)) (y14 + (-1)) h20 hw
  · refine j_iload X (pc := 119) 1 dX1_cellOf_119 rfl ?_
    refine j_aload_n X (pc := 121) 2 dX1_cellOf_121 rfl rfl ?_
    refine j_getiSN X (pc := 122) 1 (by decide) q581 dX1_cellOf_122 hw (fun y122 hw => ?_)
    refine j_iadd X (pc := 125) dX1_cellOf_125 ?_
    refine j_istore X (pc := 126) [(4, vI (y7 + y122)), (5, vI y14), (3, vR y1), (0, vR a0), (1, vR a1), (2, vR a2)] dX1_cellOf_126 (Nat.le_of_ble_eq_true rfl) rfl ?_
    refine j_iload X (pc := 128) 1 dX1_cellOf_128 rfl ?_
    refine j_aload_n X (pc := 130) 2 dX1_cellOf_130 rfl rfl ?_
    refine j_getiSN X (pc := 131) 2 (by decide) q584 dX1_cellOf_131 hw (fun y131 hw => ?_)
    refine j_iconst X (pc := 134) 1 dX1_cellOf_134 (by decide) ?_
    refine j_isub X (pc := 135) dX1_cellOf_135 ?_
    refine j_iconst X (pc := 136) 2 dX1_cellOf_136 (by decide) ?_
    refine j_idiv X (pc := 137) dX1_cellOf_137 hw (fun hw => ?_)
    refine j_iadd X (pc := 138) dX1_cellOf_138 ?_
    refine j_istore X (pc := 139) [(5, vI (y14 + ((y131 - 1) / 2))), (4, vI (y7 + y122)), (3, vR y1), (0, vR a0), (1, vR a1), (2, vR a2)] dX1_cellOf_139 (Nat.le_of_ble_eq_true rfl) rfl ?_
    refine j_lv [(0, vR a0), (4, vI (y7 + y122)), (5, vI (y14 + ((y131 - 1) / 2)))] [3, 1, 0] rfl ?_
    refine j_cs (u' := 0) (v' := 0) (Nat.le_of_ble_eq_true rfl) (Nat.le_of_ble_eq_true rfl) ?_
    exact wk_X1_cellOf_141 X er en hQ a0 (y7 + y122) (y14 + ((y131 - 1) / 2)) h20 hw
abbrev cX1_clearCosts : ByteArray := prog_1_method_65_code
def yX1_clearCosts : MethodName := ⟨RX1, "clearCosts", "()V"⟩
def dkwX1_clearCosts_1 : List UInt8 := [27, 3, 84, 132, 1, 1, 167, 255, 228, 177]
abbrev dktX1_clearCosts_1 : List UInt8 := dkwX1_clearCosts_1 ++ []
def dkwX1_clearCosts_0 : List UInt8 := [3, 60, 27, 42, 180, 0, 99, 190, 162, 0, 25, 42, 180, 0, 99, 27, 19, 1, 134, 79, 42, 180, 0, 105]
abbrev dktX1_clearCosts_0 : List UInt8 := dkwX1_clearCosts_0 ++ dktX1_clearCosts_1
theorem dksX1_clearCosts_0 : cX1_clearCosts.data.toList.drop 0 = dktX1_clearCosts_0 := by decide +kernel
theorem dksX1_clearCosts_1 : cX1_clearCosts.data.toList.drop 24 = dktX1_clearCosts_1 := dk_seg dksX1_clearCosts_0 24 rfl rfl
theorem dX1_clearCosts_0 : decode cX1_clearCosts 0 = .ok (.iconst 0, 1) := dk_3 (dk_at dksX1_clearCosts_0 0 rfl rfl)
theorem dX1_clearCosts_1 : decode cX1_clearCosts 1 = .ok (.istore_n 1, 1) := dk_60 (dk_at dksX1_clearCosts_0 1 rfl rfl)
theorem dX1_clearCosts_2 : decode cX1_clearCosts 2 = .ok (.iload_n 1, 1) := dk_27 (dk_at dksX1_clearCosts_0 2 rfl rfl)
theorem dX1_clearCosts_3 : decode cX1_clearCosts 3 = .ok (.aload_n 0, 1) := dk_42 (dk_at dksX1_clearCosts_0 3 rfl rfl)
theorem dX1_clearCosts_4 : decode cX1_clearCosts 4 = .ok (.getfield 99, 3) := dk_180 0 99 (dk_at dksX1_clearCosts_0 4 rfl rfl)
theorem dX1_clearCosts_7 : decode cX1_clearCosts 7 = .ok (.arraylength, 1) := dk_190 (dk_at dksX1_clearCosts_0 7 rfl rfl)
theorem dX1_clearCosts_8 : decode cX1_clearCosts 8 = .ok (.if_icmp .ge 25, 3) := dk_162 0 25 (dk_at dksX1_clearCosts_0 8 rfl rfl)
theorem dX1_clearCosts_11 : decode cX1_clearCosts 11 = .ok (.aload_n 0, 1) := dk_42 (dk_at dksX1_clearCosts_0 11 rfl rfl)
theorem dX1_clearCosts_12 : decode cX1_clearCosts 12 = .ok (.getfield 99, 3) := dk_180 0 99 (dk_at dksX1_clearCosts_0 12 rfl rfl)
theorem dX1_clearCosts_15 : decode cX1_clearCosts 15 = .ok (.iload_n 1, 1) := dk_27 (dk_at dksX1_clearCosts_0 15 rfl rfl)
theorem dX1_clearCosts_16 : decode cX1_clearCosts 16 = .ok (.ldc_w 390, 3) := dk_19 1 134 (dk_at dksX1_clearCosts_0 16 rfl rfl)
theorem dX1_clearCosts_19 : decode cX1_clearCosts 19 = .ok (.iastore, 1) := dk_79 (dk_at dksX1_clearCosts_0 19 rfl rfl)
theorem dX1_clearCosts_20 : decode cX1_clearCosts 20 = .ok (.aload_n 0, 1) := dk_42 (dk_at dksX1_clearCosts_0 20 rfl rfl)
theorem dX1_clearCosts_21 : decode cX1_clearCosts 21 = .ok (.getfield 105, 3) := dk_180 0 105 (dk_at dksX1_clearCosts_0 21 rfl rfl)
theorem dX1_clearCosts_24 : decode cX1_clearCosts 24 = .ok (.iload_n 1, 1) := dk_27 (dk_at dksX1_clearCosts_1 0 rfl rfl)
theorem dX1_clearCosts_25 : decode cX1_clearCosts 25 = .ok (.iconst 0, 1) := dk_3 (dk_at dksX1_clearCosts_1 1 rfl rfl)
theorem dX1_clearCosts_26 : decode cX1_clearCosts 26 = .ok (.bastore, 1) := dk_84 (dk_at dksX1_clearCosts_1 2 rfl rfl)
theorem dX1_clearCosts_27 : decode cX1_clearCosts 27 = .ok (.iinc 1 1, 3) := dk_132 1 1 (dk_at dksX1_clearCosts_1 3 rfl rfl)
theorem dX1_clearCosts_30 : decode cX1_clearCosts 30 = .ok (.goto (-28), 3) := dk_167 255 228 (dk_at dksX1_clearCosts_1 6 rfl rfl)
theorem dX1_clearCosts_33 : decode cX1_clearCosts 33 = .ok (.return_, 1) := dk_177 (dk_at dksX1_clearCosts_1 9 rfl rfl)
theorem q1549 : (Jvm.Cond.constant "Plugboard" (390 : Nat) (1000000 : Int32)) ∈ lw_all := lw_g (lw_at lw_m7 39 rfl) rfl
abbrev rm_X1_clearCosts : Room := { frames := 0, cells := 0, slots := 0, locals := 0 }
def w_X1_clearCosts_2 (P : AH → Prop) (x0 : Option Nat) (x1 : Int32) (h : AH) : Prop :=
  ∀ Z2 : Int32 → AH → Prop, (∀ x1 h, (
      g_q h x0 0 9 fun y4 =>
      n_a h y4 fun y7 =>
      ((y7 ≤ x1 →
        P h) ∧
       (¬ y7 ≤ x1 →
        g_q h x0 0 9 fun y12 =>
        s_i h y12 0 x1 1000000 fun h19 =>
        g_q h19 x0 0 11 fun y21 =>
        s_i h19 y21 1 x1 0 fun h26 =>
        Z2 (x1 + 1) h26)))
      → Z2 x1 h) → Z2 x1 h
def w_X1_clearCosts (a0 : Option Nat) (h : AH) (P : AH → Prop) : Prop :=
  w_X1_clearCosts_2 P a0 0 h
theorem wk_X1_clearCosts_2 {x : CX} (X : Ok x cX1_clearCosts RX1 rm_X1_clearCosts 2) (er : xrt x = (Option.none : Option Jvm.ClassFile.FieldType)) (en : xnm x = yX1_clearCosts.name) {P : AH → Prop} (hQ : xr_v x P) (x0 : Option Nat) (x1 : Int32) (h : AH) (hw : w_X1_clearCosts_2 P x0 x1 h) : J x h 0 0 2 [(0, vR x0), (1, vI x1)] [] := by
  refine hw (fun x1 h => J x h 0 0 2 [(0, vR x0), (1, vI x1)] []) (fun x1 h hw => ?_)
  refine j_iload_n X (pc := 2) 1 dX1_clearCosts_2 rfl rfl ?_
  refine j_aload_n X (pc := 3) 0 dX1_clearCosts_3 rfl rfl ?_
  refine j_getq (ci := 0) X (pc := 4) in_X1 rfl (by decide) 9 (by decide) q252 (Or.inl rfl) dX1_clearCosts_4 hw (fun y4 hw => ?_)
  refine j_alen X (pc := 7) dX1_clearCosts_7 hw (fun y7 hw => ?_)
  refine j_icmp_ge X (pc := 8) 33 dX1_clearCosts_8 (by decide) hw (fun hw => ?_) (fun hw => ?_)
  · exact j_vret X (pc := 33) hQ er (Nat.le_of_ble_eq_true rfl) (Nat.le_of_ble_eq_true rfl) dX1_clearCosts_33 hw
  · refine j_aload_n X (pc := 11) 0 dX1_clearCosts_11 rfl rfl ?_
    refine j_getq (ci := 0) X (pc := 12) in_X1 rfl (by decide) 9 (by decide) q252 (Or.inl rfl) dX1_clearCosts_12 hw (fun y12 hw => ?_)
    refine j_iload_n X (pc := 15) 1 dX1_clearCosts_15 rfl rfl ?_
    refine j_ldcw X (pc := 16) dX1_clearCosts_16 q1549 ?_
    refine j_iast X (pc := 19) 0 rfl rfl dX1_clearCosts_19 hw (fun h19 hw => ?_)
    refine j_aload_n X (pc := 20) 0 dX1_clearCosts_20 rfl rfl ?_
    refine j_getq (ci := 0) X (pc := 21) in_X1 rfl (by decide) 11 (by decide) q254 (Or.inl rfl) dX1_clearCosts_21 hw (fun y21 hw => ?_)
    refine j_iload_n X (pc := 24) 1 dX1_clearCosts_24 rfl rfl ?_
    refine j_iconst X (pc := 25) 0 dX1_clearCosts_25 (by decide) ?_
    refine j_zast X (pc := 26) 1 rfl rfl ⟨rfl, rfl⟩ dX1_clearCosts_26 hw (fun h26 hw => ?_)
    refine j_iinc X (pc := 27) 1 (x1 + 1) [(1, vI (x1 + 1)), (0, vR x0)] dX1_clearCosts_27 rfl rfl (Nat.le_of_ble_eq_true rfl) rfl ?_
    refine j_goto X (pc := 30) 2 dX1_clearCosts_30 (by decide) ?_
    refine j_lv [(0, vR x0), (1, vI (x1 + 1))] [1, 0] rfl ?_
    refine j_cs (u' := 0) (v' := 0) (Nat.le_of_ble_eq_true rfl) (Nat.le_of_ble_eq_true rfl) ?_
    exact hw
theorem met_X1_clearCosts (l : Launch) (hlt : l.stackTraces = false) (G : GG) (h : AH) (a0 : Option Nat) (P : AH → Prop) (hw : w_X1_clearCosts a0 h P) : ct_v l yX1_clearCosts (ws_ yX1_clearCosts cX1_clearCosts 2 (Option.none : Option Jvm.ClassFile.FieldType)) rm_X1_clearCosts G h [vR a0] P := by
  refine j_startv hlt [(0, vR a0)] (plainFor_of_name (by decide)) rfl rfl (fun x X eG er en hQ => ?_)
  subst eG
  refine j_iconst X (pc := 0) 0 dX1_clearCosts_0 (by decide) ?_
  refine j_istore_n X (pc := 1) [(1, vI 0), (0, vR a0)] dX1_clearCosts_1 rfl (Nat.le_of_ble_eq_true rfl) rfl ?_
  refine j_lv [(0, vR a0), (1, vI 0)] [1, 0] rfl ?_
  refine j_cs (u' := 0) (v' := 0) (Nat.le_of_ble_eq_true rfl) (Nat.le_of_ble_eq_true rfl) ?_
  exact wk_X1_clearCosts_2 X er en hQ a0 0 h hw
abbrev cX1_beside : ByteArray := prog_1_method_64_code
def yX1_beside : MethodName := ⟨RX1, "beside", "(II)I"⟩
def dkwX1_beside_2 : List UInt8 := [96, 167, 0, 4, 2, 172]
abbrev dktX1_beside_2 : List UInt8 := dkwX1_beside_2 ++ []
def dkwX1_beside_1 : List UInt8 := [4, 46, 96, 54, 4, 42, 180, 0, 96, 29, 21, 4, 184, 1, 130, 153, 0, 13, 16, 24, 21, 4, 104, 29]
abbrev dktX1_beside_1 : List UInt8 := dkwX1_beside_1 ++ dktX1_beside_2
def dkwX1_beside_0 : List UInt8 := [27, 16, 24, 112, 42, 180, 0, 90, 28, 50, 3, 46, 96, 62, 27, 16, 24, 108, 42, 180, 0, 90, 28, 50]
abbrev dktX1_beside_0 : List UInt8 := dkwX1_beside_0 ++ dktX1_beside_1
theorem dksX1_beside_0 : cX1_beside.data.toList.drop 0 = dktX1_beside_0 := by decide +kernel
theorem dksX1_beside_1 : cX1_beside.data.toList.drop 24 = dktX1_beside_1 := dk_seg dksX1_beside_0 24 rfl rfl
theorem dksX1_beside_2 : cX1_beside.data.toList.drop 48 = dktX1_beside_2 := dk_seg dksX1_beside_1 24 rfl rfl
theorem dX1_beside_0 : decode cX1_beside 0 = .ok (.iload_n 1, 1) := dk_27 (dk_at dksX1_beside_0 0 rfl rfl)
theorem dX1_beside_1 : decode cX1_beside 1 = .ok (.bipush 24, 2) := dk_16 24 (dk_at dksX1_beside_0 1 rfl rfl)
theorem dX1_beside_3 : decode cX1_beside 3 = .ok (.irem, 1) := dk_112 (dk_at dksX1_beside_0 3 rfl rfl)
theorem dX1_beside_4 : decode cX1_beside 4 = .ok (.aload_n 0, 1) := dk_42 (dk_at dksX1_beside_0 4 rfl rfl)
theorem dX1_beside_5 : decode cX1_beside 5 = .ok (.getfield 90, 3) := dk_180 0 90 (dk_at dksX1_beside_0 5 rfl rfl)
theorem dX1_beside_8 : decode cX1_beside 8 = .ok (.iload_n 2, 1) := dk_28 (dk_at dksX1_beside_0 8 rfl rfl)
theorem dX1_beside_9 : decode cX1_beside 9 = .ok (.aaload, 1) := dk_50 (dk_at dksX1_beside_0 9 rfl rfl)
theorem dX1_beside_10 : decode cX1_beside 10 = .ok (.iconst 0, 1) := dk_3 (dk_at dksX1_beside_0 10 rfl rfl)
theorem dX1_beside_11 : decode cX1_beside 11 = .ok (.iaload, 1) := dk_46 (dk_at dksX1_beside_0 11 rfl rfl)
theorem dX1_beside_12 : decode cX1_beside 12 = .ok (.iadd, 1) := dk_96 (dk_at dksX1_beside_0 12 rfl rfl)
theorem dX1_beside_13 : decode cX1_beside 13 = .ok (.istore_n 3, 1) := dk_62 (dk_at dksX1_beside_0 13 rfl rfl)
theorem dX1_beside_14 : decode cX1_beside 14 = .ok (.iload_n 1, 1) := dk_27 (dk_at dksX1_beside_0 14 rfl rfl)
theorem dX1_beside_15 : decode cX1_beside 15 = .ok (.bipush 24, 2) := dk_16 24 (dk_at dksX1_beside_0 15 rfl rfl)
theorem dX1_beside_17 : decode cX1_beside 17 = .ok (.idiv, 1) := dk_108 (dk_at dksX1_beside_0 17 rfl rfl)
theorem dX1_beside_18 : decode cX1_beside 18 = .ok (.aload_n 0, 1) := dk_42 (dk_at dksX1_beside_0 18 rfl rfl)
theorem dX1_beside_19 : decode cX1_beside 19 = .ok (.getfield 90, 3) := dk_180 0 90 (dk_at dksX1_beside_0 19 rfl rfl)
theorem dX1_beside_22 : decode cX1_beside 22 = .ok (.iload_n 2, 1) := dk_28 (dk_at dksX1_beside_0 22 rfl rfl)
theorem dX1_beside_23 : decode cX1_beside 23 = .ok (.aaload, 1) := dk_50 (dk_at dksX1_beside_0 23 rfl rfl)
theorem dX1_beside_24 : decode cX1_beside 24 = .ok (.iconst 1, 1) := dk_4 (dk_at dksX1_beside_1 0 rfl rfl)
theorem dX1_beside_25 : decode cX1_beside 25 = .ok (.iaload, 1) := dk_46 (dk_at dksX1_beside_1 1 rfl rfl)
theorem dX1_beside_26 : decode cX1_beside 26 = .ok (.iadd, 1) := dk_96 (dk_at dksX1_beside_1 2 rfl rfl)
theorem dX1_beside_27 : decode cX1_beside 27 = .ok (.istore 4, 2) := dk_54 4 (dk_at dksX1_beside_1 3 rfl rfl)
theorem dX1_beside_29 : decode cX1_beside 29 = .ok (.aload_n 0, 1) := dk_42 (dk_at dksX1_beside_1 5 rfl rfl)
theorem dX1_beside_30 : decode cX1_beside 30 = .ok (.getfield 96, 3) := dk_180 0 96 (dk_at dksX1_beside_1 6 rfl rfl)
theorem dX1_beside_33 : decode cX1_beside 33 = .ok (.iload_n 3, 1) := dk_29 (dk_at dksX1_beside_1 9 rfl rfl)
theorem dX1_beside_34 : decode cX1_beside 34 = .ok (.iload 4, 2) := dk_21 4 (dk_at dksX1_beside_1 10 rfl rfl)
theorem dX1_beside_36 : decode cX1_beside 36 = .ok (.invokestatic 386, 3) := dk_184 1 130 (dk_at dksX1_beside_1 12 rfl rfl)
theorem dX1_beside_39 : decode cX1_beside 39 = .ok (.ifCond .eq 13, 3) := dk_153 0 13 (dk_at dksX1_beside_1 15 rfl rfl)
theorem dX1_beside_42 : decode cX1_beside 42 = .ok (.bipush 24, 2) := dk_16 24 (dk_at dksX1_beside_1 18 rfl rfl)
theorem dX1_beside_44 : decode cX1_beside 44 = .ok (.iload 4, 2) := dk_21 4 (dk_at dksX1_beside_1 20 rfl rfl)
theorem dX1_beside_46 : decode cX1_beside 46 = .ok (.imul, 1) := dk_104 (dk_at dksX1_beside_1 22 rfl rfl)
theorem dX1_beside_47 : decode cX1_beside 47 = .ok (.iload_n 3, 1) := dk_29 (dk_at dksX1_beside_1 23 rfl rfl)
theorem dX1_beside_48 : decode cX1_beside 48 = .ok (.iadd, 1) := dk_96 (dk_at dksX1_beside_2 0 rfl rfl)
theorem dX1_beside_49 : decode cX1_beside 49 = .ok (.goto 4, 3) := dk_167 0 4 (dk_at dksX1_beside_2 1 rfl rfl)
theorem dX1_beside_52 : decode cX1_beside 52 = .ok (.iconst (-1), 1) := dk_2 (dk_at dksX1_beside_2 4 rfl rfl)
theorem dX1_beside_53 : decode cX1_beside 53 = .ok (.ireturn, 1) := dk_172 (dk_at dksX1_beside_2 5 rfl rfl)
abbrev rm_X1_beside : Room := { frames := 2, cells := 0, slots := 0, locals := 44 }
def w_X1_beside (a0 : Option Nat) (a1 : Int32) (a2 : Int32) (h : AH) (P : Int32 → AH → Prop) : Prop :=
  ¬ (24 : Int32) = 0 ∧
  g_q h a0 0 7 fun y5 =>
  l_q h y5 a2 fun y9 =>
  l_i h y9 0 0 fun y11 =>
  ¬ (24 : Int32) = 0 ∧
  g_q h a0 0 7 fun y19 =>
  l_q h y19 a2 fun y23 =>
  l_i h y23 0 1 fun y25 =>
  g_q h a0 0 8 fun y30 =>
  w_X1_isFreeAt y30 ((a1 - a1 / 24 * 24) + y11) ((a1 / 24) + y25) h (fun y36 h36 =>
  ((y36 = 0 →
    P (-1) h36) ∧
   (¬ y36 = 0 →
    P ((24 * ((a1 / 24) + y25)) + ((a1 - a1 / 24 * 24) + y11)) h36)))
theorem met_X1_beside (l : Launch) (hlt : l.stackTraces = false) (G : GG) (h : AH) (a0 : Option Nat) (a1 : Int32) (a2 : Int32) (P : Int32 → AH → Prop) (hw : w_X1_beside a0 a1 a2 h P) : ct_i l yX1_beside (ws_ yX1_beside cX1_beside 5 (Option.some Jvm.ClassFile.FieldType.int)) rm_X1_beside G h [vR a0, vI a1, vI a2] P := by
  refine j_starti hlt [(0, vR a0), (1, vI a1), (2, vI a2)] (plainFor_of_name (by decide)) rfl rfl (fun x X eG er en hQ => ?_)
  subst eG
  refine j_iload_n X (pc := 0) 1 dX1_beside_0 rfl rfl ?_
  refine j_bipush X (pc := 1) 24 dX1_beside_1 (by decide) ?_
  refine j_irem X (pc := 3) dX1_beside_3 hw (fun hw => ?_)
  refine j_aload_n X (pc := 4) 0 dX1_beside_4 rfl rfl ?_
  refine j_getq (ci := 0) X (pc := 5) in_X1 rfl (by decide) 7 (by decide) q250 (Or.inl rfl) dX1_beside_5 hw (fun y5 hw => ?_)
  refine j_iload_n X (pc := 8) 2 dX1_beside_8 rfl rfl ?_
  refine j_aald X (pc := 9) dX1_beside_9 hw (fun y9 hw => ?_)
  refine j_iconst X (pc := 10) 0 dX1_beside_10 (by decide) ?_
  refine j_iald X (pc := 11) 0 rfl dX1_beside_11 hw (fun y11 hw => ?_)
  refine j_iadd X (pc := 12) dX1_beside_12 ?_
  refine j_istore_n X (pc := 13) [(3, vI ((a1 - a1 / 24 * 24) + y11)), (0, vR a0), (1, vI a1), (2, vI a2)] dX1_beside_13 rfl (Nat.le_of_ble_eq_true rfl) rfl ?_
  refine j_iload_n X (pc := 14) 2 dX1_beside_14 rfl rfl ?_
  refine j_bipush X (pc := 15) 24 dX1_beside_15 (by decide) ?_
  refine j_idiv X (pc := 17) dX1_beside_17 hw (fun hw => ?_)
  refine j_aload_n X (pc := 18) 1 dX1_beside_18 rfl rfl ?_
  refine j_getq (ci := 0) X (pc := 19) in_X1 rfl (by decide) 7 (by decide) q250 (Or.inl rfl) dX1_beside_19 hw (fun y19 hw => ?_)
  refine j_iload_n X (pc := 22) 3 dX1_beside_22 rfl rfl ?_
  refine j_aald X (pc := 23) dX1_beside_23 hw (fun y23 hw => ?_)
  refine j_iconst X (pc := 24) 1 dX1_beside_24 (by decide) ?_
  refine j_iald X (pc := 25) 0 rfl dX1_beside_25 hw (fun y25 hw => ?_)
  refine j_iadd X (pc := 26) dX1_beside_26 ?_
  refine j_istore X (pc := 27) [(4, vI ((a1 / 24) + y25)), (3, vI ((a1 - a1 / 24 * 24) + y11)), (0, vR a0), (1, vI a1), (2, vI a2)] dX1_beside_27 (Nat.le_of_ble_eq_true rfl) rfl ?_
  refine j_aload_n X (pc := 29) 2 dX1_beside_29 rfl rfl ?_
  refine j_getq (ci := 0) X (pc := 30) in_X1 rfl (by decide) 8 (by decide) q251 (Or.inl rfl) dX1_beside_30 hw (fun y30 hw => ?_)
  refine j_iload_n X (pc := 33) 1 dX1_beside_33 rfl rfl ?_
  refine j_iload X (pc := 34) 0 dX1_beside_34 rfl ?_
  refine j_calli (j_runS (n8 := 3) (As := [vR y30, vI ((a1 - a1 / 24 * 24) + y11), vI ((a1 / 24) + y25)]) (rest := []) X (pc := 36) (met_X1_isFreeAt (xl x) X.hl (xG x) h y30 ((a1 - a1 / 24 * 24) + y11) ((a1 / 24) + y25) _ hw) q1545 q1546 q71 q1547 (by decide +kernel) dX1_beside_36 rfl ⟨Nat.le_of_ble_eq_true rfl, Nat.le_of_ble_eq_true rfl⟩ (Nat.le_of_ble_eq_true rfl) ⟨Nat.le_of_ble_eq_true rfl, Nat.le_of_ble_eq_true rfl⟩) (fun y36 h36 hw => ?_)
  refine j_if_eq X (pc := 39) 52 dX1_beside_39 (by decide) hw (fun hw => ?_) (fun hw => ?_)
  · refine j_iconst X (pc := 52) (-1) dX1_beside_52 (by decide) ?_
    exact j_iret X (pc := 53) hQ er (Nat.le_of_ble_eq_true rfl) (Nat.le_of_ble_eq_true rfl) dX1_beside_53 hw
  · refine j_bipush X (pc := 42) 24 dX1_beside_42 (by decide) ?_
    refine j_iload X (pc := 44) 0 dX1_beside_44 rfl ?_
    refine j_imul X (pc := 46) dX1_beside_46 ?_
    refine j_iload_n X (pc := 47) 1 dX1_beside_47 rfl rfl ?_
    refine j_iadd X (pc := 48) dX1_beside_48 ?_
    refine j_goto X (pc := 49) 53 dX1_beside_49 (by decide) ?_
    exact j_iret X (pc := 53) hQ er (Nat.le_of_ble_eq_true rfl) (Nat.le_of_ble_eq_true rfl) dX1_beside_53 hw
abbrev cX1_step : ByteArray := prog_1_method_66_code
def yX1_step : MethodName := ⟨RX1, "step", "(II)I"⟩
def dkwX1_step_0 : List UInt8 := [26, 27, 160, 0, 7, 4, 167, 0, 6, 17, 3, 233, 172]
abbrev dktX1_step_0 : List UInt8 := dkwX1_step_0 ++ []
theorem dksX1_step_0 : cX1_step.data.toList.drop 0 = dktX1_step_0 := by decide +kernel
theorem dX1_step_0 : decode cX1_step 0 = .ok (.iload_n 0, 1) := dk_26 (dk_at dksX1_step_0 0 rfl rfl)
theorem dX1_step_1 : decode cX1_step 1 = .ok (.iload_n 1, 1) := dk_27 (dk_at dksX1_step_0 1 rfl rfl)
theorem dX1_step_2 : decode cX1_step 2 = .ok (.if_icmp .ne 7, 3) := dk_160 0 7 (dk_at dksX1_step_0 2 rfl rfl)
theorem dX1_step_5 : decode cX1_step 5 = .ok (.iconst 1, 1) := dk_4 (dk_at dksX1_step_0 5 rfl rfl)
theorem dX1_step_6 : decode cX1_step 6 = .ok (.goto 6, 3) := dk_167 0 6 (dk_at dksX1_step_0 6 rfl rfl)
theorem dX1_step_9 : decode cX1_step 9 = .ok (.sipush 1001, 3) := dk_17 3 233 (dk_at dksX1_step_0 9 rfl rfl)
theorem dX1_step_12 : decode cX1_step 12 = .ok (.ireturn, 1) := dk_172 (dk_at dksX1_step_0 12 rfl rfl)
abbrev rm_X1_step : Room := { frames := 0, cells := 0, slots := 0, locals := 0 }
def w_X1_step (a0 : Int32) (a1 : Int32) (h : AH) (P : Int32 → AH → Prop) : Prop :=
  ((a0 = a1 →
    P 1 h) ∧
   (¬ a0 = a1 →
    P 1001 h))
theorem met_X1_step (l : Launch) (hlt : l.stackTraces = false) (G : GG) (h : AH) (a0 : Int32) (a1 : Int32) (P : Int32 → AH → Prop) (hw : w_X1_step a0 a1 h P) : ct_i l yX1_step (ws_ yX1_step cX1_step 2 (Option.some Jvm.ClassFile.FieldType.int)) rm_X1_step G h [vI a0, vI a1] P := by
  refine j_starti hlt [(0, vI a0), (1, vI a1)] (plainFor_of_name (by decide)) rfl rfl (fun x X eG er en hQ => ?_)
  subst eG
  refine j_iload_n X (pc := 0) 0 dX1_step_0 rfl rfl ?_
  refine j_iload_n X (pc := 1) 1 dX1_step_1 rfl rfl ?_
  refine j_icmp_ne X (pc := 2) 9 dX1_step_2 (by decide) hw (fun hw => ?_) (fun hw => ?_)
  · refine j_iconst X (pc := 5) 1 dX1_step_5 (by decide) ?_
    refine j_goto X (pc := 6) 12 dX1_step_6 (by decide) ?_
    exact j_iret X (pc := 12) hQ er (Nat.le_of_ble_eq_true rfl) (Nat.le_of_ble_eq_true rfl) dX1_step_12 hw
  · refine j_sipush X (pc := 9) 1001 dX1_step_9 (by decide) ?_
    exact j_iret X (pc := 12) hQ er (Nat.le_of_ble_eq_true rfl) (Nat.le_of_ble_eq_true rfl) dX1_step_12 hw
abbrev cX1_least : ByteArray := prog_1_method_67_code
def yX1_least : MethodName := ⟨RX1, "least", "(I)I"⟩
def dkwX1_least_1 : List UInt8 := [184, 1, 135, 61, 132, 3, 1, 167, 255, 233, 28, 172]
abbrev dktX1_least_1 : List UInt8 := dkwX1_least_1 ++ []
def dkwX1_least_0 : List UInt8 := [19, 1, 134, 61, 3, 62, 29, 7, 162, 0, 24, 28, 42, 180, 0, 99, 7, 27, 104, 29, 96, 46]
abbrev dktX1_least_0 : List UInt8 := dkwX1_least_0 ++ dktX1_least_1
theorem dksX1_least_0 : cX1_least.data.toList.drop 0 = dktX1_least_0 := by decide +kernel
theorem dksX1_least_1 : cX1_least.data.toList.drop 22 = dktX1_least_1 := dk_seg dksX1_least_0 22 rfl rfl
theorem dX1_least_0 : decode cX1_least 0 = .ok (.ldc_w 390, 3) := dk_19 1 134 (dk_at dksX1_least_0 0 rfl rfl)
theorem dX1_least_3 : decode cX1_least 3 = .ok (.istore_n 2, 1) := dk_61 (dk_at dksX1_least_0 3 rfl rfl)
theorem dX1_least_4 : decode cX1_least 4 = .ok (.iconst 0, 1) := dk_3 (dk_at dksX1_least_0 4 rfl rfl)
theorem dX1_least_5 : decode cX1_least 5 = .ok (.istore_n 3, 1) := dk_62 (dk_at dksX1_least_0 5 rfl rfl)
theorem dX1_least_6 : decode cX1_least 6 = .ok (.iload_n 3, 1) := dk_29 (dk_at dksX1_least_0 6 rfl rfl)
theorem dX1_least_7 : decode cX1_least 7 = .ok (.iconst 4, 1) := dk_7 (dk_at dksX1_least_0 7 rfl rfl)
theorem dX1_least_8 : decode cX1_least 8 = .ok (.if_icmp .ge 24, 3) := dk_162 0 24 (dk_at dksX1_least_0 8 rfl rfl)
theorem dX1_least_11 : decode cX1_least 11 = .ok (.iload_n 2, 1) := dk_28 (dk_at dksX1_least_0 11 rfl rfl)
theorem dX1_least_12 : decode cX1_least 12 = .ok (.aload_n 0, 1) := dk_42 (dk_at dksX1_least_0 12 rfl rfl)
theorem dX1_least_13 : decode cX1_least 13 = .ok (.getfield 99, 3) := dk_180 0 99 (dk_at dksX1_least_0 13 rfl rfl)
theorem dX1_least_16 : decode cX1_least 16 = .ok (.iconst 4, 1) := dk_7 (dk_at dksX1_least_0 16 rfl rfl)
theorem dX1_least_17 : decode cX1_least 17 = .ok (.iload_n 1, 1) := dk_27 (dk_at dksX1_least_0 17 rfl rfl)
theorem dX1_least_18 : decode cX1_least 18 = .ok (.imul, 1) := dk_104 (dk_at dksX1_least_0 18 rfl rfl)
theorem dX1_least_19 : decode cX1_least 19 = .ok (.iload_n 3, 1) := dk_29 (dk_at dksX1_least_0 19 rfl rfl)
theorem dX1_least_20 : decode cX1_least 20 = .ok (.iadd, 1) := dk_96 (dk_at dksX1_least_0 20 rfl rfl)
theorem dX1_least_21 : decode cX1_least 21 = .ok (.iaload, 1) := dk_46 (dk_at dksX1_least_0 21 rfl rfl)
theorem dX1_least_22 : decode cX1_least 22 = .ok (.invokestatic 391, 3) := dk_184 1 135 (dk_at dksX1_least_1 0 rfl rfl)
theorem dX1_least_25 : decode cX1_least 25 = .ok (.istore_n 2, 1) := dk_61 (dk_at dksX1_least_1 3 rfl rfl)
theorem dX1_least_26 : decode cX1_least 26 = .ok (.iinc 3 1, 3) := dk_132 3 1 (dk_at dksX1_least_1 4 rfl rfl)
theorem dX1_least_29 : decode cX1_least 29 = .ok (.goto (-23), 3) := dk_167 255 233 (dk_at dksX1_least_1 7 rfl rfl)
theorem dX1_least_32 : decode cX1_least 32 = .ok (.iload_n 2, 1) := dk_28 (dk_at dksX1_least_1 10 rfl rfl)
theorem dX1_least_33 : decode cX1_least 33 = .ok (.ireturn, 1) := dk_172 (dk_at dksX1_least_1 11 rfl rfl)
theorem q1565 : (Jvm.Cond.methodLink "Plugboard" (391 : Nat) ({ cls := "java/lang/Math", name := "min", desc := "(II)I" } : Jvm.MethodName)) ∈ lw_all := lw_g (lw_at lw_m7 55 rfl) rfl
abbrev rm_X1_least : Room := { frames := 1, cells := 0, slots := 0, locals := 21 }
def w_X1_least_6 (P : Int32 → AH → Prop) (x0 : Option Nat) (x1 : Int32) (x2 : Int32) (x3 : Int32) (h : AH) : Prop :=
  ∀ Z6 : Int32 → Int32 → AH → Prop, (∀ x2 x3 h, (
      ((4 ≤ x3 →
        P x2 h) ∧
       (¬ 4 ≤ x3 →
        g_q h x0 0 9 fun y13 =>
        l_i h y13 0 ((4 * x1) + x3) fun y21 =>
        w_J14_min x2 y21 h (fun y22 h22 =>
        Z6 y22 (x3 + 1) h22))))
      → Z6 x2 x3 h) → Z6 x2 x3 h
def w_X1_least (a0 : Option Nat) (a1 : Int32) (h : AH) (P : Int32 → AH → Prop) : Prop :=
  w_X1_least_6 P a0 a1 1000000 0 h
theorem wk_X1_least_6 {x : CX} (X : Ok x cX1_least RX1 rm_X1_least 4) (er : xrt x = (Option.some Jvm.ClassFile.FieldType.int)) (en : xnm x = yX1_least.name) {P : Int32 → AH → Prop} (hQ : xr_i x P) (x0 : Option Nat) (x1 : Int32) (x2 : Int32) (x3 : Int32) (h : AH) (hw : w_X1_least_6 P x0 x1 x2 x3 h) : J x h 0 0 6 [(0, vR x0), (1, vI x1), (2, vI x2), (3, vI x3)] [] := by
  refine hw (fun x2 x3 h => J x h 0 0 6 [(0, vR x0), (1, vI x1), (2, vI x2), (3, vI x3)] []) (fun x2 x3 h hw => ?_)
  refine j_iload_n X (pc := 6) 3 dX1_least_6 rfl rfl ?_
  refine j_iconst X (pc := 7) 4 dX1_least_7 (by decide) ?_
  refine j_icmp_ge X (pc := 8) 32 dX1_least_8 (by decide) hw (fun hw => ?_) (fun hw => ?_)
  · refine j_iload_n X (pc := 32) 2 dX1_least_32 rfl rfl ?_
    exact j_iret X (pc := 33) hQ er (Nat.le_of_ble_eq_true rfl) (Nat.le_of_ble_eq_true rfl) dX1_least_33 hw
  · refine j_iload_n X (pc := 11) 2 dX1_least_11 rfl rfl ?_
    refine j_aload_n X (pc := 12) 0 dX1_least_12 rfl rfl ?_
    refine j_getq (ci := 0) X (pc := 13) in_X1 rfl (by decide) 9 (by decide) q252 (Or.inl rfl) dX1_least_13 hw (fun y13 hw => ?_)
    refine j_iconst X (pc := 16) 4 dX1_least_16 (by decide) ?_
    refine j_iload_n X (pc := 17) 1 dX1_least_17 rfl rfl ?_
    refine j_imul X (pc := 18) dX1_least_18 ?_
    refine j_iload_n X (pc := 19) 3 dX1_least_19 rfl rfl ?_
    refine j_iadd X (pc := 20) dX1_least_20 ?_
    refine j_iald X (pc := 21) 0 rfl dX1_least_21 hw (fun y21 hw => ?_)
    refine j_calli (j_runS (n8 := 2) (As := [vI x2, vI y21]) (rest := []) X (pc := 22) (met_J14_min (xl x) X.hl (xG x) h x2 y21 _ hw) q1565 q670 q92 q671 (by decide +kernel) dX1_least_22 rfl ⟨Nat.le_of_ble_eq_true rfl, Nat.le_of_ble_eq_true rfl⟩ (Nat.le_of_ble_eq_true rfl) ⟨Nat.le_of_ble_eq_true rfl, Nat.le_of_ble_eq_true rfl⟩) (fun y22 h22 hw => ?_)
    refine j_istore_n X (pc := 25) [(2, vI y22), (0, vR x0), (1, vI x1), (3, vI x3)] dX1_least_25 rfl (Nat.le_of_ble_eq_true rfl) rfl ?_
    refine j_iinc X (pc := 26) 3 (x3 + 1) [(3, vI (x3 + 1)), (2, vI y22), (0, vR x0), (1, vI x1)] dX1_least_26 rfl rfl (Nat.le_of_ble_eq_true rfl) rfl ?_
    refine j_goto X (pc := 29) 6 dX1_least_29 (by decide) ?_
    refine j_lv [(0, vR x0), (1, vI x1), (2, vI y22), (3, vI (x3 + 1))] [2, 3, 1, 0] rfl ?_
    refine j_cs (u' := 0) (v' := 0) (Nat.le_of_ble_eq_true rfl) (Nat.le_of_ble_eq_true rfl) ?_
    exact hw
theorem met_X1_least (l : Launch) (hlt : l.stackTraces = false) (G : GG) (h : AH) (a0 : Option Nat) (a1 : Int32) (P : Int32 → AH → Prop) (hw : w_X1_least a0 a1 h P) : ct_i l yX1_least (ws_ yX1_least cX1_least 4 (Option.some Jvm.ClassFile.FieldType.int)) rm_X1_least G h [vR a0, vI a1] P := by
  refine j_starti hlt [(0, vR a0), (1, vI a1)] (plainFor_of_name (by decide)) rfl rfl (fun x X eG er en hQ => ?_)
  subst eG
  refine j_ldcw X (pc := 0) dX1_least_0 q1549 ?_
  refine j_istore_n X (pc := 3) [(2, vI 1000000), (0, vR a0), (1, vI a1)] dX1_least_3 rfl (Nat.le_of_ble_eq_true rfl) rfl ?_
  refine j_iconst X (pc := 4) 0 dX1_least_4 (by decide) ?_
  refine j_istore_n X (pc := 5) [(3, vI 0), (2, vI 1000000), (0, vR a0), (1, vI a1)] dX1_least_5 rfl (Nat.le_of_ble_eq_true rfl) rfl ?_
  refine j_lv [(0, vR a0), (1, vI a1), (2, vI 1000000), (3, vI 0)] [2, 3, 1, 0] rfl ?_
  refine j_cs (u' := 0) (v' := 0) (Nat.le_of_ble_eq_true rfl) (Nat.le_of_ble_eq_true rfl) ?_
  exact wk_X1_least_6 X er en hQ a0 a1 1000000 0 h hw
abbrev cX1_route : ByteArray := prog_1_method_68_code
def yX1_route : MethodName := ⟨RX1, "route", "(LPlugboard$Board;LPlugboard$Connector;)I"⟩
def dkwX1_route_12 : List UInt8 := [167, 255, 79, 42, 21, 4, 182, 1, 161, 172]
abbrev dktX1_route_12 : List UInt8 := dkwX1_route_12 ++ []
def dkwX1_route_11 : List UInt8 := [96, 79, 42, 180, 0, 105, 7, 21, 9, 104, 21, 8, 96, 4, 84, 132, 6, 1, 132, 8, 1, 167, 255, 122]
abbrev dktX1_route_11 : List UInt8 := dkwX1_route_11 ++ dktX1_route_12
def dkwX1_route_10 : List UInt8 := [154, 0, 42, 42, 180, 0, 102, 21, 5, 21, 6, 96, 42, 180, 0, 102, 190, 112, 7, 21, 9, 104, 21, 8]
abbrev dktX1_route_10 : List UInt8 := dkwX1_route_10 ++ dktX1_route_11
def dkwX1_route_9 : List UInt8 := [7, 21, 9, 104, 21, 8, 96, 21, 10, 79, 42, 180, 0, 105, 7, 21, 9, 104, 21, 8, 96, 51]
abbrev dktX1_route_9 : List UInt8 := dkwX1_route_9 ++ dktX1_route_10
def dkwX1_route_8 : List UInt8 := [21, 10, 42, 180, 0, 99, 7, 21, 9, 104, 21, 8, 96, 46, 161, 0, 6, 167, 0, 71, 42, 180, 0, 99]
abbrev dktX1_route_8 : List UInt8 := dkwX1_route_8 ++ dktX1_route_9
def dkwX1_route_7 : List UInt8 := [180, 0, 99, 21, 7, 46, 21, 7, 7, 112, 21, 8, 184, 1, 158, 96, 54, 10, 21, 9, 2, 159, 0, 91]
abbrev dktX1_route_7 : List UInt8 := dkwX1_route_7 ++ dktX1_route_8
def dkwX1_route_6 : List UInt8 := [84, 3, 54, 8, 21, 8, 7, 162, 0, 134, 42, 21, 7, 7, 108, 21, 8, 182, 1, 155, 54, 9, 42]
abbrev dktX1_route_6 : List UInt8 := dkwX1_route_6 ++ dktX1_route_7
def dkwX1_route_5 : List UInt8 := [54, 7, 21, 5, 4, 96, 42, 180, 0, 102, 190, 112, 54, 5, 132, 6, 255, 42, 180, 0, 105, 21, 7, 3]
abbrev dktX1_route_5 : List UInt8 := dkwX1_route_5 ++ dktX1_route_6
def dkwX1_route_4 : List UInt8 := [4, 84, 132, 6, 1, 132, 7, 1, 167, 255, 206, 21, 6, 158, 0, 178, 42, 180, 0, 102, 21, 5, 46]
abbrev dktX1_route_4 : List UInt8 := dkwX1_route_4 ++ dktX1_route_5
def dkwX1_route_3 : List UInt8 := [42, 180, 0, 102, 21, 6, 7, 29, 104, 21, 7, 96, 79, 42, 180, 0, 105, 42, 180, 0, 102, 21, 6, 46]
abbrev dktX1_route_3 : List UInt8 := dkwX1_route_3 ++ dktX1_route_4
def dkwX1_route_2 : List UInt8 := [3, 54, 6, 3, 54, 7, 21, 7, 7, 162, 0, 50, 42, 180, 0, 99, 7, 29, 104, 21, 7, 96, 4, 79]
abbrev dktX1_route_2 : List UInt8 := dkwX1_route_2 ++ dktX1_route_3
def dkwX1_route_1 : List UInt8 := [54, 4, 29, 2, 159, 0, 9, 21, 4, 2, 160, 0, 7, 19, 1, 134, 172, 42, 182, 1, 152, 3, 54, 5]
abbrev dktX1_route_1 : List UInt8 := dkwX1_route_1 ++ dktX1_route_2
def dkwX1_route_0 : List UInt8 := [42, 43, 182, 1, 137, 42, 43, 44, 182, 1, 141, 182, 1, 145, 62, 42, 43, 44, 182, 1, 149, 182, 1, 145]
abbrev dktX1_route_0 : List UInt8 := dkwX1_route_0 ++ dktX1_route_1
theorem dksX1_route_0 : cX1_route.data.toList.drop 0 = dktX1_route_0 := by decide +kernel
theorem dksX1_route_1 : cX1_route.data.toList.drop 24 = dktX1_route_1 := dk_seg dksX1_route_0 24 rfl rfl
theorem dksX1_route_2 : cX1_route.data.toList.drop 48 = dktX1_route_2 := dk_seg dksX1_route_1 24 rfl rfl
theorem dksX1_route_3 : cX1_route.data.toList.drop 72 = dktX1_route_3 := dk_seg dksX1_route_2 24 rfl rfl
theorem dksX1_route_4 : cX1_route.data.toList.drop 96 = dktX1_route_4 := dk_seg dksX1_route_3 24 rfl rfl
theorem dksX1_route_5 : cX1_route.data.toList.drop 119 = dktX1_route_5 := dk_seg dksX1_route_4 23 rfl rfl
theorem dksX1_route_6 : cX1_route.data.toList.drop 143 = dktX1_route_6 := dk_seg dksX1_route_5 24 rfl rfl
theorem dksX1_route_7 : cX1_route.data.toList.drop 166 = dktX1_route_7 := dk_seg dksX1_route_6 23 rfl rfl
theorem dksX1_route_8 : cX1_route.data.toList.drop 190 = dktX1_route_8 := dk_seg dksX1_route_7 24 rfl rfl
theorem dksX1_route_9 : cX1_route.data.toList.drop 214 = dktX1_route_9 := dk_seg dksX1_route_8 24 rfl rfl
theorem dksX1_route_10 : cX1_route.data.toList.drop 236 = dktX1_route_10 := dk_seg dksX1_route_9 22 rfl rfl
theorem dksX1_route_11 : cX1_route.data.toList.drop 260 = dktX1_route_11 := dk_seg dksX1_route_10 24 rfl rfl
theorem dksX1_route_12 : cX1_route.data.toList.drop 284 = dktX1_route_12 := dk_seg dksX1_route_11 24 rfl rfl
theorem dX1_route_0 : decode cX1_route 0 = .ok (.aload_n 0, 1) := dk_42 (dk_at dksX1_route_0 0 rfl rfl)
theorem dX1_route_1 : decode cX1_route 1 = .ok (.aload_n 1, 1) := dk_43 (dk_at dksX1_route_0 1 rfl rfl)
theorem dX1_route_2 : decode cX1_route 2 = .ok (.invokevirtual 393, 3) := dk_182 1 137 (dk_at dksX1_route_0 2 rfl rfl)
theorem dX1_route_5 : decode cX1_route 5 = .ok (.aload_n 0, 1) := dk_42 (dk_at dksX1_route_0 5 rfl rfl)
theorem dX1_route_6 : decode cX1_route 6 = .ok (.aload_n 1, 1) := dk_43 (dk_at dksX1_route_0 6 rfl rfl)
theorem dX1_route_7 : decode cX1_route 7 = .ok (.aload_n 2, 1) := dk_44 (dk_at dksX1_route_0 7 rfl rfl)
theorem dX1_route_8 : decode cX1_route 8 = .ok (.invokevirtual 397, 3) := dk_182 1 141 (dk_at dksX1_route_0 8 rfl rfl)
theorem dX1_route_11 : decode cX1_route 11 = .ok (.invokevirtual 401, 3) := dk_182 1 145 (dk_at dksX1_route_0 11 rfl rfl)
theorem dX1_route_14 : decode cX1_route 14 = .ok (.istore_n 3, 1) := dk_62 (dk_at dksX1_route_0 14 rfl rfl)
theorem dX1_route_15 : decode cX1_route 15 = .ok (.aload_n 0, 1) := dk_42 (dk_at dksX1_route_0 15 rfl rfl)
theorem dX1_route_16 : decode cX1_route 16 = .ok (.aload_n 1, 1) := dk_43 (dk_at dksX1_route_0 16 rfl rfl)
theorem dX1_route_17 : decode cX1_route 17 = .ok (.aload_n 2, 1) := dk_44 (dk_at dksX1_route_0 17 rfl rfl)
theorem dX1_route_18 : decode cX1_route 18 = .ok (.invokevirtual 405, 3) := dk_182 1 149 (dk_at dksX1_route_0 18 rfl rfl)
theorem dX1_route_21 : decode cX1_route 21 = .ok (.invokevirtual 401, 3) := dk_182 1 145 (dk_at dksX1_route_0 21 rfl rfl)
theorem dX1_route_24 : decode cX1_route 24 = .ok (.istore 4, 2) := dk_54 4 (dk_at dksX1_route_1 0 rfl rfl)
theorem dX1_route_26 : decode cX1_route 26 = .ok (.iload_n 3, 1) := dk_29 (dk_at dksX1_route_1 2 rfl rfl)
theorem dX1_route_27 : decode cX1_route 27 = .ok (.iconst (-1), 1) := dk_2 (dk_at dksX1_route_1 3 rfl rfl)
theorem dX1_route_28 : decode cX1_route 28 = .ok (.if_icmp .eq 9, 3) := dk_159 0 9 (dk_at dksX1_route_1 4 rfl rfl)
theorem dX1_route_31 : decode cX1_route 31 = .ok (.iload 4, 2) := dk_21 4 (dk_at dksX1_route_1 7 rfl rfl)
theorem dX1_route_33 : decode cX1_route 33 = .ok (.iconst (-1), 1) := dk_2 (dk_at dksX1_route_1 9 rfl rfl)
theorem dX1_route_34 : decode cX1_route 34 = .ok (.if_icmp .ne 7, 3) := dk_160 0 7 (dk_at dksX1_route_1 10 rfl rfl)
theorem dX1_route_37 : decode cX1_route 37 = .ok (.ldc_w 390, 3) := dk_19 1 134 (dk_at dksX1_route_1 13 rfl rfl)
theorem dX1_route_40 : decode cX1_route 40 = .ok (.ireturn, 1) := dk_172 (dk_at dksX1_route_1 16 rfl rfl)
theorem dX1_route_41 : decode cX1_route 41 = .ok (.aload_n 0, 1) := dk_42 (dk_at dksX1_route_1 17 rfl rfl)
theorem dX1_route_42 : decode cX1_route 42 = .ok (.invokevirtual 408, 3) := dk_182 1 152 (dk_at dksX1_route_1 18 rfl rfl)
theorem dX1_route_45 : decode cX1_route 45 = .ok (.iconst 0, 1) := dk_3 (dk_at dksX1_route_1 21 rfl rfl)
theorem dX1_route_46 : decode cX1_route 46 = .ok (.istore 5, 2) := dk_54 5 (dk_at dksX1_route_1 22 rfl rfl)
theorem dX1_route_48 : decode cX1_route 48 = .ok (.iconst 0, 1) := dk_3 (dk_at dksX1_route_2 0 rfl rfl)
theorem dX1_route_49 : decode cX1_route 49 = .ok (.istore 6, 2) := dk_54 6 (dk_at dksX1_route_2 1 rfl rfl)
theorem dX1_route_51 : decode cX1_route 51 = .ok (.iconst 0, 1) := dk_3 (dk_at dksX1_route_2 3 rfl rfl)
theorem dX1_route_52 : decode cX1_route 52 = .ok (.istore 7, 2) := dk_54 7 (dk_at dksX1_route_2 4 rfl rfl)
theorem dX1_route_54 : decode cX1_route 54 = .ok (.iload 7, 2) := dk_21 7 (dk_at dksX1_route_2 6 rfl rfl)
theorem dX1_route_56 : decode cX1_route 56 = .ok (.iconst 4, 1) := dk_7 (dk_at dksX1_route_2 8 rfl rfl)
theorem dX1_route_57 : decode cX1_route 57 = .ok (.if_icmp .ge 50, 3) := dk_162 0 50 (dk_at dksX1_route_2 9 rfl rfl)
theorem dX1_route_60 : decode cX1_route 60 = .ok (.aload_n 0, 1) := dk_42 (dk_at dksX1_route_2 12 rfl rfl)
theorem dX1_route_61 : decode cX1_route 61 = .ok (.getfield 99, 3) := dk_180 0 99 (dk_at dksX1_route_2 13 rfl rfl)
theorem dX1_route_64 : decode cX1_route 64 = .ok (.iconst 4, 1) := dk_7 (dk_at dksX1_route_2 16 rfl rfl)
theorem dX1_route_65 : decode cX1_route 65 = .ok (.iload_n 3, 1) := dk_29 (dk_at dksX1_route_2 17 rfl rfl)
theorem dX1_route_66 : decode cX1_route 66 = .ok (.imul, 1) := dk_104 (dk_at dksX1_route_2 18 rfl rfl)
theorem dX1_route_67 : decode cX1_route 67 = .ok (.iload 7, 2) := dk_21 7 (dk_at dksX1_route_2 19 rfl rfl)
theorem dX1_route_69 : decode cX1_route 69 = .ok (.iadd, 1) := dk_96 (dk_at dksX1_route_2 21 rfl rfl)
theorem dX1_route_70 : decode cX1_route 70 = .ok (.iconst 1, 1) := dk_4 (dk_at dksX1_route_2 22 rfl rfl)
theorem dX1_route_71 : decode cX1_route 71 = .ok (.iastore, 1) := dk_79 (dk_at dksX1_route_2 23 rfl rfl)
theorem dX1_route_72 : decode cX1_route 72 = .ok (.aload_n 0, 1) := dk_42 (dk_at dksX1_route_3 0 rfl rfl)
theorem dX1_route_73 : decode cX1_route 73 = .ok (.getfield 102, 3) := dk_180 0 102 (dk_at dksX1_route_3 1 rfl rfl)
theorem dX1_route_76 : decode cX1_route 76 = .ok (.iload 6, 2) := dk_21 6 (dk_at dksX1_route_3 4 rfl rfl)
theorem dX1_route_78 : decode cX1_route 78 = .ok (.iconst 4, 1) := dk_7 (dk_at dksX1_route_3 6 rfl rfl)
theorem dX1_route_79 : decode cX1_route 79 = .ok (.iload_n 3, 1) := dk_29 (dk_at dksX1_route_3 7 rfl rfl)
theorem dX1_route_80 : decode cX1_route 80 = .ok (.imul, 1) := dk_104 (dk_at dksX1_route_3 8 rfl rfl)
theorem dX1_route_81 : decode cX1_route 81 = .ok (.iload 7, 2) := dk_21 7 (dk_at dksX1_route_3 9 rfl rfl)
theorem dX1_route_83 : decode cX1_route 83 = .ok (.iadd, 1) := dk_96 (dk_at dksX1_route_3 11 rfl rfl)
theorem dX1_route_84 : decode cX1_route 84 = .ok (.iastore, 1) := dk_79 (dk_at dksX1_route_3 12 rfl rfl)
theorem dX1_route_85 : decode cX1_route 85 = .ok (.aload_n 0, 1) := dk_42 (dk_at dksX1_route_3 13 rfl rfl)
theorem dX1_route_86 : decode cX1_route 86 = .ok (.getfield 105, 3) := dk_180 0 105 (dk_at dksX1_route_3 14 rfl rfl)
theorem dX1_route_89 : decode cX1_route 89 = .ok (.aload_n 0, 1) := dk_42 (dk_at dksX1_route_3 17 rfl rfl)
theorem dX1_route_90 : decode cX1_route 90 = .ok (.getfield 102, 3) := dk_180 0 102 (dk_at dksX1_route_3 18 rfl rfl)
theorem dX1_route_93 : decode cX1_route 93 = .ok (.iload 6, 2) := dk_21 6 (dk_at dksX1_route_3 21 rfl rfl)
theorem dX1_route_95 : decode cX1_route 95 = .ok (.iaload, 1) := dk_46 (dk_at dksX1_route_3 23 rfl rfl)
theorem dX1_route_96 : decode cX1_route 96 = .ok (.iconst 1, 1) := dk_4 (dk_at dksX1_route_4 0 rfl rfl)
theorem dX1_route_97 : decode cX1_route 97 = .ok (.bastore, 1) := dk_84 (dk_at dksX1_route_4 1 rfl rfl)
theorem dX1_route_98 : decode cX1_route 98 = .ok (.iinc 6 1, 3) := dk_132 6 1 (dk_at dksX1_route_4 2 rfl rfl)
theorem dX1_route_101 : decode cX1_route 101 = .ok (.iinc 7 1, 3) := dk_132 7 1 (dk_at dksX1_route_4 5 rfl rfl)
theorem dX1_route_104 : decode cX1_route 104 = .ok (.goto (-50), 3) := dk_167 255 206 (dk_at dksX1_route_4 8 rfl rfl)
theorem dX1_route_107 : decode cX1_route 107 = .ok (.iload 6, 2) := dk_21 6 (dk_at dksX1_route_4 11 rfl rfl)
theorem dX1_route_109 : decode cX1_route 109 = .ok (.ifCond .le 178, 3) := dk_158 0 178 (dk_at dksX1_route_4 13 rfl rfl)
theorem dX1_route_112 : decode cX1_route 112 = .ok (.aload_n 0, 1) := dk_42 (dk_at dksX1_route_4 16 rfl rfl)
theorem dX1_route_113 : decode cX1_route 113 = .ok (.getfield 102, 3) := dk_180 0 102 (dk_at dksX1_route_4 17 rfl rfl)
theorem dX1_route_116 : decode cX1_route 116 = .ok (.iload 5, 2) := dk_21 5 (dk_at dksX1_route_4 20 rfl rfl)
theorem dX1_route_118 : decode cX1_route 118 = .ok (.iaload, 1) := dk_46 (dk_at dksX1_route_4 22 rfl rfl)
theorem dX1_route_119 : decode cX1_route 119 = .ok (.istore 7, 2) := dk_54 7 (dk_at dksX1_route_5 0 rfl rfl)
theorem dX1_route_121 : decode cX1_route 121 = .ok (.iload 5, 2) := dk_21 5 (dk_at dksX1_route_5 2 rfl rfl)
theorem dX1_route_123 : decode cX1_route 123 = .ok (.iconst 1, 1) := dk_4 (dk_at dksX1_route_5 4 rfl rfl)
theorem dX1_route_124 : decode cX1_route 124 = .ok (.iadd, 1) := dk_96 (dk_at dksX1_route_5 5 rfl rfl)
theorem dX1_route_125 : decode cX1_route 125 = .ok (.aload_n 0, 1) := dk_42 (dk_at dksX1_route_5 6 rfl rfl)
theorem dX1_route_126 : decode cX1_route 126 = .ok (.getfield 102, 3) := dk_180 0 102 (dk_at dksX1_route_5 7 rfl rfl)
theorem dX1_route_129 : decode cX1_route 129 = .ok (.arraylength, 1) := dk_190 (dk_at dksX1_route_5 10 rfl rfl)
theorem dX1_route_130 : decode cX1_route 130 = .ok (.irem, 1) := dk_112 (dk_at dksX1_route_5 11 rfl rfl)
theorem dX1_route_131 : decode cX1_route 131 = .ok (.istore 5, 2) := dk_54 5 (dk_at dksX1_route_5 12 rfl rfl)
theorem dX1_route_133 : decode cX1_route 133 = .ok (.iinc 6 (-1), 3) := dk_132 6 255 (dk_at dksX1_route_5 14 rfl rfl)
theorem dX1_route_136 : decode cX1_route 136 = .ok (.aload_n 0, 1) := dk_42 (dk_at dksX1_route_5 17 rfl rfl)
theorem dX1_route_137 : decode cX1_route 137 = .ok (.getfield 105, 3) := dk_180 0 105 (dk_at dksX1_route_5 18 rfl rfl)
theorem dX1_route_140 : decode cX1_route 140 = .ok (.iload 7, 2) := dk_21 7 (dk_at dksX1_route_5 21 rfl rfl)
theorem dX1_route_142 : decode cX1_route 142 = .ok (.iconst 0, 1) := dk_3 (dk_at dksX1_route_5 23 rfl rfl)
theorem dX1_route_143 : decode cX1_route 143 = .ok (.bastore, 1) := dk_84 (dk_at dksX1_route_6 0 rfl rfl)
theorem dX1_route_144 : decode cX1_route 144 = .ok (.iconst 0, 1) := dk_3 (dk_at dksX1_route_6 1 rfl rfl)
theorem dX1_route_145 : decode cX1_route 145 = .ok (.istore 8, 2) := dk_54 8 (dk_at dksX1_route_6 2 rfl rfl)
theorem dX1_route_147 : decode cX1_route 147 = .ok (.iload 8, 2) := dk_21 8 (dk_at dksX1_route_6 4 rfl rfl)
theorem dX1_route_149 : decode cX1_route 149 = .ok (.iconst 4, 1) := dk_7 (dk_at dksX1_route_6 6 rfl rfl)
theorem dX1_route_150 : decode cX1_route 150 = .ok (.if_icmp .ge 134, 3) := dk_162 0 134 (dk_at dksX1_route_6 7 rfl rfl)
theorem dX1_route_153 : decode cX1_route 153 = .ok (.aload_n 0, 1) := dk_42 (dk_at dksX1_route_6 10 rfl rfl)
theorem dX1_route_154 : decode cX1_route 154 = .ok (.iload 7, 2) := dk_21 7 (dk_at dksX1_route_6 11 rfl rfl)
theorem dX1_route_156 : decode cX1_route 156 = .ok (.iconst 4, 1) := dk_7 (dk_at dksX1_route_6 13 rfl rfl)
theorem dX1_route_157 : decode cX1_route 157 = .ok (.idiv, 1) := dk_108 (dk_at dksX1_route_6 14 rfl rfl)
theorem dX1_route_158 : decode cX1_route 158 = .ok (.iload 8, 2) := dk_21 8 (dk_at dksX1_route_6 15 rfl rfl)
theorem dX1_route_160 : decode cX1_route 160 = .ok (.invokevirtual 411, 3) := dk_182 1 155 (dk_at dksX1_route_6 17 rfl rfl)
theorem dX1_route_163 : decode cX1_route 163 = .ok (.istore 9, 2) := dk_54 9 (dk_at dksX1_route_6 20 rfl rfl)
theorem dX1_route_165 : decode cX1_route 165 = .ok (.aload_n 0, 1) := dk_42 (dk_at dksX1_route_6 22 rfl rfl)
theorem dX1_route_166 : decode cX1_route 166 = .ok (.getfield 99, 3) := dk_180 0 99 (dk_at dksX1_route_7 0 rfl rfl)
theorem dX1_route_169 : decode cX1_route 169 = .ok (.iload 7, 2) := dk_21 7 (dk_at dksX1_route_7 3 rfl rfl)
theorem dX1_route_171 : decode cX1_route 171 = .ok (.iaload, 1) := dk_46 (dk_at dksX1_route_7 5 rfl rfl)
theorem dX1_route_172 : decode cX1_route 172 = .ok (.iload 7, 2) := dk_21 7 (dk_at dksX1_route_7 6 rfl rfl)
theorem dX1_route_174 : decode cX1_route 174 = .ok (.iconst 4, 1) := dk_7 (dk_at dksX1_route_7 8 rfl rfl)
theorem dX1_route_175 : decode cX1_route 175 = .ok (.irem, 1) := dk_112 (dk_at dksX1_route_7 9 rfl rfl)
theorem dX1_route_176 : decode cX1_route 176 = .ok (.iload 8, 2) := dk_21 8 (dk_at dksX1_route_7 10 rfl rfl)
theorem dX1_route_178 : decode cX1_route 178 = .ok (.invokestatic 414, 3) := dk_184 1 158 (dk_at dksX1_route_7 12 rfl rfl)
theorem dX1_route_181 : decode cX1_route 181 = .ok (.iadd, 1) := dk_96 (dk_at dksX1_route_7 15 rfl rfl)
theorem dX1_route_182 : decode cX1_route 182 = .ok (.istore 10, 2) := dk_54 10 (dk_at dksX1_route_7 16 rfl rfl)
theorem dX1_route_184 : decode cX1_route 184 = .ok (.iload 9, 2) := dk_21 9 (dk_at dksX1_route_7 18 rfl rfl)
theorem dX1_route_186 : decode cX1_route 186 = .ok (.iconst (-1), 1) := dk_2 (dk_at dksX1_route_7 20 rfl rfl)
theorem dX1_route_187 : decode cX1_route 187 = .ok (.if_icmp .eq 91, 3) := dk_159 0 91 (dk_at dksX1_route_7 21 rfl rfl)
theorem dX1_route_190 : decode cX1_route 190 = .ok (.iload 10, 2) := dk_21 10 (dk_at dksX1_route_8 0 rfl rfl)
theorem dX1_route_192 : decode cX1_route 192 = .ok (.aload_n 0, 1) := dk_42 (dk_at dksX1_route_8 2 rfl rfl)
theorem dX1_route_193 : decode cX1_route 193 = .ok (.getfield 99, 3) := dk_180 0 99 (dk_at dksX1_route_8 3 rfl rfl)
theorem dX1_route_196 : decode cX1_route 196 = .ok (.iconst 4, 1) := dk_7 (dk_at dksX1_route_8 6 rfl rfl)
theorem dX1_route_197 : decode cX1_route 197 = .ok (.iload 9, 2) := dk_21 9 (dk_at dksX1_route_8 7 rfl rfl)
theorem dX1_route_199 : decode cX1_route 199 = .ok (.imul, 1) := dk_104 (dk_at dksX1_route_8 9 rfl rfl)
theorem dX1_route_200 : decode cX1_route 200 = .ok (.iload 8, 2) := dk_21 8 (dk_at dksX1_route_8 10 rfl rfl)
theorem dX1_route_202 : decode cX1_route 202 = .ok (.iadd, 1) := dk_96 (dk_at dksX1_route_8 12 rfl rfl)
theorem dX1_route_203 : decode cX1_route 203 = .ok (.iaload, 1) := dk_46 (dk_at dksX1_route_8 13 rfl rfl)
theorem dX1_route_204 : decode cX1_route 204 = .ok (.if_icmp .lt 6, 3) := dk_161 0 6 (dk_at dksX1_route_8 14 rfl rfl)
theorem dX1_route_207 : decode cX1_route 207 = .ok (.goto 71, 3) := dk_167 0 71 (dk_at dksX1_route_8 17 rfl rfl)
theorem dX1_route_210 : decode cX1_route 210 = .ok (.aload_n 0, 1) := dk_42 (dk_at dksX1_route_8 20 rfl rfl)
theorem dX1_route_211 : decode cX1_route 211 = .ok (.getfield 99, 3) := dk_180 0 99 (dk_at dksX1_route_8 21 rfl rfl)
theorem dX1_route_214 : decode cX1_route 214 = .ok (.iconst 4, 1) := dk_7 (dk_at dksX1_route_9 0 rfl rfl)
theorem dX1_route_215 : decode cX1_route 215 = .ok (.iload 9, 2) := dk_21 9 (dk_at dksX1_route_9 1 rfl rfl)
theorem dX1_route_217 : decode cX1_route 217 = .ok (.imul, 1) := dk_104 (dk_at dksX1_route_9 3 rfl rfl)
theorem dX1_route_218 : decode cX1_route 218 = .ok (.iload 8, 2) := dk_21 8 (dk_at dksX1_route_9 4 rfl rfl)
theorem dX1_route_220 : decode cX1_route 220 = .ok (.iadd, 1) := dk_96 (dk_at dksX1_route_9 6 rfl rfl)
theorem dX1_route_221 : decode cX1_route 221 = .ok (.iload 10, 2) := dk_21 10 (dk_at dksX1_route_9 7 rfl rfl)
theorem dX1_route_223 : decode cX1_route 223 = .ok (.iastore, 1) := dk_79 (dk_at dksX1_route_9 9 rfl rfl)
theorem dX1_route_224 : decode cX1_route 224 = .ok (.aload_n 0, 1) := dk_42 (dk_at dksX1_route_9 10 rfl rfl)
theorem dX1_route_225 : decode cX1_route 225 = .ok (.getfield 105, 3) := dk_180 0 105 (dk_at dksX1_route_9 11 rfl rfl)
theorem dX1_route_228 : decode cX1_route 228 = .ok (.iconst 4, 1) := dk_7 (dk_at dksX1_route_9 14 rfl rfl)
theorem dX1_route_229 : decode cX1_route 229 = .ok (.iload 9, 2) := dk_21 9 (dk_at dksX1_route_9 15 rfl rfl)
theorem dX1_route_231 : decode cX1_route 231 = .ok (.imul, 1) := dk_104 (dk_at dksX1_route_9 17 rfl rfl)
theorem dX1_route_232 : decode cX1_route 232 = .ok (.iload 8, 2) := dk_21 8 (dk_at dksX1_route_9 18 rfl rfl)
theorem dX1_route_234 : decode cX1_route 234 = .ok (.iadd, 1) := dk_96 (dk_at dksX1_route_9 20 rfl rfl)
theorem dX1_route_235 : decode cX1_route 235 = .ok (.baload, 1) := dk_51 (dk_at dksX1_route_9 21 rfl rfl)
theorem dX1_route_236 : decode cX1_route 236 = .ok (.ifCond .ne 42, 3) := dk_154 0 42 (dk_at dksX1_route_10 0 rfl rfl)
theorem dX1_route_239 : decode cX1_route 239 = .ok (.aload_n 0, 1) := dk_42 (dk_at dksX1_route_10 3 rfl rfl)
theorem dX1_route_240 : decode cX1_route 240 = .ok (.getfield 102, 3) := dk_180 0 102 (dk_at dksX1_route_10 4 rfl rfl)
theorem dX1_route_243 : decode cX1_route 243 = .ok (.iload 5, 2) := dk_21 5 (dk_at dksX1_route_10 7 rfl rfl)
theorem dX1_route_245 : decode cX1_route 245 = .ok (.iload 6, 2) := dk_21 6 (dk_at dksX1_route_10 9 rfl rfl)
theorem dX1_route_247 : decode cX1_route 247 = .ok (.iadd, 1) := dk_96 (dk_at dksX1_route_10 11 rfl rfl)
theorem dX1_route_248 : decode cX1_route 248 = .ok (.aload_n 0, 1) := dk_42 (dk_at dksX1_route_10 12 rfl rfl)
theorem dX1_route_249 : decode cX1_route 249 = .ok (.getfield 102, 3) := dk_180 0 102 (dk_at dksX1_route_10 13 rfl rfl)
theorem dX1_route_252 : decode cX1_route 252 = .ok (.arraylength, 1) := dk_190 (dk_at dksX1_route_10 16 rfl rfl)
theorem dX1_route_253 : decode cX1_route 253 = .ok (.irem, 1) := dk_112 (dk_at dksX1_route_10 17 rfl rfl)
theorem dX1_route_254 : decode cX1_route 254 = .ok (.iconst 4, 1) := dk_7 (dk_at dksX1_route_10 18 rfl rfl)
theorem dX1_route_255 : decode cX1_route 255 = .ok (.iload 9, 2) := dk_21 9 (dk_at dksX1_route_10 19 rfl rfl)
theorem dX1_route_257 : decode cX1_route 257 = .ok (.imul, 1) := dk_104 (dk_at dksX1_route_10 21 rfl rfl)
theorem dX1_route_258 : decode cX1_route 258 = .ok (.iload 8, 2) := dk_21 8 (dk_at dksX1_route_10 22 rfl rfl)
theorem dX1_route_260 : decode cX1_route 260 = .ok (.iadd, 1) := dk_96 (dk_at dksX1_route_11 0 rfl rfl)
theorem dX1_route_261 : decode cX1_route 261 = .ok (.iastore, 1) := dk_79 (dk_at dksX1_route_11 1 rfl rfl)
theorem dX1_route_262 : decode cX1_route 262 = .ok (.aload_n 0, 1) := dk_42 (dk_at dksX1_route_11 2 rfl rfl)
theorem dX1_route_263 : decode cX1_route 263 = .ok (.getfield 105, 3) := dk_180 0 105 (dk_at dksX1_route_11 3 rfl rfl)
theorem dX1_route_266 : decode cX1_route 266 = .ok (.iconst 4, 1) := dk_7 (dk_at dksX1_route_11 6 rfl rfl)
theorem dX1_route_267 : decode cX1_route 267 = .ok (.iload 9, 2) := dk_21 9 (dk_at dksX1_route_11 7 rfl rfl)
theorem dX1_route_269 : decode cX1_route 269 = .ok (.imul, 1) := dk_104 (dk_at dksX1_route_11 9 rfl rfl)
theorem dX1_route_270 : decode cX1_route 270 = .ok (.iload 8, 2) := dk_21 8 (dk_at dksX1_route_11 10 rfl rfl)
theorem dX1_route_272 : decode cX1_route 272 = .ok (.iadd, 1) := dk_96 (dk_at dksX1_route_11 12 rfl rfl)
theorem dX1_route_273 : decode cX1_route 273 = .ok (.iconst 1, 1) := dk_4 (dk_at dksX1_route_11 13 rfl rfl)
theorem dX1_route_274 : decode cX1_route 274 = .ok (.bastore, 1) := dk_84 (dk_at dksX1_route_11 14 rfl rfl)
theorem dX1_route_275 : decode cX1_route 275 = .ok (.iinc 6 1, 3) := dk_132 6 1 (dk_at dksX1_route_11 15 rfl rfl)
theorem dX1_route_278 : decode cX1_route 278 = .ok (.iinc 8 1, 3) := dk_132 8 1 (dk_at dksX1_route_11 18 rfl rfl)
theorem dX1_route_281 : decode cX1_route 281 = .ok (.goto (-134), 3) := dk_167 255 122 (dk_at dksX1_route_11 21 rfl rfl)
theorem dX1_route_284 : decode cX1_route 284 = .ok (.goto (-177), 3) := dk_167 255 79 (dk_at dksX1_route_12 0 rfl rfl)
theorem dX1_route_287 : decode cX1_route 287 = .ok (.aload_n 0, 1) := dk_42 (dk_at dksX1_route_12 3 rfl rfl)
theorem dX1_route_288 : decode cX1_route 288 = .ok (.iload 4, 2) := dk_21 4 (dk_at dksX1_route_12 4 rfl rfl)
theorem dX1_route_290 : decode cX1_route 290 = .ok (.invokevirtual 417, 3) := dk_182 1 161 (dk_at dksX1_route_12 6 rfl rfl)
theorem dX1_route_293 : decode cX1_route 293 = .ok (.ireturn, 1) := dk_172 (dk_at dksX1_route_12 9 rfl rfl)
theorem q1531 : (Jvm.Cond.methodLink "Plugboard" (393 : Nat) ({ cls := "Plugboard", name := "layFree", desc := "(LPlugboard$Board;)V" } : Jvm.MethodName)) ∈ lw_all := lw_g (lw_at lw_m7 21 rfl) rfl
theorem q1533 : (Jvm.Cond.instanceMethod ({ cls := "Plugboard", name := "layFree", desc := "(LPlugboard$Board;)V" } : Jvm.MethodName)) ∈ lw_all := lw_g (lw_at lw_m7 23 rfl) rfl
theorem q1534 : (Jvm.Cond.code ({ cls := "Plugboard", name := "layFree", desc := "(LPlugboard$Board;)V" } : Jvm.MethodName) prog_1_method_61_code (4 : Nat) (Option.none : Option Jvm.ClassFile.FieldType)) ∈ lw_all := lw_g (lw_at lw_m7 24 rfl) rfl
theorem q1535 : (Jvm.Cond.methodLink "Plugboard" (397 : Nat) ({ cls := "Plugboard$Connector", name := "from", desc := "()LPlugboard$End;" } : Jvm.MethodName)) ∈ lw_all := lw_g (lw_at lw_m7 25 rfl) rfl
theorem q1536 : (Jvm.Cond.methodLink "Plugboard" (401 : Nat) ({ cls := "Plugboard", name := "cellOf", desc := "(LPlugboard$Board;LPlugboard$End;)I" } : Jvm.MethodName)) ∈ lw_all := lw_g (lw_at lw_m7 26 rfl) rfl
theorem q1538 : (Jvm.Cond.instanceMethod ({ cls := "Plugboard", name := "cellOf", desc := "(LPlugboard$Board;LPlugboard$End;)I" } : Jvm.MethodName)) ∈ lw_all := lw_g (lw_at lw_m7 28 rfl) rfl
theorem q1539 : (Jvm.Cond.code ({ cls := "Plugboard", name := "cellOf", desc := "(LPlugboard$Board;LPlugboard$End;)I" } : Jvm.MethodName) prog_1_method_63_code (6 : Nat) (Option.some Jvm.ClassFile.FieldType.int)) ∈ lw_all := lw_g (lw_at lw_m7 29 rfl) rfl
theorem q1548 : (Jvm.Cond.methodLink "Plugboard" (405 : Nat) ({ cls := "Plugboard$Connector", name := "to", desc := "()LPlugboard$End;" } : Jvm.MethodName)) ∈ lw_all := lw_g (lw_at lw_m7 38 rfl) rfl
theorem q1550 : (Jvm.Cond.methodLink "Plugboard" (408 : Nat) ({ cls := "Plugboard", name := "clearCosts", desc := "()V" } : Jvm.MethodName)) ∈ lw_all := lw_g (lw_at lw_m7 40 rfl) rfl
theorem q1552 : (Jvm.Cond.instanceMethod ({ cls := "Plugboard", name := "clearCosts", desc := "()V" } : Jvm.MethodName)) ∈ lw_all := lw_g (lw_at lw_m7 42 rfl) rfl
theorem q1553 : (Jvm.Cond.code ({ cls := "Plugboard", name := "clearCosts", desc := "()V" } : Jvm.MethodName) prog_1_method_65_code (2 : Nat) (Option.none : Option Jvm.ClassFile.FieldType)) ∈ lw_all := lw_g (lw_at lw_m7 43 rfl) rfl
theorem q1554 : (Jvm.Cond.methodLink "Plugboard" (411 : Nat) ({ cls := "Plugboard", name := "beside", desc := "(II)I" } : Jvm.MethodName)) ∈ lw_all := lw_g (lw_at lw_m7 44 rfl) rfl
theorem q1556 : (Jvm.Cond.instanceMethod ({ cls := "Plugboard", name := "beside", desc := "(II)I" } : Jvm.MethodName)) ∈ lw_all := lw_g (lw_at lw_m7 46 rfl) rfl
theorem q1557 : (Jvm.Cond.code ({ cls := "Plugboard", name := "beside", desc := "(II)I" } : Jvm.MethodName) prog_1_method_64_code (5 : Nat) (Option.some Jvm.ClassFile.FieldType.int)) ∈ lw_all := lw_g (lw_at lw_m7 47 rfl) rfl
theorem q1558 : (Jvm.Cond.methodLink "Plugboard" (414 : Nat) ({ cls := "Plugboard", name := "step", desc := "(II)I" } : Jvm.MethodName)) ∈ lw_all := lw_g (lw_at lw_m7 48 rfl) rfl
theorem q1559 : (Jvm.Cond.static ({ cls := "Plugboard", name := "step", desc := "(II)I" } : Jvm.MethodName)) ∈ lw_all := lw_g (lw_at lw_m7 49 rfl) rfl
theorem q1560 : (Jvm.Cond.code ({ cls := "Plugboard", name := "step", desc := "(II)I" } : Jvm.MethodName) prog_1_method_66_code (2 : Nat) (Option.some Jvm.ClassFile.FieldType.int)) ∈ lw_all := lw_g (lw_at lw_m7 50 rfl) rfl
theorem q1561 : (Jvm.Cond.methodLink "Plugboard" (417 : Nat) ({ cls := "Plugboard", name := "least", desc := "(I)I" } : Jvm.MethodName)) ∈ lw_all := lw_g (lw_at lw_m7 51 rfl) rfl
theorem q1563 : (Jvm.Cond.instanceMethod ({ cls := "Plugboard", name := "least", desc := "(I)I" } : Jvm.MethodName)) ∈ lw_all := lw_g (lw_at lw_m7 53 rfl) rfl
theorem q1564 : (Jvm.Cond.code ({ cls := "Plugboard", name := "least", desc := "(I)I" } : Jvm.MethodName) prog_1_method_67_code (4 : Nat) (Option.some Jvm.ClassFile.FieldType.int)) ∈ lw_all := lw_g (lw_at lw_m7 54 rfl) rfl
abbrev rm_X1_route : Room := { frames := 5, cells := 0, slots := 0, locals := 114 }
def w_X1_route_147 (P : Int32 → AH → Prop) (Z107 : Int32 → Int32 → AH → Prop) (x0 : Option Nat) (x4 : Int32) (x5 : Int32) (x6 : Int32) (x7 : Int32) (x8 : Int32) (h : AH) : Prop :=
  ∀ Z147 : Int32 → Int32 → AH → Prop, (∀ x6 x8 h, (
      ((4 ≤ x8 →
        Z107 x5 x6 h) ∧
       (¬ 4 ≤ x8 →
        ¬ (4 : Int32) = 0 ∧
        is_c h x0 [0] (
        w_X1_beside x0 (x7 / 4) x8 h (fun y160 h160 =>
        g_q h160 x0 0 9 fun y166 =>
        l_i h160 y166 0 x7 fun y171 =>
        ¬ (4 : Int32) = 0 ∧
        w_X1_step (x7 - x7 / 4 * 4) x8 h160 (fun y178 h178 =>
        ((y160 = (-1) →
          Z147 x6 (x8 + 1) h178) ∧
         (¬ y160 = (-1) →
          g_q h178 x0 0 9 fun y193 =>
          l_i h178 y193 0 ((4 * y160) + x8) fun y203 =>
          (((y171 + y178) < y203 →
            g_q h178 x0 0 9 fun y211 =>
            s_i h178 y211 0 ((4 * y160) + x8) (y171 + y178) fun h223 =>
            g_q h223 x0 0 11 fun y225 =>
            l_i h223 y225 1 ((4 * y160) + x8) fun y235 =>
            ((y235 = 0 →
              g_q h223 x0 0 10 fun y240 =>
              g_q h223 x0 0 10 fun y249 =>
              n_a h223 y249 fun y252 =>
              ¬ y252 = 0 ∧
              s_i h223 y240 0 ((x5 + x6) - (x5 + x6) / y252 * y252) ((4 * y160) + x8) fun h261 =>
              g_q h261 x0 0 11 fun y263 =>
              s_i h261 y263 1 ((4 * y160) + x8) 1 fun h274 =>
              Z147 (x6 + 1) (x8 + 1) h274) ∧
             (¬ y235 = 0 →
              Z147 x6 (x8 + 1) h223))) ∧
           (¬ (y171 + y178) < y203 →
            Z147 x6 (x8 + 1) h178))))))))))
      → Z147 x6 x8 h) → Z147 x6 x8 h
def w_X1_route_107 (P : Int32 → AH → Prop) (x0 : Option Nat) (x4 : Int32) (x5 : Int32) (x6 : Int32) (h : AH) : Prop :=
  ∀ Z107 : Int32 → Int32 → AH → Prop, (∀ x5 x6 h, (
      ((x6 ≤ 0 →
        is_c h x0 [0] (
        w_X1_least x0 x4 h (fun y290 h290 =>
        P y290 h290))) ∧
       (¬ x6 ≤ 0 →
        g_q h x0 0 10 fun y113 =>
        l_i h y113 0 x5 fun y118 =>
        g_q h x0 0 10 fun y126 =>
        n_a h y126 fun y129 =>
        ¬ y129 = 0 ∧
        g_q h x0 0 11 fun y137 =>
        s_i h y137 1 y118 0 fun h143 =>
        w_X1_route_147 P Z107 x0 x4 ((x5 + 1) - (x5 + 1) / y129 * y129) (x6 + (-1)) y118 0 h143)))
      → Z107 x5 x6 h) → Z107 x5 x6 h
def w_X1_route_54 (P : Int32 → AH → Prop) (x0 : Option Nat) (x3 : Int32) (x4 : Int32) (x5 : Int32) (x6 : Int32) (x7 : Int32) (h : AH) : Prop :=
  ∀ Z54 : Int32 → Int32 → AH → Prop, (∀ x6 x7 h, (
      ((4 ≤ x7 →
        w_X1_route_107 P x0 x4 x5 x6 h) ∧
       (¬ 4 ≤ x7 →
        g_q h x0 0 9 fun y61 =>
        s_i h y61 0 ((4 * x3) + x7) 1 fun h71 =>
        g_q h71 x0 0 10 fun y73 =>
        s_i h71 y73 0 x6 ((4 * x3) + x7) fun h84 =>
        g_q h84 x0 0 11 fun y86 =>
        g_q h84 x0 0 10 fun y90 =>
        l_i h84 y90 0 x6 fun y95 =>
        s_i h84 y86 1 y95 1 fun h97 =>
        Z54 (x6 + 1) (x7 + 1) h97)))
      → Z54 x6 x7 h) → Z54 x6 x7 h
def w_X1_route (a0 : Option Nat) (a1 : Option Nat) (a2 : Option Nat) (h : AH) (P : Int32 → AH → Prop) : Prop :=
  is_c h a0 [0] (
  w_X1_layFree a0 a1 h (fun h2 =>
  is_c h2 a2 [13] (
  w_X15_from a2 h2 (fun y8 h8 =>
  is_c h8 a0 [0] (
  w_X1_cellOf a0 a1 y8 h8 (fun y11 h11 =>
  is_c h11 a2 [13] (
  w_X15_to a2 h11 (fun y18 h18 =>
  is_c h18 a0 [0] (
  w_X1_cellOf a0 a1 y18 h18 (fun y21 h21 =>
  ((y11 = (-1) →
    P 1000000 h21) ∧
   (¬ y11 = (-1) →
    ((y21 = (-1) →
      P 1000000 h21) ∧
     (¬ y21 = (-1) →
      is_c h21 a0 [0] (
      w_X1_clearCosts a0 h21 (fun h42 =>
      w_X1_route_54 P a0 y11 y21 0 0 0 h42))))))))))))))))
theorem wk_X1_route_147 {x : CX} (X : Ok x cX1_route RX1 rm_X1_route 11) (er : xrt x = (Option.some Jvm.ClassFile.FieldType.int)) (en : xnm x = yX1_route.name) {P : Int32 → AH → Prop} (hQ : xr_i x P) (Z107 : Int32 → Int32 → AH → Prop) (x0 : Option Nat) (x4 : Int32) (x5 : Int32) (x6 : Int32) (x7 : Int32) (x8 : Int32) (h : AH) (hZ107 : ∀ x5 x6 h, Z107 x5 x6 h → J x h 0 0 107 [(0, vR x0), (4, vI x4), (5, vI x5), (6, vI x6)] []) (hw : w_X1_route_147 P Z107 x0 x4 x5 x6 x7 x8 h) : J x h 0 0 147 [(0, vR x0), (4, vI x4), (5, vI x5), (6, vI x6), (7, vI x7), (8, vI x8)] [] := by
  refine hw (fun x6 x8 h => J x h 0 0 147 [(0, vR x0), (4, vI x4), (5, vI x5), (6, vI x6), (7, vI x7), (8, vI x8)] []) (fun x6 x8 h hw => ?_)
  refine j_iload X (pc := 147) 5 dX1_route_147 rfl ?_
  refine j_iconst X (pc := 149) 4 dX1_route_149 (by decide) ?_
  refine j_icmp_ge X (pc := 150) 284 dX1_route_150 (by decide) hw (fun hw => ?_) (fun hw => ?_)
  · refine j_goto X (pc := 284) 107 dX1_route_284 (by decide) ?_
    refine j_lv [(0, vR x0), (4, vI x4), (5, vI x5), (6, vI x6)] [0, 1, 2, 3] rfl ?_
    refine j_cs (u' := 0) (v' := 0) (Nat.le_of_ble_eq_true rfl) (Nat.le_of_ble_eq_true rfl) ?_
    exact hZ107 x5 x6 h hw
  · refine j_aload_n X (pc := 153) 0 dX1_route_153 rfl rfl ?_
    refine j_iload X (pc := 154) 4 dX1_route_154 rfl ?_
    refine j_iconst X (pc := 156) 4 dX1_route_156 (by decide) ?_
    refine j_idiv X (pc := 157) dX1_route_157 hw (fun hw => ?_)
    refine j_iload X (pc := 158) 5 dX1_route_158 rfl ?_
    obtain ⟨b9, c9, f9, hr9, ho9, hc9, hw⟩ := hw
    obtain rfl := List.mem_singleton.mp hc9
    refine j_calli (j_runV (n8 := 2) (As := [vI (x7 / 4), vI x8]) (rest := []) X (pc := 160) hr9 (met_X1_beside (xl x) X.hl (xG x) h x0 (x7 / 4) x8 _ hw) ho9 (by decide) rfl q1554 q1556 qs23 q71 q1557 (by decide +kernel) dX1_route_160 rfl ⟨Nat.le_of_ble_eq_true rfl, Nat.le_of_ble_eq_true rfl⟩ (Nat.le_of_ble_eq_true rfl) ⟨Nat.le_of_ble_eq_true rfl, Nat.le_of_ble_eq_true rfl⟩) (fun y160 h160 hw => ?_)
    refine j_istore X (pc := 163) [(9, vI y160), (0, vR x0), (4, vI x4), (5, vI x5), (6, vI x6), (7, vI x7), (8, vI x8)] dX1_route_163 (Nat.le_of_ble_eq_true rfl) rfl ?_
    refine j_aload_n X (pc := 165) 1 dX1_route_165 rfl rfl ?_
    refine j_getq (ci := 0) X (pc := 166) in_X1 rfl (by decide) 9 (by decide) q252 (Or.inl rfl) dX1_route_166 hw (fun y166 hw => ?_)
    refine j_iload X (pc := 169) 5 dX1_route_169 rfl ?_
    refine j_iald X (pc := 171) 0 rfl dX1_route_171 hw (fun y171 hw => ?_)
    refine j_iload X (pc := 172) 5 dX1_route_172 rfl ?_
    refine j_iconst X (pc := 174) 4 dX1_route_174 (by decide) ?_
    refine j_irem X (pc := 175) dX1_route_175 hw (fun hw => ?_)
    refine j_iload X (pc := 176) 6 dX1_route_176 rfl ?_
    refine j_calli (j_runS (n8 := 2) (As := [vI (x7 - x7 / 4 * 4), vI x8]) (rest := [vI y171]) X (pc := 178) (met_X1_step (xl x) X.hl (xG x) h160 (x7 - x7 / 4 * 4) x8 _ hw) q1558 q1559 q71 q1560 (by decide +kernel) dX1_route_178 rfl ⟨Nat.le_of_ble_eq_true rfl, Nat.le_of_ble_eq_true rfl⟩ (Nat.le_of_ble_eq_true rfl) ⟨Nat.le_of_ble_eq_true rfl, Nat.le_of_ble_eq_true rfl⟩) (fun y178 h178 hw => ?_)
    refine j_iadd X (pc := 181) dX1_route_181 ?_
    refine j_istore X (pc := 182) [(10, vI (y171 + y178)), (9, vI y160), (0, vR x0), (4, vI x4), (5, vI x5), (6, vI x6), (7, vI x7), (8, vI x8)] dX1_route_182 (Nat.le_of_ble_eq_true rfl) rfl ?_
    refine j_iload X (pc := 184) 1 dX1_route_184 rfl ?_
    refine j_iconst X (pc := 186) (-1) dX1_route_186 (by decide) ?_
    refine j_icmp_eq X (pc := 187) 278 dX1_route_187 (by decide) hw (fun hw => ?_) (fun hw => ?_)
    · refine j_iinc X (pc := 278) 7 (x8 + 1) [(8, vI (x8 + 1)), (10, vI (y171 + y178)), (9, vI y160), (0, vR x0), (4, vI x4), (5, vI x5), (6, vI x6), (7, vI x7)] dX1_route_278 rfl rfl (Nat.le_of_ble_eq_true rfl) rfl ?_
      refine j_goto X (pc := 281) 147 dX1_route_281 (by decide) ?_
      refine j_lv [(0, vR x0), (4, vI x4), (5, vI x5), (6, vI x6), (7, vI x7), (8, vI (x8 + 1))] [3, 4, 5, 6, 7, 0] rfl ?_
      refine j_cs (u' := 0) (v' := 0) (Nat.le_of_ble_eq_true rfl) (Nat.le_of_ble_eq_true rfl) ?_
      exact hw
    · refine j_iload X (pc := 190) 0 dX1_route_190 rfl ?_
      refine j_aload_n X (pc := 192) 2 dX1_route_192 rfl rfl ?_
      refine j_getq (ci := 0) X (pc := 193) in_X1 rfl (by decide) 9 (by decide) q252 (Or.inl rfl) dX1_route_193 hw (fun y193 hw => ?_)
      refine j_iconst X (pc := 196) 4 dX1_route_196 (by decide) ?_
      refine j_iload X (pc := 197) 1 dX1_route_197 rfl ?_
      refine j_imul X (pc := 199) dX1_route_199 ?_
      refine j_iload X (pc := 200) 7 dX1_route_200 rfl ?_
      refine j_iadd X (pc := 202) dX1_route_202 ?_
      refine j_iald X (pc := 203) 0 rfl dX1_route_203 hw (fun y203 hw => ?_)
      refine j_icmp_lt X (pc := 204) 210 dX1_route_204 (by decide) hw (fun hw => ?_) (fun hw => ?_)
      · refine j_aload_n X (pc := 210) 2 dX1_route_210 rfl rfl ?_
        refine j_getq (ci := 0) X (pc := 211) in_X1 rfl (by decide) 9 (by decide) q252 (Or.inl rfl) dX1_route_211 hw (fun y211 hw => ?_)
        refine j_iconst X (pc := 214) 4 dX1_route_214 (by decide) ?_
        refine j_iload X (pc := 215) 1 dX1_route_215 rfl ?_
        refine j_imul X (pc := 217) dX1_route_217 ?_
        refine j_iload X (pc := 218) 7 dX1_route_218 rfl ?_
        refine j_iadd X (pc := 220) dX1_route_220 ?_
        refine j_iload X (pc := 221) 0 dX1_route_221 rfl ?_
        refine j_iast X (pc := 223) 0 rfl rfl dX1_route_223 hw (fun h223 hw => ?_)
        refine j_aload_n X (pc := 224) 2 dX1_route_224 rfl rfl ?_
        refine j_getq (ci := 0) X (pc := 225) in_X1 rfl (by decide) 11 (by decide) q254 (Or.inl rfl) dX1_route_225 hw (fun y225 hw => ?_)
        refine j_iconst X (pc := 228) 4 dX1_route_228 (by decide) ?_
        refine j_iload X (pc := 229) 1 dX1_route_229 rfl ?_
        refine j_imul X (pc := 231) dX1_route_231 ?_
        refine j_iload X (pc := 232) 7 dX1_route_232 rfl ?_
        refine j_iadd X (pc := 234) dX1_route_234 ?_
        refine j_zald X (pc := 235) 1 rfl dX1_route_235 hw (fun y235 hw => ?_)
        refine j_if_ne X (pc := 236) 278 dX1_route_236 (by decide) hw (fun hw => ?_) (fun hw => ?_)
        · refine j_aload_n X (pc := 239) 2 dX1_route_239 rfl rfl ?_
          refine j_getq (ci := 0) X (pc := 240) in_X1 rfl (by decide) 10 (by decide) q253 (Or.inl rfl) dX1_route_240 hw (fun y240 hw => ?_)
          refine j_iload X (pc := 243) 4 dX1_route_243 rfl ?_
          refine j_iload X (pc := 245) 5 dX1_route_245 rfl ?_
          refine j_iadd X (pc := 247) dX1_route_247 ?_
          refine j_aload_n X (pc := 248) 2 dX1_route_248 rfl rfl ?_
          refine j_getq (ci := 0) X (pc := 249) in_X1 rfl (by decide) 10 (by decide) q253 (Or.inl rfl) dX1_route_249 hw (fun y249 hw => ?_)
          refine j_alen X (pc := 252) dX1_route_252 hw (fun y252 hw => ?_)
          refine j_irem X (pc := 253) dX1_route_253 hw (fun hw => ?_)
          refine j_iconst X (pc := 254) 4 dX1_route_254 (by decide) ?_
          refine j_iload X (pc := 255) 1 dX1_route_255 rfl ?_
          refine j_imul X (pc := 257) dX1_route_257 ?_
          refine j_iload X (pc := 258) 7 dX1_route_258 rfl ?_
          refine j_iadd X (pc := 260) dX1_route_260 ?_
          refine j_iast X (pc := 261) 0 rfl rfl dX1_route_261 hw (fun h261 hw => ?_)
          refine j_aload_n X (pc := 262) 2 dX1_route_262 rfl rfl ?_
          refine j_getq (ci := 0) X (pc := 263) in_X1 rfl (by decide) 11 (by decide) q254 (Or.inl rfl) dX1_route_263 hw (fun y263 hw => ?_)
          refine j_iconst X (pc := 266) 4 dX1_route_266 (by decide) ?_
          refine j_iload X (pc := 267) 1 dX1_route_267 rfl ?_
          refine j_imul X (pc := 269) dX1_route_269 ?_
          refine j_iload X (pc := 270) 7 dX1_route_270 rfl ?_
          refine j_iadd X (pc := 272) dX1_route_272 ?_
          refine j_iconst X (pc := 273) 1 dX1_route_273 (by decide) ?_
          refine j_zast X (pc := 274) 1 rfl rfl ⟨rfl, rfl⟩ dX1_route_274 hw (fun h274 hw => ?_)
          refine j_iinc X (pc := 275) 5 (x6 + 1) [(6, vI (x6 + 1)), (10, vI (y171 + y178)), (9, vI y160), (0, vR x0), (4, vI x4), (5, vI x5), (7, vI x7), (8, vI x8)] dX1_route_275 rfl rfl (Nat.le_of_ble_eq_true rfl) rfl ?_
          refine j_iinc X (pc := 278) 7 (x8 + 1) [(8, vI (x8 + 1)), (6, vI (x6 + 1)), (10, vI (y171 + y178)), (9, vI y160), (0, vR x0), (4, vI x4), (5, vI x5), (7, vI x7)] dX1_route_278 rfl rfl (Nat.le_of_ble_eq_true rfl) rfl ?_
          refine j_goto X (pc := 281) 147 dX1_route_281 (by decide) ?_
          refine j_lv [(0, vR x0), (4, vI x4), (5, vI x5), (6, vI (x6 + 1)), (7, vI x7), (8, vI (x8 + 1))] [4, 5, 6, 1, 7, 0] rfl ?_
          refine j_cs (u' := 0) (v' := 0) (Nat.le_of_ble_eq_true rfl) (Nat.le_of_ble_eq_true rfl) ?_
          exact hw
        · refine j_iinc X (pc := 278) 7 (x8 + 1) [(8, vI (x8 + 1)), (10, vI (y171 + y178)), (9, vI y160), (0, vR x0), (4, vI x4), (5, vI x5), (6, vI x6), (7, vI x7)] dX1_route_278 rfl rfl (Nat.le_of_ble_eq_true rfl) rfl ?_
          refine j_goto X (pc := 281) 147 dX1_route_281 (by decide) ?_
          refine j_lv [(0, vR x0), (4, vI x4), (5, vI x5), (6, vI x6), (7, vI x7), (8, vI (x8 + 1))] [3, 4, 5, 6, 7, 0] rfl ?_
          refine j_cs (u' := 0) (v' := 0) (Nat.le_of_ble_eq_true rfl) (Nat.le_of_ble_eq_true rfl) ?_
          exact hw
      · refine j_goto X (pc := 207) 278 dX1_route_207 (by decide) ?_
        refine j_iinc X (pc := 278) 7 (x8 + 1) [(8, vI (x8 + 1)), (10, vI (y171 + y178)), (9, vI y160), (0, vR x0), (4, vI x4), (5, vI x5), (6, vI x6), (7, vI x7)] dX1_route_278 rfl rfl (Nat.le_of_ble_eq_true rfl) rfl ?_
        refine j_goto X (pc := 281) 147 dX1_route_281 (by decide) ?_
        refine j_lv [(0, vR x0), (4, vI x4), (5, vI x5), (6, vI x6), (7, vI x7), (8, vI (x8 + 1))] [3, 4, 5, 6, 7, 0] rfl ?_
        refine j_cs (u' := 0) (v' := 0) (Nat.le_of_ble_eq_true rfl) (Nat.le_of_ble_eq_true rfl) ?_
        exact hw
theorem wk_X1_route_107 {x : CX} (X : Ok x cX1_route RX1 rm_X1_route 11) (er : xrt x = (Option.some Jvm.ClassFile.FieldType.int)) (en : xnm x = yX1_route.name) {P : Int32 → AH → Prop} (hQ : xr_i x P) (x0 : Option Nat) (x4 : Int32) (x5 : Int32) (x6 : Int32) (h : AH) (hw : w_X1_route_107 P x0 x4 x5 x6 h) : J x h 0 0 107 [(0, vR x0), (4, vI x4), (5, vI x5), (6, vI x6)] [] := by
  refine hw (fun x5 x6 h => J x h 0 0 107 [(0, vR x0), (4, vI x4), (5, vI x5), (6, vI x6)] []) (fun x5 x6 h hw => ?_)
  refine j_iload X (pc := 107) 3 dX1_route_107 rfl ?_
  refine j_if_le X (pc := 109) 287 dX1_route_109 (by decide) hw (fun hw => ?_) (fun hw => ?_)
  · refine j_aload_n X (pc := 287) 0 dX1_route_287 rfl rfl ?_
    refine j_iload X (pc := 288) 1 dX1_route_288 rfl ?_
    obtain ⟨b9, c9, f9, hr9, ho9, hc9, hw⟩ := hw
    obtain rfl := List.mem_singleton.mp hc9
    refine j_calli (j_runV (n8 := 1) (As := [vI x4]) (rest := []) X (pc := 290) hr9 (met_X1_least (xl x) X.hl (xG x) h x0 x4 _ hw) ho9 (by decide) rfl q1561 q1563 qs24 q71 q1564 (by decide +kernel) dX1_route_290 rfl ⟨Nat.le_of_ble_eq_true rfl, Nat.le_of_ble_eq_true rfl⟩ (Nat.le_of_ble_eq_true rfl) ⟨Nat.le_of_ble_eq_true rfl, Nat.le_of_ble_eq_true rfl⟩) (fun y290 h290 hw => ?_)
    exact j_iret X (pc := 293) hQ er (Nat.le_of_ble_eq_true rfl) (Nat.le_of_ble_eq_true rfl) dX1_route_293 hw
  · refine j_aload_n X (pc := 112) 0 dX1_route_112 rfl rfl ?_
    refine j_getq (ci := 0) X (pc := 113) in_X1 rfl (by decide) 10 (by decide) q253 (Or.inl rfl) dX1_route_113 hw (fun y113 hw => ?_)
    refine j_iload X (pc := 116) 2 dX1_route_116 rfl ?_
    refine j_iald X (pc := 118) 0 rfl dX1_route_118 hw (fun y118 hw => ?_)
    refine j_istore X (pc := 119) [(7, vI y118), (0, vR x0), (4, vI x4), (5, vI x5), (6, vI x6)] dX1_route_119 (Nat.le_of_ble_eq_true rfl) rfl ?_
    refine j_iload X (pc := 121) 3 dX1_route_121 rfl ?_
    refine j_iconst X (pc := 123) 1 dX1_route_123 (by decide) ?_
    refine j_iadd X (pc := 124) dX1_route_124 ?_
    refine j_aload_n X (pc := 125) 1 dX1_route_125 rfl rfl ?_
    refine j_getq (ci := 0) X (pc := 126) in_X1 rfl (by decide) 10 (by decide) q253 (Or.inl rfl) dX1_route_126 hw (fun y126 hw => ?_)
    refine j_alen X (pc := 129) dX1_route_129 hw (fun y129 hw => ?_)
    refine j_irem X (pc := 130) dX1_route_130 hw (fun hw => ?_)
    refine j_istore X (pc := 131) [(5, vI ((x5 + 1) - (x5 + 1) / y129 * y129)), (7, vI y118), (0, vR x0), (4, vI x4), (6, vI x6)] dX1_route_131 (Nat.le_of_ble_eq_true rfl) rfl ?_
    refine j_iinc X (pc := 133) 4 (x6 + (-1)) [(6, vI (x6 + (-1))), (5, vI ((x5 + 1) - (x5 + 1) / y129 * y129)), (7, vI y118), (0, vR x0), (4, vI x4)] dX1_route_133 rfl rfl (Nat.le_of_ble_eq_true rfl) rfl ?_
    refine j_aload_n X (pc := 136) 3 dX1_route_136 rfl rfl ?_
    refine j_getq (ci := 0) X (pc := 137) in_X1 rfl (by decide) 11 (by decide) q254 (Or.inl rfl) dX1_route_137 hw (fun y137 hw => ?_)
    refine j_iload X (pc := 140) 2 dX1_route_140 rfl ?_
    refine j_iconst X (pc := 142) 0 dX1_route_142 (by decide) ?_
    refine j_zast X (pc := 143) 1 rfl rfl ⟨rfl, rfl⟩ dX1_route_143 hw (fun h143 hw => ?_)
    refine j_iconst X (pc := 144) 0 dX1_route_144 (by decide) ?_
    refine j_istore X (pc := 145) [(8, vI 0), (6, vI (x6 + (-1))), (5, vI ((x5 + 1) - (x5 + 1) / y129 * y129)), (7, vI y118), (0, vR x0), (4, vI x4)] dX1_route_145 (Nat.le_of_ble_eq_true rfl) rfl ?_
    refine j_lv [(0, vR x0), (4, vI x4), (5, vI ((x5 + 1) - (x5 + 1) / y129 * y129)), (6, vI (x6 + (-1))), (7, vI y118), (8, vI 0)] [4, 5, 2, 1, 3, 0] rfl ?_
    refine j_cs (u' := 0) (v' := 0) (Nat.le_of_ble_eq_true rfl) (Nat.le_of_ble_eq_true rfl) ?_
    exact wk_X1_route_147 X er en hQ _ x0 x4 ((x5 + 1) - (x5 + 1) / y129 * y129) (x6 + (-1)) y118 0 h143 (fun x5_ x6_ h_ hz => hz) hw
theorem wk_X1_route_54 {x : CX} (X : Ok x cX1_route RX1 rm_X1_route 11) (er : xrt x = (Option.some Jvm.ClassFile.FieldType.int)) (en : xnm x = yX1_route.name) {P : Int32 → AH → Prop} (hQ : xr_i x P) (x0 : Option Nat) (x3 : Int32) (x4 : Int32) (x5 : Int32) (x6 : Int32) (x7 : Int32) (h : AH) (hw : w_X1_route_54 P x0 x3 x4 x5 x6 x7 h) : J x h 0 0 54 [(0, vR x0), (3, vI x3), (4, vI x4), (5, vI x5), (6, vI x6), (7, vI x7)] [] := by
  refine hw (fun x6 x7 h => J x h 0 0 54 [(0, vR x0), (3, vI x3), (4, vI x4), (5, vI x5), (6, vI x6), (7, vI x7)] []) (fun x6 x7 h hw => ?_)
  refine j_iload X (pc := 54) 5 dX1_route_54 rfl ?_
  refine j_iconst X (pc := 56) 4 dX1_route_56 (by decide) ?_
  refine j_icmp_ge X (pc := 57) 107 dX1_route_57 (by decide) hw (fun hw => ?_) (fun hw => ?_)
  · refine j_lv [(0, vR x0), (4, vI x4), (5, vI x5), (6, vI x6)] [0, 2, 3, 4] rfl ?_
    refine j_cs (u' := 0) (v' := 0) (Nat.le_of_ble_eq_true rfl) (Nat.le_of_ble_eq_true rfl) ?_
    exact wk_X1_route_107 X er en hQ x0 x4 x5 x6 h hw
  · refine j_aload_n X (pc := 60) 0 dX1_route_60 rfl rfl ?_
    refine j_getq (ci := 0) X (pc := 61) in_X1 rfl (by decide) 9 (by decide) q252 (Or.inl rfl) dX1_route_61 hw (fun y61 hw => ?_)
    refine j_iconst X (pc := 64) 4 dX1_route_64 (by decide) ?_
    refine j_iload_n X (pc := 65) 1 dX1_route_65 rfl rfl ?_
    refine j_imul X (pc := 66) dX1_route_66 ?_
    refine j_iload X (pc := 67) 5 dX1_route_67 rfl ?_
    refine j_iadd X (pc := 69) dX1_route_69 ?_
    refine j_iconst X (pc := 70) 1 dX1_route_70 (by decide) ?_
    refine j_iast X (pc := 71) 0 rfl rfl dX1_route_71 hw (fun h71 hw => ?_)
    refine j_aload_n X (pc := 72) 0 dX1_route_72 rfl rfl ?_
    refine j_getq (ci := 0) X (pc := 73) in_X1 rfl (by decide) 10 (by decide) q253 (Or.inl rfl) dX1_route_73 hw (fun y73 hw => ?_)
    refine j_iload X (pc := 76) 4 dX1_route_76 rfl ?_
    refine j_iconst X (pc := 78) 4 dX1_route_78 (by decide) ?_
    refine j_iload_n X (pc := 79) 1 dX1_route_79 rfl rfl ?_
    refine j_imul X (pc := 80) dX1_route_80 ?_
    refine j_iload X (pc := 81) 5 dX1_route_81 rfl ?_
    refine j_iadd X (pc := 83) dX1_route_83 ?_
    refine j_iast X (pc := 84) 0 rfl rfl dX1_route_84 hw (fun h84 hw => ?_)
    refine j_aload_n X (pc := 85) 0 dX1_route_85 rfl rfl ?_
    refine j_getq (ci := 0) X (pc := 86) in_X1 rfl (by decide) 11 (by decide) q254 (Or.inl rfl) dX1_route_86 hw (fun y86 hw => ?_)
    refine j_aload_n X (pc := 89) 0 dX1_route_89 rfl rfl ?_
    refine j_getq (ci := 0) X (pc := 90) in_X1 rfl (by decide) 10 (by decide) q253 (Or.inl rfl) dX1_route_90 hw (fun y90 hw => ?_)
    refine j_iload X (pc := 93) 4 dX1_route_93 rfl ?_
    refine j_iald X (pc := 95) 0 rfl dX1_route_95 hw (fun y95 hw => ?_)
    refine j_iconst X (pc := 96) 1 dX1_route_96 (by decide) ?_
    refine j_zast X (pc := 97) 1 rfl rfl ⟨rfl, rfl⟩ dX1_route_97 hw (fun h97 hw => ?_)
    refine j_iinc X (pc := 98) 4 (x6 + 1) [(6, vI (x6 + 1)), (0, vR x0), (3, vI x3), (4, vI x4), (5, vI x5), (7, vI x7)] dX1_route_98 rfl rfl (Nat.le_of_ble_eq_true rfl) rfl ?_
    refine j_iinc X (pc := 101) 5 (x7 + 1) [(7, vI (x7 + 1)), (6, vI (x6 + 1)), (0, vR x0), (3, vI x3), (4, vI x4), (5, vI x5)] dX1_route_101 rfl rfl (Nat.le_of_ble_eq_true rfl) rfl ?_
    refine j_goto X (pc := 104) 54 dX1_route_104 (by decide) ?_
    refine j_lv [(0, vR x0), (3, vI x3), (4, vI x4), (5, vI x5), (6, vI (x6 + 1)), (7, vI (x7 + 1))] [2, 3, 4, 5, 1, 0] rfl ?_
    refine j_cs (u' := 0) (v' := 0) (Nat.le_of_ble_eq_true rfl) (Nat.le_of_ble_eq_true rfl) ?_
    exact hw
theorem met_X1_route (l : Launch) (hlt : l.stackTraces = false) (G : GG) (h : AH) (a0 : Option Nat) (a1 : Option Nat) (a2 : Option Nat) (P : Int32 → AH → Prop) (hw : w_X1_route a0 a1 a2 h P) : ct_i l yX1_route (ws_ yX1_route cX1_route 11 (Option.some Jvm.ClassFile.FieldType.int)) rm_X1_route G h [vR a0, vR a1, vR a2] P := by
  refine j_starti hlt [(0, vR a0), (1, vR a1), (2, vR a2)] (plainFor_of_name (by decide)) rfl rfl (fun x X eG er en hQ => ?_)
  subst eG
  refine j_aload_n X (pc := 0) 0 dX1_route_0 rfl rfl ?_
  refine j_aload_n X (pc := 1) 1 dX1_route_1 rfl rfl ?_
  obtain ⟨b9, c9, f9, hr9, ho9, hc9, hw⟩ := hw
  obtain rfl := List.mem_singleton.mp hc9
  refine j_callv (j_runV (n8 := 1) (As := [vR a1]) (rest := []) X (pc := 2) hr9 (met_X1_layFree (xl x) X.hl (xG x) h a0 a1 _ hw) ho9 (by decide) rfl q1531 q1533 qs20 q71 q1534 (by decide +kernel) dX1_route_2 rfl ⟨Nat.le_of_ble_eq_true rfl, Nat.le_of_ble_eq_true rfl⟩ (Nat.le_of_ble_eq_true rfl) ⟨Nat.le_of_ble_eq_true rfl, Nat.le_of_ble_eq_true rfl⟩) (fun h2 hw => ?_)
  refine j_aload_n X (pc := 5) 0 dX1_route_5 rfl rfl ?_
  refine j_aload_n X (pc := 6) 1 dX1_route_6 rfl rfl ?_
  refine j_aload_n X (pc := 7) 2 dX1_route_7 rfl rfl ?_
  obtain ⟨b9, c9, f9, hr9, ho9, hc9, hw⟩ := hw
  obtain rfl := List.mem_singleton.mp hc9
  refine j_callq (j_runV (n8 := 0) (As := []) (rest := [vR a1, vR a0]) X (pc := 8) hr9 (met_X15_from (xl x) X.hl (xG x) h2 a2 _ hw) ho9 (by decide) rfl q1535 q1303 q1304 q113 q1305 (by decide +kernel) dX1_route_8 rfl ⟨Nat.le_of_ble_eq_true rfl, Nat.le_of_ble_eq_true rfl⟩ (Nat.le_of_ble_eq_true rfl) ⟨Nat.le_of_ble_eq_true rfl, Nat.le_of_ble_eq_true rfl⟩) (fun y8 h8 hw => ?_)
  obtain ⟨b9, c9, f9, hr9, ho9, hc9, hw⟩ := hw
  obtain rfl := List.mem_singleton.mp hc9
  refine j_calli (j_runV (n8 := 2) (As := [vR a1, vR y8]) (rest := []) X (pc := 11) hr9 (met_X1_cellOf (xl x) X.hl (xG x) h8 a0 a1 y8 _ hw) ho9 (by decide) rfl q1536 q1538 qs21 q71 q1539 (by decide +kernel) dX1_route_11 rfl ⟨Nat.le_of_ble_eq_true rfl, Nat.le_of_ble_eq_true rfl⟩ (Nat.le_of_ble_eq_true rfl) ⟨Nat.le_of_ble_eq_true rfl, Nat.le_of_ble_eq_true rfl⟩) (fun y11 h11 hw => ?_)
  refine j_istore_n X (pc := 14) [(3, vI y11), (0, vR a0), (1, vR a1), (2, vR a2)] dX1_route_14 rfl (Nat.le_of_ble_eq_true rfl) rfl ?_
  refine j_aload_n X (pc := 15) 1 dX1_route_15 rfl rfl ?_
  refine j_aload_n X (pc := 16) 2 dX1_route_16 rfl rfl ?_
  refine j_aload_n X (pc := 17) 3 dX1_route_17 rfl rfl ?_
  obtain ⟨b9, c9, f9, hr9, ho9, hc9, hw⟩ := hw
  obtain rfl := List.mem_singleton.mp hc9
  refine j_callq (j_runV (n8 := 0) (As := []) (rest := [vR a1, vR a0]) X (pc := 18) hr9 (met_X15_to (xl x) X.hl (xG x) h11 a2 _ hw) ho9 (by decide) rfl q1548 q1311 q1312 q113 q1313 (by decide +kernel) dX1_route_18 rfl ⟨Nat.le_of_ble_eq_true rfl, Nat.le_of_ble_eq_true rfl⟩ (Nat.le_of_ble_eq_true rfl) ⟨Nat.le_of_ble_eq_true rfl, Nat.le_of_ble_eq_true rfl⟩) (fun y18 h18 hw => ?_)
  obtain ⟨b9, c9, f9, hr9, ho9, hc9, hw⟩ := hw
  obtain rfl := List.mem_singleton.mp hc9
  refine j_calli (j_runV (n8 := 2) (As := [vR a1, vR y18]) (rest := []) X (pc := 21) hr9 (met_X1_cellOf (xl x) X.hl (xG x) h18 a0 a1 y18 _ hw) ho9 (by decide) rfl q1536 q1538 qs21 q71 q1539 (by decide +kernel) dX1_route_21 rfl ⟨Nat.le_of_ble_eq_true rfl, Nat.le_of_ble_eq_true rfl⟩ (Nat.le_of_ble_eq_true rfl) ⟨Nat.le_of_ble_eq_true rfl, Nat.le_of_ble_eq_true rfl⟩) (fun y21 h21 hw => ?_)
  refine j_istore X (pc := 24) [(4, vI y21), (3, vI y11), (0, vR a0), (1, vR a1), (2, vR a2)] dX1_route_24 (Nat.le_of_ble_eq_true rfl) rfl ?_
  refine j_iload_n X (pc := 26) 1 dX1_route_26 rfl rfl ?_
  refine j_iconst X (pc := 27) (-1) dX1_route_27 (by decide) ?_
  refine j_icmp_eq X (pc := 28) 37 dX1_route_28 (by decide) hw (fun hw => ?_) (fun hw => ?_)
  · refine j_ldcw X (pc := 37) dX1_route_37 q1549 ?_
    exact j_iret X (pc := 40) hQ er (Nat.le_of_ble_eq_true rfl) (Nat.le_of_ble_eq_true rfl) dX1_route_40 hw
  · refine j_iload X (pc := 31) 0 dX1_route_31 rfl ?_
    refine j_iconst X (pc := 33) (-1) dX1_route_33 (by decide) ?_
    refine j_icmp_ne X (pc := 34) 41 dX1_route_34 (by decide) hw (fun hw => ?_) (fun hw => ?_)
    · refine j_ldcw X (pc := 37) dX1_route_37 q1549 ?_
      exact j_iret X (pc := 40) hQ er (Nat.le_of_ble_eq_true rfl) (Nat.le_of_ble_eq_true rfl) dX1_route_40 hw
    · refine j_aload_n X (pc := 41) 2 dX1_route_41 rfl rfl ?_
      obtain ⟨b9, c9, f9, hr9, ho9, hc9, hw⟩ := hw
      obtain rfl := List.mem_singleton.mp hc9
      refine j_callv (j_runV (n8 := 0) (As := []) (rest := []) X (pc := 42) hr9 (met_X1_clearCosts (xl x) X.hl (xG x) h21 a0 _ hw) ho9 (by decide) rfl q1550 q1552 qs22 q71 q1553 (by decide +kernel) dX1_route_42 rfl ⟨Nat.le_of_ble_eq_true rfl, Nat.le_of_ble_eq_true rfl⟩ (Nat.le_of_ble_eq_true rfl) ⟨Nat.le_of_ble_eq_true rfl, Nat.le_of_ble_eq_true rfl⟩) (fun h42 hw => ?_)
      refine j_iconst X (pc := 45) 0 dX1_route_45 (by decide) ?_
      refine j_istore X (pc := 46) [(5, vI 0), (4, vI y21), (3, vI y11), (0, vR a0), (1, vR a1), (2, vR a2)] dX1_route_46 (Nat.le_of_ble_eq_true rfl) rfl ?_
      refine j_iconst X (pc := 48) 0 dX1_route_48 (by decide) ?_
      refine j_istore X (pc := 49) [(6, vI 0), (5, vI 0), (4, vI y21), (3, vI y11), (0, vR a0), (1, vR a1), (2, vR a2)] dX1_route_49 (Nat.le_of_ble_eq_true rfl) rfl ?_
      refine j_iconst X (pc := 51) 0 dX1_route_51 (by decide) ?_
      refine j_istore X (pc := 52) [(7, vI 0), (6, vI 0), (5, vI 0), (4, vI y21), (3, vI y11), (0, vR a0), (1, vR a1), (2, vR a2)] dX1_route_52 (Nat.le_of_ble_eq_true rfl) rfl ?_
      refine j_lv [(0, vR a0), (3, vI y11), (4, vI y21), (5, vI 0), (6, vI 0), (7, vI 0)] [5, 4, 3, 2, 1, 0] rfl ?_
      refine j_cs (u' := 0) (v' := 0) (Nat.le_of_ble_eq_true rfl) (Nat.le_of_ble_eq_true rfl) ?_
      exact wk_X1_route_54 X er en hQ a0 y11 y21 0 0 0 h42 hw
abbrev cX1_requireWay : ByteArray := prog_1_method_70_code
def yX1_requireWay : MethodName := ⟨RX1, "requireWay", "(I)I"⟩
def dkwX1_requireWay_0 : List UInt8 := [27, 19, 1, 134, 162, 0, 7, 4, 167, 0, 4, 3, 184, 0, 232, 27, 172]
abbrev dktX1_requireWay_0 : List UInt8 := dkwX1_requireWay_0 ++ []
theorem dksX1_requireWay_0 : cX1_requireWay.data.toList.drop 0 = dktX1_requireWay_0 := by decide +kernel
theorem dX1_requireWay_0 : decode cX1_requireWay 0 = .ok (.iload_n 1, 1) := dk_27 (dk_at dksX1_requireWay_0 0 rfl rfl)
theorem dX1_requireWay_1 : decode cX1_requireWay 1 = .ok (.ldc_w 390, 3) := dk_19 1 134 (dk_at dksX1_requireWay_0 1 rfl rfl)
theorem dX1_requireWay_4 : decode cX1_requireWay 4 = .ok (.if_icmp .ge 7, 3) := dk_162 0 7 (dk_at dksX1_requireWay_0 4 rfl rfl)
theorem dX1_requireWay_7 : decode cX1_requireWay 7 = .ok (.iconst 1, 1) := dk_4 (dk_at dksX1_requireWay_0 7 rfl rfl)
theorem dX1_requireWay_8 : decode cX1_requireWay 8 = .ok (.goto 4, 3) := dk_167 0 4 (dk_at dksX1_requireWay_0 8 rfl rfl)
theorem dX1_requireWay_11 : decode cX1_requireWay 11 = .ok (.iconst 0, 1) := dk_3 (dk_at dksX1_requireWay_0 11 rfl rfl)
theorem dX1_requireWay_12 : decode cX1_requireWay 12 = .ok (.invokestatic 232, 3) := dk_184 0 232 (dk_at dksX1_requireWay_0 12 rfl rfl)
theorem dX1_requireWay_15 : decode cX1_requireWay 15 = .ok (.iload_n 1, 1) := dk_27 (dk_at dksX1_requireWay_0 15 rfl rfl)
theorem dX1_requireWay_16 : decode cX1_requireWay 16 = .ok (.ireturn, 1) := dk_172 (dk_at dksX1_requireWay_0 16 rfl rfl)
abbrev rm_X1_requireWay : Room := { frames := 7, cells := 1, slots := 6, locals := 101 }
def w_X1_requireWay (a0 : Option Nat) (a1 : Int32) (h : AH) (P : Int32 → AH → Prop) (PX : String → AH → Prop) : Prop :=
  ((1000000 ≤ a1 →
    w_X1_requireSupported 0 h (fun h12 =>
    P a1 h12) PX) ∧
   (¬ 1000000 ≤ a1 →
    w_X1_requireSupported 1 h (fun h12 =>
    P a1 h12) PX))
theorem met_X1_requireWay (l : Launch) (hlt : l.stackTraces = false) (G : GG) (h : AH) (a0 : Option Nat) (a1 : Int32) (P : Int32 → AH → Prop) (PX : String → AH → Prop) (hw : w_X1_requireWay a0 a1 h P PX) : cx_i l yX1_requireWay (ws_ yX1_requireWay cX1_requireWay 2 (Option.some Jvm.ClassFile.FieldType.int)) rm_X1_requireWay G h [vR a0, vI a1] P PX := by
  refine j_startXi hlt [(0, vR a0), (1, vI a1)] (by decide) rfl rfl (fun x X eG er en hQ hT hex => ?_)
  subst eG
  refine j_iload_n X (pc := 0) 1 dX1_requireWay_0 rfl rfl ?_
  refine j_ldcw X (pc := 1) dX1_requireWay_1 q1549 ?_
  refine j_icmp_ge X (pc := 4) 11 dX1_requireWay_4 (by decide) hw (fun hw => ?_) (fun hw => ?_)
  · refine j_iconst X (pc := 11) 0 dX1_requireWay_11 (by decide) ?_
    refine j_callXv (j_runSX (n8 := 1) (As := [vI 0]) (rest := []) X (pc := 12) (met_X1_requireSupported (xl x) X.hl (xG x) h 0 _ _ hw) q1097 q1098 q71 q1099 (by decide +kernel) dX1_requireWay_12 rfl ⟨Nat.le_of_ble_eq_true rfl, Nat.le_of_ble_eq_true rfl⟩ (Nat.le_of_ble_eq_true rfl) ⟨Nat.le_of_ble_eq_true rfl, Nat.le_of_ble_eq_true rfl⟩) (fun E h9 hx => j_out X hT hex (Nat.le_of_ble_eq_true rfl) (Nat.le_of_ble_eq_true rfl) hx) (fun h12 hw => ?_)
    refine j_iload_n X (pc := 15) 1 dX1_requireWay_15 rfl rfl ?_
    exact j_iret X (pc := 16) hQ er (Nat.le_of_ble_eq_true rfl) (Nat.le_of_ble_eq_true rfl) dX1_requireWay_16 hw
  · refine j_iconst X (pc := 7) 1 dX1_requireWay_7 (by decide) ?_
    refine j_goto X (pc := 8) 12 dX1_requireWay_8 (by decide) ?_
    refine j_callXv (j_runSX (n8 := 1) (As := [vI 1]) (rest := []) X (pc := 12) (met_X1_requireSupported (xl x) X.hl (xG x) h 1 _ _ hw) q1097 q1098 q71 q1099 (by decide +kernel) dX1_requireWay_12 rfl ⟨Nat.le_of_ble_eq_true rfl, Nat.le_of_ble_eq_true rfl⟩ (Nat.le_of_ble_eq_true rfl) ⟨Nat.le_of_ble_eq_true rfl, Nat.le_of_ble_eq_true rfl⟩) (fun E h9 hx => j_out X hT hex (Nat.le_of_ble_eq_true rfl) (Nat.le_of_ble_eq_true rfl) hx) (fun h12 hw => ?_)
    refine j_iload_n X (pc := 15) 1 dX1_requireWay_15 rfl rfl ?_
    exact j_iret X (pc := 16) hQ er (Nat.le_of_ble_eq_true rfl) (Nat.le_of_ble_eq_true rfl) dX1_requireWay_16 hw
abbrev cX1_bends : ByteArray := prog_1_method_71_code
def yX1_bends : MethodName := ⟨RX1, "bends", "(II)I"⟩
def dkwX1_bends_1 : List UInt8 := [108, 172]
abbrev dktX1_bends_1 : List UInt8 := dkwX1_bends_1 ++ []
def dkwX1_bends_0 : List UInt8 := [42, 27, 182, 0, 199, 78, 42, 42, 45, 42, 45, 28, 182, 1, 46, 182, 1, 165, 182, 1, 169, 17, 3, 232]
abbrev dktX1_bends_0 : List UInt8 := dkwX1_bends_0 ++ dktX1_bends_1
theorem dksX1_bends_0 : cX1_bends.data.toList.drop 0 = dktX1_bends_0 := by decide +kernel
theorem dksX1_bends_1 : cX1_bends.data.toList.drop 24 = dktX1_bends_1 := dk_seg dksX1_bends_0 24 rfl rfl
theorem dX1_bends_0 : decode cX1_bends 0 = .ok (.aload_n 0, 1) := dk_42 (dk_at dksX1_bends_0 0 rfl rfl)
theorem dX1_bends_1 : decode cX1_bends 1 = .ok (.iload_n 1, 1) := dk_27 (dk_at dksX1_bends_0 1 rfl rfl)
theorem dX1_bends_2 : decode cX1_bends 2 = .ok (.invokevirtual 199, 3) := dk_182 0 199 (dk_at dksX1_bends_0 2 rfl rfl)
theorem dX1_bends_5 : decode cX1_bends 5 = .ok (.astore_n 3, 1) := dk_78 (dk_at dksX1_bends_0 5 rfl rfl)
theorem dX1_bends_6 : decode cX1_bends 6 = .ok (.aload_n 0, 1) := dk_42 (dk_at dksX1_bends_0 6 rfl rfl)
theorem dX1_bends_7 : decode cX1_bends 7 = .ok (.aload_n 0, 1) := dk_42 (dk_at dksX1_bends_0 7 rfl rfl)
theorem dX1_bends_8 : decode cX1_bends 8 = .ok (.aload_n 3, 1) := dk_45 (dk_at dksX1_bends_0 8 rfl rfl)
theorem dX1_bends_9 : decode cX1_bends 9 = .ok (.aload_n 0, 1) := dk_42 (dk_at dksX1_bends_0 9 rfl rfl)
theorem dX1_bends_10 : decode cX1_bends 10 = .ok (.aload_n 3, 1) := dk_45 (dk_at dksX1_bends_0 10 rfl rfl)
theorem dX1_bends_11 : decode cX1_bends 11 = .ok (.iload_n 2, 1) := dk_28 (dk_at dksX1_bends_0 11 rfl rfl)
theorem dX1_bends_12 : decode cX1_bends 12 = .ok (.invokevirtual 302, 3) := dk_182 1 46 (dk_at dksX1_bends_0 12 rfl rfl)
theorem dX1_bends_15 : decode cX1_bends 15 = .ok (.invokevirtual 421, 3) := dk_182 1 165 (dk_at dksX1_bends_0 15 rfl rfl)
theorem dX1_bends_18 : decode cX1_bends 18 = .ok (.invokevirtual 425, 3) := dk_182 1 169 (dk_at dksX1_bends_0 18 rfl rfl)
theorem dX1_bends_21 : decode cX1_bends 21 = .ok (.sipush 1000, 3) := dk_17 3 232 (dk_at dksX1_bends_0 21 rfl rfl)
theorem dX1_bends_24 : decode cX1_bends 24 = .ok (.idiv, 1) := dk_108 (dk_at dksX1_bends_1 0 rfl rfl)
theorem dX1_bends_25 : decode cX1_bends 25 = .ok (.ireturn, 1) := dk_172 (dk_at dksX1_bends_1 1 rfl rfl)
theorem q1527 : (Jvm.Cond.methodLink "Plugboard" (421 : Nat) ({ cls := "Plugboard", name := "route", desc := "(LPlugboard$Board;LPlugboard$Connector;)I" } : Jvm.MethodName)) ∈ lw_all := lw_g (lw_at lw_m7 17 rfl) rfl
theorem q1529 : (Jvm.Cond.instanceMethod ({ cls := "Plugboard", name := "route", desc := "(LPlugboard$Board;LPlugboard$Connector;)I" } : Jvm.MethodName)) ∈ lw_all := lw_g (lw_at lw_m7 19 rfl) rfl
theorem q1530 : (Jvm.Cond.code ({ cls := "Plugboard", name := "route", desc := "(LPlugboard$Board;LPlugboard$Connector;)I" } : Jvm.MethodName) prog_1_method_68_code (11 : Nat) (Option.some Jvm.ClassFile.FieldType.int)) ∈ lw_all := lw_g (lw_at lw_m7 20 rfl) rfl
theorem q1566 : (Jvm.Cond.methodLink "Plugboard" (425 : Nat) ({ cls := "Plugboard", name := "requireWay", desc := "(I)I" } : Jvm.MethodName)) ∈ lw_all := lw_g (lw_at lw_m7 56 rfl) rfl
theorem q1568 : (Jvm.Cond.instanceMethod ({ cls := "Plugboard", name := "requireWay", desc := "(I)I" } : Jvm.MethodName)) ∈ lw_all := lw_g (lw_at lw_m7 58 rfl) rfl
theorem q1569 : (Jvm.Cond.code ({ cls := "Plugboard", name := "requireWay", desc := "(I)I" } : Jvm.MethodName) prog_1_method_70_code (2 : Nat) (Option.some Jvm.ClassFile.FieldType.int)) ∈ lw_all := lw_g (lw_at lw_m7 59 rfl) rfl
abbrev rm_X1_bends : Room := { frames := 9, cells := 4, slots := 19, locals := 146 }
def w_X1_bends (a0 : Option Nat) (a1 : Int32) (a2 : Int32) (h : AH) (P : Int32 → AH → Prop) (PX : String → AH → Prop) : Prop :=
  is_c h a0 [0] (
  w_X1_board a0 a1 h (fun y2 h2 =>
  is_c h2 a0 [0] (
  w_X1_connector a0 y2 a2 h2 (fun y12 h12 =>
  is_c h12 a0 [0] (
  w_X1_route a0 y2 y12 h12 (fun y15 h15 =>
  is_c h15 a0 [0] (
  w_X1_requireWay a0 y15 h15 (fun y18 h18 =>
  ¬ (1000 : Int32) = 0 ∧
  P (y18 / 1000) h18) PX)))) PX)) PX)
theorem met_X1_bends (l : Launch) (hlt : l.stackTraces = false) (G : GG) (h : AH) (a0 : Option Nat) (a1 : Int32) (a2 : Int32) (P : Int32 → AH → Prop) (PX : String → AH → Prop) (hw : w_X1_bends a0 a1 a2 h P PX) : cx_i l yX1_bends (ws_ yX1_bends cX1_bends 4 (Option.some Jvm.ClassFile.FieldType.int)) rm_X1_bends G h [vR a0, vI a1, vI a2] P PX := by
  refine j_startXi hlt [(0, vR a0), (1, vI a1), (2, vI a2)] (by decide) rfl rfl (fun x X eG er en hQ hT hex => ?_)
  subst eG
  refine j_aload_n X (pc := 0) 0 dX1_bends_0 rfl rfl ?_
  refine j_iload_n X (pc := 1) 1 dX1_bends_1 rfl rfl ?_
  obtain ⟨b9, c9, f9, hr9, ho9, hc9, hw⟩ := hw
  obtain rfl := List.mem_singleton.mp hc9
  refine j_callXq (j_runVX (n8 := 1) (As := [vI a1]) (rest := []) X (pc := 2) hr9 (met_X1_board (xl x) X.hl (xG x) h a0 a1 _ _ hw) ho9 (by decide) rfl q297 q299 qs0 q71 q300 (by decide +kernel) dX1_bends_2 rfl ⟨Nat.le_of_ble_eq_true rfl, Nat.le_of_ble_eq_true rfl⟩ (Nat.le_of_ble_eq_true rfl) ⟨Nat.le_of_ble_eq_true rfl, Nat.le_of_ble_eq_true rfl⟩) (fun E h9 hx => j_out X hT hex (Nat.le_of_ble_eq_true rfl) (Nat.le_of_ble_eq_true rfl) hx) (fun y2 h2 hw => ?_)
  refine j_astore_n X (pc := 5) [(3, vR y2), (0, vR a0), (1, vI a1), (2, vI a2)] dX1_bends_5 rfl (Nat.le_of_ble_eq_true rfl) rfl ?_
  refine j_aload_n X (pc := 6) 1 dX1_bends_6 rfl rfl ?_
  refine j_aload_n X (pc := 7) 1 dX1_bends_7 rfl rfl ?_
  refine j_aload_n X (pc := 8) 0 dX1_bends_8 rfl rfl ?_
  refine j_aload_n X (pc := 9) 1 dX1_bends_9 rfl rfl ?_
  refine j_aload_n X (pc := 10) 0 dX1_bends_10 rfl rfl ?_
  refine j_iload_n X (pc := 11) 3 dX1_bends_11 rfl rfl ?_
  obtain ⟨b9, c9, f9, hr9, ho9, hc9, hw⟩ := hw
  obtain rfl := List.mem_singleton.mp hc9
  refine j_callXq (j_runVX (n8 := 2) (As := [vR y2, vI a2]) (rest := [vR y2, vR a0, vR a0]) X (pc := 12) hr9 (met_X1_connector (xl x) X.hl (xG x) h2 a0 y2 a2 _ _ hw) ho9 (by decide) rfl q1293 q1295 qs14 q71 q1296 (by decide +kernel) dX1_bends_12 rfl ⟨Nat.le_of_ble_eq_true rfl, Nat.le_of_ble_eq_true rfl⟩ (Nat.le_of_ble_eq_true rfl) ⟨Nat.le_of_ble_eq_true rfl, Nat.le_of_ble_eq_true rfl⟩) (fun E h9 hx => j_out X hT hex (Nat.le_of_ble_eq_true rfl) (Nat.le_of_ble_eq_true rfl) hx) (fun y12 h12 hw => ?_)
  obtain ⟨b9, c9, f9, hr9, ho9, hc9, hw⟩ := hw
  obtain rfl := List.mem_singleton.mp hc9
  refine j_calli (j_runV (n8 := 2) (As := [vR y2, vR y12]) (rest := [vR a0]) X (pc := 15) hr9 (met_X1_route (xl x) X.hl (xG x) h12 a0 y2 y12 _ hw) ho9 (by decide) rfl q1527 q1529 qs19 q71 q1530 (by decide +kernel) dX1_bends_15 rfl ⟨Nat.le_of_ble_eq_true rfl, Nat.le_of_ble_eq_true rfl⟩ (Nat.le_of_ble_eq_true rfl) ⟨Nat.le_of_ble_eq_true rfl, Nat.le_of_ble_eq_true rfl⟩) (fun y15 h15 hw => ?_)
  obtain ⟨b9, c9, f9, hr9, ho9, hc9, hw⟩ := hw
  obtain rfl := List.mem_singleton.mp hc9
  refine j_callXi (j_runVX (n8 := 1) (As := [vI y15]) (rest := []) X (pc := 18) hr9 (met_X1_requireWay (xl x) X.hl (xG x) h15 a0 y15 _ _ hw) ho9 (by decide) rfl q1566 q1568 qs25 q71 q1569 (by decide +kernel) dX1_bends_18 rfl ⟨Nat.le_of_ble_eq_true rfl, Nat.le_of_ble_eq_true rfl⟩ (Nat.le_of_ble_eq_true rfl) ⟨Nat.le_of_ble_eq_true rfl, Nat.le_of_ble_eq_true rfl⟩) (fun E h9 hx => j_out X hT hex (Nat.le_of_ble_eq_true rfl) (Nat.le_of_ble_eq_true rfl) hx) (fun y18 h18 hw => ?_)
  refine j_sipush X (pc := 21) 1000 dX1_bends_21 (by decide) ?_
  refine j_idiv X (pc := 24) dX1_bends_24 hw (fun hw => ?_)
  exact j_iret X (pc := 25) hQ er (Nat.le_of_ble_eq_true rfl) (Nat.le_of_ble_eq_true rfl) dX1_bends_25 hw
abbrev cX0_bends : ByteArray := method_34_code
def yX0_bends : MethodName := ⟨RX0, "bends", "(LPlugboard;II[J)I"⟩
def dkwX0_bends_1 : List UInt8 := [172, 3, 172]
abbrev dktX0_bends_1 : List UInt8 := dkwX0_bends_1 ++ []
def dkwX0_bends_0 : List UInt8 := [45, 3, 42, 27, 28, 182, 0, 121, 133, 80, 167, 0, 15, 58, 4, 4, 172, 58, 4, 5, 172, 58, 4, 6]
abbrev dktX0_bends_0 : List UInt8 := dkwX0_bends_0 ++ dktX0_bends_1
theorem dksX0_bends_0 : cX0_bends.data.toList.drop 0 = dktX0_bends_0 := by decide +kernel
theorem dksX0_bends_1 : cX0_bends.data.toList.drop 24 = dktX0_bends_1 := dk_seg dksX0_bends_0 24 rfl rfl
theorem dX0_bends_0 : decode cX0_bends 0 = .ok (.aload_n 3, 1) := dk_45 (dk_at dksX0_bends_0 0 rfl rfl)
theorem dX0_bends_1 : decode cX0_bends 1 = .ok (.iconst 0, 1) := dk_3 (dk_at dksX0_bends_0 1 rfl rfl)
theorem dX0_bends_2 : decode cX0_bends 2 = .ok (.aload_n 0, 1) := dk_42 (dk_at dksX0_bends_0 2 rfl rfl)
theorem dX0_bends_3 : decode cX0_bends 3 = .ok (.iload_n 1, 1) := dk_27 (dk_at dksX0_bends_0 3 rfl rfl)
theorem dX0_bends_4 : decode cX0_bends 4 = .ok (.iload_n 2, 1) := dk_28 (dk_at dksX0_bends_0 4 rfl rfl)
theorem dX0_bends_5 : decode cX0_bends 5 = .ok (.invokevirtual 121, 3) := dk_182 0 121 (dk_at dksX0_bends_0 5 rfl rfl)
theorem dX0_bends_8 : decode cX0_bends 8 = .ok (.i2l, 1) := dk_133 (dk_at dksX0_bends_0 8 rfl rfl)
theorem dX0_bends_9 : decode cX0_bends 9 = .ok (.lastore, 1) := dk_80 (dk_at dksX0_bends_0 9 rfl rfl)
theorem dX0_bends_10 : decode cX0_bends 10 = .ok (.goto 15, 3) := dk_167 0 15 (dk_at dksX0_bends_0 10 rfl rfl)
theorem dX0_bends_13 : decode cX0_bends 13 = .ok (.astore 4, 2) := dk_58 4 (dk_at dksX0_bends_0 13 rfl rfl)
theorem dX0_bends_15 : decode cX0_bends 15 = .ok (.iconst 1, 1) := dk_4 (dk_at dksX0_bends_0 15 rfl rfl)
theorem dX0_bends_16 : decode cX0_bends 16 = .ok (.ireturn, 1) := dk_172 (dk_at dksX0_bends_0 16 rfl rfl)
theorem dX0_bends_17 : decode cX0_bends 17 = .ok (.astore 4, 2) := dk_58 4 (dk_at dksX0_bends_0 17 rfl rfl)
theorem dX0_bends_19 : decode cX0_bends 19 = .ok (.iconst 2, 1) := dk_5 (dk_at dksX0_bends_0 19 rfl rfl)
theorem dX0_bends_20 : decode cX0_bends 20 = .ok (.ireturn, 1) := dk_172 (dk_at dksX0_bends_0 20 rfl rfl)
theorem dX0_bends_21 : decode cX0_bends 21 = .ok (.astore 4, 2) := dk_58 4 (dk_at dksX0_bends_0 21 rfl rfl)
theorem dX0_bends_23 : decode cX0_bends 23 = .ok (.iconst 3, 1) := dk_6 (dk_at dksX0_bends_0 23 rfl rfl)
theorem dX0_bends_24 : decode cX0_bends 24 = .ok (.ireturn, 1) := dk_172 (dk_at dksX0_bends_1 0 rfl rfl)
theorem dX0_bends_25 : decode cX0_bends 25 = .ok (.iconst 0, 1) := dk_3 (dk_at dksX0_bends_1 1 rfl rfl)
theorem dX0_bends_26 : decode cX0_bends 26 = .ok (.ireturn, 1) := dk_172 (dk_at dksX0_bends_1 2 rfl rfl)
theorem q1523 : (Jvm.Cond.methodLink "PlugboardLaw" (121 : Nat) ({ cls := "Plugboard", name := "bends", desc := "(II)I" } : Jvm.MethodName)) ∈ lw_all := lw_g (lw_at lw_m7 13 rfl) rfl
theorem q1524 : (Jvm.Cond.instanceMethod ({ cls := "Plugboard", name := "bends", desc := "(II)I" } : Jvm.MethodName)) ∈ lw_all := lw_g (lw_at lw_m7 14 rfl) rfl
theorem q1525 : (Jvm.Cond.selects "Plugboard" ({ cls := "Plugboard", name := "bends", desc := "(II)I" } : Jvm.MethodName) ({ cls := "Plugboard", name := "bends", desc := "(II)I" } : Jvm.MethodName)) ∈ lw_all := lw_g (lw_at lw_m7 15 rfl) rfl
theorem q1526 : (Jvm.Cond.code ({ cls := "Plugboard", name := "bends", desc := "(II)I" } : Jvm.MethodName) prog_1_method_71_code (4 : Nat) (Option.some Jvm.ClassFile.FieldType.int)) ∈ lw_all := lw_g (lw_at lw_m7 16 rfl) rfl
abbrev rm_X0_bends : Room := { frames := 10, cells := 4, slots := 19, locals := 169 }
def w_X0_bends (a0 : Option Nat) (a1 : Int32) (a2 : Int32) (a3 : Option Nat) (h : AH) (P : Int32 → AH → Prop) : Prop :=
  is_c h a0 [0] (
  w_X1_bends a0 a1 a2 h (fun y5 h5 =>
  s_L h5 a3 0 (Int32.toInt64 y5) fun h9 =>
  P 0 h9)
    (fun E9 h9 => (E9 = "java/lang/IllegalArgumentException" ∧ ∀ q9 : Nat,
    P 1 h9) ∨
    (E9 = "java/util/NoSuchElementException" ∧ ∀ q9 : Nat,
    P 2 h9) ∨
    (E9 = "java/lang/UnsupportedOperationException" ∧ ∀ q9 : Nat,
    P 3 h9)))
theorem met_X0_bends (l : Launch) (hlt : l.stackTraces = false) (G : GG) (h : AH) (a0 : Option Nat) (a1 : Int32) (a2 : Int32) (a3 : Option Nat) (P : Int32 → AH → Prop) (hw : w_X0_bends a0 a1 a2 a3 h P) : ct_i l yX0_bends (wsW_ yX0_bends cX0_bends 5 (Option.some Jvm.ClassFile.FieldType.int) [((0 : Nat), (10 : Nat), (13 : Nat), (13 : Nat)), ((0 : Nat), (10 : Nat), (17 : Nat), (21 : Nat)), ((0 : Nat), (10 : Nat), (21 : Nat), (23 : Nat))]) rm_X0_bends G h [vR a0, vI a1, vI a2, vR a3] P := by
  refine j_startWi hlt [(0, vR a0), (1, vI a1), (2, vI a2), (3, vR a3)] (by decide) rfl rfl (fun x X eG er en hQ hex => ?_)
  subst eG
  refine j_aload_n X (pc := 0) 3 dX0_bends_0 rfl rfl ?_
  refine j_iconst X (pc := 1) 0 dX0_bends_1 (by decide) ?_
  refine j_aload_n X (pc := 2) 0 dX0_bends_2 rfl rfl ?_
  refine j_iload_n X (pc := 3) 1 dX0_bends_3 rfl rfl ?_
  refine j_iload_n X (pc := 4) 2 dX0_bends_4 rfl rfl ?_
  obtain ⟨b9, c9, f9, hr9, ho9, hc9, hw⟩ := hw
  obtain rfl := List.mem_singleton.mp hc9
  refine j_callXi (j_runVX (n8 := 2) (As := [vI a1, vI a2]) (rest := [vI 0, vR a3]) X (pc := 5) hr9 (met_X1_bends (xl x) X.hl (xG x) h a0 a1 a2 _ _ hw) ho9 (by decide) rfl q1523 q1524 q1525 q71 q1526 (by decide +kernel) dX0_bends_5 rfl ⟨Nat.le_of_ble_eq_true rfl, Nat.le_of_ble_eq_true rfl⟩ (Nat.le_of_ble_eq_true rfl) ⟨Nat.le_of_ble_eq_true rfl, Nat.le_of_ble_eq_true rfl⟩) ?_ (fun y5 h5 hw => ?_)
  · intro E9 h9 hx
    rcases hx with ⟨rfl, hw⟩ | ⟨rfl, hw⟩ | ⟨rfl, hw⟩
    · refine j_catch X (pc := 5) "java/lang/IllegalArgumentException" hex [] [⟨0, 10, 17, 21⟩, ⟨0, 10, 21, 23⟩] ⟨0, 10, 13, 13⟩ rfl (by intro y hy; cases hy) (by decide) (by decide) q291 q312 (fun q9 => ?_)
      have hw := hw q9
      refine j_astore X (pc := 13) [(4, vR (some q9)), (0, vR a0), (1, vI a1), (2, vI a2), (3, vR a3)] dX0_bends_13 (Nat.le_of_ble_eq_true rfl) rfl ?_
      refine j_iconst X (pc := 15) 1 dX0_bends_15 (by decide) ?_
      exact j_iret X (pc := 16) hQ er (Nat.le_of_ble_eq_true rfl) (Nat.le_of_ble_eq_true rfl) dX0_bends_16 hw
    · refine j_catch X (pc := 5) "java/util/NoSuchElementException" hex [⟨0, 10, 13, 13⟩] [⟨0, 10, 21, 23⟩] ⟨0, 10, 17, 21⟩ rfl (by intro y hy; simp only [List.mem_cons, List.not_mem_nil, or_false] at hy; subst hy; exact Or.inr ⟨by decide, "java/lang/IllegalArgumentException", q291, by decide +kernel⟩) (by decide) (by decide) q1068 q537 (fun q9 => ?_)
      have hw := hw q9
      refine j_astore X (pc := 17) [(4, vR (some q9)), (0, vR a0), (1, vI a1), (2, vI a2), (3, vR a3)] dX0_bends_17 (Nat.le_of_ble_eq_true rfl) rfl ?_
      refine j_iconst X (pc := 19) 2 dX0_bends_19 (by decide) ?_
      exact j_iret X (pc := 20) hQ er (Nat.le_of_ble_eq_true rfl) (Nat.le_of_ble_eq_true rfl) dX0_bends_20 hw
    · refine j_catch X (pc := 5) "java/lang/UnsupportedOperationException" hex [⟨0, 10, 13, 13⟩, ⟨0, 10, 17, 21⟩] [] ⟨0, 10, 21, 23⟩ rfl (by intro y hy; simp only [List.mem_cons, List.not_mem_nil, or_false] at hy; rcases hy with rfl | rfl <;> first | exact Or.inr ⟨by decide, "java/lang/IllegalArgumentException", q291, by decide +kernel⟩ | exact Or.inr ⟨by decide, "java/util/NoSuchElementException", q1068, by decide +kernel⟩) (by decide) (by decide) q1069 q1102 (fun q9 => ?_)
      have hw := hw q9
      refine j_astore X (pc := 21) [(4, vR (some q9)), (0, vR a0), (1, vI a1), (2, vI a2), (3, vR a3)] dX0_bends_21 (Nat.le_of_ble_eq_true rfl) rfl ?_
      refine j_iconst X (pc := 23) 3 dX0_bends_23 (by decide) ?_
      exact j_iret X (pc := 24) hQ er (Nat.le_of_ble_eq_true rfl) (Nat.le_of_ble_eq_true rfl) dX0_bends_24 hw
  refine j_i2l X (pc := 8) dX0_bends_8 ?_
  refine j_last X (pc := 9) dX0_bends_9 hw (fun h9 hw => ?_)
  refine j_goto X (pc := 10) 25 dX0_bends_10 (by decide) ?_
  refine j_iconst X (pc := 25) 0 dX0_bends_25 (by decide) ?_
  exact j_iret X (pc := 26) hQ er (Nat.le_of_ble_eq_true rfl) (Nat.le_of_ble_eq_true rfl) dX0_bends_26 hw
