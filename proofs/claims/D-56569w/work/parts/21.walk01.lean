/-! walks (printed): Plugboard, Plugboard.Board, Plugboard.Board.1, Plugboard.Board.Seen, Plugboard.Frame, Plugboard.Panel, Plugboard.Shape, java/lang/Float, java/lang/Math, java/util/ArrayList, java/util/Arrays, java/util/Objects, jdk/internal/util/ArraysSupport, jdk/internal/util/Preconditions -/
set_option maxRecDepth 100000
abbrev cX3_sees : ByteArray := prog_3_method_3_code
def yX3_sees : MethodName := ⟨RX3, "sees", "(I)Z"⟩
def dkwX3_sees_1 : List UInt8 := [180, 0, 80, 3, 27, 96, 46, 4, 160, 0, 7, 4, 167, 0, 4, 3, 172]
abbrev dktX3_sees_1 : List UInt8 := dkwX3_sees_1 ++ []
def dkwX3_sees_0 : List UInt8 := [27, 3, 42, 180, 0, 3, 180, 0, 66, 182, 0, 70, 4, 100, 184, 0, 76, 153, 0, 22, 42, 180, 0, 18]
abbrev dktX3_sees_0 : List UInt8 := dkwX3_sees_0 ++ dktX3_sees_1
theorem dksX3_sees_0 : cX3_sees.data.toList.drop 0 = dktX3_sees_0 := by decide +kernel
theorem dksX3_sees_1 : cX3_sees.data.toList.drop 24 = dktX3_sees_1 := dk_seg dksX3_sees_0 24 rfl rfl
theorem dX3_sees_0 : decode cX3_sees 0 = .ok (.iload_n 1, 1) := dk_27 (dk_at dksX3_sees_0 0 rfl rfl)
theorem dX3_sees_1 : decode cX3_sees 1 = .ok (.iconst 0, 1) := dk_3 (dk_at dksX3_sees_0 1 rfl rfl)
theorem dX3_sees_2 : decode cX3_sees 2 = .ok (.aload_n 0, 1) := dk_42 (dk_at dksX3_sees_0 2 rfl rfl)
theorem dX3_sees_3 : decode cX3_sees 3 = .ok (.getfield 3, 3) := dk_180 0 3 (dk_at dksX3_sees_0 3 rfl rfl)
theorem dX3_sees_6 : decode cX3_sees 6 = .ok (.getfield 66, 3) := dk_180 0 66 (dk_at dksX3_sees_0 6 rfl rfl)
theorem dX3_sees_9 : decode cX3_sees 9 = .ok (.invokevirtual 70, 3) := dk_182 0 70 (dk_at dksX3_sees_0 9 rfl rfl)
theorem dX3_sees_12 : decode cX3_sees 12 = .ok (.iconst 1, 1) := dk_4 (dk_at dksX3_sees_0 12 rfl rfl)
theorem dX3_sees_13 : decode cX3_sees 13 = .ok (.isub, 1) := dk_100 (dk_at dksX3_sees_0 13 rfl rfl)
theorem dX3_sees_14 : decode cX3_sees 14 = .ok (.invokestatic 76, 3) := dk_184 0 76 (dk_at dksX3_sees_0 14 rfl rfl)
theorem dX3_sees_17 : decode cX3_sees 17 = .ok (.ifCond .eq 22, 3) := dk_153 0 22 (dk_at dksX3_sees_0 17 rfl rfl)
theorem dX3_sees_20 : decode cX3_sees 20 = .ok (.aload_n 0, 1) := dk_42 (dk_at dksX3_sees_0 20 rfl rfl)
theorem dX3_sees_21 : decode cX3_sees 21 = .ok (.getfield 18, 3) := dk_180 0 18 (dk_at dksX3_sees_0 21 rfl rfl)
theorem dX3_sees_24 : decode cX3_sees 24 = .ok (.getfield 80, 3) := dk_180 0 80 (dk_at dksX3_sees_1 0 rfl rfl)
theorem dX3_sees_27 : decode cX3_sees 27 = .ok (.iconst 0, 1) := dk_3 (dk_at dksX3_sees_1 3 rfl rfl)
theorem dX3_sees_28 : decode cX3_sees 28 = .ok (.iload_n 1, 1) := dk_27 (dk_at dksX3_sees_1 4 rfl rfl)
theorem dX3_sees_29 : decode cX3_sees 29 = .ok (.iadd, 1) := dk_96 (dk_at dksX3_sees_1 5 rfl rfl)
theorem dX3_sees_30 : decode cX3_sees 30 = .ok (.iaload, 1) := dk_46 (dk_at dksX3_sees_1 6 rfl rfl)
theorem dX3_sees_31 : decode cX3_sees 31 = .ok (.iconst 1, 1) := dk_4 (dk_at dksX3_sees_1 7 rfl rfl)
theorem dX3_sees_32 : decode cX3_sees 32 = .ok (.if_icmp .ne 7, 3) := dk_160 0 7 (dk_at dksX3_sees_1 8 rfl rfl)
theorem dX3_sees_35 : decode cX3_sees 35 = .ok (.iconst 1, 1) := dk_4 (dk_at dksX3_sees_1 11 rfl rfl)
theorem dX3_sees_36 : decode cX3_sees 36 = .ok (.goto 4, 3) := dk_167 0 4 (dk_at dksX3_sees_1 12 rfl rfl)
theorem dX3_sees_39 : decode cX3_sees 39 = .ok (.iconst 0, 1) := dk_3 (dk_at dksX3_sees_1 15 rfl rfl)
theorem dX3_sees_40 : decode cX3_sees 40 = .ok (.ireturn, 1) := dk_172 (dk_at dksX3_sees_1 16 rfl rfl)
theorem q167 : (Jvm.Cond.fieldLinkNest "Plugboard$Board" (80 : Nat) "Plugboard$Fields" "values" "[I" "Plugboard") ∈ lw_tbl := lw_at lw_m1 97 rfl
theorem q239 : (Jvm.Cond.fieldLinkNest "Plugboard$Board" (66 : Nat) "Plugboard" "shapes" "Ljava/util/ArrayList;" "Plugboard") ∈ lw_tbl := lw_at lw_m1 169 rfl
theorem q408 : (Jvm.Cond.methodLink "Plugboard$Board" (70 : Nat) ({ cls := "java/util/ArrayList", name := "size", desc := "()I" } : Jvm.MethodName)) ∈ lw_all := lw_g (lw_at lw_m2 98 rfl) rfl
theorem q413 : (Jvm.Cond.methodLinkNest "Plugboard$Board" (76 : Nat) ({ cls := "Plugboard", name := "isBetween", desc := "(III)Z" } : Jvm.MethodName) "Plugboard") ∈ lw_tbl := lw_at lw_m2 103 rfl
abbrev rm_X3_sees : Room := { frames := 1, cells := 0, slots := 0, locals := 22 }
def w_X3_sees (a0 : Option Nat) (a1 : Int32) (h : AH) (P : Int32 → AH → Prop) : Prop :=
  g_q h a0 2 5 fun y3 =>
  g_q h y3 0 0 fun y6 =>
  is_c h y6 [15] (
  w_J2_size y6 h (fun y9 h9 =>
  w_X1_isBetween a1 0 (y9 - 1) h9 (fun y14 h14 =>
  ((y14 = 0 →
    P 0 h14) ∧
   (¬ y14 = 0 →
    g_q h14 a0 2 1 fun y21 =>
    g_q h14 y21 1 0 fun y24 =>
    l_i h14 y24 0 (0 + a1) fun y30 =>
    ((y30 = 1 →
      P 1 h14) ∧
     (¬ y30 = 1 →
      P 0 h14)))))))
theorem met_X3_sees (l : Launch) (hlt : l.stackTraces = false) (G : GG) (h : AH) (a0 : Option Nat) (a1 : Int32) (P : Int32 → AH → Prop) (hw : w_X3_sees a0 a1 h P) : ct_i l yX3_sees (ws_ yX3_sees cX3_sees 2 (Option.some Jvm.ClassFile.FieldType.boolean)) rm_X3_sees G h [vR a0, vI a1] P := by
  refine j_starti hlt [(0, vR a0), (1, vI a1)] (plainFor_of_name (by decide)) rfl rfl (fun x X eG er en hQ => ?_)
  subst eG
  refine j_iload_n X (pc := 0) 1 dX3_sees_0 rfl rfl ?_
  refine j_iconst X (pc := 1) 0 dX3_sees_1 (by decide) ?_
  refine j_aload_n X (pc := 2) 0 dX3_sees_2 rfl rfl ?_
  refine j_getq (ci := 2) X (pc := 3) in_X3 rfl (by decide) 5 (by decide) q218 (Or.inl rfl) dX3_sees_3 hw (fun y3 hw => ?_)
  refine j_getqN (ci := 0) X (pc := 6) in_X1 rfl (by decide) 0 (by decide) q239 (Or.inl rfl) dX3_sees_6 hw (fun y6 hw => ?_)
  obtain ⟨b9, c9, f9, hr9, ho9, hc9, hw⟩ := hw
  obtain rfl := List.mem_singleton.mp hc9
  refine j_calli (j_runV (n8 := 0) (As := []) (rest := [vI 0, vI a1]) X (pc := 9) hr9 (met_J2_size (xl x) X.hl (xG x) h y6 _ hw) ho9 (by decide) rfl q408 q285 q286 q74 q287 (by decide +kernel) dX3_sees_9 rfl ⟨Nat.le_of_ble_eq_true rfl, Nat.le_of_ble_eq_true rfl⟩ (Nat.le_of_ble_eq_true rfl) ⟨Nat.le_of_ble_eq_true rfl, Nat.le_of_ble_eq_true rfl⟩) (fun y9 h9 hw => ?_)
  refine j_iconst X (pc := 12) 1 dX3_sees_12 (by decide) ?_
  refine j_isub X (pc := 13) dX3_sees_13 ?_
  refine j_calli (j_runSN (n8 := 3) (As := [vI a1, vI 0, vI (y9 - 1)]) (rest := []) X (pc := 14) (met_X1_isBetween (xl x) X.hl (xG x) h9 a1 0 (y9 - 1) _ hw) q413 q305 q71 q306 (by decide +kernel) dX3_sees_14 rfl ⟨Nat.le_of_ble_eq_true rfl, Nat.le_of_ble_eq_true rfl⟩ (Nat.le_of_ble_eq_true rfl) ⟨Nat.le_of_ble_eq_true rfl, Nat.le_of_ble_eq_true rfl⟩) (fun y14 h14 hw => ?_)
  refine j_if_eq X (pc := 17) 39 dX3_sees_17 (by decide) hw (fun hw => ?_) (fun hw => ?_)
  · refine j_iconst X (pc := 39) 0 dX3_sees_39 (by decide) ?_
    exact j_zret X (pc := 40) (ty := .boolean) hQ er rfl (Nat.le_of_ble_eq_true rfl) (Nat.le_of_ble_eq_true rfl) dX3_sees_40 hw
  · refine j_aload_n X (pc := 20) 0 dX3_sees_20 rfl rfl ?_
    refine j_getq (ci := 2) X (pc := 21) in_X3 rfl (by decide) 1 (by decide) q208 (Or.inl rfl) dX3_sees_21 hw (fun y21 hw => ?_)
    refine j_getqN (ci := 1) X (pc := 24) in_X2 rfl (by decide) 0 (by decide) q167 (Or.inl rfl) dX3_sees_24 hw (fun y24 hw => ?_)
    refine j_iconst X (pc := 27) 0 dX3_sees_27 (by decide) ?_
    refine j_iload_n X (pc := 28) 1 dX3_sees_28 rfl rfl ?_
    refine j_iadd X (pc := 29) dX3_sees_29 ?_
    refine j_iald X (pc := 30) 0 rfl dX3_sees_30 hw (fun y30 hw => ?_)
    refine j_iconst X (pc := 31) 1 dX3_sees_31 (by decide) ?_
    refine j_icmp_ne X (pc := 32) 39 dX3_sees_32 (by decide) hw (fun hw => ?_) (fun hw => ?_)
    · refine j_iconst X (pc := 35) 1 dX3_sees_35 (by decide) ?_
      refine j_goto X (pc := 36) 40 dX3_sees_36 (by decide) ?_
      exact j_zret X (pc := 40) (ty := .boolean) hQ er rfl (Nat.le_of_ble_eq_true rfl) (Nat.le_of_ble_eq_true rfl) dX3_sees_40 hw
    · refine j_iconst X (pc := 39) 0 dX3_sees_39 (by decide) ?_
      exact j_zret X (pc := 40) (ty := .boolean) hQ er rfl (Nat.le_of_ble_eq_true rfl) (Nat.le_of_ble_eq_true rfl) dX3_sees_40 hw
abbrev cX3_countSeen : ByteArray := prog_3_method_13_code
def yX3_countSeen : MethodName := ⟨RX3, "countSeen", "()I"⟩
def dkwX3_countSeen_1 : List UInt8 := [153, 0, 7, 4, 167, 0, 4, 3, 96, 60, 132, 2, 1, 167, 255, 223, 27, 172]
abbrev dktX3_countSeen_1 : List UInt8 := dkwX3_countSeen_1 ++ []
def dkwX3_countSeen_0 : List UInt8 := [3, 60, 3, 61, 28, 42, 180, 0, 3, 180, 0, 66, 182, 0, 70, 162, 0, 25, 27, 42, 28, 182, 0, 106]
abbrev dktX3_countSeen_0 : List UInt8 := dkwX3_countSeen_0 ++ dktX3_countSeen_1
theorem dksX3_countSeen_0 : cX3_countSeen.data.toList.drop 0 = dktX3_countSeen_0 := by decide +kernel
theorem dksX3_countSeen_1 : cX3_countSeen.data.toList.drop 24 = dktX3_countSeen_1 := dk_seg dksX3_countSeen_0 24 rfl rfl
theorem dX3_countSeen_0 : decode cX3_countSeen 0 = .ok (.iconst 0, 1) := dk_3 (dk_at dksX3_countSeen_0 0 rfl rfl)
theorem dX3_countSeen_1 : decode cX3_countSeen 1 = .ok (.istore_n 1, 1) := dk_60 (dk_at dksX3_countSeen_0 1 rfl rfl)
theorem dX3_countSeen_2 : decode cX3_countSeen 2 = .ok (.iconst 0, 1) := dk_3 (dk_at dksX3_countSeen_0 2 rfl rfl)
theorem dX3_countSeen_3 : decode cX3_countSeen 3 = .ok (.istore_n 2, 1) := dk_61 (dk_at dksX3_countSeen_0 3 rfl rfl)
theorem dX3_countSeen_4 : decode cX3_countSeen 4 = .ok (.iload_n 2, 1) := dk_28 (dk_at dksX3_countSeen_0 4 rfl rfl)
theorem dX3_countSeen_5 : decode cX3_countSeen 5 = .ok (.aload_n 0, 1) := dk_42 (dk_at dksX3_countSeen_0 5 rfl rfl)
theorem dX3_countSeen_6 : decode cX3_countSeen 6 = .ok (.getfield 3, 3) := dk_180 0 3 (dk_at dksX3_countSeen_0 6 rfl rfl)
theorem dX3_countSeen_9 : decode cX3_countSeen 9 = .ok (.getfield 66, 3) := dk_180 0 66 (dk_at dksX3_countSeen_0 9 rfl rfl)
theorem dX3_countSeen_12 : decode cX3_countSeen 12 = .ok (.invokevirtual 70, 3) := dk_182 0 70 (dk_at dksX3_countSeen_0 12 rfl rfl)
theorem dX3_countSeen_15 : decode cX3_countSeen 15 = .ok (.if_icmp .ge 25, 3) := dk_162 0 25 (dk_at dksX3_countSeen_0 15 rfl rfl)
theorem dX3_countSeen_18 : decode cX3_countSeen 18 = .ok (.iload_n 1, 1) := dk_27 (dk_at dksX3_countSeen_0 18 rfl rfl)
theorem dX3_countSeen_19 : decode cX3_countSeen 19 = .ok (.aload_n 0, 1) := dk_42 (dk_at dksX3_countSeen_0 19 rfl rfl)
theorem dX3_countSeen_20 : decode cX3_countSeen 20 = .ok (.iload_n 2, 1) := dk_28 (dk_at dksX3_countSeen_0 20 rfl rfl)
theorem dX3_countSeen_21 : decode cX3_countSeen 21 = .ok (.invokevirtual 106, 3) := dk_182 0 106 (dk_at dksX3_countSeen_0 21 rfl rfl)
theorem dX3_countSeen_24 : decode cX3_countSeen 24 = .ok (.ifCond .eq 7, 3) := dk_153 0 7 (dk_at dksX3_countSeen_1 0 rfl rfl)
theorem dX3_countSeen_27 : decode cX3_countSeen 27 = .ok (.iconst 1, 1) := dk_4 (dk_at dksX3_countSeen_1 3 rfl rfl)
theorem dX3_countSeen_28 : decode cX3_countSeen 28 = .ok (.goto 4, 3) := dk_167 0 4 (dk_at dksX3_countSeen_1 4 rfl rfl)
theorem dX3_countSeen_31 : decode cX3_countSeen 31 = .ok (.iconst 0, 1) := dk_3 (dk_at dksX3_countSeen_1 7 rfl rfl)
theorem dX3_countSeen_32 : decode cX3_countSeen 32 = .ok (.iadd, 1) := dk_96 (dk_at dksX3_countSeen_1 8 rfl rfl)
theorem dX3_countSeen_33 : decode cX3_countSeen 33 = .ok (.istore_n 1, 1) := dk_60 (dk_at dksX3_countSeen_1 9 rfl rfl)
theorem dX3_countSeen_34 : decode cX3_countSeen 34 = .ok (.iinc 2 1, 3) := dk_132 2 1 (dk_at dksX3_countSeen_1 10 rfl rfl)
theorem dX3_countSeen_37 : decode cX3_countSeen 37 = .ok (.goto (-33), 3) := dk_167 255 223 (dk_at dksX3_countSeen_1 13 rfl rfl)
theorem dX3_countSeen_40 : decode cX3_countSeen 40 = .ok (.iload_n 1, 1) := dk_27 (dk_at dksX3_countSeen_1 16 rfl rfl)
theorem dX3_countSeen_41 : decode cX3_countSeen 41 = .ok (.ireturn, 1) := dk_172 (dk_at dksX3_countSeen_1 17 rfl rfl)
theorem q409 : (Jvm.Cond.methodLink "Plugboard$Board" (106 : Nat) ({ cls := "Plugboard$Board", name := "sees", desc := "(I)Z" } : Jvm.MethodName)) ∈ lw_all := lw_g (lw_at lw_m2 99 rfl) rfl
theorem q410 : (Jvm.Cond.instanceMethod ({ cls := "Plugboard$Board", name := "sees", desc := "(I)Z" } : Jvm.MethodName)) ∈ lw_all := lw_g (lw_at lw_m2 100 rfl) rfl
theorem q411 : (Jvm.Cond.selects "Plugboard$Board" ({ cls := "Plugboard$Board", name := "sees", desc := "(I)Z" } : Jvm.MethodName) ({ cls := "Plugboard$Board", name := "sees", desc := "(I)Z" } : Jvm.MethodName)) ∈ lw_all := lw_g (lw_at lw_m2 101 rfl) rfl
theorem q412 : (Jvm.Cond.code ({ cls := "Plugboard$Board", name := "sees", desc := "(I)Z" } : Jvm.MethodName) prog_3_method_3_code (2 : Nat) (Option.some Jvm.ClassFile.FieldType.boolean)) ∈ lw_all := lw_g (lw_at lw_m2 102 rfl) rfl
abbrev rm_X3_countSeen : Room := { frames := 2, cells := 0, slots := 0, locals := 43 }
def w_X3_countSeen_4 (P : Int32 → AH → Prop) (x0 : Option Nat) (x1 : Int32) (x2 : Int32) (h : AH) : Prop :=
  ∀ Z4 : Int32 → Int32 → AH → Prop, (∀ x1 x2 h, (
      g_q h x0 2 5 fun y6 =>
      g_q h y6 0 0 fun y9 =>
      is_c h y9 [15] (
      w_J2_size y9 h (fun y12 h12 =>
      ((y12 ≤ x2 →
        P x1 h12) ∧
       (¬ y12 ≤ x2 →
        is_c h12 x0 [2] (
        w_X3_sees x0 x2 h12 (fun y21 h21 =>
        ((y21 = 0 →
          Z4 (x1 + 0) (x2 + 1) h21) ∧
         (¬ y21 = 0 →
          Z4 (x1 + 1) (x2 + 1) h21)))))))))
      → Z4 x1 x2 h) → Z4 x1 x2 h
def w_X3_countSeen (a0 : Option Nat) (h : AH) (P : Int32 → AH → Prop) : Prop :=
  w_X3_countSeen_4 P a0 0 0 h
theorem wk_X3_countSeen_4 {x : CX} (X : Ok x cX3_countSeen RX3 rm_X3_countSeen 3) (er : xrt x = (Option.some Jvm.ClassFile.FieldType.int)) (en : xnm x = yX3_countSeen.name) {P : Int32 → AH → Prop} (hQ : xr_i x P) (x0 : Option Nat) (x1 : Int32) (x2 : Int32) (h : AH) (hw : w_X3_countSeen_4 P x0 x1 x2 h) : J x h 0 0 4 [(0, vR x0), (1, vI x1), (2, vI x2)] [] := by
  refine hw (fun x1 x2 h => J x h 0 0 4 [(0, vR x0), (1, vI x1), (2, vI x2)] []) (fun x1 x2 h hw => ?_)
  refine j_iload_n X (pc := 4) 2 dX3_countSeen_4 rfl rfl ?_
  refine j_aload_n X (pc := 5) 0 dX3_countSeen_5 rfl rfl ?_
  refine j_getq (ci := 2) X (pc := 6) in_X3 rfl (by decide) 5 (by decide) q218 (Or.inl rfl) dX3_countSeen_6 hw (fun y6 hw => ?_)
  refine j_getqN (ci := 0) X (pc := 9) in_X1 rfl (by decide) 0 (by decide) q239 (Or.inl rfl) dX3_countSeen_9 hw (fun y9 hw => ?_)
  obtain ⟨b9, c9, f9, hr9, ho9, hc9, hw⟩ := hw
  obtain rfl := List.mem_singleton.mp hc9
  refine j_calli (j_runV (n8 := 0) (As := []) (rest := [vI x2]) X (pc := 12) hr9 (met_J2_size (xl x) X.hl (xG x) h y9 _ hw) ho9 (by decide) rfl q408 q285 q286 q74 q287 (by decide +kernel) dX3_countSeen_12 rfl ⟨Nat.le_of_ble_eq_true rfl, Nat.le_of_ble_eq_true rfl⟩ (Nat.le_of_ble_eq_true rfl) ⟨Nat.le_of_ble_eq_true rfl, Nat.le_of_ble_eq_true rfl⟩) (fun y12 h12 hw => ?_)
  refine j_icmp_ge X (pc := 15) 40 dX3_countSeen_15 (by decide) hw (fun hw => ?_) (fun hw => ?_)
  · refine j_iload_n X (pc := 40) 1 dX3_countSeen_40 rfl rfl ?_
    exact j_iret X (pc := 41) hQ er (Nat.le_of_ble_eq_true rfl) (Nat.le_of_ble_eq_true rfl) dX3_countSeen_41 hw
  · refine j_iload_n X (pc := 18) 1 dX3_countSeen_18 rfl rfl ?_
    refine j_aload_n X (pc := 19) 0 dX3_countSeen_19 rfl rfl ?_
    refine j_iload_n X (pc := 20) 2 dX3_countSeen_20 rfl rfl ?_
    obtain ⟨b9, c9, f9, hr9, ho9, hc9, hw⟩ := hw
    obtain rfl := List.mem_singleton.mp hc9
    refine j_calli (j_runV (n8 := 1) (As := [vI x2]) (rest := [vI x1]) X (pc := 21) hr9 (met_X3_sees (xl x) X.hl (xG x) h12 x0 x2 _ hw) ho9 (by decide) rfl q409 q410 q411 q76 q412 (by decide +kernel) dX3_countSeen_21 rfl ⟨Nat.le_of_ble_eq_true rfl, Nat.le_of_ble_eq_true rfl⟩ (Nat.le_of_ble_eq_true rfl) ⟨Nat.le_of_ble_eq_true rfl, Nat.le_of_ble_eq_true rfl⟩) (fun y21 h21 hw => ?_)
    refine j_if_eq X (pc := 24) 31 dX3_countSeen_24 (by decide) hw (fun hw => ?_) (fun hw => ?_)
    · refine j_iconst X (pc := 31) 0 dX3_countSeen_31 (by decide) ?_
      refine j_iadd X (pc := 32) dX3_countSeen_32 ?_
      refine j_istore_n X (pc := 33) [(1, vI (x1 + 0)), (0, vR x0), (2, vI x2)] dX3_countSeen_33 rfl (Nat.le_of_ble_eq_true rfl) rfl ?_
      refine j_iinc X (pc := 34) 2 (x2 + 1) [(2, vI (x2 + 1)), (1, vI (x1 + 0)), (0, vR x0)] dX3_countSeen_34 rfl rfl (Nat.le_of_ble_eq_true rfl) rfl ?_
      refine j_goto X (pc := 37) 4 dX3_countSeen_37 (by decide) ?_
      refine j_lv [(0, vR x0), (1, vI (x1 + 0)), (2, vI (x2 + 1))] [2, 1, 0] rfl ?_
      refine j_cs (u' := 0) (v' := 0) (Nat.le_of_ble_eq_true rfl) (Nat.le_of_ble_eq_true rfl) ?_
      exact hw
    · refine j_iconst X (pc := 27) 1 dX3_countSeen_27 (by decide) ?_
      refine j_goto X (pc := 28) 32 dX3_countSeen_28 (by decide) ?_
      refine j_iadd X (pc := 32) dX3_countSeen_32 ?_
      refine j_istore_n X (pc := 33) [(1, vI (x1 + 1)), (0, vR x0), (2, vI x2)] dX3_countSeen_33 rfl (Nat.le_of_ble_eq_true rfl) rfl ?_
      refine j_iinc X (pc := 34) 2 (x2 + 1) [(2, vI (x2 + 1)), (1, vI (x1 + 1)), (0, vR x0)] dX3_countSeen_34 rfl rfl (Nat.le_of_ble_eq_true rfl) rfl ?_
      refine j_goto X (pc := 37) 4 dX3_countSeen_37 (by decide) ?_
      refine j_lv [(0, vR x0), (1, vI (x1 + 1)), (2, vI (x2 + 1))] [2, 1, 0] rfl ?_
      refine j_cs (u' := 0) (v' := 0) (Nat.le_of_ble_eq_true rfl) (Nat.le_of_ble_eq_true rfl) ?_
      exact hw
theorem met_X3_countSeen (l : Launch) (hlt : l.stackTraces = false) (G : GG) (h : AH) (a0 : Option Nat) (P : Int32 → AH → Prop) (hw : w_X3_countSeen a0 h P) : ct_i l yX3_countSeen (ws_ yX3_countSeen cX3_countSeen 3 (Option.some Jvm.ClassFile.FieldType.int)) rm_X3_countSeen G h [vR a0] P := by
  refine j_starti hlt [(0, vR a0)] (plainFor_of_name (by decide)) rfl rfl (fun x X eG er en hQ => ?_)
  subst eG
  refine j_iconst X (pc := 0) 0 dX3_countSeen_0 (by decide) ?_
  refine j_istore_n X (pc := 1) [(1, vI 0), (0, vR a0)] dX3_countSeen_1 rfl (Nat.le_of_ble_eq_true rfl) rfl ?_
  refine j_iconst X (pc := 2) 0 dX3_countSeen_2 (by decide) ?_
  refine j_istore_n X (pc := 3) [(2, vI 0), (1, vI 0), (0, vR a0)] dX3_countSeen_3 rfl (Nat.le_of_ble_eq_true rfl) rfl ?_
  refine j_lv [(0, vR a0), (1, vI 0), (2, vI 0)] [2, 1, 0] rfl ?_
  refine j_cs (u' := 0) (v' := 0) (Nat.le_of_ble_eq_true rfl) (Nat.le_of_ble_eq_true rfl) ?_
  exact wk_X3_countSeen_4 X er en hQ a0 0 0 h hw
abbrev cX6_init : ByteArray := prog_4_method_1_code
def yX6_init : MethodName := ⟨RX6, "<init>", "(LPlugboard$Board;)V"⟩
def dkwX6_init_0 : List UInt8 := [42, 43, 181, 0, 1, 42, 183, 0, 7, 177]
abbrev dktX6_init_0 : List UInt8 := dkwX6_init_0 ++ []
theorem dksX6_init_0 : cX6_init.data.toList.drop 0 = dktX6_init_0 := by decide +kernel
theorem dX6_init_0 : decode cX6_init 0 = .ok (.aload_n 0, 1) := dk_42 (dk_at dksX6_init_0 0 rfl rfl)
theorem dX6_init_1 : decode cX6_init 1 = .ok (.aload_n 1, 1) := dk_43 (dk_at dksX6_init_0 1 rfl rfl)
theorem dX6_init_2 : decode cX6_init 2 = .ok (.putfield 1, 3) := dk_181 0 1 (dk_at dksX6_init_0 2 rfl rfl)
theorem dX6_init_5 : decode cX6_init 5 = .ok (.aload_n 0, 1) := dk_42 (dk_at dksX6_init_0 5 rfl rfl)
theorem dX6_init_6 : decode cX6_init 6 = .ok (.invokespecial 7, 3) := dk_183 0 7 (dk_at dksX6_init_0 6 rfl rfl)
theorem dX6_init_9 : decode cX6_init 9 = .ok (.return_, 1) := dk_177 (dk_at dksX6_init_0 9 rfl rfl)
theorem q427 : (Jvm.Cond.methodLink "Plugboard$Board$1" (7 : Nat) ({ cls := "java/lang/Object", name := "<init>", desc := "()V" } : Jvm.MethodName)) ∈ lw_all := lw_g (lw_at lw_m2 117 rfl) rfl
theorem q428 : (Jvm.Cond.fieldLink "Plugboard$Board$1" (1 : Nat) "Plugboard$Board$1" "this$1" "LPlugboard$Board;") ∈ lw_all := lw_g (lw_at lw_m2 118 rfl) rfl
abbrev rm_X6_init : Room := { frames := 1, cells := 0, slots := 0, locals := 12 }
def w_X6_init (a0 : Option Nat) (a1 : Option Nat) (h : AH) (P : AH → Prop) : Prop :=
  p_v h a0 5 0 (vR a1) fun h2 =>
  nn a0 (
  P h2)
theorem met_X6_init (l : Launch) (hlt : l.stackTraces = false) (G : GG) (h : AH) (a0 : Option Nat) (a1 : Option Nat) (P : AH → Prop) (hw : w_X6_init a0 a1 h P) : ct_v l yX6_init (ws_ yX6_init cX6_init 2 (Option.none : Option Jvm.ClassFile.FieldType)) rm_X6_init G h [vR a0, vR a1] P := by
  refine j_startv hlt [(0, vR a0), (1, vR a1)] (plainFor_of_name (by decide)) rfl rfl (fun x X eG er en hQ => ?_)
  subst eG
  refine j_aload_n X (pc := 0) 0 dX6_init_0 rfl rfl ?_
  refine j_aload_n X (pc := 1) 1 dX6_init_1 rfl rfl ?_
  refine j_putF (ci := 5) X (pc := 2) in_X6 rfl (by decide) 0 (by decide) q428 (Or.inl rfl) tyX6 tyX6_ok nmX6 rfl en rfl rfl (ty := (.object "Plugboard$Board")) (tyX6_ok 0 (by decide)) (rt_nar _ rfl _) (rt_fit _ rfl _) dX6_init_2 hw (fun h2 hw => ?_)
  refine j_aload_n X (pc := 5) 0 dX6_init_5 rfl rfl ?_
  obtain ⟨b9, hr9, hw⟩ := hw
  refine j_obj X (pc := 6) hr9 q427 q125 q126 dX6_init_6 ⟨Nat.le_of_ble_eq_true rfl, Nat.le_of_ble_eq_true rfl⟩ ?_
  exact j_vret X (pc := 9) hQ er (Nat.le_of_ble_eq_true rfl) (Nat.le_of_ble_eq_true rfl) dX6_init_9 hw
abbrev cX3_seen : ByteArray := prog_3_method_12_code
def yX3_seen : MethodName := ⟨RX3, "seen", "()Ljava/lang/Iterable;"⟩
def dkwX3_seen_0 : List UInt8 := [187, 0, 139, 89, 42, 183, 0, 141, 176]
abbrev dktX3_seen_0 : List UInt8 := dkwX3_seen_0 ++ []
theorem dksX3_seen_0 : cX3_seen.data.toList.drop 0 = dktX3_seen_0 := by decide +kernel
theorem dX3_seen_0 : decode cX3_seen 0 = .ok (.new 139, 3) := dk_187 0 139 (dk_at dksX3_seen_0 0 rfl rfl)
theorem dX3_seen_3 : decode cX3_seen 3 = .ok (.dup, 1) := dk_89 (dk_at dksX3_seen_0 3 rfl rfl)
theorem dX3_seen_4 : decode cX3_seen 4 = .ok (.aload_n 0, 1) := dk_42 (dk_at dksX3_seen_0 4 rfl rfl)
theorem dX3_seen_5 : decode cX3_seen 5 = .ok (.invokespecial 141, 3) := dk_183 0 141 (dk_at dksX3_seen_0 5 rfl rfl)
theorem dX3_seen_8 : decode cX3_seen 8 = .ok (.areturn, 1) := dk_176 (dk_at dksX3_seen_0 8 rfl rfl)
theorem q84 : (Jvm.Cond.initialized "Plugboard$Board$1") ∈ lw_all := lw_g (lw_at lw_m1 14 rfl) rfl
theorem q422 : (Jvm.Cond.classLink "Plugboard$Board" (139 : Nat) "Plugboard$Board$1") ∈ lw_all := lw_g (lw_at lw_m2 112 rfl) rfl
theorem q423 : (Jvm.Cond.instantiable "Plugboard$Board$1" (1 : Nat)) ∈ lw_all := lw_g (lw_at lw_m2 113 rfl) rfl
theorem q424 : (Jvm.Cond.methodLink "Plugboard$Board" (141 : Nat) ({ cls := "Plugboard$Board$1", name := "<init>", desc := "(LPlugboard$Board;)V" } : Jvm.MethodName)) ∈ lw_all := lw_g (lw_at lw_m2 114 rfl) rfl
theorem q425 : (Jvm.Cond.instanceMethod ({ cls := "Plugboard$Board$1", name := "<init>", desc := "(LPlugboard$Board;)V" } : Jvm.MethodName)) ∈ lw_all := lw_g (lw_at lw_m2 115 rfl) rfl
theorem q426 : (Jvm.Cond.code ({ cls := "Plugboard$Board$1", name := "<init>", desc := "(LPlugboard$Board;)V" } : Jvm.MethodName) prog_4_method_1_code (2 : Nat) (Option.none : Option Jvm.ClassFile.FieldType)) ∈ lw_all := lw_g (lw_at lw_m2 116 rfl) rfl
abbrev rm_X3_seen : Room := { frames := 2, cells := 1, slots := 1, locals := 33 }
def w_X3_seen (a0 : Option Nat) (h : AH) (P : Option Nat → AH → Prop) : Prop :=
  mk h (.inr (5, dvX6)) fun q0 h0 =>
  w_X6_init (some q0) a0 h0 (fun h5 =>
  P (some q0) h5)
theorem met_X3_seen (l : Launch) (hlt : l.stackTraces = false) (G : GG) (h : AH) (a0 : Option Nat) (P : Option Nat → AH → Prop) (hw : w_X3_seen a0 h P) : ct_q l yX3_seen (ws_ yX3_seen cX3_seen 1 (Option.some (Jvm.ClassFile.FieldType.object "java/lang/Iterable"))) rm_X3_seen G h [vR a0] P := by
  refine j_startq hlt [(0, vR a0)] (plainFor_of_name (by decide)) rfl rfl (fun x X eG er en hQ => ?_)
  subst eG
  refine j_new (ci := 5) X (pc := 0) in_X6 rfl (by decide) tyX6 tyX6_ok q422 q423 q84 (fs := dvX6) dfX6 (Nat.le_of_ble_eq_true rfl) (Nat.le_of_ble_eq_true rfl) dX3_seen_0 hw (fun q0 h0 hw => ?_)
  refine j_dup X (pc := 3) dX3_seen_3 rfl ?_
  refine j_aload_n X (pc := 4) 0 dX3_seen_4 rfl rfl ?_
  refine j_callv (j_runI (n8 := 1) (As := [vR a0]) (rest := [vR (some q0)]) X (pc := 5) rfl (met_X6_init (xl x) X.hl (xG x) h0 (some q0) a0 _ hw) q424 q425 q84 q426 (by decide +kernel) dX3_seen_5 rfl ⟨Nat.le_of_ble_eq_true rfl, Nat.le_of_ble_eq_true rfl⟩ (Nat.le_of_ble_eq_true rfl) ⟨Nat.le_of_ble_eq_true rfl, Nat.le_of_ble_eq_true rfl⟩) (fun h5 hw => ?_)
  exact j_aret X (pc := 8) (ty := (.object "java/lang/Iterable")) hQ er (Or.inl ⟨_, rfl⟩) (Nat.le_of_ble_eq_true rfl) (Nat.le_of_ble_eq_true rfl) dX3_seen_8 hw
abbrev cX7_init : ByteArray := prog_5_method_1_code
def yX7_init : MethodName := ⟨RX7, "<init>", "(LPlugboard$Board;)V"⟩
def dkwX7_init_0 : List UInt8 := [42, 43, 181, 0, 1, 42, 183, 0, 7, 177]
abbrev dktX7_init_0 : List UInt8 := dkwX7_init_0 ++ []
theorem dksX7_init_0 : cX7_init.data.toList.drop 0 = dktX7_init_0 := by decide +kernel
theorem dX7_init_0 : decode cX7_init 0 = .ok (.aload_n 0, 1) := dk_42 (dk_at dksX7_init_0 0 rfl rfl)
theorem dX7_init_1 : decode cX7_init 1 = .ok (.aload_n 1, 1) := dk_43 (dk_at dksX7_init_0 1 rfl rfl)
theorem dX7_init_2 : decode cX7_init 2 = .ok (.putfield 1, 3) := dk_181 0 1 (dk_at dksX7_init_0 2 rfl rfl)
theorem dX7_init_5 : decode cX7_init 5 = .ok (.aload_n 0, 1) := dk_42 (dk_at dksX7_init_0 5 rfl rfl)
theorem dX7_init_6 : decode cX7_init 6 = .ok (.invokespecial 7, 3) := dk_183 0 7 (dk_at dksX7_init_0 6 rfl rfl)
theorem dX7_init_9 : decode cX7_init 9 = .ok (.return_, 1) := dk_177 (dk_at dksX7_init_0 9 rfl rfl)
theorem q447 : (Jvm.Cond.methodLink "Plugboard$Board$Seen" (7 : Nat) ({ cls := "java/lang/Object", name := "<init>", desc := "()V" } : Jvm.MethodName)) ∈ lw_all := lw_g (lw_at lw_m2 137 rfl) rfl
theorem q449 : (Jvm.Cond.fieldLink "Plugboard$Board$Seen" (1 : Nat) "Plugboard$Board$Seen" "this$1" "LPlugboard$Board;") ∈ lw_all := lw_g (lw_at lw_m2 139 rfl) rfl
abbrev rm_X7_init : Room := { frames := 1, cells := 0, slots := 0, locals := 12 }
def w_X7_init (a0 : Option Nat) (a1 : Option Nat) (h : AH) (P : AH → Prop) : Prop :=
  p_v h a0 6 1 (vR a1) fun h2 =>
  nn a0 (
  P h2)
theorem met_X7_init (l : Launch) (hlt : l.stackTraces = false) (G : GG) (h : AH) (a0 : Option Nat) (a1 : Option Nat) (P : AH → Prop) (hw : w_X7_init a0 a1 h P) : ct_v l yX7_init (ws_ yX7_init cX7_init 2 (Option.none : Option Jvm.ClassFile.FieldType)) rm_X7_init G h [vR a0, vR a1] P := by
  refine j_startv hlt [(0, vR a0), (1, vR a1)] (plainFor_of_name (by decide)) rfl rfl (fun x X eG er en hQ => ?_)
  subst eG
  refine j_aload_n X (pc := 0) 0 dX7_init_0 rfl rfl ?_
  refine j_aload_n X (pc := 1) 1 dX7_init_1 rfl rfl ?_
  refine j_putF (ci := 6) X (pc := 2) in_X7 rfl (by decide) 1 (by decide) q449 (Or.inl rfl) tyX7 tyX7_ok nmX7 rfl en rfl rfl (ty := (.object "Plugboard$Board")) (tyX7_ok 1 (by decide)) (rt_nar _ rfl _) (rt_fit _ rfl _) dX7_init_2 hw (fun h2 hw => ?_)
  refine j_aload_n X (pc := 5) 0 dX7_init_5 rfl rfl ?_
  obtain ⟨b9, hr9, hw⟩ := hw
  refine j_obj X (pc := 6) hr9 q447 q125 q126 dX7_init_6 ⟨Nat.le_of_ble_eq_true rfl, Nat.le_of_ble_eq_true rfl⟩ ?_
  exact j_vret X (pc := 9) hQ er (Nat.le_of_ble_eq_true rfl) (Nat.le_of_ble_eq_true rfl) dX7_init_9 hw
abbrev cX6_iterator : ByteArray := prog_4_method_2_code
def yX6_iterator : MethodName := ⟨RX6, "iterator", "()Ljava/util/Iterator;"⟩
def dkwX6_iterator_0 : List UInt8 := [187, 0, 13, 89, 42, 180, 0, 1, 183, 0, 15, 176]
abbrev dktX6_iterator_0 : List UInt8 := dkwX6_iterator_0 ++ []
theorem dksX6_iterator_0 : cX6_iterator.data.toList.drop 0 = dktX6_iterator_0 := by decide +kernel
theorem dX6_iterator_0 : decode cX6_iterator 0 = .ok (.new 13, 3) := dk_187 0 13 (dk_at dksX6_iterator_0 0 rfl rfl)
theorem dX6_iterator_3 : decode cX6_iterator 3 = .ok (.dup, 1) := dk_89 (dk_at dksX6_iterator_0 3 rfl rfl)
theorem dX6_iterator_4 : decode cX6_iterator 4 = .ok (.aload_n 0, 1) := dk_42 (dk_at dksX6_iterator_0 4 rfl rfl)
theorem dX6_iterator_5 : decode cX6_iterator 5 = .ok (.getfield 1, 3) := dk_180 0 1 (dk_at dksX6_iterator_0 5 rfl rfl)
theorem dX6_iterator_8 : decode cX6_iterator 8 = .ok (.invokespecial 15, 3) := dk_183 0 15 (dk_at dksX6_iterator_0 8 rfl rfl)
theorem dX6_iterator_11 : decode cX6_iterator 11 = .ok (.areturn, 1) := dk_176 (dk_at dksX6_iterator_0 11 rfl rfl)
theorem q85 : (Jvm.Cond.initialized "Plugboard$Board$Seen") ∈ lw_all := lw_g (lw_at lw_m1 15 rfl) rfl
theorem q442 : (Jvm.Cond.classLink "Plugboard$Board$1" (13 : Nat) "Plugboard$Board$Seen") ∈ lw_all := lw_g (lw_at lw_m2 132 rfl) rfl
theorem q443 : (Jvm.Cond.instantiable "Plugboard$Board$Seen" (2 : Nat)) ∈ lw_all := lw_g (lw_at lw_m2 133 rfl) rfl
theorem q444 : (Jvm.Cond.methodLinkNest "Plugboard$Board$1" (15 : Nat) ({ cls := "Plugboard$Board$Seen", name := "<init>", desc := "(LPlugboard$Board;)V" } : Jvm.MethodName) "Plugboard") ∈ lw_tbl := lw_at lw_m2 134 rfl
theorem q445 : (Jvm.Cond.instanceMethod ({ cls := "Plugboard$Board$Seen", name := "<init>", desc := "(LPlugboard$Board;)V" } : Jvm.MethodName)) ∈ lw_all := lw_g (lw_at lw_m2 135 rfl) rfl
theorem q446 : (Jvm.Cond.code ({ cls := "Plugboard$Board$Seen", name := "<init>", desc := "(LPlugboard$Board;)V" } : Jvm.MethodName) prog_5_method_1_code (2 : Nat) (Option.none : Option Jvm.ClassFile.FieldType)) ∈ lw_all := lw_g (lw_at lw_m2 136 rfl) rfl
abbrev rm_X6_iterator : Room := { frames := 2, cells := 1, slots := 2, locals := 33 }
def w_X6_iterator (a0 : Option Nat) (h : AH) (P : Option Nat → AH → Prop) : Prop :=
  mk h (.inr (6, dvX7)) fun q0 h0 =>
  g_q h0 a0 5 0 fun y5 =>
  w_X7_init (some q0) y5 h0 (fun h8 =>
  P (some q0) h8)
theorem met_X6_iterator (l : Launch) (hlt : l.stackTraces = false) (G : GG) (h : AH) (a0 : Option Nat) (P : Option Nat → AH → Prop) (hw : w_X6_iterator a0 h P) : ct_q l yX6_iterator (ws_ yX6_iterator cX6_iterator 1 (Option.some (Jvm.ClassFile.FieldType.object "java/util/Iterator"))) rm_X6_iterator G h [vR a0] P := by
  refine j_startq hlt [(0, vR a0)] (plainFor_of_name (by decide)) rfl rfl (fun x X eG er en hQ => ?_)
  subst eG
  refine j_new (ci := 6) X (pc := 0) in_X7 rfl (by decide) tyX7 tyX7_ok q442 q443 q85 (fs := dvX7) dfX7 (Nat.le_of_ble_eq_true rfl) (Nat.le_of_ble_eq_true rfl) dX6_iterator_0 hw (fun q0 h0 hw => ?_)
  refine j_dup X (pc := 3) dX6_iterator_3 rfl ?_
  refine j_aload_n X (pc := 4) 0 dX6_iterator_4 rfl rfl ?_
  refine j_getq (ci := 5) X (pc := 5) in_X6 rfl (by decide) 0 (by decide) q428 (Or.inl rfl) dX6_iterator_5 hw (fun y5 hw => ?_)
  refine j_callv (j_runIN (n8 := 1) (As := [vR y5]) (rest := [vR (some q0)]) X (pc := 8) rfl (met_X7_init (xl x) X.hl (xG x) h0 (some q0) y5 _ hw) q444 q445 q85 q446 (by decide +kernel) dX6_iterator_8 rfl ⟨Nat.le_of_ble_eq_true rfl, Nat.le_of_ble_eq_true rfl⟩ (Nat.le_of_ble_eq_true rfl) ⟨Nat.le_of_ble_eq_true rfl, Nat.le_of_ble_eq_true rfl⟩) (fun h8 hw => ?_)
  exact j_aret X (pc := 11) (ty := (.object "java/util/Iterator")) hQ er (Or.inl ⟨_, rfl⟩) (Nat.le_of_ble_eq_true rfl) (Nat.le_of_ble_eq_true rfl) dX6_iterator_11 hw
abbrev cX7_hasNext : ByteArray := prog_5_method_2_code
def yX7_hasNext : MethodName := ⟨RX7, "hasNext", "()Z"⟩
def dkwX7_hasNext_3 : List UInt8 := [172]
abbrev dktX7_hasNext_3 : List UInt8 := dkwX7_hasNext_3 ++ []
def dkwX7_hasNext_2 : List UInt8 := [180, 0, 13, 42, 180, 0, 1, 180, 0, 17, 180, 0, 23, 182, 0, 29, 162, 0, 7, 4, 167, 0, 4, 3]
abbrev dktX7_hasNext_2 : List UInt8 := dkwX7_hasNext_2 ++ dktX7_hasNext_3
def dkwX7_hasNext_1 : List UInt8 := [42, 180, 0, 13, 182, 0, 35, 154, 0, 16, 42, 89, 180, 0, 13, 4, 96, 181, 0, 13, 167, 255, 212, 42]
abbrev dktX7_hasNext_1 : List UInt8 := dkwX7_hasNext_1 ++ dktX7_hasNext_2
def dkwX7_hasNext_0 : List UInt8 := [42, 180, 0, 13, 42, 180, 0, 1, 180, 0, 17, 180, 0, 23, 182, 0, 29, 162, 0, 30, 42, 180, 0, 1]
abbrev dktX7_hasNext_0 : List UInt8 := dkwX7_hasNext_0 ++ dktX7_hasNext_1
theorem dksX7_hasNext_0 : cX7_hasNext.data.toList.drop 0 = dktX7_hasNext_0 := by decide +kernel
theorem dksX7_hasNext_1 : cX7_hasNext.data.toList.drop 24 = dktX7_hasNext_1 := dk_seg dksX7_hasNext_0 24 rfl rfl
theorem dksX7_hasNext_2 : cX7_hasNext.data.toList.drop 48 = dktX7_hasNext_2 := dk_seg dksX7_hasNext_1 24 rfl rfl
theorem dksX7_hasNext_3 : cX7_hasNext.data.toList.drop 72 = dktX7_hasNext_3 := dk_seg dksX7_hasNext_2 24 rfl rfl
theorem dX7_hasNext_0 : decode cX7_hasNext 0 = .ok (.aload_n 0, 1) := dk_42 (dk_at dksX7_hasNext_0 0 rfl rfl)
theorem dX7_hasNext_1 : decode cX7_hasNext 1 = .ok (.getfield 13, 3) := dk_180 0 13 (dk_at dksX7_hasNext_0 1 rfl rfl)
theorem dX7_hasNext_4 : decode cX7_hasNext 4 = .ok (.aload_n 0, 1) := dk_42 (dk_at dksX7_hasNext_0 4 rfl rfl)
theorem dX7_hasNext_5 : decode cX7_hasNext 5 = .ok (.getfield 1, 3) := dk_180 0 1 (dk_at dksX7_hasNext_0 5 rfl rfl)
theorem dX7_hasNext_8 : decode cX7_hasNext 8 = .ok (.getfield 17, 3) := dk_180 0 17 (dk_at dksX7_hasNext_0 8 rfl rfl)
theorem dX7_hasNext_11 : decode cX7_hasNext 11 = .ok (.getfield 23, 3) := dk_180 0 23 (dk_at dksX7_hasNext_0 11 rfl rfl)
theorem dX7_hasNext_14 : decode cX7_hasNext 14 = .ok (.invokevirtual 29, 3) := dk_182 0 29 (dk_at dksX7_hasNext_0 14 rfl rfl)
theorem dX7_hasNext_17 : decode cX7_hasNext 17 = .ok (.if_icmp .ge 30, 3) := dk_162 0 30 (dk_at dksX7_hasNext_0 17 rfl rfl)
theorem dX7_hasNext_20 : decode cX7_hasNext 20 = .ok (.aload_n 0, 1) := dk_42 (dk_at dksX7_hasNext_0 20 rfl rfl)
theorem dX7_hasNext_21 : decode cX7_hasNext 21 = .ok (.getfield 1, 3) := dk_180 0 1 (dk_at dksX7_hasNext_0 21 rfl rfl)
theorem dX7_hasNext_24 : decode cX7_hasNext 24 = .ok (.aload_n 0, 1) := dk_42 (dk_at dksX7_hasNext_1 0 rfl rfl)
theorem dX7_hasNext_25 : decode cX7_hasNext 25 = .ok (.getfield 13, 3) := dk_180 0 13 (dk_at dksX7_hasNext_1 1 rfl rfl)
theorem dX7_hasNext_28 : decode cX7_hasNext 28 = .ok (.invokevirtual 35, 3) := dk_182 0 35 (dk_at dksX7_hasNext_1 4 rfl rfl)
theorem dX7_hasNext_31 : decode cX7_hasNext 31 = .ok (.ifCond .ne 16, 3) := dk_154 0 16 (dk_at dksX7_hasNext_1 7 rfl rfl)
theorem dX7_hasNext_34 : decode cX7_hasNext 34 = .ok (.aload_n 0, 1) := dk_42 (dk_at dksX7_hasNext_1 10 rfl rfl)
theorem dX7_hasNext_35 : decode cX7_hasNext 35 = .ok (.dup, 1) := dk_89 (dk_at dksX7_hasNext_1 11 rfl rfl)
theorem dX7_hasNext_36 : decode cX7_hasNext 36 = .ok (.getfield 13, 3) := dk_180 0 13 (dk_at dksX7_hasNext_1 12 rfl rfl)
theorem dX7_hasNext_39 : decode cX7_hasNext 39 = .ok (.iconst 1, 1) := dk_4 (dk_at dksX7_hasNext_1 15 rfl rfl)
theorem dX7_hasNext_40 : decode cX7_hasNext 40 = .ok (.iadd, 1) := dk_96 (dk_at dksX7_hasNext_1 16 rfl rfl)
theorem dX7_hasNext_41 : decode cX7_hasNext 41 = .ok (.putfield 13, 3) := dk_181 0 13 (dk_at dksX7_hasNext_1 17 rfl rfl)
theorem dX7_hasNext_44 : decode cX7_hasNext 44 = .ok (.goto (-44), 3) := dk_167 255 212 (dk_at dksX7_hasNext_1 20 rfl rfl)
theorem dX7_hasNext_47 : decode cX7_hasNext 47 = .ok (.aload_n 0, 1) := dk_42 (dk_at dksX7_hasNext_1 23 rfl rfl)
theorem dX7_hasNext_48 : decode cX7_hasNext 48 = .ok (.getfield 13, 3) := dk_180 0 13 (dk_at dksX7_hasNext_2 0 rfl rfl)
theorem dX7_hasNext_51 : decode cX7_hasNext 51 = .ok (.aload_n 0, 1) := dk_42 (dk_at dksX7_hasNext_2 3 rfl rfl)
theorem dX7_hasNext_52 : decode cX7_hasNext 52 = .ok (.getfield 1, 3) := dk_180 0 1 (dk_at dksX7_hasNext_2 4 rfl rfl)
theorem dX7_hasNext_55 : decode cX7_hasNext 55 = .ok (.getfield 17, 3) := dk_180 0 17 (dk_at dksX7_hasNext_2 7 rfl rfl)
theorem dX7_hasNext_58 : decode cX7_hasNext 58 = .ok (.getfield 23, 3) := dk_180 0 23 (dk_at dksX7_hasNext_2 10 rfl rfl)
theorem dX7_hasNext_61 : decode cX7_hasNext 61 = .ok (.invokevirtual 29, 3) := dk_182 0 29 (dk_at dksX7_hasNext_2 13 rfl rfl)
theorem dX7_hasNext_64 : decode cX7_hasNext 64 = .ok (.if_icmp .ge 7, 3) := dk_162 0 7 (dk_at dksX7_hasNext_2 16 rfl rfl)
theorem dX7_hasNext_67 : decode cX7_hasNext 67 = .ok (.iconst 1, 1) := dk_4 (dk_at dksX7_hasNext_2 19 rfl rfl)
theorem dX7_hasNext_68 : decode cX7_hasNext 68 = .ok (.goto 4, 3) := dk_167 0 4 (dk_at dksX7_hasNext_2 20 rfl rfl)
theorem dX7_hasNext_71 : decode cX7_hasNext 71 = .ok (.iconst 0, 1) := dk_3 (dk_at dksX7_hasNext_2 23 rfl rfl)
theorem dX7_hasNext_72 : decode cX7_hasNext 72 = .ok (.ireturn, 1) := dk_172 (dk_at dksX7_hasNext_3 0 rfl rfl)
theorem q219 : (Jvm.Cond.fieldLink "Plugboard$Board$Seen" (17 : Nat) "Plugboard$Board" "this$0" "LPlugboard;") ∈ lw_all := lw_g (lw_at lw_m1 149 rfl) rfl
theorem q238 : (Jvm.Cond.fieldLinkNest "Plugboard$Board$Seen" (23 : Nat) "Plugboard" "shapes" "Ljava/util/ArrayList;" "Plugboard") ∈ lw_tbl := lw_at lw_m1 168 rfl
theorem q448 : (Jvm.Cond.fieldLink "Plugboard$Board$Seen" (13 : Nat) "Plugboard$Board$Seen" "next" "I") ∈ lw_all := lw_g (lw_at lw_m2 138 rfl) rfl
theorem q490 : (Jvm.Cond.methodLink "Plugboard$Board$Seen" (29 : Nat) ({ cls := "java/util/ArrayList", name := "size", desc := "()I" } : Jvm.MethodName)) ∈ lw_all := lw_g (lw_at lw_m2 180 rfl) rfl
theorem q491 : (Jvm.Cond.methodLink "Plugboard$Board$Seen" (35 : Nat) ({ cls := "Plugboard$Board", name := "sees", desc := "(I)Z" } : Jvm.MethodName)) ∈ lw_all := lw_g (lw_at lw_m2 181 rfl) rfl
abbrev rm_X7_hasNext : Room := { frames := 2, cells := 0, slots := 0, locals := 43 }
def w_X7_hasNext_47 (P : Int32 → AH → Prop) (x0 : Option Nat) (h : AH) : Prop :=
  g_i h x0 6 0 fun y48 =>
  g_q h x0 6 1 fun y52 =>
  g_q h y52 2 5 fun y55 =>
  g_q h y55 0 0 fun y58 =>
  is_c h y58 [15] (
  w_J2_size y58 h (fun y61 h61 =>
  ((y61 ≤ y48 →
    P 0 h61) ∧
   (¬ y61 ≤ y48 →
    P 1 h61))))
def w_X7_hasNext_0 (P : Int32 → AH → Prop) (x0 : Option Nat) (h : AH) : Prop :=
  ∀ Z0 : AH → Prop, (∀ h, (
      g_i h x0 6 0 fun y1 =>
      g_q h x0 6 1 fun y5 =>
      g_q h y5 2 5 fun y8 =>
      g_q h y8 0 0 fun y11 =>
      is_c h y11 [15] (
      w_J2_size y11 h (fun y14 h14 =>
      ((y14 ≤ y1 →
        w_X7_hasNext_47 P x0 h14) ∧
       (¬ y14 ≤ y1 →
        g_q h14 x0 6 1 fun y21 =>
        g_i h14 x0 6 0 fun y25 =>
        is_c h14 y21 [2] (
        w_X3_sees y21 y25 h14 (fun y28 h28 =>
        ((y28 = 0 →
          g_i h28 x0 6 0 fun y36 =>
          p_v h28 x0 6 0 (vI (y36 + 1)) fun h41 =>
          Z0 h41) ∧
         (¬ y28 = 0 →
          w_X7_hasNext_47 P x0 h28)))))))))
      → Z0 h) → Z0 h
def w_X7_hasNext (a0 : Option Nat) (h : AH) (P : Int32 → AH → Prop) : Prop :=
  g_i h a0 6 0 fun y1 =>
  g_q h a0 6 1 fun y5 =>
  g_q h y5 2 5 fun y8 =>
  g_q h y8 0 0 fun y11 =>
  is_c h y11 [15] (
  w_J2_size y11 h (fun y14 h14 =>
  ((y14 ≤ y1 →
    w_X7_hasNext_47 P a0 h14) ∧
   (¬ y14 ≤ y1 →
    g_q h14 a0 6 1 fun y21 =>
    g_i h14 a0 6 0 fun y25 =>
    is_c h14 y21 [2] (
    w_X3_sees y21 y25 h14 (fun y28 h28 =>
    ((y28 = 0 →
      g_i h28 a0 6 0 fun y36 =>
      p_v h28 a0 6 0 (vI (y36 + 1)) fun h41 =>
      w_X7_hasNext_0 P a0 h41) ∧
     (¬ y28 = 0 →
      w_X7_hasNext_47 P a0 h28))))))))
theorem wk_X7_hasNext_47 {x : CX} (X : Ok x cX7_hasNext RX7 rm_X7_hasNext 1) (er : xrt x = (Option.some Jvm.ClassFile.FieldType.boolean)) (en : xnm x = yX7_hasNext.name) {P : Int32 → AH → Prop} (hQ : xr_i x P) (x0 : Option Nat) (h : AH) (hw : w_X7_hasNext_47 P x0 h) : J x h 0 0 47 [(0, vR x0)] [] := by
  refine j_aload_n X (pc := 47) 0 dX7_hasNext_47 rfl rfl ?_
  refine j_geti (ci := 6) X (pc := 48) in_X7 rfl (by decide) 0 (by decide) q448 (Or.inl rfl) dX7_hasNext_48 hw (fun y48 hw => ?_)
  refine j_aload_n X (pc := 51) 0 dX7_hasNext_51 rfl rfl ?_
  refine j_getq (ci := 6) X (pc := 52) in_X7 rfl (by decide) 1 (by decide) q449 (Or.inl rfl) dX7_hasNext_52 hw (fun y52 hw => ?_)
  refine j_getq (ci := 2) X (pc := 55) in_X3 rfl (by decide) 5 (by decide) q219 (Or.inl rfl) dX7_hasNext_55 hw (fun y55 hw => ?_)
  refine j_getqN (ci := 0) X (pc := 58) in_X1 rfl (by decide) 0 (by decide) q238 (Or.inl rfl) dX7_hasNext_58 hw (fun y58 hw => ?_)
  obtain ⟨b9, c9, f9, hr9, ho9, hc9, hw⟩ := hw
  obtain rfl := List.mem_singleton.mp hc9
  refine j_calli (j_runV (n8 := 0) (As := []) (rest := [vI y48]) X (pc := 61) hr9 (met_J2_size (xl x) X.hl (xG x) h y58 _ hw) ho9 (by decide) rfl q490 q285 q286 q74 q287 (by decide +kernel) dX7_hasNext_61 rfl ⟨Nat.le_of_ble_eq_true rfl, Nat.le_of_ble_eq_true rfl⟩ (Nat.le_of_ble_eq_true rfl) ⟨Nat.le_of_ble_eq_true rfl, Nat.le_of_ble_eq_true rfl⟩) (fun y61 h61 hw => ?_)
  refine j_icmp_ge X (pc := 64) 71 dX7_hasNext_64 (by decide) hw (fun hw => ?_) (fun hw => ?_)
  · refine j_iconst X (pc := 71) 0 dX7_hasNext_71 (by decide) ?_
    exact j_zret X (pc := 72) (ty := .boolean) hQ er rfl (Nat.le_of_ble_eq_true rfl) (Nat.le_of_ble_eq_true rfl) dX7_hasNext_72 hw
  · refine j_iconst X (pc := 67) 1 dX7_hasNext_67 (by decide) ?_
    refine j_goto X (pc := 68) 72 dX7_hasNext_68 (by decide) ?_
    exact j_zret X (pc := 72) (ty := .boolean) hQ er rfl (Nat.le_of_ble_eq_true rfl) (Nat.le_of_ble_eq_true rfl) dX7_hasNext_72 hw
theorem wk_X7_hasNext_0 {x : CX} (X : Ok x cX7_hasNext RX7 rm_X7_hasNext 1) (er : xrt x = (Option.some Jvm.ClassFile.FieldType.boolean)) (en : xnm x = yX7_hasNext.name) {P : Int32 → AH → Prop} (hQ : xr_i x P) (x0 : Option Nat) (h : AH) (hw : w_X7_hasNext_0 P x0 h) : J x h 0 0 0 [(0, vR x0)] [] := by
  refine hw (fun h => J x h 0 0 0 [(0, vR x0)] []) (fun h hw => ?_)
  refine j_aload_n X (pc := 0) 0 dX7_hasNext_0 rfl rfl ?_
  refine j_geti (ci := 6) X (pc := 1) in_X7 rfl (by decide) 0 (by decide) q448 (Or.inl rfl) dX7_hasNext_1 hw (fun y1 hw => ?_)
  refine j_aload_n X (pc := 4) 0 dX7_hasNext_4 rfl rfl ?_
  refine j_getq (ci := 6) X (pc := 5) in_X7 rfl (by decide) 1 (by decide) q449 (Or.inl rfl) dX7_hasNext_5 hw (fun y5 hw => ?_)
  refine j_getq (ci := 2) X (pc := 8) in_X3 rfl (by decide) 5 (by decide) q219 (Or.inl rfl) dX7_hasNext_8 hw (fun y8 hw => ?_)
  refine j_getqN (ci := 0) X (pc := 11) in_X1 rfl (by decide) 0 (by decide) q238 (Or.inl rfl) dX7_hasNext_11 hw (fun y11 hw => ?_)
  obtain ⟨b9, c9, f9, hr9, ho9, hc9, hw⟩ := hw
  obtain rfl := List.mem_singleton.mp hc9
  refine j_calli (j_runV (n8 := 0) (As := []) (rest := [vI y1]) X (pc := 14) hr9 (met_J2_size (xl x) X.hl (xG x) h y11 _ hw) ho9 (by decide) rfl q490 q285 q286 q74 q287 (by decide +kernel) dX7_hasNext_14 rfl ⟨Nat.le_of_ble_eq_true rfl, Nat.le_of_ble_eq_true rfl⟩ (Nat.le_of_ble_eq_true rfl) ⟨Nat.le_of_ble_eq_true rfl, Nat.le_of_ble_eq_true rfl⟩) (fun y14 h14 hw => ?_)
  refine j_icmp_ge X (pc := 17) 47 dX7_hasNext_17 (by decide) hw (fun hw => ?_) (fun hw => ?_)
  · refine j_cs (u' := 0) (v' := 0) (Nat.le_of_ble_eq_true rfl) (Nat.le_of_ble_eq_true rfl) ?_
    exact wk_X7_hasNext_47 X er en hQ x0 h14 hw
  · refine j_aload_n X (pc := 20) 0 dX7_hasNext_20 rfl rfl ?_
    refine j_getq (ci := 6) X (pc := 21) in_X7 rfl (by decide) 1 (by decide) q449 (Or.inl rfl) dX7_hasNext_21 hw (fun y21 hw => ?_)
    refine j_aload_n X (pc := 24) 0 dX7_hasNext_24 rfl rfl ?_
    refine j_geti (ci := 6) X (pc := 25) in_X7 rfl (by decide) 0 (by decide) q448 (Or.inl rfl) dX7_hasNext_25 hw (fun y25 hw => ?_)
    obtain ⟨b9, c9, f9, hr9, ho9, hc9, hw⟩ := hw
    obtain rfl := List.mem_singleton.mp hc9
    refine j_calli (j_runV (n8 := 1) (As := [vI y25]) (rest := []) X (pc := 28) hr9 (met_X3_sees (xl x) X.hl (xG x) h14 y21 y25 _ hw) ho9 (by decide) rfl q491 q410 q411 q76 q412 (by decide +kernel) dX7_hasNext_28 rfl ⟨Nat.le_of_ble_eq_true rfl, Nat.le_of_ble_eq_true rfl⟩ (Nat.le_of_ble_eq_true rfl) ⟨Nat.le_of_ble_eq_true rfl, Nat.le_of_ble_eq_true rfl⟩) (fun y28 h28 hw => ?_)
    refine j_if_ne X (pc := 31) 47 dX7_hasNext_31 (by decide) hw (fun hw => ?_) (fun hw => ?_)
    · refine j_aload_n X (pc := 34) 0 dX7_hasNext_34 rfl rfl ?_
      refine j_dup X (pc := 35) dX7_hasNext_35 rfl ?_
      refine j_geti (ci := 6) X (pc := 36) in_X7 rfl (by decide) 0 (by decide) q448 (Or.inl rfl) dX7_hasNext_36 hw (fun y36 hw => ?_)
      refine j_iconst X (pc := 39) 1 dX7_hasNext_39 (by decide) ?_
      refine j_iadd X (pc := 40) dX7_hasNext_40 ?_
      refine j_put (ci := 6) X (pc := 41) in_X7 rfl (by decide) 0 (by decide) q448 (Or.inl rfl) tyX7 tyX7_ok nmX7 rfl rfl (ty := .int) (tyX7_ok 0 (by decide)) rfl rfl dX7_hasNext_41 hw (fun h41 hw => ?_)
      refine j_goto X (pc := 44) 0 dX7_hasNext_44 (by decide) ?_
      refine j_cs (u' := 0) (v' := 0) (Nat.le_of_ble_eq_true rfl) (Nat.le_of_ble_eq_true rfl) ?_
      exact hw
    · refine j_cs (u' := 0) (v' := 0) (Nat.le_of_ble_eq_true rfl) (Nat.le_of_ble_eq_true rfl) ?_
      exact wk_X7_hasNext_47 X er en hQ x0 h28 hw
theorem met_X7_hasNext (l : Launch) (hlt : l.stackTraces = false) (G : GG) (h : AH) (a0 : Option Nat) (P : Int32 → AH → Prop) (hw : w_X7_hasNext a0 h P) : ct_i l yX7_hasNext (ws_ yX7_hasNext cX7_hasNext 1 (Option.some Jvm.ClassFile.FieldType.boolean)) rm_X7_hasNext G h [vR a0] P := by
  refine j_starti hlt [(0, vR a0)] (plainFor_of_name (by decide)) rfl rfl (fun x X eG er en hQ => ?_)
  subst eG
  refine j_aload_n X (pc := 0) 0 dX7_hasNext_0 rfl rfl ?_
  refine j_geti (ci := 6) X (pc := 1) in_X7 rfl (by decide) 0 (by decide) q448 (Or.inl rfl) dX7_hasNext_1 hw (fun y1 hw => ?_)
  refine j_aload_n X (pc := 4) 0 dX7_hasNext_4 rfl rfl ?_
  refine j_getq (ci := 6) X (pc := 5) in_X7 rfl (by decide) 1 (by decide) q449 (Or.inl rfl) dX7_hasNext_5 hw (fun y5 hw => ?_)
  refine j_getq (ci := 2) X (pc := 8) in_X3 rfl (by decide) 5 (by decide) q219 (Or.inl rfl) dX7_hasNext_8 hw (fun y8 hw => ?_)
  refine j_getqN (ci := 0) X (pc := 11) in_X1 rfl (by decide) 0 (by decide) q238 (Or.inl rfl) dX7_hasNext_11 hw (fun y11 hw => ?_)
  obtain ⟨b9, c9, f9, hr9, ho9, hc9, hw⟩ := hw
  obtain rfl := List.mem_singleton.mp hc9
  refine j_calli (j_runV (n8 := 0) (As := []) (rest := [vI y1]) X (pc := 14) hr9 (met_J2_size (xl x) X.hl (xG x) h y11 _ hw) ho9 (by decide) rfl q490 q285 q286 q74 q287 (by decide +kernel) dX7_hasNext_14 rfl ⟨Nat.le_of_ble_eq_true rfl, Nat.le_of_ble_eq_true rfl⟩ (Nat.le_of_ble_eq_true rfl) ⟨Nat.le_of_ble_eq_true rfl, Nat.le_of_ble_eq_true rfl⟩) (fun y14 h14 hw => ?_)
  refine j_icmp_ge X (pc := 17) 47 dX7_hasNext_17 (by decide) hw (fun hw => ?_) (fun hw => ?_)
  · refine j_cs (u' := 0) (v' := 0) (Nat.le_of_ble_eq_true rfl) (Nat.le_of_ble_eq_true rfl) ?_
    exact wk_X7_hasNext_47 X er en hQ a0 h14 hw
  · refine j_aload_n X (pc := 20) 0 dX7_hasNext_20 rfl rfl ?_
    refine j_getq (ci := 6) X (pc := 21) in_X7 rfl (by decide) 1 (by decide) q449 (Or.inl rfl) dX7_hasNext_21 hw (fun y21 hw => ?_)
    refine j_aload_n X (pc := 24) 0 dX7_hasNext_24 rfl rfl ?_
    refine j_geti (ci := 6) X (pc := 25) in_X7 rfl (by decide) 0 (by decide) q448 (Or.inl rfl) dX7_hasNext_25 hw (fun y25 hw => ?_)
    obtain ⟨b9, c9, f9, hr9, ho9, hc9, hw⟩ := hw
    obtain rfl := List.mem_singleton.mp hc9
    refine j_calli (j_runV (n8 := 1) (As := [vI y25]) (rest := []) X (pc := 28) hr9 (met_X3_sees (xl x) X.hl (xG x) h14 y21 y25 _ hw) ho9 (by decide) rfl q491 q410 q411 q76 q412 (by decide +kernel) dX7_hasNext_28 rfl ⟨Nat.le_of_ble_eq_true rfl, Nat.le_of_ble_eq_true rfl⟩ (Nat.le_of_ble_eq_true rfl) ⟨Nat.le_of_ble_eq_true rfl, Nat.le_of_ble_eq_true rfl⟩) (fun y28 h28 hw => ?_)
    refine j_if_ne X (pc := 31) 47 dX7_hasNext_31 (by decide) hw (fun hw => ?_) (fun hw => ?_)
    · refine j_aload_n X (pc := 34) 0 dX7_hasNext_34 rfl rfl ?_
      refine j_dup X (pc := 35) dX7_hasNext_35 rfl ?_
      refine j_geti (ci := 6) X (pc := 36) in_X7 rfl (by decide) 0 (by decide) q448 (Or.inl rfl) dX7_hasNext_36 hw (fun y36 hw => ?_)
      refine j_iconst X (pc := 39) 1 dX7_hasNext_39 (by decide) ?_
      refine j_iadd X (pc := 40) dX7_hasNext_40 ?_
      refine j_put (ci := 6) X (pc := 41) in_X7 rfl (by decide) 0 (by decide) q448 (Or.inl rfl) tyX7 tyX7_ok nmX7 rfl rfl (ty := .int) (tyX7_ok 0 (by decide)) rfl rfl dX7_hasNext_41 hw (fun h41 hw => ?_)
      refine j_goto X (pc := 44) 0 dX7_hasNext_44 (by decide) ?_
      refine j_cs (u' := 0) (v' := 0) (Nat.le_of_ble_eq_true rfl) (Nat.le_of_ble_eq_true rfl) ?_
      exact wk_X7_hasNext_0 X er en hQ a0 h41 hw
    · refine j_cs (u' := 0) (v' := 0) (Nat.le_of_ble_eq_true rfl) (Nat.le_of_ble_eq_true rfl) ?_
      exact wk_X7_hasNext_47 X er en hQ a0 h28 hw
abbrev cJ10_checkIndex : ByteArray := prog_65_method_11_code
def yJ10_checkIndex : MethodName := ⟨RJ10, "checkIndex", "(IILjava/util/function/BiFunction;)I"⟩
def dkwJ10_checkIndex_0 : List UInt8 := [26, 155, 0, 8, 26, 27, 161, 0, 10, 44, 26, 27, 184, 0, 95, 191, 26, 172]
abbrev dktJ10_checkIndex_0 : List UInt8 := dkwJ10_checkIndex_0 ++ []
theorem dksJ10_checkIndex_0 : cJ10_checkIndex.data.toList.drop 0 = dktJ10_checkIndex_0 := by decide +kernel
theorem dJ10_checkIndex_0 : decode cJ10_checkIndex 0 = .ok (.iload_n 0, 1) := dk_26 (dk_at dksJ10_checkIndex_0 0 rfl rfl)
theorem dJ10_checkIndex_1 : decode cJ10_checkIndex 1 = .ok (.ifCond .lt 8, 3) := dk_155 0 8 (dk_at dksJ10_checkIndex_0 1 rfl rfl)
theorem dJ10_checkIndex_4 : decode cJ10_checkIndex 4 = .ok (.iload_n 0, 1) := dk_26 (dk_at dksJ10_checkIndex_0 4 rfl rfl)
theorem dJ10_checkIndex_5 : decode cJ10_checkIndex 5 = .ok (.iload_n 1, 1) := dk_27 (dk_at dksJ10_checkIndex_0 5 rfl rfl)
theorem dJ10_checkIndex_6 : decode cJ10_checkIndex 6 = .ok (.if_icmp .lt 10, 3) := dk_161 0 10 (dk_at dksJ10_checkIndex_0 6 rfl rfl)
theorem dJ10_checkIndex_9 : decode cJ10_checkIndex 9 = .ok (.aload_n 2, 1) := dk_44 (dk_at dksJ10_checkIndex_0 9 rfl rfl)
theorem dJ10_checkIndex_10 : decode cJ10_checkIndex 10 = .ok (.iload_n 0, 1) := dk_26 (dk_at dksJ10_checkIndex_0 10 rfl rfl)
theorem dJ10_checkIndex_11 : decode cJ10_checkIndex 11 = .ok (.iload_n 1, 1) := dk_27 (dk_at dksJ10_checkIndex_0 11 rfl rfl)
theorem dJ10_checkIndex_12 : decode cJ10_checkIndex 12 = .ok (.invokestatic 95, 3) := dk_184 0 95 (dk_at dksJ10_checkIndex_0 12 rfl rfl)
theorem dJ10_checkIndex_15 : decode cJ10_checkIndex 15 = .ok (.athrow, 1) := dk_191 (dk_at dksJ10_checkIndex_0 15 rfl rfl)
theorem dJ10_checkIndex_16 : decode cJ10_checkIndex 16 = .ok (.iload_n 0, 1) := dk_26 (dk_at dksJ10_checkIndex_0 16 rfl rfl)
theorem dJ10_checkIndex_17 : decode cJ10_checkIndex 17 = .ok (.ireturn, 1) := dk_172 (dk_at dksJ10_checkIndex_0 17 rfl rfl)
abbrev rm_J10_checkIndex : Room := { frames := 0, cells := 0, slots := 0, locals := 0 }
def w_J10_checkIndex (a0 : Int32) (a1 : Int32) (a2 : Option Nat) (h : AH) (P : Int32 → AH → Prop) : Prop :=
  ((a0 < 0 →
    False) ∧
   (¬ a0 < 0 →
    ((a0 < a1 →
      P a0 h) ∧
     (¬ a0 < a1 →
      False))))
theorem met_J10_checkIndex (l : Launch) (hlt : l.stackTraces = false) (G : GG) (h : AH) (a0 : Int32) (a1 : Int32) (a2 : Option Nat) (P : Int32 → AH → Prop) (hw : w_J10_checkIndex a0 a1 a2 h P) : ct_i l yJ10_checkIndex (ws_ yJ10_checkIndex cJ10_checkIndex 3 (Option.some Jvm.ClassFile.FieldType.int)) rm_J10_checkIndex G h [vI a0, vI a1, vR a2] P := by
  refine j_starti hlt [(0, vI a0), (1, vI a1), (2, vR a2)] (plainFor_of_name (by decide)) rfl rfl (fun x X eG er en hQ => ?_)
  subst eG
  refine j_iload_n X (pc := 0) 0 dJ10_checkIndex_0 rfl rfl ?_
  refine j_if_lt X (pc := 1) 9 dJ10_checkIndex_1 (by decide) hw (fun hw => ?_) (fun hw => ?_)
  · refine j_aload_n X (pc := 9) 2 dJ10_checkIndex_9 rfl rfl ?_
    refine j_iload_n X (pc := 10) 0 dJ10_checkIndex_10 rfl rfl ?_
    refine j_iload_n X (pc := 11) 1 dJ10_checkIndex_11 rfl rfl ?_
    exact hw.elim
  · refine j_iload_n X (pc := 4) 0 dJ10_checkIndex_4 rfl rfl ?_
    refine j_iload_n X (pc := 5) 1 dJ10_checkIndex_5 rfl rfl ?_
    refine j_icmp_lt X (pc := 6) 16 dJ10_checkIndex_6 (by decide) hw (fun hw => ?_) (fun hw => ?_)
    · refine j_iload_n X (pc := 16) 0 dJ10_checkIndex_16 rfl rfl ?_
      exact j_iret X (pc := 17) hQ er (Nat.le_of_ble_eq_true rfl) (Nat.le_of_ble_eq_true rfl) dJ10_checkIndex_17 hw
    · refine j_aload_n X (pc := 9) 2 dJ10_checkIndex_9 rfl rfl ?_
      refine j_iload_n X (pc := 10) 0 dJ10_checkIndex_10 rfl rfl ?_
      refine j_iload_n X (pc := 11) 1 dJ10_checkIndex_11 rfl rfl ?_
      exact hw.elim
abbrev cJ9_checkIndex : ByteArray := prog_61_method_17_code
def yJ9_checkIndex : MethodName := ⟨RJ9, "checkIndex", "(II)I"⟩
def dkwJ9_checkIndex_0 : List UInt8 := [26, 27, 1, 184, 0, 105, 172]
abbrev dktJ9_checkIndex_0 : List UInt8 := dkwJ9_checkIndex_0 ++ []
theorem dksJ9_checkIndex_0 : cJ9_checkIndex.data.toList.drop 0 = dktJ9_checkIndex_0 := by decide +kernel
theorem dJ9_checkIndex_0 : decode cJ9_checkIndex 0 = .ok (.iload_n 0, 1) := dk_26 (dk_at dksJ9_checkIndex_0 0 rfl rfl)
theorem dJ9_checkIndex_1 : decode cJ9_checkIndex 1 = .ok (.iload_n 1, 1) := dk_27 (dk_at dksJ9_checkIndex_0 1 rfl rfl)
theorem dJ9_checkIndex_2 : decode cJ9_checkIndex 2 = .ok (.aconst_null, 1) := dk_1 (dk_at dksJ9_checkIndex_0 2 rfl rfl)
theorem dJ9_checkIndex_3 : decode cJ9_checkIndex 3 = .ok (.invokestatic 105, 3) := dk_184 0 105 (dk_at dksJ9_checkIndex_0 3 rfl rfl)
theorem dJ9_checkIndex_6 : decode cJ9_checkIndex 6 = .ok (.ireturn, 1) := dk_172 (dk_at dksJ9_checkIndex_0 6 rfl rfl)
theorem q88 : (Jvm.Cond.initialized "jdk/internal/util/Preconditions") ∈ lw_all := lw_g (lw_at lw_m1 18 rfl) rfl
theorem q518 : (Jvm.Cond.methodLink "java/util/Objects" (105 : Nat) ({ cls := "jdk/internal/util/Preconditions", name := "checkIndex", desc := "(IILjava/util/function/BiFunction;)I" } : Jvm.MethodName)) ∈ lw_all := lw_g (lw_at lw_m2 208 rfl) rfl
theorem q519 : (Jvm.Cond.static ({ cls := "jdk/internal/util/Preconditions", name := "checkIndex", desc := "(IILjava/util/function/BiFunction;)I" } : Jvm.MethodName)) ∈ lw_all := lw_g (lw_at lw_m2 209 rfl) rfl
theorem q520 : (Jvm.Cond.code ({ cls := "jdk/internal/util/Preconditions", name := "checkIndex", desc := "(IILjava/util/function/BiFunction;)I" } : Jvm.MethodName) prog_65_method_11_code (3 : Nat) (Option.some Jvm.ClassFile.FieldType.int)) ∈ lw_all := lw_g (lw_at lw_m2 210 rfl) rfl
abbrev rm_J9_checkIndex : Room := { frames := 1, cells := 0, slots := 0, locals := 22 }
def w_J9_checkIndex (a0 : Int32) (a1 : Int32) (h : AH) (P : Int32 → AH → Prop) : Prop :=
  w_J10_checkIndex a0 a1 none h (fun y3 h3 =>
  P y3 h3)
theorem met_J9_checkIndex (l : Launch) (hlt : l.stackTraces = false) (G : GG) (h : AH) (a0 : Int32) (a1 : Int32) (P : Int32 → AH → Prop) (hw : w_J9_checkIndex a0 a1 h P) : ct_i l yJ9_checkIndex (ws_ yJ9_checkIndex cJ9_checkIndex 2 (Option.some Jvm.ClassFile.FieldType.int)) rm_J9_checkIndex G h [vI a0, vI a1] P := by
  refine j_starti hlt [(0, vI a0), (1, vI a1)] (plainFor_of_name (by decide)) rfl rfl (fun x X eG er en hQ => ?_)
  subst eG
  refine j_iload_n X (pc := 0) 0 dJ9_checkIndex_0 rfl rfl ?_
  refine j_iload_n X (pc := 1) 1 dJ9_checkIndex_1 rfl rfl ?_
  refine j_null X (pc := 2) dJ9_checkIndex_2 ?_
  refine j_calli (j_runS (n8 := 3) (As := [vI a0, vI a1, vR none]) (rest := []) X (pc := 3) (met_J10_checkIndex (xl x) X.hl (xG x) h a0 a1 none _ hw) q518 q519 q88 q520 (by decide +kernel) dJ9_checkIndex_3 rfl ⟨Nat.le_of_ble_eq_true rfl, Nat.le_of_ble_eq_true rfl⟩ (Nat.le_of_ble_eq_true rfl) ⟨Nat.le_of_ble_eq_true rfl, Nat.le_of_ble_eq_true rfl⟩) (fun y3 h3 hw => ?_)
  exact j_iret X (pc := 6) hQ er (Nat.le_of_ble_eq_true rfl) (Nat.le_of_ble_eq_true rfl) dJ9_checkIndex_6 hw
abbrev cJ2_elementData : ByteArray := prog_54_method_18_code
def yJ2_elementData : MethodName := ⟨RJ2, "elementData", "(I)Ljava/lang/Object;"⟩
def dkwJ2_elementData_0 : List UInt8 := [42, 180, 0, 9, 27, 50, 176]
abbrev dktJ2_elementData_0 : List UInt8 := dkwJ2_elementData_0 ++ []
theorem dksJ2_elementData_0 : cJ2_elementData.data.toList.drop 0 = dktJ2_elementData_0 := by decide +kernel
theorem dJ2_elementData_0 : decode cJ2_elementData 0 = .ok (.aload_n 0, 1) := dk_42 (dk_at dksJ2_elementData_0 0 rfl rfl)
theorem dJ2_elementData_1 : decode cJ2_elementData 1 = .ok (.getfield 9, 3) := dk_180 0 9 (dk_at dksJ2_elementData_0 1 rfl rfl)
theorem dJ2_elementData_4 : decode cJ2_elementData 4 = .ok (.iload_n 1, 1) := dk_27 (dk_at dksJ2_elementData_0 4 rfl rfl)
theorem dJ2_elementData_5 : decode cJ2_elementData 5 = .ok (.aaload, 1) := dk_50 (dk_at dksJ2_elementData_0 5 rfl rfl)
theorem dJ2_elementData_6 : decode cJ2_elementData 6 = .ok (.areturn, 1) := dk_176 (dk_at dksJ2_elementData_0 6 rfl rfl)
abbrev rm_J2_elementData : Room := { frames := 0, cells := 0, slots := 0, locals := 0 }
def w_J2_elementData (a0 : Option Nat) (a1 : Int32) (h : AH) (P : Option Nat → AH → Prop) : Prop :=
  g_q h a0 15 1 fun y1 =>
  l_q h y1 a1 fun y5 =>
  P y5 h
theorem met_J2_elementData (l : Launch) (hlt : l.stackTraces = false) (G : GG) (h : AH) (a0 : Option Nat) (a1 : Int32) (P : Option Nat → AH → Prop) (hw : w_J2_elementData a0 a1 h P) : ct_q l yJ2_elementData (ws_ yJ2_elementData cJ2_elementData 2 (Option.some (Jvm.ClassFile.FieldType.object "java/lang/Object"))) rm_J2_elementData G h [vR a0, vI a1] P := by
  refine j_startq hlt [(0, vR a0), (1, vI a1)] (plainFor_of_name (by decide)) rfl rfl (fun x X eG er en hQ => ?_)
  subst eG
  refine j_aload_n X (pc := 0) 0 dJ2_elementData_0 rfl rfl ?_
  refine j_getq (ci := 15) X (pc := 1) in_J2 rfl (by decide) 1 (by decide) q141 (Or.inl rfl) dJ2_elementData_1 hw (fun y1 hw => ?_)
  refine j_iload_n X (pc := 4) 1 dJ2_elementData_4 rfl rfl ?_
  refine j_aald X (pc := 5) dJ2_elementData_5 hw (fun y5 hw => ?_)
  exact j_aret X (pc := 6) (ty := (.object "java/lang/Object")) hQ er (Or.inl ⟨_, rfl⟩) (Nat.le_of_ble_eq_true rfl) (Nat.le_of_ble_eq_true rfl) dJ2_elementData_6 hw
abbrev cJ2_get : ByteArray := prog_54_method_20_code
def yJ2_get : MethodName := ⟨RJ2, "get", "(I)Ljava/lang/Object;"⟩
def dkwJ2_get_0 : List UInt8 := [27, 42, 180, 0, 48, 184, 0, 118, 87, 42, 27, 182, 0, 123, 176]
abbrev dktJ2_get_0 : List UInt8 := dkwJ2_get_0 ++ []
theorem dksJ2_get_0 : cJ2_get.data.toList.drop 0 = dktJ2_get_0 := by decide +kernel
theorem dJ2_get_0 : decode cJ2_get 0 = .ok (.iload_n 1, 1) := dk_27 (dk_at dksJ2_get_0 0 rfl rfl)
theorem dJ2_get_1 : decode cJ2_get 1 = .ok (.aload_n 0, 1) := dk_42 (dk_at dksJ2_get_0 1 rfl rfl)
theorem dJ2_get_2 : decode cJ2_get 2 = .ok (.getfield 48, 3) := dk_180 0 48 (dk_at dksJ2_get_0 2 rfl rfl)
theorem dJ2_get_5 : decode cJ2_get 5 = .ok (.invokestatic 118, 3) := dk_184 0 118 (dk_at dksJ2_get_0 5 rfl rfl)
theorem dJ2_get_8 : decode cJ2_get 8 = .ok (.pop, 1) := dk_87 (dk_at dksJ2_get_0 8 rfl rfl)
theorem dJ2_get_9 : decode cJ2_get 9 = .ok (.aload_n 0, 1) := dk_42 (dk_at dksJ2_get_0 9 rfl rfl)
theorem dJ2_get_10 : decode cJ2_get 10 = .ok (.iload_n 1, 1) := dk_27 (dk_at dksJ2_get_0 10 rfl rfl)
theorem dJ2_get_11 : decode cJ2_get 11 = .ok (.invokevirtual 123, 3) := dk_182 0 123 (dk_at dksJ2_get_0 11 rfl rfl)
theorem dJ2_get_14 : decode cJ2_get 14 = .ok (.areturn, 1) := dk_176 (dk_at dksJ2_get_0 14 rfl rfl)
theorem q87 : (Jvm.Cond.initialized "java/util/Objects") ∈ lw_all := lw_g (lw_at lw_m1 17 rfl) rfl
theorem q515 : (Jvm.Cond.methodLink "java/util/ArrayList" (118 : Nat) ({ cls := "java/util/Objects", name := "checkIndex", desc := "(II)I" } : Jvm.MethodName)) ∈ lw_all := lw_g (lw_at lw_m2 205 rfl) rfl
theorem q516 : (Jvm.Cond.static ({ cls := "java/util/Objects", name := "checkIndex", desc := "(II)I" } : Jvm.MethodName)) ∈ lw_all := lw_g (lw_at lw_m2 206 rfl) rfl
theorem q517 : (Jvm.Cond.code ({ cls := "java/util/Objects", name := "checkIndex", desc := "(II)I" } : Jvm.MethodName) prog_61_method_17_code (2 : Nat) (Option.some Jvm.ClassFile.FieldType.int)) ∈ lw_all := lw_g (lw_at lw_m2 207 rfl) rfl
theorem q521 : (Jvm.Cond.methodLink "java/util/ArrayList" (123 : Nat) ({ cls := "java/util/ArrayList", name := "elementData", desc := "(I)Ljava/lang/Object;" } : Jvm.MethodName)) ∈ lw_all := lw_g (lw_at lw_m2 211 rfl) rfl
theorem q522 : (Jvm.Cond.instanceMethod ({ cls := "java/util/ArrayList", name := "elementData", desc := "(I)Ljava/lang/Object;" } : Jvm.MethodName)) ∈ lw_all := lw_g (lw_at lw_m2 212 rfl) rfl
theorem q523 : (Jvm.Cond.selects "java/util/ArrayList" ({ cls := "java/util/ArrayList", name := "elementData", desc := "(I)Ljava/lang/Object;" } : Jvm.MethodName) ({ cls := "java/util/ArrayList", name := "elementData", desc := "(I)Ljava/lang/Object;" } : Jvm.MethodName)) ∈ lw_all := lw_g (lw_at lw_m2 213 rfl) rfl
theorem q524 : (Jvm.Cond.code ({ cls := "java/util/ArrayList", name := "elementData", desc := "(I)Ljava/lang/Object;" } : Jvm.MethodName) prog_54_method_18_code (2 : Nat) (Option.some (Jvm.ClassFile.FieldType.object "java/lang/Object"))) ∈ lw_all := lw_g (lw_at lw_m2 214 rfl) rfl
abbrev rm_J2_get : Room := { frames := 2, cells := 0, slots := 0, locals := 43 }
def w_J2_get (a0 : Option Nat) (a1 : Int32) (h : AH) (P : Option Nat → AH → Prop) : Prop :=
  g_i h a0 15 2 fun y2 =>
  w_J9_checkIndex a1 y2 h (fun y5 h5 =>
  is_c h5 a0 [15] (
  w_J2_elementData a0 a1 h5 (fun y11 h11 =>
  P y11 h11)))
theorem met_J2_get (l : Launch) (hlt : l.stackTraces = false) (G : GG) (h : AH) (a0 : Option Nat) (a1 : Int32) (P : Option Nat → AH → Prop) (hw : w_J2_get a0 a1 h P) : ct_q l yJ2_get (ws_ yJ2_get cJ2_get 2 (Option.some (Jvm.ClassFile.FieldType.object "java/lang/Object"))) rm_J2_get G h [vR a0, vI a1] P := by
  refine j_startq hlt [(0, vR a0), (1, vI a1)] (plainFor_of_name (by decide)) rfl rfl (fun x X eG er en hQ => ?_)
  subst eG
  refine j_iload_n X (pc := 0) 1 dJ2_get_0 rfl rfl ?_
  refine j_aload_n X (pc := 1) 0 dJ2_get_1 rfl rfl ?_
  refine j_geti (ci := 15) X (pc := 2) in_J2 rfl (by decide) 2 (by decide) q144 (Or.inl rfl) dJ2_get_2 hw (fun y2 hw => ?_)
  refine j_calli (j_runS (n8 := 2) (As := [vI a1, vI y2]) (rest := []) X (pc := 5) (met_J9_checkIndex (xl x) X.hl (xG x) h a1 y2 _ hw) q515 q516 q87 q517 (by decide +kernel) dJ2_get_5 rfl ⟨Nat.le_of_ble_eq_true rfl, Nat.le_of_ble_eq_true rfl⟩ (Nat.le_of_ble_eq_true rfl) ⟨Nat.le_of_ble_eq_true rfl, Nat.le_of_ble_eq_true rfl⟩) (fun y5 h5 hw => ?_)
  refine j_pop X (pc := 8) dJ2_get_8 rfl ?_
  refine j_aload_n X (pc := 9) 0 dJ2_get_9 rfl rfl ?_
  refine j_iload_n X (pc := 10) 1 dJ2_get_10 rfl rfl ?_
  obtain ⟨b9, c9, f9, hr9, ho9, hc9, hw⟩ := hw
  obtain rfl := List.mem_singleton.mp hc9
  refine j_callq (j_runV (n8 := 1) (As := [vI a1]) (rest := []) X (pc := 11) hr9 (met_J2_elementData (xl x) X.hl (xG x) h5 a0 a1 _ hw) ho9 (by decide) rfl q521 q522 q523 q74 q524 (by decide +kernel) dJ2_get_11 rfl ⟨Nat.le_of_ble_eq_true rfl, Nat.le_of_ble_eq_true rfl⟩ (Nat.le_of_ble_eq_true rfl) ⟨Nat.le_of_ble_eq_true rfl, Nat.le_of_ble_eq_true rfl⟩) (fun y11 h11 hw => ?_)
  exact j_aret X (pc := 14) (ty := (.object "java/lang/Object")) hQ er (Or.inl ⟨_, rfl⟩) (Nat.le_of_ble_eq_true rfl) (Nat.le_of_ble_eq_true rfl) dJ2_get_14 hw
abbrev cX7_next_2 : ByteArray := prog_5_method_3_code
def yX7_next_2 : MethodName := ⟨RX7, "next", "()LPlugboard$Shape;"⟩
def dkwX7_next_2_1 : List UInt8 := [180, 0, 13, 4, 96, 181, 0, 13, 43, 176]
abbrev dktX7_next_2_1 : List UInt8 := dkwX7_next_2_1 ++ []
def dkwX7_next_2_0 : List UInt8 := [42, 180, 0, 1, 180, 0, 17, 180, 0, 23, 42, 180, 0, 13, 182, 0, 39, 192, 0, 43, 76, 42, 89]
abbrev dktX7_next_2_0 : List UInt8 := dkwX7_next_2_0 ++ dktX7_next_2_1
theorem dksX7_next_2_0 : cX7_next_2.data.toList.drop 0 = dktX7_next_2_0 := by decide +kernel
theorem dksX7_next_2_1 : cX7_next_2.data.toList.drop 23 = dktX7_next_2_1 := dk_seg dksX7_next_2_0 23 rfl rfl
theorem dX7_next_2_0 : decode cX7_next_2 0 = .ok (.aload_n 0, 1) := dk_42 (dk_at dksX7_next_2_0 0 rfl rfl)
theorem dX7_next_2_1 : decode cX7_next_2 1 = .ok (.getfield 1, 3) := dk_180 0 1 (dk_at dksX7_next_2_0 1 rfl rfl)
theorem dX7_next_2_4 : decode cX7_next_2 4 = .ok (.getfield 17, 3) := dk_180 0 17 (dk_at dksX7_next_2_0 4 rfl rfl)
theorem dX7_next_2_7 : decode cX7_next_2 7 = .ok (.getfield 23, 3) := dk_180 0 23 (dk_at dksX7_next_2_0 7 rfl rfl)
theorem dX7_next_2_10 : decode cX7_next_2 10 = .ok (.aload_n 0, 1) := dk_42 (dk_at dksX7_next_2_0 10 rfl rfl)
theorem dX7_next_2_11 : decode cX7_next_2 11 = .ok (.getfield 13, 3) := dk_180 0 13 (dk_at dksX7_next_2_0 11 rfl rfl)
theorem dX7_next_2_14 : decode cX7_next_2 14 = .ok (.invokevirtual 39, 3) := dk_182 0 39 (dk_at dksX7_next_2_0 14 rfl rfl)
theorem dX7_next_2_17 : decode cX7_next_2 17 = .ok (.checkcast 43, 3) := dk_192 0 43 (dk_at dksX7_next_2_0 17 rfl rfl)
theorem dX7_next_2_20 : decode cX7_next_2 20 = .ok (.astore_n 1, 1) := dk_76 (dk_at dksX7_next_2_0 20 rfl rfl)
theorem dX7_next_2_21 : decode cX7_next_2 21 = .ok (.aload_n 0, 1) := dk_42 (dk_at dksX7_next_2_0 21 rfl rfl)
theorem dX7_next_2_22 : decode cX7_next_2 22 = .ok (.dup, 1) := dk_89 (dk_at dksX7_next_2_0 22 rfl rfl)
theorem dX7_next_2_23 : decode cX7_next_2 23 = .ok (.getfield 13, 3) := dk_180 0 13 (dk_at dksX7_next_2_1 0 rfl rfl)
theorem dX7_next_2_26 : decode cX7_next_2 26 = .ok (.iconst 1, 1) := dk_4 (dk_at dksX7_next_2_1 3 rfl rfl)
theorem dX7_next_2_27 : decode cX7_next_2 27 = .ok (.iadd, 1) := dk_96 (dk_at dksX7_next_2_1 4 rfl rfl)
theorem dX7_next_2_28 : decode cX7_next_2 28 = .ok (.putfield 13, 3) := dk_181 0 13 (dk_at dksX7_next_2_1 5 rfl rfl)
theorem dX7_next_2_31 : decode cX7_next_2 31 = .ok (.aload_n 1, 1) := dk_43 (dk_at dksX7_next_2_1 8 rfl rfl)
theorem dX7_next_2_32 : decode cX7_next_2 32 = .ok (.areturn, 1) := dk_176 (dk_at dksX7_next_2_1 9 rfl rfl)
theorem q511 : (Jvm.Cond.methodLink "Plugboard$Board$Seen" (39 : Nat) ({ cls := "java/util/ArrayList", name := "get", desc := "(I)Ljava/lang/Object;" } : Jvm.MethodName)) ∈ lw_all := lw_g (lw_at lw_m2 201 rfl) rfl
theorem q512 : (Jvm.Cond.instanceMethod ({ cls := "java/util/ArrayList", name := "get", desc := "(I)Ljava/lang/Object;" } : Jvm.MethodName)) ∈ lw_all := lw_g (lw_at lw_m2 202 rfl) rfl
theorem q513 : (Jvm.Cond.selects "java/util/ArrayList" ({ cls := "java/util/ArrayList", name := "get", desc := "(I)Ljava/lang/Object;" } : Jvm.MethodName) ({ cls := "java/util/ArrayList", name := "get", desc := "(I)Ljava/lang/Object;" } : Jvm.MethodName)) ∈ lw_all := lw_g (lw_at lw_m2 203 rfl) rfl
theorem q514 : (Jvm.Cond.code ({ cls := "java/util/ArrayList", name := "get", desc := "(I)Ljava/lang/Object;" } : Jvm.MethodName) prog_54_method_20_code (2 : Nat) (Option.some (Jvm.ClassFile.FieldType.object "java/lang/Object"))) ∈ lw_all := lw_g (lw_at lw_m2 204 rfl) rfl
theorem q525 : (Jvm.Cond.classLink "Plugboard$Board$Seen" (43 : Nat) "Plugboard$Shape") ∈ lw_all := lw_g (lw_at lw_m2 215 rfl) rfl
theorem q2343 : (Jvm.Cond.castable "Plugboard$Frame" "Plugboard$Shape") ∈ lw_tbl := lw_at lw_m10 113 rfl
theorem q2344 : (Jvm.Cond.castable "Plugboard$Panel" "Plugboard$Shape") ∈ lw_tbl := lw_at lw_m10 114 rfl
abbrev rm_X7_next_2 : Room := { frames := 3, cells := 0, slots := 0, locals := 64 }
def w_X7_next_2 (a0 : Option Nat) (h : AH) (P : Option Nat → AH → Prop) : Prop :=
  g_q h a0 6 1 fun y1 =>
  g_q h y1 2 5 fun y4 =>
  g_q h y4 0 0 fun y7 =>
  g_i h a0 6 0 fun y11 =>
  is_c h y7 [15] (
  w_J2_get y7 y11 h (fun y14 h14 =>
  is_c h14 y14 [7, 8] (
  g_i h14 a0 6 0 fun y23 =>
  p_v h14 a0 6 0 (vI (y23 + 1)) fun h28 =>
  P y14 h28)))
theorem met_X7_next_2 (l : Launch) (hlt : l.stackTraces = false) (G : GG) (h : AH) (a0 : Option Nat) (P : Option Nat → AH → Prop) (hw : w_X7_next_2 a0 h P) : ct_q l yX7_next_2 (ws_ yX7_next_2 cX7_next_2 2 (Option.some (Jvm.ClassFile.FieldType.object "Plugboard$Shape"))) rm_X7_next_2 G h [vR a0] P := by
  refine j_startq hlt [(0, vR a0)] (plainFor_of_name (by decide)) rfl rfl (fun x X eG er en hQ => ?_)
  subst eG
  refine j_aload_n X (pc := 0) 0 dX7_next_2_0 rfl rfl ?_
  refine j_getq (ci := 6) X (pc := 1) in_X7 rfl (by decide) 1 (by decide) q449 (Or.inl rfl) dX7_next_2_1 hw (fun y1 hw => ?_)
  refine j_getq (ci := 2) X (pc := 4) in_X3 rfl (by decide) 5 (by decide) q219 (Or.inl rfl) dX7_next_2_4 hw (fun y4 hw => ?_)
  refine j_getqN (ci := 0) X (pc := 7) in_X1 rfl (by decide) 0 (by decide) q238 (Or.inl rfl) dX7_next_2_7 hw (fun y7 hw => ?_)
  refine j_aload_n X (pc := 10) 0 dX7_next_2_10 rfl rfl ?_
  refine j_geti (ci := 6) X (pc := 11) in_X7 rfl (by decide) 0 (by decide) q448 (Or.inl rfl) dX7_next_2_11 hw (fun y11 hw => ?_)
  obtain ⟨b9, c9, f9, hr9, ho9, hc9, hw⟩ := hw
  obtain rfl := List.mem_singleton.mp hc9
  refine j_callq (j_runV (n8 := 1) (As := [vI y11]) (rest := []) X (pc := 14) hr9 (met_J2_get (xl x) X.hl (xG x) h y7 y11 _ hw) ho9 (by decide) rfl q511 q512 q513 q74 q514 (by decide +kernel) dX7_next_2_14 rfl ⟨Nat.le_of_ble_eq_true rfl, Nat.le_of_ble_eq_true rfl⟩ (Nat.le_of_ble_eq_true rfl) ⟨Nat.le_of_ble_eq_true rfl, Nat.le_of_ble_eq_true rfl⟩) (fun y14 h14 hw => ?_)
  refine j_chk X (pc := 17) (L := [7, 8]) q525 (by intro ci hci; simp only [List.mem_cons, List.not_mem_nil, or_false] at hci; rcases hci with rfl | rfl <;> first | exact ⟨by decide, _, _, _, rfl, Or.inr q2343⟩ | exact ⟨by decide, _, _, _, rfl, Or.inr q2344⟩) dX7_next_2_17 hw (fun hw => ?_)
  refine j_astore_n X (pc := 20) [(1, vR y14), (0, vR a0)] dX7_next_2_20 rfl (Nat.le_of_ble_eq_true rfl) rfl ?_
  refine j_aload_n X (pc := 21) 1 dX7_next_2_21 rfl rfl ?_
  refine j_dup X (pc := 22) dX7_next_2_22 rfl ?_
  refine j_geti (ci := 6) X (pc := 23) in_X7 rfl (by decide) 0 (by decide) q448 (Or.inl rfl) dX7_next_2_23 hw (fun y23 hw => ?_)
  refine j_iconst X (pc := 26) 1 dX7_next_2_26 (by decide) ?_
  refine j_iadd X (pc := 27) dX7_next_2_27 ?_
  refine j_put (ci := 6) X (pc := 28) in_X7 rfl (by decide) 0 (by decide) q448 (Or.inl rfl) tyX7 tyX7_ok nmX7 rfl rfl (ty := .int) (tyX7_ok 0 (by decide)) rfl rfl dX7_next_2_28 hw (fun h28 hw => ?_)
  refine j_aload_n X (pc := 31) 0 dX7_next_2_31 rfl rfl ?_
  exact j_aret X (pc := 32) (ty := (.object "Plugboard$Shape")) hQ er (Or.inl ⟨_, rfl⟩) (Nat.le_of_ble_eq_true rfl) (Nat.le_of_ble_eq_true rfl) dX7_next_2_32 hw
abbrev cX7_next : ByteArray := prog_5_method_4_code
def yX7_next : MethodName := ⟨RX7, "next", "()Ljava/lang/Object;"⟩
theorem dX7_next_0 : decode cX7_next 0 = .ok (.aload_n 0, 1) := by decide +kernel
theorem dX7_next_1 : decode cX7_next 1 = .ok (.invokevirtual 45, 3) := by decide +kernel
theorem dX7_next_4 : decode cX7_next 4 = .ok (.areturn, 1) := by decide +kernel
theorem q507 : (Jvm.Cond.methodLink "Plugboard$Board$Seen" (45 : Nat) ({ cls := "Plugboard$Board$Seen", name := "next", desc := "()LPlugboard$Shape;" } : Jvm.MethodName)) ∈ lw_all := lw_g (lw_at lw_m2 197 rfl) rfl
theorem q508 : (Jvm.Cond.instanceMethod ({ cls := "Plugboard$Board$Seen", name := "next", desc := "()LPlugboard$Shape;" } : Jvm.MethodName)) ∈ lw_all := lw_g (lw_at lw_m2 198 rfl) rfl
theorem q509 : (Jvm.Cond.selects "Plugboard$Board$Seen" ({ cls := "Plugboard$Board$Seen", name := "next", desc := "()LPlugboard$Shape;" } : Jvm.MethodName) ({ cls := "Plugboard$Board$Seen", name := "next", desc := "()LPlugboard$Shape;" } : Jvm.MethodName)) ∈ lw_all := lw_g (lw_at lw_m2 199 rfl) rfl
theorem q510 : (Jvm.Cond.code ({ cls := "Plugboard$Board$Seen", name := "next", desc := "()LPlugboard$Shape;" } : Jvm.MethodName) prog_5_method_3_code (2 : Nat) (Option.some (Jvm.ClassFile.FieldType.object "Plugboard$Shape"))) ∈ lw_all := lw_g (lw_at lw_m2 200 rfl) rfl
abbrev rm_X7_next : Room := { frames := 4, cells := 0, slots := 0, locals := 85 }
def w_X7_next (a0 : Option Nat) (h : AH) (P : Option Nat → AH → Prop) : Prop :=
  is_c h a0 [6] (
  w_X7_next_2 a0 h (fun y1 h1 =>
  P y1 h1))
theorem met_X7_next (l : Launch) (hlt : l.stackTraces = false) (G : GG) (h : AH) (a0 : Option Nat) (P : Option Nat → AH → Prop) (hw : w_X7_next a0 h P) : ct_q l yX7_next (ws_ yX7_next cX7_next 1 (Option.some (Jvm.ClassFile.FieldType.object "java/lang/Object"))) rm_X7_next G h [vR a0] P := by
  refine j_startq hlt [(0, vR a0)] (plainFor_of_name (by decide)) rfl rfl (fun x X eG er en hQ => ?_)
  subst eG
  refine j_aload_n X (pc := 0) 0 dX7_next_0 rfl rfl ?_
  obtain ⟨b9, c9, f9, hr9, ho9, hc9, hw⟩ := hw
  obtain rfl := List.mem_singleton.mp hc9
  refine j_callq (j_runV (n8 := 0) (As := []) (rest := []) X (pc := 1) hr9 (met_X7_next_2 (xl x) X.hl (xG x) h a0 _ hw) ho9 (by decide) rfl q507 q508 q509 q85 q510 (by decide +kernel) dX7_next_1 rfl ⟨Nat.le_of_ble_eq_true rfl, Nat.le_of_ble_eq_true rfl⟩ (Nat.le_of_ble_eq_true rfl) ⟨Nat.le_of_ble_eq_true rfl, Nat.le_of_ble_eq_true rfl⟩) (fun y1 h1 hw => ?_)
  exact j_aret X (pc := 4) (ty := (.object "java/lang/Object")) hQ er (Or.inl ⟨_, rfl⟩) (Nat.le_of_ble_eq_true rfl) (Nat.le_of_ble_eq_true rfl) dX7_next_4 hw
abbrev cX3_keyOf : ByteArray := prog_3_method_7_code
def yX3_keyOf : MethodName := ⟨RX3, "keyOf", "(LPlugboard$Shape;)F"⟩
def dkwX3_keyOf_0 : List UInt8 := [42, 180, 0, 18, 180, 0, 80, 16, 24, 43, 180, 0, 103, 96, 46, 184, 0, 113, 174]
abbrev dktX3_keyOf_0 : List UInt8 := dkwX3_keyOf_0 ++ []
theorem dksX3_keyOf_0 : cX3_keyOf.data.toList.drop 0 = dktX3_keyOf_0 := by decide +kernel
theorem dX3_keyOf_0 : decode cX3_keyOf 0 = .ok (.aload_n 0, 1) := dk_42 (dk_at dksX3_keyOf_0 0 rfl rfl)
theorem dX3_keyOf_1 : decode cX3_keyOf 1 = .ok (.getfield 18, 3) := dk_180 0 18 (dk_at dksX3_keyOf_0 1 rfl rfl)
theorem dX3_keyOf_4 : decode cX3_keyOf 4 = .ok (.getfield 80, 3) := dk_180 0 80 (dk_at dksX3_keyOf_0 4 rfl rfl)
theorem dX3_keyOf_7 : decode cX3_keyOf 7 = .ok (.bipush 24, 2) := dk_16 24 (dk_at dksX3_keyOf_0 7 rfl rfl)
theorem dX3_keyOf_9 : decode cX3_keyOf 9 = .ok (.aload_n 1, 1) := dk_43 (dk_at dksX3_keyOf_0 9 rfl rfl)
theorem dX3_keyOf_10 : decode cX3_keyOf 10 = .ok (.getfield 103, 3) := dk_180 0 103 (dk_at dksX3_keyOf_0 10 rfl rfl)
theorem dX3_keyOf_13 : decode cX3_keyOf 13 = .ok (.iadd, 1) := dk_96 (dk_at dksX3_keyOf_0 13 rfl rfl)
theorem dX3_keyOf_14 : decode cX3_keyOf 14 = .ok (.iaload, 1) := dk_46 (dk_at dksX3_keyOf_0 14 rfl rfl)
theorem dX3_keyOf_15 : decode cX3_keyOf 15 = .ok (.invokestatic 113, 3) := dk_184 0 113 (dk_at dksX3_keyOf_0 15 rfl rfl)
theorem dX3_keyOf_18 : decode cX3_keyOf 18 = .ok (.freturn, 1) := dk_174 (dk_at dksX3_keyOf_0 18 rfl rfl)
theorem q91 : (Jvm.Cond.initialized "java/lang/Float") ∈ lw_all := lw_g (lw_at lw_m1 21 rfl) rfl
theorem q555 : (Jvm.Cond.methodLink "Plugboard$Board" (113 : Nat) ({ cls := "java/lang/Float", name := "intBitsToFloat", desc := "(I)F" } : Jvm.MethodName)) ∈ lw_all := lw_g (lw_at lw_m3 5 rfl) rfl
theorem q556 : (Jvm.Cond.static ({ cls := "java/lang/Float", name := "intBitsToFloat", desc := "(I)F" } : Jvm.MethodName)) ∈ lw_all := lw_g (lw_at lw_m3 6 rfl) rfl
theorem q557 : (Jvm.Cond.native ({ cls := "java/lang/Float", name := "intBitsToFloat", desc := "(I)F" } : Jvm.MethodName)) ∈ lw_all := lw_g (lw_at lw_m3 7 rfl) rfl
theorem q577 : (Jvm.Cond.fieldLinkNest "Plugboard$Board" (103 : Nat) "Plugboard$Shape" "number" "I" "Plugboard") ∈ lw_tbl := lw_at lw_m3 27 rfl
abbrev rm_X3_keyOf : Room := { frames := 1, cells := 0, slots := 0, locals := 15 }
def w_X3_keyOf (a0 : Option Nat) (a1 : Option Nat) (h : AH) (P : UInt32 → AH → Prop) : Prop :=
  g_q h a0 2 1 fun y1 =>
  g_q h y1 1 0 fun y4 =>
  g_iS h a1 0 fun y10 =>
  l_i h y4 0 (24 + y10) fun y14 =>
  vn_sni2f y14 = false ∧
  P (Int32.toUInt32 y14) h
theorem met_X3_keyOf (l : Launch) (hlt : l.stackTraces = false) (G : GG) (h : AH) (a0 : Option Nat) (a1 : Option Nat) (P : UInt32 → AH → Prop) (hw : w_X3_keyOf a0 a1 h P) : ct_f l yX3_keyOf (ws_ yX3_keyOf cX3_keyOf 2 (Option.some Jvm.ClassFile.FieldType.float)) rm_X3_keyOf G h [vR a0, vR a1] P := by
  refine j_startf hlt [(0, vR a0), (1, vR a1)] (plainFor_of_name (by decide)) rfl rfl (fun x X eG er en hQ => ?_)
  subst eG
  refine j_aload_n X (pc := 0) 0 dX3_keyOf_0 rfl rfl ?_
  refine j_getq (ci := 2) X (pc := 1) in_X3 rfl (by decide) 1 (by decide) q208 (Or.inl rfl) dX3_keyOf_1 hw (fun y1 hw => ?_)
  refine j_getqN (ci := 1) X (pc := 4) in_X2 rfl (by decide) 0 (by decide) q167 (Or.inl rfl) dX3_keyOf_4 hw (fun y4 hw => ?_)
  refine j_bipush X (pc := 7) 24 dX3_keyOf_7 (by decide) ?_
  refine j_aload_n X (pc := 9) 1 dX3_keyOf_9 rfl rfl ?_
  refine j_getiSN X (pc := 10) 0 (by decide) q577 dX3_keyOf_10 hw (fun y10 hw => ?_)
  refine j_iadd X (pc := 13) dX3_keyOf_13 ?_
  refine j_iald X (pc := 14) 0 rfl dX3_keyOf_14 hw (fun y14 hw => ?_)
  refine j_i2fb X (pc := 15) q555 q557 q556 q91 ⟨Nat.le_of_ble_eq_true rfl, Nat.le_of_ble_eq_true rfl⟩ dX3_keyOf_15 hw (fun hw => ?_)
  exact j_fret X (pc := 18) hQ er (Nat.le_of_ble_eq_true rfl) (Nat.le_of_ble_eq_true rfl) dX3_keyOf_18 hw
abbrev cX1_greatestKey : ByteArray := prog_1_method_17_code
def yX1_greatestKey : MethodName := ⟨RX1, "greatestKey", "(LPlugboard$Board;)F"⟩
def dkwX1_greatestKey_1 : List UInt8 := [185, 0, 185, 1, 0, 192, 0, 124, 78, 35, 42, 45, 182, 0, 189, 184, 0, 193, 68, 167, 255, 227, 35, 174]
abbrev dktX1_greatestKey_1 : List UInt8 := dkwX1_greatestKey_1 ++ []
def dkwX1_greatestKey_0 : List UInt8 := [18, 168, 68, 42, 182, 0, 169, 185, 0, 173, 1, 0, 77, 44, 185, 0, 179, 1, 0, 153, 0, 26, 44]
abbrev dktX1_greatestKey_0 : List UInt8 := dkwX1_greatestKey_0 ++ dktX1_greatestKey_1
theorem dksX1_greatestKey_0 : cX1_greatestKey.data.toList.drop 0 = dktX1_greatestKey_0 := by decide +kernel
theorem dksX1_greatestKey_1 : cX1_greatestKey.data.toList.drop 23 = dktX1_greatestKey_1 := dk_seg dksX1_greatestKey_0 23 rfl rfl
theorem dX1_greatestKey_0 : decode cX1_greatestKey 0 = .ok (.ldc 168, 2) := dk_18 168 (dk_at dksX1_greatestKey_0 0 rfl rfl)
theorem dX1_greatestKey_2 : decode cX1_greatestKey 2 = .ok (.fstore_n 1, 1) := dk_68 (dk_at dksX1_greatestKey_0 2 rfl rfl)
theorem dX1_greatestKey_3 : decode cX1_greatestKey 3 = .ok (.aload_n 0, 1) := dk_42 (dk_at dksX1_greatestKey_0 3 rfl rfl)
theorem dX1_greatestKey_4 : decode cX1_greatestKey 4 = .ok (.invokevirtual 169, 3) := dk_182 0 169 (dk_at dksX1_greatestKey_0 4 rfl rfl)
theorem dX1_greatestKey_7 : decode cX1_greatestKey 7 = .ok (.invokeinterface 173 1, 5) := by decide +kernel
theorem dX1_greatestKey_12 : decode cX1_greatestKey 12 = .ok (.astore_n 2, 1) := dk_77 (dk_at dksX1_greatestKey_0 12 rfl rfl)
theorem dX1_greatestKey_13 : decode cX1_greatestKey 13 = .ok (.aload_n 2, 1) := dk_44 (dk_at dksX1_greatestKey_0 13 rfl rfl)
theorem dX1_greatestKey_14 : decode cX1_greatestKey 14 = .ok (.invokeinterface 179 1, 5) := by decide +kernel
theorem dX1_greatestKey_19 : decode cX1_greatestKey 19 = .ok (.ifCond .eq 26, 3) := dk_153 0 26 (dk_at dksX1_greatestKey_0 19 rfl rfl)
theorem dX1_greatestKey_22 : decode cX1_greatestKey 22 = .ok (.aload_n 2, 1) := dk_44 (dk_at dksX1_greatestKey_0 22 rfl rfl)
theorem dX1_greatestKey_23 : decode cX1_greatestKey 23 = .ok (.invokeinterface 185 1, 5) := by decide +kernel
theorem dX1_greatestKey_28 : decode cX1_greatestKey 28 = .ok (.checkcast 124, 3) := dk_192 0 124 (dk_at dksX1_greatestKey_1 5 rfl rfl)
theorem dX1_greatestKey_31 : decode cX1_greatestKey 31 = .ok (.astore_n 3, 1) := dk_78 (dk_at dksX1_greatestKey_1 8 rfl rfl)
theorem dX1_greatestKey_32 : decode cX1_greatestKey 32 = .ok (.fload_n 1, 1) := dk_35 (dk_at dksX1_greatestKey_1 9 rfl rfl)
theorem dX1_greatestKey_33 : decode cX1_greatestKey 33 = .ok (.aload_n 0, 1) := dk_42 (dk_at dksX1_greatestKey_1 10 rfl rfl)
theorem dX1_greatestKey_34 : decode cX1_greatestKey 34 = .ok (.aload_n 3, 1) := dk_45 (dk_at dksX1_greatestKey_1 11 rfl rfl)
theorem dX1_greatestKey_35 : decode cX1_greatestKey 35 = .ok (.invokevirtual 189, 3) := dk_182 0 189 (dk_at dksX1_greatestKey_1 12 rfl rfl)
theorem dX1_greatestKey_38 : decode cX1_greatestKey 38 = .ok (.invokestatic 193, 3) := dk_184 0 193 (dk_at dksX1_greatestKey_1 15 rfl rfl)
theorem dX1_greatestKey_41 : decode cX1_greatestKey 41 = .ok (.fstore_n 1, 1) := dk_68 (dk_at dksX1_greatestKey_1 18 rfl rfl)
theorem dX1_greatestKey_42 : decode cX1_greatestKey 42 = .ok (.goto (-29), 3) := dk_167 255 227 (dk_at dksX1_greatestKey_1 19 rfl rfl)
theorem dX1_greatestKey_45 : decode cX1_greatestKey 45 = .ok (.fload_n 1, 1) := dk_35 (dk_at dksX1_greatestKey_1 22 rfl rfl)
theorem dX1_greatestKey_46 : decode cX1_greatestKey 46 = .ok (.freturn, 1) := dk_174 (dk_at dksX1_greatestKey_1 23 rfl rfl)
theorem q92 : (Jvm.Cond.initialized "java/lang/Math") ∈ lw_all := lw_g (lw_at lw_m1 22 rfl) rfl
theorem q417 : (Jvm.Cond.constantFloat "Plugboard" (168 : Nat) (4286578688 : UInt32)) ∈ lw_all := lw_g (lw_at lw_m2 107 rfl) rfl
theorem q418 : (Jvm.Cond.methodLink "Plugboard" (169 : Nat) ({ cls := "Plugboard$Board", name := "seen", desc := "()Ljava/lang/Iterable;" } : Jvm.MethodName)) ∈ lw_all := lw_g (lw_at lw_m2 108 rfl) rfl
theorem q419 : (Jvm.Cond.instanceMethod ({ cls := "Plugboard$Board", name := "seen", desc := "()Ljava/lang/Iterable;" } : Jvm.MethodName)) ∈ lw_all := lw_g (lw_at lw_m2 109 rfl) rfl
theorem q420 : (Jvm.Cond.selects "Plugboard$Board" ({ cls := "Plugboard$Board", name := "seen", desc := "()Ljava/lang/Iterable;" } : Jvm.MethodName) ({ cls := "Plugboard$Board", name := "seen", desc := "()Ljava/lang/Iterable;" } : Jvm.MethodName)) ∈ lw_all := lw_g (lw_at lw_m2 110 rfl) rfl
theorem q421 : (Jvm.Cond.code ({ cls := "Plugboard$Board", name := "seen", desc := "()Ljava/lang/Iterable;" } : Jvm.MethodName) prog_3_method_12_code (1 : Nat) (Option.some (Jvm.ClassFile.FieldType.object "java/lang/Iterable"))) ∈ lw_all := lw_g (lw_at lw_m2 111 rfl) rfl
theorem q433 : (Jvm.Cond.methodLink "Plugboard" (173 : Nat) ({ cls := "java/lang/Iterable", name := "iterator", desc := "()Ljava/util/Iterator;" } : Jvm.MethodName)) ∈ lw_all := lw_g (lw_at lw_m2 123 rfl) rfl
theorem q437 : (Jvm.Cond.selects "Plugboard$Board$1" ({ cls := "java/lang/Iterable", name := "iterator", desc := "()Ljava/util/Iterator;" } : Jvm.MethodName) ({ cls := "Plugboard$Board$1", name := "iterator", desc := "()Ljava/util/Iterator;" } : Jvm.MethodName)) ∈ lw_all := lw_g (lw_at lw_m2 127 rfl) rfl
theorem q439 : (Jvm.Cond.instanceMethod ({ cls := "Plugboard$Board$1", name := "iterator", desc := "()Ljava/util/Iterator;" } : Jvm.MethodName)) ∈ lw_all := lw_g (lw_at lw_m2 129 rfl) rfl
theorem q441 : (Jvm.Cond.code ({ cls := "Plugboard$Board$1", name := "iterator", desc := "()Ljava/util/Iterator;" } : Jvm.MethodName) prog_4_method_2_code (1 : Nat) (Option.some (Jvm.ClassFile.FieldType.object "java/util/Iterator"))) ∈ lw_all := lw_g (lw_at lw_m2 131 rfl) rfl
theorem q481 : (Jvm.Cond.methodLink "Plugboard" (179 : Nat) ({ cls := "java/util/Iterator", name := "hasNext", desc := "()Z" } : Jvm.MethodName)) ∈ lw_all := lw_g (lw_at lw_m2 171 rfl) rfl
theorem q485 : (Jvm.Cond.selects "Plugboard$Board$Seen" ({ cls := "java/util/Iterator", name := "hasNext", desc := "()Z" } : Jvm.MethodName) ({ cls := "Plugboard$Board$Seen", name := "hasNext", desc := "()Z" } : Jvm.MethodName)) ∈ lw_all := lw_g (lw_at lw_m2 175 rfl) rfl
theorem q487 : (Jvm.Cond.instanceMethod ({ cls := "Plugboard$Board$Seen", name := "hasNext", desc := "()Z" } : Jvm.MethodName)) ∈ lw_all := lw_g (lw_at lw_m2 177 rfl) rfl
theorem q489 : (Jvm.Cond.code ({ cls := "Plugboard$Board$Seen", name := "hasNext", desc := "()Z" } : Jvm.MethodName) prog_5_method_2_code (1 : Nat) (Option.some Jvm.ClassFile.FieldType.boolean)) ∈ lw_all := lw_g (lw_at lw_m2 179 rfl) rfl
theorem q499 : (Jvm.Cond.methodLink "Plugboard" (185 : Nat) ({ cls := "java/util/Iterator", name := "next", desc := "()Ljava/lang/Object;" } : Jvm.MethodName)) ∈ lw_all := lw_g (lw_at lw_m2 189 rfl) rfl
theorem q502 : (Jvm.Cond.selects "Plugboard$Board$Seen" ({ cls := "java/util/Iterator", name := "next", desc := "()Ljava/lang/Object;" } : Jvm.MethodName) ({ cls := "Plugboard$Board$Seen", name := "next", desc := "()Ljava/lang/Object;" } : Jvm.MethodName)) ∈ lw_all := lw_g (lw_at lw_m2 192 rfl) rfl
theorem q504 : (Jvm.Cond.instanceMethod ({ cls := "Plugboard$Board$Seen", name := "next", desc := "()Ljava/lang/Object;" } : Jvm.MethodName)) ∈ lw_all := lw_g (lw_at lw_m2 194 rfl) rfl
theorem q506 : (Jvm.Cond.code ({ cls := "Plugboard$Board$Seen", name := "next", desc := "()Ljava/lang/Object;" } : Jvm.MethodName) prog_5_method_4_code (1 : Nat) (Option.some (Jvm.ClassFile.FieldType.object "java/lang/Object"))) ∈ lw_all := lw_g (lw_at lw_m2 196 rfl) rfl
theorem q550 : (Jvm.Cond.classLink "Plugboard" (124 : Nat) "Plugboard$Shape") ∈ lw_all := lw_g (lw_at lw_m3 0 rfl) rfl
theorem q551 : (Jvm.Cond.methodLink "Plugboard" (189 : Nat) ({ cls := "Plugboard$Board", name := "keyOf", desc := "(LPlugboard$Shape;)F" } : Jvm.MethodName)) ∈ lw_all := lw_g (lw_at lw_m3 1 rfl) rfl
theorem q552 : (Jvm.Cond.instanceMethod ({ cls := "Plugboard$Board", name := "keyOf", desc := "(LPlugboard$Shape;)F" } : Jvm.MethodName)) ∈ lw_all := lw_g (lw_at lw_m3 2 rfl) rfl
theorem q553 : (Jvm.Cond.selects "Plugboard$Board" ({ cls := "Plugboard$Board", name := "keyOf", desc := "(LPlugboard$Shape;)F" } : Jvm.MethodName) ({ cls := "Plugboard$Board", name := "keyOf", desc := "(LPlugboard$Shape;)F" } : Jvm.MethodName)) ∈ lw_all := lw_g (lw_at lw_m3 3 rfl) rfl
theorem q554 : (Jvm.Cond.code ({ cls := "Plugboard$Board", name := "keyOf", desc := "(LPlugboard$Shape;)F" } : Jvm.MethodName) prog_3_method_7_code (2 : Nat) (Option.some Jvm.ClassFile.FieldType.float)) ∈ lw_all := lw_g (lw_at lw_m3 4 rfl) rfl
theorem q558 : (Jvm.Cond.methodLink "Plugboard" (193 : Nat) ({ cls := "java/lang/Math", name := "max", desc := "(FF)F" } : Jvm.MethodName)) ∈ lw_all := lw_g (lw_at lw_m3 8 rfl) rfl
theorem q559 : (Jvm.Cond.static ({ cls := "java/lang/Math", name := "max", desc := "(FF)F" } : Jvm.MethodName)) ∈ lw_all := lw_g (lw_at lw_m3 9 rfl) rfl
theorem q560 : (Jvm.Cond.code ({ cls := "java/lang/Math", name := "max", desc := "(FF)F" } : Jvm.MethodName) prog_38_method_67_code (2 : Nat) (Option.some Jvm.ClassFile.FieldType.float)) ∈ lw_all := lw_g (lw_at lw_m3 10 rfl) rfl
abbrev rm_X1_greatestKey : Room := { frames := 5, cells := 2, slots := 3, locals := 105 }
def w_X1_greatestKey_13 (P : UInt32 → AH → Prop) (x0 : Option Nat) (x1 : UInt32) (x2 : Option Nat) (h : AH) : Prop :=
  ∀ Z13 : UInt32 → AH → Prop, (∀ x1 h, (
      is_c h x2 [6] (
      w_X7_hasNext x2 h (fun y14 h14 =>
      ((y14 = 0 →
        P x1 h14) ∧
       (¬ y14 = 0 →
        is_c h14 x2 [6] (
        w_X7_next x2 h14 (fun y23 h23 =>
        is_c h23 y23 [7, 8] (
        is_c h23 x0 [2] (
        w_X3_keyOf x0 y23 h23 (fun y35 h35 =>
        (FP.fIsNaN x1 = false ∧ FP.fIsNaN y35 = false) ∧
        Z13 (mf_pick x1 y35) h35))))))))))
      → Z13 x1 h) → Z13 x1 h
def w_X1_greatestKey (a0 : Option Nat) (h : AH) (P : UInt32 → AH → Prop) : Prop :=
  is_c h a0 [2] (
  w_X3_seen a0 h (fun y4 h4 =>
  is_c h4 y4 [5] (
  w_X6_iterator y4 h4 (fun y7 h7 =>
  w_X1_greatestKey_13 P a0 (4286578688 : UInt32) y7 h7))))
theorem wk_X1_greatestKey_13 {x : CX} (X : Ok x cX1_greatestKey RX1 rm_X1_greatestKey 4) (er : xrt x = (Option.some Jvm.ClassFile.FieldType.float)) (en : xnm x = yX1_greatestKey.name) {P : UInt32 → AH → Prop} (hQ : xr_f x P) (x0 : Option Nat) (x1 : UInt32) (x2 : Option Nat) (h : AH) (hw : w_X1_greatestKey_13 P x0 x1 x2 h) : J x h 2 3 13 [(0, vR x0), (1, vF x1), (2, vR x2)] [] := by
  refine hw (fun x1 h => J x h 2 3 13 [(0, vR x0), (1, vF x1), (2, vR x2)] []) (fun x1 h hw => ?_)
  refine j_aload_n X (pc := 13) 2 dX1_greatestKey_13 rfl rfl ?_
  obtain ⟨b9, c9, f9, hr9, ho9, hc9, hw⟩ := hw
  obtain rfl := List.mem_singleton.mp hc9
  refine j_call5i (j_runF (n8 := 0) (As := []) (rest := []) X (pc := 14) hr9 (met_X7_hasNext (xl x) X.hl (xG x) h x2 _ hw) ho9 (by decide) rfl q481 q485 q487 q85 q489 (fun U hU => kt_F2 hU) (by decide +kernel) dX1_greatestKey_14 rfl ⟨Nat.le_of_ble_eq_true rfl, Nat.le_of_ble_eq_true rfl⟩ (Nat.le_of_ble_eq_true rfl) ⟨Nat.le_of_ble_eq_true rfl, Nat.le_of_ble_eq_true rfl⟩) (fun y14 h14 hw => ?_)
  refine j_if_eq X (pc := 19) 45 dX1_greatestKey_19 (by decide) hw (fun hw => ?_) (fun hw => ?_)
  · refine j_fload_n X (pc := 45) 1 dX1_greatestKey_45 rfl rfl ?_
    exact j_fret X (pc := 46) hQ er (Nat.le_of_ble_eq_true rfl) (Nat.le_of_ble_eq_true rfl) dX1_greatestKey_46 hw
  · refine j_aload_n X (pc := 22) 2 dX1_greatestKey_22 rfl rfl ?_
    obtain ⟨b9, c9, f9, hr9, ho9, hc9, hw⟩ := hw
    obtain rfl := List.mem_singleton.mp hc9
    refine j_call5q (j_runF (n8 := 0) (As := []) (rest := []) X (pc := 23) hr9 (met_X7_next (xl x) X.hl (xG x) h14 x2 _ hw) ho9 (by decide) rfl q499 q502 q504 q85 q506 (fun U hU => kt_F3 hU) (by decide +kernel) dX1_greatestKey_23 rfl ⟨Nat.le_of_ble_eq_true rfl, Nat.le_of_ble_eq_true rfl⟩ (Nat.le_of_ble_eq_true rfl) ⟨Nat.le_of_ble_eq_true rfl, Nat.le_of_ble_eq_true rfl⟩) (fun y23 h23 hw => ?_)
    refine j_chk X (pc := 28) (L := [7, 8]) q550 (by intro ci hci; simp only [List.mem_cons, List.not_mem_nil, or_false] at hci; rcases hci with rfl | rfl <;> first | exact ⟨by decide, _, _, _, rfl, Or.inr q2343⟩ | exact ⟨by decide, _, _, _, rfl, Or.inr q2344⟩) dX1_greatestKey_28 hw (fun hw => ?_)
    refine j_astore_n X (pc := 31) [(3, vR y23), (0, vR x0), (1, vF x1), (2, vR x2)] dX1_greatestKey_31 rfl (Nat.le_of_ble_eq_true rfl) rfl ?_
    refine j_fload_n X (pc := 32) 2 dX1_greatestKey_32 rfl rfl ?_
    refine j_aload_n X (pc := 33) 1 dX1_greatestKey_33 rfl rfl ?_
    refine j_aload_n X (pc := 34) 0 dX1_greatestKey_34 rfl rfl ?_
    obtain ⟨b9, c9, f9, hr9, ho9, hc9, hw⟩ := hw
    obtain rfl := List.mem_singleton.mp hc9
    refine j_callf (j_runV (n8 := 1) (As := [vR y23]) (rest := [vF x1]) X (pc := 35) hr9 (met_X3_keyOf (xl x) X.hl (xG x) h23 x0 y23 _ hw) ho9 (by decide) rfl q551 q552 q553 q76 q554 (by decide +kernel) dX1_greatestKey_35 rfl ⟨Nat.le_of_ble_eq_true rfl, Nat.le_of_ble_eq_true rfl⟩ (Nat.le_of_ble_eq_true rfl) ⟨Nat.le_of_ble_eq_true rfl, Nat.le_of_ble_eq_true rfl⟩) (fun y35 h35 hw => ?_)
    refine j_mmaxF X (pc := 38) q558 q559 q92 q560 ⟨Nat.le_of_ble_eq_true rfl, Nat.le_of_ble_eq_true rfl⟩ dX1_greatestKey_38 hw (fun hw => ?_)
    refine j_fstore_n X (pc := 41) [(1, vF (mf_pick x1 y35)), (3, vR y23), (0, vR x0), (2, vR x2)] dX1_greatestKey_41 rfl (Nat.le_of_ble_eq_true rfl) rfl ?_
    refine j_goto X (pc := 42) 13 dX1_greatestKey_42 (by decide) ?_
    refine j_lv [(0, vR x0), (1, vF (mf_pick x1 y35)), (2, vR x2)] [2, 0, 3] rfl ?_
    refine j_cs (u' := 2) (v' := 3) (Nat.le_of_ble_eq_true rfl) (Nat.le_of_ble_eq_true rfl) ?_
    exact hw
theorem met_X1_greatestKey (l : Launch) (hlt : l.stackTraces = false) (G : GG) (h : AH) (a0 : Option Nat) (P : UInt32 → AH → Prop) (hw : w_X1_greatestKey a0 h P) : ct_f l yX1_greatestKey (ws_ yX1_greatestKey cX1_greatestKey 4 (Option.some Jvm.ClassFile.FieldType.float)) rm_X1_greatestKey G h [vR a0] P := by
  refine j_startf hlt [(0, vR a0)] (plainFor_of_name (by decide)) rfl rfl (fun x X eG er en hQ => ?_)
  subst eG
  refine j_ldcf X (pc := 0) dX1_greatestKey_0 q417 ?_
  refine j_fstore_n X (pc := 2) [(1, vF (4286578688 : UInt32)), (0, vR a0)] dX1_greatestKey_2 rfl (Nat.le_of_ble_eq_true rfl) rfl ?_
  refine j_aload_n X (pc := 3) 1 dX1_greatestKey_3 rfl rfl ?_
  obtain ⟨b9, c9, f9, hr9, ho9, hc9, hw⟩ := hw
  obtain rfl := List.mem_singleton.mp hc9
  refine j_callq (j_runV (n8 := 0) (As := []) (rest := []) X (pc := 4) hr9 (met_X3_seen (xl x) X.hl (xG x) h a0 _ hw) ho9 (by decide) rfl q418 q419 q420 q76 q421 (by decide +kernel) dX1_greatestKey_4 rfl ⟨Nat.le_of_ble_eq_true rfl, Nat.le_of_ble_eq_true rfl⟩ (Nat.le_of_ble_eq_true rfl) ⟨Nat.le_of_ble_eq_true rfl, Nat.le_of_ble_eq_true rfl⟩) (fun y4 h4 hw => ?_)
  obtain ⟨b9, c9, f9, hr9, ho9, hc9, hw⟩ := hw
  obtain rfl := List.mem_singleton.mp hc9
  refine j_call5q (j_runF (n8 := 0) (As := []) (rest := []) X (pc := 7) hr9 (met_X6_iterator (xl x) X.hl (xG x) h4 y4 _ hw) ho9 (by decide) rfl q433 q437 q439 q84 q441 (fun U hU => kt_F1 hU) (by decide +kernel) dX1_greatestKey_7 rfl ⟨Nat.le_of_ble_eq_true rfl, Nat.le_of_ble_eq_true rfl⟩ (Nat.le_of_ble_eq_true rfl) ⟨Nat.le_of_ble_eq_true rfl, Nat.le_of_ble_eq_true rfl⟩) (fun y7 h7 hw => ?_)
  refine j_astore_n X (pc := 12) [(2, vR y7), (1, vF (4286578688 : UInt32)), (0, vR a0)] dX1_greatestKey_12 rfl (Nat.le_of_ble_eq_true rfl) rfl ?_
  refine j_lv [(0, vR a0), (1, vF (4286578688 : UInt32)), (2, vR y7)] [2, 1, 0] rfl ?_
  refine j_cs (u' := 2) (v' := 3) (Nat.le_of_ble_eq_true rfl) (Nat.le_of_ble_eq_true rfl) ?_
  exact wk_X1_greatestKey_13 X er en hQ a0 (4286578688 : UInt32) y7 h7 hw
abbrev cX8_init : ByteArray := prog_17_method_1_code
def yX8_init : MethodName := ⟨RX8, "<init>", "(III)V"⟩
def dkwX8_init_0 : List UInt8 := [42, 183, 0, 1, 42, 27, 181, 0, 7, 42, 28, 181, 0, 13, 42, 29, 181, 0, 16, 177]
abbrev dktX8_init_0 : List UInt8 := dkwX8_init_0 ++ []
theorem dksX8_init_0 : cX8_init.data.toList.drop 0 = dktX8_init_0 := by decide +kernel
theorem dX8_init_0 : decode cX8_init 0 = .ok (.aload_n 0, 1) := dk_42 (dk_at dksX8_init_0 0 rfl rfl)
theorem dX8_init_1 : decode cX8_init 1 = .ok (.invokespecial 1, 3) := dk_183 0 1 (dk_at dksX8_init_0 1 rfl rfl)
theorem dX8_init_4 : decode cX8_init 4 = .ok (.aload_n 0, 1) := dk_42 (dk_at dksX8_init_0 4 rfl rfl)
theorem dX8_init_5 : decode cX8_init 5 = .ok (.iload_n 1, 1) := dk_27 (dk_at dksX8_init_0 5 rfl rfl)
theorem dX8_init_6 : decode cX8_init 6 = .ok (.putfield 7, 3) := dk_181 0 7 (dk_at dksX8_init_0 6 rfl rfl)
theorem dX8_init_9 : decode cX8_init 9 = .ok (.aload_n 0, 1) := dk_42 (dk_at dksX8_init_0 9 rfl rfl)
theorem dX8_init_10 : decode cX8_init 10 = .ok (.iload_n 2, 1) := dk_28 (dk_at dksX8_init_0 10 rfl rfl)
theorem dX8_init_11 : decode cX8_init 11 = .ok (.putfield 13, 3) := dk_181 0 13 (dk_at dksX8_init_0 11 rfl rfl)
theorem dX8_init_14 : decode cX8_init 14 = .ok (.aload_n 0, 1) := dk_42 (dk_at dksX8_init_0 14 rfl rfl)
theorem dX8_init_15 : decode cX8_init 15 = .ok (.iload_n 3, 1) := dk_29 (dk_at dksX8_init_0 15 rfl rfl)
theorem dX8_init_16 : decode cX8_init 16 = .ok (.putfield 16, 3) := dk_181 0 16 (dk_at dksX8_init_0 16 rfl rfl)
theorem dX8_init_19 : decode cX8_init 19 = .ok (.return_, 1) := dk_177 (dk_at dksX8_init_0 19 rfl rfl)
theorem q574 : (Jvm.Cond.methodLink "Plugboard$Shape" (1 : Nat) ({ cls := "java/lang/Object", name := "<init>", desc := "()V" } : Jvm.MethodName)) ∈ lw_all := lw_g (lw_at lw_m3 24 rfl) rfl
theorem q575 : (Jvm.Cond.fieldLink "Plugboard$Shape" (7 : Nat) "Plugboard$Shape" "number" "I") ∈ lw_all := lw_g (lw_at lw_m3 25 rfl) rfl
theorem q579 : (Jvm.Cond.fieldLink "Plugboard$Shape" (13 : Nat) "Plugboard$Shape" "width" "I") ∈ lw_all := lw_g (lw_at lw_m3 29 rfl) rfl
theorem q582 : (Jvm.Cond.fieldLink "Plugboard$Shape" (16 : Nat) "Plugboard$Shape" "height" "I") ∈ lw_all := lw_g (lw_at lw_m3 32 rfl) rfl
abbrev rm_X8_init : Room := { frames := 1, cells := 0, slots := 0, locals := 12 }
def w_X8_init (a0 : Option Nat) (a1 : Int32) (a2 : Int32) (a3 : Int32) (h : AH) (P : AH → Prop) : Prop :=
  nn a0 (
  p_vS h a0 0 a1 fun h6 =>
  p_vS h6 a0 1 a2 fun h11 =>
  p_vS h11 a0 2 a3 fun h16 =>
  P h16)
theorem met_X8_init (l : Launch) (hlt : l.stackTraces = false) (G : GG) (h : AH) (a0 : Option Nat) (a1 : Int32) (a2 : Int32) (a3 : Int32) (P : AH → Prop) (hw : w_X8_init a0 a1 a2 a3 h P) : ct_v l yX8_init (ws_ yX8_init cX8_init 4 (Option.none : Option Jvm.ClassFile.FieldType)) rm_X8_init G h [vR a0, vI a1, vI a2, vI a3] P := by
  refine j_startv hlt [(0, vR a0), (1, vI a1), (2, vI a2), (3, vI a3)] (plainFor_of_name (by decide)) rfl rfl (fun x X eG er en hQ => ?_)
  subst eG
  refine j_aload_n X (pc := 0) 0 dX8_init_0 rfl rfl ?_
  obtain ⟨b9, hr9, hw⟩ := hw
  refine j_obj X (pc := 1) hr9 q574 q125 q126 dX8_init_1 ⟨Nat.le_of_ble_eq_true rfl, Nat.le_of_ble_eq_true rfl⟩ ?_
  refine j_aload_n X (pc := 4) 0 dX8_init_4 rfl rfl ?_
  refine j_iload_n X (pc := 5) 1 dX8_init_5 rfl rfl ?_
  refine j_putFS X (pc := 6) 0 (by decide) rfl q575 en dX8_init_6 hw (fun h6 hw => ?_)
  refine j_aload_n X (pc := 9) 0 dX8_init_9 rfl rfl ?_
  refine j_iload_n X (pc := 10) 2 dX8_init_10 rfl rfl ?_
  refine j_putFS X (pc := 11) 1 (by decide) rfl q579 en dX8_init_11 hw (fun h11 hw => ?_)
  refine j_aload_n X (pc := 14) 0 dX8_init_14 rfl rfl ?_
  refine j_iload_n X (pc := 15) 3 dX8_init_15 rfl rfl ?_
  refine j_putFS X (pc := 16) 2 (by decide) rfl q582 en dX8_init_16 hw (fun h16 hw => ?_)
  exact j_vret X (pc := 19) hQ er (Nat.le_of_ble_eq_true rfl) (Nat.le_of_ble_eq_true rfl) dX8_init_19 hw
abbrev cX9_init : ByteArray := prog_10_method_1_code
def yX9_init : MethodName := ⟨RX9, "<init>", "(III)V"⟩
def dkwX9_init_0 : List UInt8 := [42, 27, 28, 29, 183, 0, 1, 177]
abbrev dktX9_init_0 : List UInt8 := dkwX9_init_0 ++ []
theorem dksX9_init_0 : cX9_init.data.toList.drop 0 = dktX9_init_0 := by decide +kernel
theorem dX9_init_0 : decode cX9_init 0 = .ok (.aload_n 0, 1) := dk_42 (dk_at dksX9_init_0 0 rfl rfl)
theorem dX9_init_1 : decode cX9_init 1 = .ok (.iload_n 1, 1) := dk_27 (dk_at dksX9_init_0 1 rfl rfl)
theorem dX9_init_2 : decode cX9_init 2 = .ok (.iload_n 2, 1) := dk_28 (dk_at dksX9_init_0 2 rfl rfl)
theorem dX9_init_3 : decode cX9_init 3 = .ok (.iload_n 3, 1) := dk_29 (dk_at dksX9_init_0 3 rfl rfl)
theorem dX9_init_4 : decode cX9_init 4 = .ok (.invokespecial 1, 3) := dk_183 0 1 (dk_at dksX9_init_0 4 rfl rfl)
theorem dX9_init_7 : decode cX9_init 7 = .ok (.return_, 1) := dk_177 (dk_at dksX9_init_0 7 rfl rfl)
theorem q93 : (Jvm.Cond.initialized "Plugboard$Shape") ∈ lw_all := lw_g (lw_at lw_m1 23 rfl) rfl
theorem q571 : (Jvm.Cond.methodLink "Plugboard$Frame" (1 : Nat) ({ cls := "Plugboard$Shape", name := "<init>", desc := "(III)V" } : Jvm.MethodName)) ∈ lw_all := lw_g (lw_at lw_m3 21 rfl) rfl
theorem q572 : (Jvm.Cond.instanceMethod ({ cls := "Plugboard$Shape", name := "<init>", desc := "(III)V" } : Jvm.MethodName)) ∈ lw_all := lw_g (lw_at lw_m3 22 rfl) rfl
theorem q573 : (Jvm.Cond.code ({ cls := "Plugboard$Shape", name := "<init>", desc := "(III)V" } : Jvm.MethodName) prog_17_method_1_code (4 : Nat) (Option.none : Option Jvm.ClassFile.FieldType)) ∈ lw_all := lw_g (lw_at lw_m3 23 rfl) rfl
abbrev rm_X9_init : Room := { frames := 2, cells := 0, slots := 0, locals := 35 }
def w_X9_init (a0 : Option Nat) (a1 : Int32) (a2 : Int32) (a3 : Int32) (h : AH) (P : AH → Prop) : Prop :=
  nn a0 (
  w_X8_init a0 a1 a2 a3 h (fun h4 =>
  P h4))
theorem met_X9_init (l : Launch) (hlt : l.stackTraces = false) (G : GG) (h : AH) (a0 : Option Nat) (a1 : Int32) (a2 : Int32) (a3 : Int32) (P : AH → Prop) (hw : w_X9_init a0 a1 a2 a3 h P) : ct_v l yX9_init (ws_ yX9_init cX9_init 4 (Option.none : Option Jvm.ClassFile.FieldType)) rm_X9_init G h [vR a0, vI a1, vI a2, vI a3] P := by
  refine j_startv hlt [(0, vR a0), (1, vI a1), (2, vI a2), (3, vI a3)] (plainFor_of_name (by decide)) rfl rfl (fun x X eG er en hQ => ?_)
  subst eG
  refine j_aload_n X (pc := 0) 0 dX9_init_0 rfl rfl ?_
  refine j_iload_n X (pc := 1) 1 dX9_init_1 rfl rfl ?_
  refine j_iload_n X (pc := 2) 2 dX9_init_2 rfl rfl ?_
  refine j_iload_n X (pc := 3) 3 dX9_init_3 rfl rfl ?_
  obtain ⟨b9, hr9, hw⟩ := hw
  refine j_callv (j_runI (n8 := 3) (As := [vI a1, vI a2, vI a3]) (rest := []) X (pc := 4) hr9 (met_X8_init (xl x) X.hl (xG x) h a0 a1 a2 a3 _ hw) q571 q572 q93 q573 (by decide +kernel) dX9_init_4 rfl ⟨Nat.le_of_ble_eq_true rfl, Nat.le_of_ble_eq_true rfl⟩ (Nat.le_of_ble_eq_true rfl) ⟨Nat.le_of_ble_eq_true rfl, Nat.le_of_ble_eq_true rfl⟩) (fun h4 hw => ?_)
  exact j_vret X (pc := 7) hQ er (Nat.le_of_ble_eq_true rfl) (Nat.le_of_ble_eq_true rfl) dX9_init_7 hw
abbrev cX10_init : ByteArray := prog_15_method_1_code
def yX10_init : MethodName := ⟨RX10, "<init>", "(III)V"⟩
def dkwX10_init_0 : List UInt8 := [42, 27, 28, 29, 183, 0, 1, 177]
abbrev dktX10_init_0 : List UInt8 := dkwX10_init_0 ++ []
theorem dksX10_init_0 : cX10_init.data.toList.drop 0 = dktX10_init_0 := by decide +kernel
theorem dX10_init_0 : decode cX10_init 0 = .ok (.aload_n 0, 1) := dk_42 (dk_at dksX10_init_0 0 rfl rfl)
theorem dX10_init_1 : decode cX10_init 1 = .ok (.iload_n 1, 1) := dk_27 (dk_at dksX10_init_0 1 rfl rfl)
theorem dX10_init_2 : decode cX10_init 2 = .ok (.iload_n 2, 1) := dk_28 (dk_at dksX10_init_0 2 rfl rfl)
theorem dX10_init_3 : decode cX10_init 3 = .ok (.iload_n 3, 1) := dk_29 (dk_at dksX10_init_0 3 rfl rfl)
theorem dX10_init_4 : decode cX10_init 4 = .ok (.invokespecial 1, 3) := dk_183 0 1 (dk_at dksX10_init_0 4 rfl rfl)
theorem dX10_init_7 : decode cX10_init 7 = .ok (.return_, 1) := dk_177 (dk_at dksX10_init_0 7 rfl rfl)
theorem q597 : (Jvm.Cond.methodLink "Plugboard$Panel" (1 : Nat) ({ cls := "Plugboard$Shape", name := "<init>", desc := "(III)V" } : Jvm.MethodName)) ∈ lw_all := lw_g (lw_at lw_m3 47 rfl) rfl
abbrev rm_X10_init : Room := { frames := 2, cells := 0, slots := 0, locals := 35 }
def w_X10_init (a0 : Option Nat) (a1 : Int32) (a2 : Int32) (a3 : Int32) (h : AH) (P : AH → Prop) : Prop :=
  nn a0 (
  w_X8_init a0 a1 a2 a3 h (fun h4 =>
  P h4))
theorem met_X10_init (l : Launch) (hlt : l.stackTraces = false) (G : GG) (h : AH) (a0 : Option Nat) (a1 : Int32) (a2 : Int32) (a3 : Int32) (P : AH → Prop) (hw : w_X10_init a0 a1 a2 a3 h P) : ct_v l yX10_init (ws_ yX10_init cX10_init 4 (Option.none : Option Jvm.ClassFile.FieldType)) rm_X10_init G h [vR a0, vI a1, vI a2, vI a3] P := by
  refine j_startv hlt [(0, vR a0), (1, vI a1), (2, vI a2), (3, vI a3)] (plainFor_of_name (by decide)) rfl rfl (fun x X eG er en hQ => ?_)
  subst eG
  refine j_aload_n X (pc := 0) 0 dX10_init_0 rfl rfl ?_
  refine j_iload_n X (pc := 1) 1 dX10_init_1 rfl rfl ?_
  refine j_iload_n X (pc := 2) 2 dX10_init_2 rfl rfl ?_
  refine j_iload_n X (pc := 3) 3 dX10_init_3 rfl rfl ?_
  obtain ⟨b9, hr9, hw⟩ := hw
  refine j_callv (j_runI (n8 := 3) (As := [vI a1, vI a2, vI a3]) (rest := []) X (pc := 4) hr9 (met_X8_init (xl x) X.hl (xG x) h a0 a1 a2 a3 _ hw) q597 q572 q93 q573 (by decide +kernel) dX10_init_4 rfl ⟨Nat.le_of_ble_eq_true rfl, Nat.le_of_ble_eq_true rfl⟩ (Nat.le_of_ble_eq_true rfl) ⟨Nat.le_of_ble_eq_true rfl, Nat.le_of_ble_eq_true rfl⟩) (fun h4 hw => ?_)
  exact j_vret X (pc := 7) hQ er (Nat.le_of_ble_eq_true rfl) (Nat.le_of_ble_eq_true rfl) dX10_init_7 hw
abbrev cJ14_max_2 : ByteArray := prog_38_method_65_code
def yJ14_max_2 : MethodName := ⟨RJ14, "max", "(II)I"⟩
def dkwJ14_max_2_0 : List UInt8 := [26, 27, 161, 0, 7, 26, 167, 0, 4, 27, 172]
abbrev dktJ14_max_2_0 : List UInt8 := dkwJ14_max_2_0 ++ []
theorem dksJ14_max_2_0 : cJ14_max_2.data.toList.drop 0 = dktJ14_max_2_0 := by decide +kernel
theorem dJ14_max_2_0 : decode cJ14_max_2 0 = .ok (.iload_n 0, 1) := dk_26 (dk_at dksJ14_max_2_0 0 rfl rfl)
theorem dJ14_max_2_1 : decode cJ14_max_2 1 = .ok (.iload_n 1, 1) := dk_27 (dk_at dksJ14_max_2_0 1 rfl rfl)
theorem dJ14_max_2_2 : decode cJ14_max_2 2 = .ok (.if_icmp .lt 7, 3) := dk_161 0 7 (dk_at dksJ14_max_2_0 2 rfl rfl)
theorem dJ14_max_2_5 : decode cJ14_max_2 5 = .ok (.iload_n 0, 1) := dk_26 (dk_at dksJ14_max_2_0 5 rfl rfl)
theorem dJ14_max_2_6 : decode cJ14_max_2 6 = .ok (.goto 4, 3) := dk_167 0 4 (dk_at dksJ14_max_2_0 6 rfl rfl)
theorem dJ14_max_2_9 : decode cJ14_max_2 9 = .ok (.iload_n 1, 1) := dk_27 (dk_at dksJ14_max_2_0 9 rfl rfl)
theorem dJ14_max_2_10 : decode cJ14_max_2 10 = .ok (.ireturn, 1) := dk_172 (dk_at dksJ14_max_2_0 10 rfl rfl)
abbrev rm_J14_max_2 : Room := { frames := 0, cells := 0, slots := 0, locals := 0 }
def w_J14_max_2 (a0 : Int32) (a1 : Int32) (h : AH) (P : Int32 → AH → Prop) : Prop :=
  ((a0 < a1 →
    P a1 h) ∧
   (¬ a0 < a1 →
    P a0 h))
theorem met_J14_max_2 (l : Launch) (hlt : l.stackTraces = false) (G : GG) (h : AH) (a0 : Int32) (a1 : Int32) (P : Int32 → AH → Prop) (hw : w_J14_max_2 a0 a1 h P) : ct_i l yJ14_max_2 (ws_ yJ14_max_2 cJ14_max_2 2 (Option.some Jvm.ClassFile.FieldType.int)) rm_J14_max_2 G h [vI a0, vI a1] P := by
  refine j_starti hlt [(0, vI a0), (1, vI a1)] (by decide +kernel) rfl rfl (fun x X eG er en hQ => ?_)
  subst eG
  refine j_iload_n X (pc := 0) 0 dJ14_max_2_0 rfl rfl ?_
  refine j_iload_n X (pc := 1) 1 dJ14_max_2_1 rfl rfl ?_
  refine j_icmp_lt X (pc := 2) 9 dJ14_max_2_2 (by decide) hw (fun hw => ?_) (fun hw => ?_)
  · refine j_iload_n X (pc := 9) 1 dJ14_max_2_9 rfl rfl ?_
    exact j_iret X (pc := 10) hQ er (Nat.le_of_ble_eq_true rfl) (Nat.le_of_ble_eq_true rfl) dJ14_max_2_10 hw
  · refine j_iload_n X (pc := 5) 0 dJ14_max_2_5 rfl rfl ?_
    refine j_goto X (pc := 6) 10 dJ14_max_2_6 (by decide) ?_
    exact j_iret X (pc := 10) hQ er (Nat.le_of_ble_eq_true rfl) (Nat.le_of_ble_eq_true rfl) dJ14_max_2_10 hw
abbrev cJ15_newLength : ByteArray := prog_64_method_27_code
def yJ15_newLength : MethodName := ⟨RJ15, "newLength", "(III)I"⟩
def dkwJ15_newLength_1 : List UInt8 := [184, 0, 201, 172]
abbrev dktJ15_newLength_1 : List UInt8 := dkwJ15_newLength_1 ++ []
def dkwJ15_newLength_0 : List UInt8 := [26, 27, 28, 184, 0, 194, 96, 62, 3, 29, 162, 0, 11, 29, 18, 200, 163, 0, 5, 29, 172, 26, 27]
abbrev dktJ15_newLength_0 : List UInt8 := dkwJ15_newLength_0 ++ dktJ15_newLength_1
theorem dksJ15_newLength_0 : cJ15_newLength.data.toList.drop 0 = dktJ15_newLength_0 := by decide +kernel
theorem dksJ15_newLength_1 : cJ15_newLength.data.toList.drop 23 = dktJ15_newLength_1 := dk_seg dksJ15_newLength_0 23 rfl rfl
theorem dJ15_newLength_0 : decode cJ15_newLength 0 = .ok (.iload_n 0, 1) := dk_26 (dk_at dksJ15_newLength_0 0 rfl rfl)
theorem dJ15_newLength_1 : decode cJ15_newLength 1 = .ok (.iload_n 1, 1) := dk_27 (dk_at dksJ15_newLength_0 1 rfl rfl)
theorem dJ15_newLength_2 : decode cJ15_newLength 2 = .ok (.iload_n 2, 1) := dk_28 (dk_at dksJ15_newLength_0 2 rfl rfl)
theorem dJ15_newLength_3 : decode cJ15_newLength 3 = .ok (.invokestatic 194, 3) := dk_184 0 194 (dk_at dksJ15_newLength_0 3 rfl rfl)
theorem dJ15_newLength_6 : decode cJ15_newLength 6 = .ok (.iadd, 1) := dk_96 (dk_at dksJ15_newLength_0 6 rfl rfl)
theorem dJ15_newLength_7 : decode cJ15_newLength 7 = .ok (.istore_n 3, 1) := dk_62 (dk_at dksJ15_newLength_0 7 rfl rfl)
theorem dJ15_newLength_8 : decode cJ15_newLength 8 = .ok (.iconst 0, 1) := dk_3 (dk_at dksJ15_newLength_0 8 rfl rfl)
theorem dJ15_newLength_9 : decode cJ15_newLength 9 = .ok (.iload_n 3, 1) := dk_29 (dk_at dksJ15_newLength_0 9 rfl rfl)
theorem dJ15_newLength_10 : decode cJ15_newLength 10 = .ok (.if_icmp .ge 11, 3) := dk_162 0 11 (dk_at dksJ15_newLength_0 10 rfl rfl)
theorem dJ15_newLength_13 : decode cJ15_newLength 13 = .ok (.iload_n 3, 1) := dk_29 (dk_at dksJ15_newLength_0 13 rfl rfl)
theorem dJ15_newLength_14 : decode cJ15_newLength 14 = .ok (.ldc 200, 2) := dk_18 200 (dk_at dksJ15_newLength_0 14 rfl rfl)
theorem dJ15_newLength_16 : decode cJ15_newLength 16 = .ok (.if_icmp .gt 5, 3) := dk_163 0 5 (dk_at dksJ15_newLength_0 16 rfl rfl)
theorem dJ15_newLength_19 : decode cJ15_newLength 19 = .ok (.iload_n 3, 1) := dk_29 (dk_at dksJ15_newLength_0 19 rfl rfl)
theorem dJ15_newLength_20 : decode cJ15_newLength 20 = .ok (.ireturn, 1) := dk_172 (dk_at dksJ15_newLength_0 20 rfl rfl)
theorem dJ15_newLength_21 : decode cJ15_newLength 21 = .ok (.iload_n 0, 1) := dk_26 (dk_at dksJ15_newLength_0 21 rfl rfl)
theorem dJ15_newLength_22 : decode cJ15_newLength 22 = .ok (.iload_n 1, 1) := dk_27 (dk_at dksJ15_newLength_0 22 rfl rfl)
theorem dJ15_newLength_23 : decode cJ15_newLength 23 = .ok (.invokestatic 201, 3) := dk_184 0 201 (dk_at dksJ15_newLength_1 0 rfl rfl)
theorem dJ15_newLength_26 : decode cJ15_newLength 26 = .ok (.ireturn, 1) := dk_172 (dk_at dksJ15_newLength_1 3 rfl rfl)
theorem q621 : (Jvm.Cond.methodLink "jdk/internal/util/ArraysSupport" (194 : Nat) ({ cls := "java/lang/Math", name := "max", desc := "(II)I" } : Jvm.MethodName)) ∈ lw_all := lw_g (lw_at lw_m3 71 rfl) rfl
theorem q622 : (Jvm.Cond.static ({ cls := "java/lang/Math", name := "max", desc := "(II)I" } : Jvm.MethodName)) ∈ lw_all := lw_g (lw_at lw_m3 72 rfl) rfl
theorem q623 : (Jvm.Cond.code ({ cls := "java/lang/Math", name := "max", desc := "(II)I" } : Jvm.MethodName) prog_38_method_65_code (2 : Nat) (Option.some Jvm.ClassFile.FieldType.int)) ∈ lw_all := lw_g (lw_at lw_m3 73 rfl) rfl
theorem q624 : (Jvm.Cond.constant "jdk/internal/util/ArraysSupport" (200 : Nat) (2147483639 : Int32)) ∈ lw_all := lw_g (lw_at lw_m3 74 rfl) rfl
abbrev rm_J15_newLength : Room := { frames := 1, cells := 0, slots := 0, locals := 21 }
def w_J15_newLength (a0 : Int32) (a1 : Int32) (a2 : Int32) (h : AH) (P : Int32 → AH → Prop) : Prop :=
  w_J14_max_2 a1 a2 h (fun y3 h3 =>
  (((a0 + y3) ≤ (0 : Int32) →
    False) ∧
   (¬ (a0 + y3) ≤ (0 : Int32) →
    ((2147483639 < (a0 + y3) →
      False) ∧
     (¬ 2147483639 < (a0 + y3) →
      P (a0 + y3) h3)))))
theorem met_J15_newLength (l : Launch) (hlt : l.stackTraces = false) (G : GG) (h : AH) (a0 : Int32) (a1 : Int32) (a2 : Int32) (P : Int32 → AH → Prop) (hw : w_J15_newLength a0 a1 a2 h P) : ct_i l yJ15_newLength (ws_ yJ15_newLength cJ15_newLength 4 (Option.some Jvm.ClassFile.FieldType.int)) rm_J15_newLength G h [vI a0, vI a1, vI a2] P := by
  refine j_starti hlt [(0, vI a0), (1, vI a1), (2, vI a2)] (plainFor_of_name (by decide)) rfl rfl (fun x X eG er en hQ => ?_)
  subst eG
  refine j_iload_n X (pc := 0) 0 dJ15_newLength_0 rfl rfl ?_
  refine j_iload_n X (pc := 1) 1 dJ15_newLength_1 rfl rfl ?_
  refine j_iload_n X (pc := 2) 2 dJ15_newLength_2 rfl rfl ?_
  refine j_calli (j_runS (n8 := 2) (As := [vI a1, vI a2]) (rest := [vI a0]) X (pc := 3) (met_J14_max_2 (xl x) X.hl (xG x) h a1 a2 _ hw) q621 q622 q92 q623 (by decide +kernel) dJ15_newLength_3 rfl ⟨Nat.le_of_ble_eq_true rfl, Nat.le_of_ble_eq_true rfl⟩ (Nat.le_of_ble_eq_true rfl) ⟨Nat.le_of_ble_eq_true rfl, Nat.le_of_ble_eq_true rfl⟩) (fun y3 h3 hw => ?_)
  refine j_iadd X (pc := 6) dJ15_newLength_6 ?_
  refine j_istore_n X (pc := 7) [(3, vI (a0 + y3)), (0, vI a0), (1, vI a1), (2, vI a2)] dJ15_newLength_7 rfl (Nat.le_of_ble_eq_true rfl) rfl ?_
  refine j_iconst X (pc := 8) 0 dJ15_newLength_8 (by decide) ?_
  refine j_iload_n X (pc := 9) 0 dJ15_newLength_9 rfl rfl ?_
  refine j_icmp_ge X (pc := 10) 21 dJ15_newLength_10 (by decide) hw (fun hw => ?_) (fun hw => ?_)
  · refine j_iload_n X (pc := 21) 1 dJ15_newLength_21 rfl rfl ?_
    refine j_iload_n X (pc := 22) 2 dJ15_newLength_22 rfl rfl ?_
    exact hw.elim
  · refine j_iload_n X (pc := 13) 0 dJ15_newLength_13 rfl rfl ?_
    refine j_ldc X (pc := 14) dJ15_newLength_14 q624 ?_
    refine j_icmp_gt X (pc := 16) 21 dJ15_newLength_16 (by decide) hw (fun hw => ?_) (fun hw => ?_)
    · refine j_iload_n X (pc := 21) 1 dJ15_newLength_21 rfl rfl ?_
      refine j_iload_n X (pc := 22) 2 dJ15_newLength_22 rfl rfl ?_
      exact hw.elim
    · refine j_iload_n X (pc := 19) 0 dJ15_newLength_19 rfl rfl ?_
      exact j_iret X (pc := 20) hQ er (Nat.le_of_ble_eq_true rfl) (Nat.le_of_ble_eq_true rfl) dJ15_newLength_20 hw
abbrev cJ14_min : ByteArray := prog_38_method_69_code
def yJ14_min : MethodName := ⟨RJ14, "min", "(II)I"⟩
def dkwJ14_min_0 : List UInt8 := [26, 27, 163, 0, 7, 26, 167, 0, 4, 27, 172]
abbrev dktJ14_min_0 : List UInt8 := dkwJ14_min_0 ++ []
theorem dksJ14_min_0 : cJ14_min.data.toList.drop 0 = dktJ14_min_0 := by decide +kernel
theorem dJ14_min_0 : decode cJ14_min 0 = .ok (.iload_n 0, 1) := dk_26 (dk_at dksJ14_min_0 0 rfl rfl)
theorem dJ14_min_1 : decode cJ14_min 1 = .ok (.iload_n 1, 1) := dk_27 (dk_at dksJ14_min_0 1 rfl rfl)
theorem dJ14_min_2 : decode cJ14_min 2 = .ok (.if_icmp .gt 7, 3) := dk_163 0 7 (dk_at dksJ14_min_0 2 rfl rfl)
theorem dJ14_min_5 : decode cJ14_min 5 = .ok (.iload_n 0, 1) := dk_26 (dk_at dksJ14_min_0 5 rfl rfl)
theorem dJ14_min_6 : decode cJ14_min 6 = .ok (.goto 4, 3) := dk_167 0 4 (dk_at dksJ14_min_0 6 rfl rfl)
theorem dJ14_min_9 : decode cJ14_min 9 = .ok (.iload_n 1, 1) := dk_27 (dk_at dksJ14_min_0 9 rfl rfl)
theorem dJ14_min_10 : decode cJ14_min 10 = .ok (.ireturn, 1) := dk_172 (dk_at dksJ14_min_0 10 rfl rfl)
abbrev rm_J14_min : Room := { frames := 0, cells := 0, slots := 0, locals := 0 }
def w_J14_min (a0 : Int32) (a1 : Int32) (h : AH) (P : Int32 → AH → Prop) : Prop :=
  ((a1 < a0 →
    P a1 h) ∧
   (¬ a1 < a0 →
    P a0 h))
theorem met_J14_min (l : Launch) (hlt : l.stackTraces = false) (G : GG) (h : AH) (a0 : Int32) (a1 : Int32) (P : Int32 → AH → Prop) (hw : w_J14_min a0 a1 h P) : ct_i l yJ14_min (ws_ yJ14_min cJ14_min 2 (Option.some Jvm.ClassFile.FieldType.int)) rm_J14_min G h [vI a0, vI a1] P := by
  refine j_starti hlt [(0, vI a0), (1, vI a1)] (by decide +kernel) rfl rfl (fun x X eG er en hQ => ?_)
  subst eG
  refine j_iload_n X (pc := 0) 0 dJ14_min_0 rfl rfl ?_
  refine j_iload_n X (pc := 1) 1 dJ14_min_1 rfl rfl ?_
  refine j_icmp_gt X (pc := 2) 9 dJ14_min_2 (by decide) hw (fun hw => ?_) (fun hw => ?_)
  · refine j_iload_n X (pc := 9) 1 dJ14_min_9 rfl rfl ?_
    exact j_iret X (pc := 10) hQ er (Nat.le_of_ble_eq_true rfl) (Nat.le_of_ble_eq_true rfl) dJ14_min_10 hw
  · refine j_iload_n X (pc := 5) 0 dJ14_min_5 rfl rfl ?_
    refine j_goto X (pc := 6) 10 dJ14_min_6 (by decide) ?_
    exact j_iret X (pc := 10) hQ er (Nat.le_of_ble_eq_true rfl) (Nat.le_of_ble_eq_true rfl) dJ14_min_10 hw
abbrev cJ16_copyOf_2 : ByteArray := prog_56_method_120_code
def yJ16_copyOf_2 : MethodName := ⟨RJ16, "copyOf", "([Ljava/lang/Object;ILjava/lang/Class;)[Ljava/lang/Object;"⟩
def dkwJ16_copyOf_2_1 : List UInt8 := [78, 42, 3, 45, 3, 42, 190, 27, 184, 1, 48, 184, 0, 150, 45, 176]
abbrev dktJ16_copyOf_2_1 : List UInt8 := dkwJ16_copyOf_2_1 ++ []
def dkwJ16_copyOf_2_0 : List UInt8 := [44, 18, 110, 166, 0, 10, 27, 189, 0, 2, 167, 0, 14, 44, 182, 0, 90, 27, 184, 0, 95, 192, 0, 110]
abbrev dktJ16_copyOf_2_0 : List UInt8 := dkwJ16_copyOf_2_0 ++ dktJ16_copyOf_2_1
theorem dksJ16_copyOf_2_0 : cJ16_copyOf_2.data.toList.drop 0 = dktJ16_copyOf_2_0 := by decide +kernel
theorem dksJ16_copyOf_2_1 : cJ16_copyOf_2.data.toList.drop 24 = dktJ16_copyOf_2_1 := dk_seg dksJ16_copyOf_2_0 24 rfl rfl
theorem dJ16_copyOf_2_0 : decode cJ16_copyOf_2 0 = .ok (.aload_n 2, 1) := dk_44 (dk_at dksJ16_copyOf_2_0 0 rfl rfl)
theorem dJ16_copyOf_2_1 : decode cJ16_copyOf_2 1 = .ok (.ldc 110, 2) := dk_18 110 (dk_at dksJ16_copyOf_2_0 1 rfl rfl)
theorem dJ16_copyOf_2_3 : decode cJ16_copyOf_2 3 = .ok (.if_acmp .ne 10, 3) := dk_166 0 10 (dk_at dksJ16_copyOf_2_0 3 rfl rfl)
theorem dJ16_copyOf_2_6 : decode cJ16_copyOf_2 6 = .ok (.iload_n 1, 1) := dk_27 (dk_at dksJ16_copyOf_2_0 6 rfl rfl)
theorem dJ16_copyOf_2_7 : decode cJ16_copyOf_2 7 = .ok (.anewarray 2, 3) := dk_189 0 2 (dk_at dksJ16_copyOf_2_0 7 rfl rfl)
theorem dJ16_copyOf_2_10 : decode cJ16_copyOf_2 10 = .ok (.goto 14, 3) := dk_167 0 14 (dk_at dksJ16_copyOf_2_0 10 rfl rfl)
theorem dJ16_copyOf_2_13 : decode cJ16_copyOf_2 13 = .ok (.aload_n 2, 1) := dk_44 (dk_at dksJ16_copyOf_2_0 13 rfl rfl)
theorem dJ16_copyOf_2_14 : decode cJ16_copyOf_2 14 = .ok (.invokevirtual 90, 3) := dk_182 0 90 (dk_at dksJ16_copyOf_2_0 14 rfl rfl)
theorem dJ16_copyOf_2_17 : decode cJ16_copyOf_2 17 = .ok (.iload_n 1, 1) := dk_27 (dk_at dksJ16_copyOf_2_0 17 rfl rfl)
theorem dJ16_copyOf_2_18 : decode cJ16_copyOf_2 18 = .ok (.invokestatic 95, 3) := dk_184 0 95 (dk_at dksJ16_copyOf_2_0 18 rfl rfl)
theorem dJ16_copyOf_2_21 : decode cJ16_copyOf_2 21 = .ok (.checkcast 110, 3) := dk_192 0 110 (dk_at dksJ16_copyOf_2_0 21 rfl rfl)
theorem dJ16_copyOf_2_24 : decode cJ16_copyOf_2 24 = .ok (.astore_n 3, 1) := dk_78 (dk_at dksJ16_copyOf_2_1 0 rfl rfl)
theorem dJ16_copyOf_2_25 : decode cJ16_copyOf_2 25 = .ok (.aload_n 0, 1) := dk_42 (dk_at dksJ16_copyOf_2_1 1 rfl rfl)
theorem dJ16_copyOf_2_26 : decode cJ16_copyOf_2 26 = .ok (.iconst 0, 1) := dk_3 (dk_at dksJ16_copyOf_2_1 2 rfl rfl)
theorem dJ16_copyOf_2_27 : decode cJ16_copyOf_2 27 = .ok (.aload_n 3, 1) := dk_45 (dk_at dksJ16_copyOf_2_1 3 rfl rfl)
theorem dJ16_copyOf_2_28 : decode cJ16_copyOf_2 28 = .ok (.iconst 0, 1) := dk_3 (dk_at dksJ16_copyOf_2_1 4 rfl rfl)
theorem dJ16_copyOf_2_29 : decode cJ16_copyOf_2 29 = .ok (.aload_n 0, 1) := dk_42 (dk_at dksJ16_copyOf_2_1 5 rfl rfl)
theorem dJ16_copyOf_2_30 : decode cJ16_copyOf_2 30 = .ok (.arraylength, 1) := dk_190 (dk_at dksJ16_copyOf_2_1 6 rfl rfl)
theorem dJ16_copyOf_2_31 : decode cJ16_copyOf_2 31 = .ok (.iload_n 1, 1) := dk_27 (dk_at dksJ16_copyOf_2_1 7 rfl rfl)
theorem dJ16_copyOf_2_32 : decode cJ16_copyOf_2 32 = .ok (.invokestatic 304, 3) := dk_184 1 48 (dk_at dksJ16_copyOf_2_1 8 rfl rfl)
theorem dJ16_copyOf_2_35 : decode cJ16_copyOf_2 35 = .ok (.invokestatic 150, 3) := dk_184 0 150 (dk_at dksJ16_copyOf_2_1 11 rfl rfl)
theorem dJ16_copyOf_2_38 : decode cJ16_copyOf_2 38 = .ok (.aload_n 3, 1) := dk_45 (dk_at dksJ16_copyOf_2_1 14 rfl rfl)
theorem dJ16_copyOf_2_39 : decode cJ16_copyOf_2 39 = .ok (.areturn, 1) := dk_176 (dk_at dksJ16_copyOf_2_1 15 rfl rfl)
theorem q99 : (Jvm.Cond.initialized "java/lang/System") ∈ lw_all := lw_g (lw_at lw_m1 29 rfl) rfl
theorem q666 : (Jvm.Cond.classLink "java/util/Arrays" (110 : Nat) "[Ljava/lang/Object;") ∈ lw_all := lw_g (lw_at lw_m3 116 rfl) rfl
theorem q668 : (Jvm.Cond.classLink "java/util/Arrays" (2 : Nat) "java/lang/Object") ∈ lw_all := lw_g (lw_at lw_m3 118 rfl) rfl
theorem q669 : (Jvm.Cond.methodLink "java/util/Arrays" (304 : Nat) ({ cls := "java/lang/Math", name := "min", desc := "(II)I" } : Jvm.MethodName)) ∈ lw_all := lw_g (lw_at lw_m3 119 rfl) rfl
theorem q670 : (Jvm.Cond.static ({ cls := "java/lang/Math", name := "min", desc := "(II)I" } : Jvm.MethodName)) ∈ lw_all := lw_g (lw_at lw_m3 120 rfl) rfl
theorem q671 : (Jvm.Cond.code ({ cls := "java/lang/Math", name := "min", desc := "(II)I" } : Jvm.MethodName) prog_38_method_69_code (2 : Nat) (Option.some Jvm.ClassFile.FieldType.int)) ∈ lw_all := lw_g (lw_at lw_m3 121 rfl) rfl
theorem q672 : (Jvm.Cond.methodLink "java/util/Arrays" (150 : Nat) ({ cls := "java/lang/System", name := "arraycopy", desc := "(Ljava/lang/Object;ILjava/lang/Object;II)V" } : Jvm.MethodName)) ∈ lw_all := lw_g (lw_at lw_m3 122 rfl) rfl
theorem q673 : (Jvm.Cond.static ({ cls := "java/lang/System", name := "arraycopy", desc := "(Ljava/lang/Object;ILjava/lang/Object;II)V" } : Jvm.MethodName)) ∈ lw_all := lw_g (lw_at lw_m3 123 rfl) rfl
theorem q674 : (Jvm.Cond.native ({ cls := "java/lang/System", name := "arraycopy", desc := "(Ljava/lang/Object;ILjava/lang/Object;II)V" } : Jvm.MethodName)) ∈ lw_all := lw_g (lw_at lw_m3 124 rfl) rfl
abbrev rm_J16_copyOf_2 : Room := { frames := 1, cells := 1, slots := 64, locals := 40 }
def w_J16_copyOf_2_24 (P : Option Nat → AH → Prop) (x0 : Option Nat) (x1 : Int32) (t0 : Option Nat) (h : AH) : Prop :=
  n_a h x0 fun y30 =>
  w_J14_min y30 x1 h (fun y32 h32 =>
  cp_q h32 x0 0 t0 0 y32 fun h35 =>
  P t0 h35)
def w_J16_copyOf_2 (a0 : Option Nat) (a1 : Int32) (a2 : Option Nat) (h : AH) (P : Option Nat → AH → Prop) : Prop :=
  ((a2 = (some (h.2 2)) →
    mk_q h 8 a1 64 fun q7 h7 =>
    w_J16_copyOf_2_24 P a0 a1 (some q7) h7) ∧
   (¬ a2 = (some (h.2 2)) →
    False))
theorem wk_J16_copyOf_2_24 {x : CX} (X : Ok x cJ16_copyOf_2 RJ16 rm_J16_copyOf_2 4) (er : xrt x = (Option.some (Jvm.ClassFile.FieldType.array (Jvm.ClassFile.FieldType.object "java/lang/Object")))) (en : xnm x = yJ16_copyOf_2.name) {P : Option Nat → AH → Prop} (hQ : xr_q x P) (x0 : Option Nat) (x1 : Int32) (t0 : Option Nat) (h : AH) (hw : w_J16_copyOf_2_24 P x0 x1 t0 h) : J x h 1 64 24 [(0, vR x0), (1, vI x1)] [vR t0] := by
  refine j_astore_n X (pc := 24) [(3, vR t0), (0, vR x0), (1, vI x1)] dJ16_copyOf_2_24 rfl (Nat.le_of_ble_eq_true rfl) rfl ?_
  refine j_aload_n X (pc := 25) 1 dJ16_copyOf_2_25 rfl rfl ?_
  refine j_iconst X (pc := 26) 0 dJ16_copyOf_2_26 (by decide) ?_
  refine j_aload_n X (pc := 27) 0 dJ16_copyOf_2_27 rfl rfl ?_
  refine j_iconst X (pc := 28) 0 dJ16_copyOf_2_28 (by decide) ?_
  refine j_aload_n X (pc := 29) 1 dJ16_copyOf_2_29 rfl rfl ?_
  refine j_alen X (pc := 30) dJ16_copyOf_2_30 hw (fun y30 hw => ?_)
  refine j_iload_n X (pc := 31) 2 dJ16_copyOf_2_31 rfl rfl ?_
  refine j_calli (j_runS (n8 := 2) (As := [vI y30, vI x1]) (rest := [vI 0, vR t0, vI 0, vR x0]) X (pc := 32) (met_J14_min (xl x) X.hl (xG x) h y30 x1 _ hw) q669 q670 q92 q671 (by decide +kernel) dJ16_copyOf_2_32 rfl ⟨Nat.le_of_ble_eq_true rfl, Nat.le_of_ble_eq_true rfl⟩ (Nat.le_of_ble_eq_true rfl) ⟨Nat.le_of_ble_eq_true rfl, Nat.le_of_ble_eq_true rfl⟩) (fun y32 h32 hw => ?_)
  refine j_copy X (pc := 35) q672 q674 q673 q99 ⟨Nat.le_of_ble_eq_true rfl, by decide⟩ dJ16_copyOf_2_35 hw (fun h35 hw => ?_)
  refine j_aload_n X (pc := 38) 0 dJ16_copyOf_2_38 rfl rfl ?_
  exact j_aret X (pc := 39) (ty := (.array (.object "java/lang/Object"))) hQ er (Or.inr ⟨_, rfl⟩) (Nat.le_of_ble_eq_true rfl) (Nat.le_of_ble_eq_true rfl) dJ16_copyOf_2_39 hw
theorem met_J16_copyOf_2 (l : Launch) (hlt : l.stackTraces = false) (G : GG) (h : AH) (a0 : Option Nat) (a1 : Int32) (a2 : Option Nat) (P : Option Nat → AH → Prop) (hw : w_J16_copyOf_2 a0 a1 a2 h P) : ct_q l yJ16_copyOf_2 (ws_ yJ16_copyOf_2 cJ16_copyOf_2 4 (Option.some (Jvm.ClassFile.FieldType.array (Jvm.ClassFile.FieldType.object "java/lang/Object")))) rm_J16_copyOf_2 G h [vR a0, vI a1, vR a2] P := by
  refine j_startq hlt [(0, vR a0), (1, vI a1), (2, vR a2)] (plainFor_of_name (by decide)) rfl rfl (fun x X eG er en hQ => ?_)
  subst eG
  refine j_aload_n X (pc := 0) 2 dJ16_copyOf_2_0 rfl rfl ?_
  refine j_ldcM X (pc := 1) q666 dJ16_copyOf_2_1 ?_
  refine j_acmp_ne X (pc := 3) 13 dJ16_copyOf_2_3 (by decide) hw (fun hw => ?_) (fun hw => ?_)
  · refine j_iload_n X (pc := 6) 1 dJ16_copyOf_2_6 rfl rfl ?_
    refine j_newQ X (pc := 7) 8 rfl (by decide) 64 dJ16_copyOf_2_7 q668 (fun U hU => kt_8 hU) (by decide) (Nat.le_of_ble_eq_true rfl) (Nat.le_of_ble_eq_true rfl) hw (fun q7 h7 hw => ?_)
    refine j_goto X (pc := 10) 24 dJ16_copyOf_2_10 (by decide) ?_
    refine j_lv [(0, vR a0), (1, vI a1)] [0, 1] rfl ?_
    refine j_cs (u' := 1) (v' := 64) (Nat.le_of_ble_eq_true rfl) (Nat.le_of_ble_eq_true rfl) ?_
    exact wk_J16_copyOf_2_24 X er en hQ a0 a1 (some q7) h7 hw
  · refine j_aload_n X (pc := 13) 2 dJ16_copyOf_2_13 rfl rfl ?_
    exact hw.elim
abbrev cJ16_copyOf : ByteArray := prog_56_method_119_code
def yJ16_copyOf : MethodName := ⟨RJ16, "copyOf", "([Ljava/lang/Object;I)[Ljava/lang/Object;"⟩
def dkwJ16_copyOf_0 : List UInt8 := [42, 27, 42, 182, 0, 86, 184, 1, 44, 176]
abbrev dktJ16_copyOf_0 : List UInt8 := dkwJ16_copyOf_0 ++ []
theorem dksJ16_copyOf_0 : cJ16_copyOf.data.toList.drop 0 = dktJ16_copyOf_0 := by decide +kernel
theorem dJ16_copyOf_0 : decode cJ16_copyOf 0 = .ok (.aload_n 0, 1) := dk_42 (dk_at dksJ16_copyOf_0 0 rfl rfl)
theorem dJ16_copyOf_1 : decode cJ16_copyOf 1 = .ok (.iload_n 1, 1) := dk_27 (dk_at dksJ16_copyOf_0 1 rfl rfl)
theorem dJ16_copyOf_2 : decode cJ16_copyOf 2 = .ok (.aload_n 0, 1) := dk_42 (dk_at dksJ16_copyOf_0 2 rfl rfl)
theorem dJ16_copyOf_3 : decode cJ16_copyOf 3 = .ok (.invokevirtual 86, 3) := dk_182 0 86 (dk_at dksJ16_copyOf_0 3 rfl rfl)
theorem dJ16_copyOf_6 : decode cJ16_copyOf 6 = .ok (.invokestatic 300, 3) := dk_184 1 44 (dk_at dksJ16_copyOf_0 6 rfl rfl)
theorem dJ16_copyOf_9 : decode cJ16_copyOf 9 = .ok (.areturn, 1) := dk_176 (dk_at dksJ16_copyOf_0 9 rfl rfl)
theorem q97 : (Jvm.Cond.initialized "java/util/Arrays") ∈ lw_all := lw_g (lw_at lw_m1 27 rfl) rfl
theorem q631 : (Jvm.Cond.methodLink "java/util/Arrays" (86 : Nat) ({ cls := "java/lang/Object", name := "getClass", desc := "()Ljava/lang/Class;" } : Jvm.MethodName)) ∈ lw_all := lw_g (lw_at lw_m3 81 rfl) rfl
theorem q632 : (Jvm.Cond.instanceMethod ({ cls := "java/lang/Object", name := "getClass", desc := "()Ljava/lang/Class;" } : Jvm.MethodName)) ∈ lw_all := lw_g (lw_at lw_m3 82 rfl) rfl
theorem q662 : (Jvm.Cond.native ({ cls := "java/lang/Object", name := "getClass", desc := "()Ljava/lang/Class;" } : Jvm.MethodName)) ∈ lw_all := lw_g (lw_at lw_m3 112 rfl) rfl
theorem q663 : (Jvm.Cond.methodLink "java/util/Arrays" (300 : Nat) ({ cls := "java/util/Arrays", name := "copyOf", desc := "([Ljava/lang/Object;ILjava/lang/Class;)[Ljava/lang/Object;" } : Jvm.MethodName)) ∈ lw_all := lw_g (lw_at lw_m3 113 rfl) rfl
theorem q664 : (Jvm.Cond.static ({ cls := "java/util/Arrays", name := "copyOf", desc := "([Ljava/lang/Object;ILjava/lang/Class;)[Ljava/lang/Object;" } : Jvm.MethodName)) ∈ lw_all := lw_g (lw_at lw_m3 114 rfl) rfl
theorem q665 : (Jvm.Cond.code ({ cls := "java/util/Arrays", name := "copyOf", desc := "([Ljava/lang/Object;ILjava/lang/Class;)[Ljava/lang/Object;" } : Jvm.MethodName) prog_56_method_120_code (4 : Nat) (Option.some (Jvm.ClassFile.FieldType.array (Jvm.ClassFile.FieldType.object "java/lang/Object")))) ∈ lw_all := lw_g (lw_at lw_m3 115 rfl) rfl
theorem q2376 : (Jvm.Cond.selects "[Ljava/lang/Object;" ({ cls := "java/lang/Object", name := "getClass", desc := "()Ljava/lang/Class;" } : Jvm.MethodName) ({ cls := "java/lang/Object", name := "getClass", desc := "()Ljava/lang/Class;" } : Jvm.MethodName)) ∈ lw_all := lw_g (lw_at lw_m10 146 rfl) rfl
abbrev rm_J16_copyOf : Room := { frames := 2, cells := 1, slots := 64, locals := 63 }
def w_J16_copyOf (a0 : Option Nat) (a1 : Int32) (h : AH) (P : Option Nat → AH → Prop) : Prop :=
  is_O h a0 (
  w_J16_copyOf_2 a0 a1 (some (h.2 2)) h (fun y6 h6 =>
  P y6 h6))
theorem met_J16_copyOf (l : Launch) (hlt : l.stackTraces = false) (G : GG) (h : AH) (a0 : Option Nat) (a1 : Int32) (P : Option Nat → AH → Prop) (hw : w_J16_copyOf a0 a1 h P) : ct_q l yJ16_copyOf (ws_ yJ16_copyOf cJ16_copyOf 2 (Option.some (Jvm.ClassFile.FieldType.array (Jvm.ClassFile.FieldType.object "java/lang/Object")))) rm_J16_copyOf G h [vR a0, vI a1] P := by
  refine j_startq hlt [(0, vR a0), (1, vI a1)] (plainFor_of_name (by decide)) rfl rfl (fun x X eG er en hQ => ?_)
  subst eG
  refine j_aload_n X (pc := 0) 0 dJ16_copyOf_0 rfl rfl ?_
  refine j_iload_n X (pc := 1) 1 dJ16_copyOf_1 rfl rfl ?_
  refine j_aload_n X (pc := 2) 0 dJ16_copyOf_2 rfl rfl ?_
  refine j_getC X (pc := 3) q631 q2376 q632 q662 ⟨Nat.le_of_ble_eq_true rfl, Nat.le_of_ble_eq_true rfl⟩ dJ16_copyOf_3 hw (fun hw => ?_)
  refine j_callq (j_runS (n8 := 3) (As := [vR a0, vI a1, vR (some (h.2 2))]) (rest := []) X (pc := 6) (met_J16_copyOf_2 (xl x) X.hl (xG x) h a0 a1 (some (h.2 2)) _ hw) q663 q664 q97 q665 (by decide +kernel) dJ16_copyOf_6 rfl ⟨Nat.le_of_ble_eq_true rfl, Nat.le_of_ble_eq_true rfl⟩ (Nat.le_of_ble_eq_true rfl) ⟨Nat.le_of_ble_eq_true rfl, Nat.le_of_ble_eq_true rfl⟩) (fun y6 h6 hw => ?_)
  exact j_aret X (pc := 9) (ty := (.array (.object "java/lang/Object"))) hQ er (Or.inr ⟨_, rfl⟩) (Nat.le_of_ble_eq_true rfl) (Nat.le_of_ble_eq_true rfl) dJ16_copyOf_9 hw
abbrev cJ2_grow_2 : ByteArray := prog_54_method_6_code
def yJ2_grow_2 : MethodName := ⟨RJ2, "grow", "(I)[Ljava/lang/Object;"⟩
def dkwJ2_grow_2_2 : List UInt8 := [27, 184, 0, 79, 189, 0, 7, 90, 181, 0, 9, 176]
abbrev dktJ2_grow_2_2 : List UInt8 := dkwJ2_grow_2_2 ++ []
def dkwJ2_grow_2_1 : List UInt8 := [28, 4, 122, 184, 0, 73, 62, 42, 42, 180, 0, 9, 29, 184, 0, 66, 90, 181, 0, 9, 176, 42, 16, 10]
abbrev dktJ2_grow_2_1 : List UInt8 := dkwJ2_grow_2_1 ++ dktJ2_grow_2_2
def dkwJ2_grow_2_0 : List UInt8 := [42, 180, 0, 9, 190, 61, 28, 157, 0, 13, 42, 180, 0, 9, 178, 0, 39, 165, 0, 28, 28, 27, 28, 100]
abbrev dktJ2_grow_2_0 : List UInt8 := dkwJ2_grow_2_0 ++ dktJ2_grow_2_1
theorem dksJ2_grow_2_0 : cJ2_grow_2.data.toList.drop 0 = dktJ2_grow_2_0 := by decide +kernel
theorem dksJ2_grow_2_1 : cJ2_grow_2.data.toList.drop 24 = dktJ2_grow_2_1 := dk_seg dksJ2_grow_2_0 24 rfl rfl
theorem dksJ2_grow_2_2 : cJ2_grow_2.data.toList.drop 48 = dktJ2_grow_2_2 := dk_seg dksJ2_grow_2_1 24 rfl rfl
theorem dJ2_grow_2_0 : decode cJ2_grow_2 0 = .ok (.aload_n 0, 1) := dk_42 (dk_at dksJ2_grow_2_0 0 rfl rfl)
theorem dJ2_grow_2_1 : decode cJ2_grow_2 1 = .ok (.getfield 9, 3) := dk_180 0 9 (dk_at dksJ2_grow_2_0 1 rfl rfl)
theorem dJ2_grow_2_4 : decode cJ2_grow_2 4 = .ok (.arraylength, 1) := dk_190 (dk_at dksJ2_grow_2_0 4 rfl rfl)
theorem dJ2_grow_2_5 : decode cJ2_grow_2 5 = .ok (.istore_n 2, 1) := dk_61 (dk_at dksJ2_grow_2_0 5 rfl rfl)
theorem dJ2_grow_2_6 : decode cJ2_grow_2 6 = .ok (.iload_n 2, 1) := dk_28 (dk_at dksJ2_grow_2_0 6 rfl rfl)
theorem dJ2_grow_2_7 : decode cJ2_grow_2 7 = .ok (.ifCond .gt 13, 3) := dk_157 0 13 (dk_at dksJ2_grow_2_0 7 rfl rfl)
theorem dJ2_grow_2_10 : decode cJ2_grow_2 10 = .ok (.aload_n 0, 1) := dk_42 (dk_at dksJ2_grow_2_0 10 rfl rfl)
theorem dJ2_grow_2_11 : decode cJ2_grow_2 11 = .ok (.getfield 9, 3) := dk_180 0 9 (dk_at dksJ2_grow_2_0 11 rfl rfl)
theorem dJ2_grow_2_14 : decode cJ2_grow_2 14 = .ok (.getstatic 39, 3) := dk_178 0 39 (dk_at dksJ2_grow_2_0 14 rfl rfl)
theorem dJ2_grow_2_17 : decode cJ2_grow_2 17 = .ok (.if_acmp .eq 28, 3) := dk_165 0 28 (dk_at dksJ2_grow_2_0 17 rfl rfl)
theorem dJ2_grow_2_20 : decode cJ2_grow_2 20 = .ok (.iload_n 2, 1) := dk_28 (dk_at dksJ2_grow_2_0 20 rfl rfl)
theorem dJ2_grow_2_21 : decode cJ2_grow_2 21 = .ok (.iload_n 1, 1) := dk_27 (dk_at dksJ2_grow_2_0 21 rfl rfl)
theorem dJ2_grow_2_22 : decode cJ2_grow_2 22 = .ok (.iload_n 2, 1) := dk_28 (dk_at dksJ2_grow_2_0 22 rfl rfl)
theorem dJ2_grow_2_23 : decode cJ2_grow_2 23 = .ok (.isub, 1) := dk_100 (dk_at dksJ2_grow_2_0 23 rfl rfl)
theorem dJ2_grow_2_24 : decode cJ2_grow_2 24 = .ok (.iload_n 2, 1) := dk_28 (dk_at dksJ2_grow_2_1 0 rfl rfl)
theorem dJ2_grow_2_25 : decode cJ2_grow_2 25 = .ok (.iconst 1, 1) := dk_4 (dk_at dksJ2_grow_2_1 1 rfl rfl)
theorem dJ2_grow_2_26 : decode cJ2_grow_2 26 = .ok (.ishr, 1) := dk_122 (dk_at dksJ2_grow_2_1 2 rfl rfl)
theorem dJ2_grow_2_27 : decode cJ2_grow_2 27 = .ok (.invokestatic 73, 3) := dk_184 0 73 (dk_at dksJ2_grow_2_1 3 rfl rfl)
theorem dJ2_grow_2_30 : decode cJ2_grow_2 30 = .ok (.istore_n 3, 1) := dk_62 (dk_at dksJ2_grow_2_1 6 rfl rfl)
theorem dJ2_grow_2_31 : decode cJ2_grow_2 31 = .ok (.aload_n 0, 1) := dk_42 (dk_at dksJ2_grow_2_1 7 rfl rfl)
theorem dJ2_grow_2_32 : decode cJ2_grow_2 32 = .ok (.aload_n 0, 1) := dk_42 (dk_at dksJ2_grow_2_1 8 rfl rfl)
theorem dJ2_grow_2_33 : decode cJ2_grow_2 33 = .ok (.getfield 9, 3) := dk_180 0 9 (dk_at dksJ2_grow_2_1 9 rfl rfl)
theorem dJ2_grow_2_36 : decode cJ2_grow_2 36 = .ok (.iload_n 3, 1) := dk_29 (dk_at dksJ2_grow_2_1 12 rfl rfl)
theorem dJ2_grow_2_37 : decode cJ2_grow_2 37 = .ok (.invokestatic 66, 3) := dk_184 0 66 (dk_at dksJ2_grow_2_1 13 rfl rfl)
theorem dJ2_grow_2_40 : decode cJ2_grow_2 40 = .ok (.dup_x1, 1) := dk_90 (dk_at dksJ2_grow_2_1 16 rfl rfl)
theorem dJ2_grow_2_41 : decode cJ2_grow_2 41 = .ok (.putfield 9, 3) := dk_181 0 9 (dk_at dksJ2_grow_2_1 17 rfl rfl)
theorem dJ2_grow_2_44 : decode cJ2_grow_2 44 = .ok (.areturn, 1) := dk_176 (dk_at dksJ2_grow_2_1 20 rfl rfl)
theorem dJ2_grow_2_45 : decode cJ2_grow_2 45 = .ok (.aload_n 0, 1) := dk_42 (dk_at dksJ2_grow_2_1 21 rfl rfl)
theorem dJ2_grow_2_46 : decode cJ2_grow_2 46 = .ok (.bipush 10, 2) := dk_16 10 (dk_at dksJ2_grow_2_1 22 rfl rfl)
theorem dJ2_grow_2_48 : decode cJ2_grow_2 48 = .ok (.iload_n 1, 1) := dk_27 (dk_at dksJ2_grow_2_2 0 rfl rfl)
theorem dJ2_grow_2_49 : decode cJ2_grow_2 49 = .ok (.invokestatic 79, 3) := dk_184 0 79 (dk_at dksJ2_grow_2_2 1 rfl rfl)
theorem dJ2_grow_2_52 : decode cJ2_grow_2 52 = .ok (.anewarray 7, 3) := dk_189 0 7 (dk_at dksJ2_grow_2_2 4 rfl rfl)
theorem dJ2_grow_2_55 : decode cJ2_grow_2 55 = .ok (.dup_x1, 1) := dk_90 (dk_at dksJ2_grow_2_2 7 rfl rfl)
theorem dJ2_grow_2_56 : decode cJ2_grow_2 56 = .ok (.putfield 9, 3) := dk_181 0 9 (dk_at dksJ2_grow_2_2 8 rfl rfl)
theorem dJ2_grow_2_59 : decode cJ2_grow_2 59 = .ok (.areturn, 1) := dk_176 (dk_at dksJ2_grow_2_2 11 rfl rfl)
theorem q96 : (Jvm.Cond.initialized "jdk/internal/util/ArraysSupport") ∈ lw_all := lw_g (lw_at lw_m1 26 rfl) rfl
theorem q618 : (Jvm.Cond.methodLink "java/util/ArrayList" (73 : Nat) ({ cls := "jdk/internal/util/ArraysSupport", name := "newLength", desc := "(III)I" } : Jvm.MethodName)) ∈ lw_all := lw_g (lw_at lw_m3 68 rfl) rfl
theorem q619 : (Jvm.Cond.static ({ cls := "jdk/internal/util/ArraysSupport", name := "newLength", desc := "(III)I" } : Jvm.MethodName)) ∈ lw_all := lw_g (lw_at lw_m3 69 rfl) rfl
theorem q620 : (Jvm.Cond.code ({ cls := "jdk/internal/util/ArraysSupport", name := "newLength", desc := "(III)I" } : Jvm.MethodName) prog_64_method_27_code (4 : Nat) (Option.some Jvm.ClassFile.FieldType.int)) ∈ lw_all := lw_g (lw_at lw_m3 70 rfl) rfl
theorem q628 : (Jvm.Cond.methodLink "java/util/ArrayList" (66 : Nat) ({ cls := "java/util/Arrays", name := "copyOf", desc := "([Ljava/lang/Object;I)[Ljava/lang/Object;" } : Jvm.MethodName)) ∈ lw_all := lw_g (lw_at lw_m3 78 rfl) rfl
theorem q629 : (Jvm.Cond.static ({ cls := "java/util/Arrays", name := "copyOf", desc := "([Ljava/lang/Object;I)[Ljava/lang/Object;" } : Jvm.MethodName)) ∈ lw_all := lw_g (lw_at lw_m3 79 rfl) rfl
theorem q630 : (Jvm.Cond.code ({ cls := "java/util/Arrays", name := "copyOf", desc := "([Ljava/lang/Object;I)[Ljava/lang/Object;" } : Jvm.MethodName) prog_56_method_119_code (2 : Nat) (Option.some (Jvm.ClassFile.FieldType.array (Jvm.ClassFile.FieldType.object "java/lang/Object")))) ∈ lw_all := lw_g (lw_at lw_m3 80 rfl) rfl
theorem q675 : (Jvm.Cond.methodLink "java/util/ArrayList" (79 : Nat) ({ cls := "java/lang/Math", name := "max", desc := "(II)I" } : Jvm.MethodName)) ∈ lw_all := lw_g (lw_at lw_m3 125 rfl) rfl
theorem q676 : (Jvm.Cond.classLink "java/util/ArrayList" (7 : Nat) "java/lang/Object") ∈ lw_all := lw_g (lw_at lw_m3 126 rfl) rfl
abbrev rm_J2_grow_2 : Room := { frames := 3, cells := 1, slots := 64, locals := 84 }
def w_J2_grow_2_20 (P : Option Nat → AH → Prop) (x0 : Option Nat) (x1 : Int32) (x2 : Int32) (h : AH) : Prop :=
  w_J15_newLength x2 (x1 - x2) (x2 >>> (1 &&& 31)) h (fun y27 h27 =>
  g_q h27 x0 15 1 fun y33 =>
  w_J16_copyOf y33 y27 h27 (fun y37 h37 =>
  p_v h37 x0 15 1 (vR y37) fun h41 =>
  P y37 h41))
def w_J2_grow_2 (a0 : Option Nat) (a1 : Int32) (h : AH) (P : Option Nat → AH → Prop) : Prop :=
  g_q h a0 15 1 fun y1 =>
  n_a h y1 fun y4 =>
  ((0 < y4 →
    w_J2_grow_2_20 P a0 a1 y4 h) ∧
   (¬ 0 < y4 →
    g_q h a0 15 1 fun y11 =>
    ((y11 = (some (h.2 0)) →
      w_J14_max_2 10 a1 h (fun y49 h49 =>
      mk_q h49 8 y49 64 fun q52 h52 =>
      p_v h52 a0 15 1 (vR (some q52)) fun h56 =>
      P (some q52) h56)) ∧
     (¬ y11 = (some (h.2 0)) →
      w_J2_grow_2_20 P a0 a1 y4 h))))
theorem wk_J2_grow_2_20 {x : CX} (X : Ok x cJ2_grow_2 RJ2 rm_J2_grow_2 4) (er : xrt x = (Option.some (Jvm.ClassFile.FieldType.array (Jvm.ClassFile.FieldType.object "java/lang/Object")))) (en : xnm x = yJ2_grow_2.name) {P : Option Nat → AH → Prop} (hQ : xr_q x P) (x0 : Option Nat) (x1 : Int32) (x2 : Int32) (h : AH) (hw : w_J2_grow_2_20 P x0 x1 x2 h) : J x h 0 0 20 [(0, vR x0), (1, vI x1), (2, vI x2)] [] := by
  refine j_iload_n X (pc := 20) 2 dJ2_grow_2_20 rfl rfl ?_
  refine j_iload_n X (pc := 21) 1 dJ2_grow_2_21 rfl rfl ?_
  refine j_iload_n X (pc := 22) 2 dJ2_grow_2_22 rfl rfl ?_
  refine j_isub X (pc := 23) dJ2_grow_2_23 ?_
  refine j_iload_n X (pc := 24) 2 dJ2_grow_2_24 rfl rfl ?_
  refine j_iconst X (pc := 25) 1 dJ2_grow_2_25 (by decide) ?_
  refine j_ishr X (pc := 26) dJ2_grow_2_26 ?_
  refine j_calli (j_runS (n8 := 3) (As := [vI x2, vI (x1 - x2), vI (x2 >>> (1 &&& 31))]) (rest := []) X (pc := 27) (met_J15_newLength (xl x) X.hl (xG x) h x2 (x1 - x2) (x2 >>> (1 &&& 31)) _ hw) q618 q619 q96 q620 (by decide +kernel) dJ2_grow_2_27 rfl ⟨Nat.le_of_ble_eq_true rfl, Nat.le_of_ble_eq_true rfl⟩ (Nat.le_of_ble_eq_true rfl) ⟨Nat.le_of_ble_eq_true rfl, Nat.le_of_ble_eq_true rfl⟩) (fun y27 h27 hw => ?_)
  refine j_istore_n X (pc := 30) [(3, vI y27), (0, vR x0), (1, vI x1), (2, vI x2)] dJ2_grow_2_30 rfl (Nat.le_of_ble_eq_true rfl) rfl ?_
  refine j_aload_n X (pc := 31) 1 dJ2_grow_2_31 rfl rfl ?_
  refine j_aload_n X (pc := 32) 1 dJ2_grow_2_32 rfl rfl ?_
  refine j_getq (ci := 15) X (pc := 33) in_J2 rfl (by decide) 1 (by decide) q141 (Or.inl rfl) dJ2_grow_2_33 hw (fun y33 hw => ?_)
  refine j_iload_n X (pc := 36) 0 dJ2_grow_2_36 rfl rfl ?_
  refine j_callq (j_runS (n8 := 2) (As := [vR y33, vI y27]) (rest := [vR x0]) X (pc := 37) (met_J16_copyOf (xl x) X.hl (xG x) h27 y33 y27 _ hw) q628 q629 q97 q630 (by decide +kernel) dJ2_grow_2_37 rfl ⟨Nat.le_of_ble_eq_true rfl, Nat.le_of_ble_eq_true rfl⟩ (Nat.le_of_ble_eq_true rfl) ⟨Nat.le_of_ble_eq_true rfl, Nat.le_of_ble_eq_true rfl⟩) (fun y37 h37 hw => ?_)
  refine j_dup_x1 X (pc := 40) dJ2_grow_2_40 rfl rfl ?_
  refine j_put (ci := 15) X (pc := 41) in_J2 rfl (by decide) 1 (by decide) q141 (Or.inl rfl) tyJ2 tyJ2_ok nmJ2 rfl rfl (ty := (.array (.object "java/lang/Object"))) (tyJ2_ok 1 (by decide)) (rt_nar _ rfl _) (rt_fit _ rfl _) dJ2_grow_2_41 hw (fun h41 hw => ?_)
  exact j_aret X (pc := 44) (ty := (.array (.object "java/lang/Object"))) hQ er (Or.inr ⟨_, rfl⟩) (Nat.le_of_ble_eq_true rfl) (Nat.le_of_ble_eq_true rfl) dJ2_grow_2_44 hw
theorem met_J2_grow_2 (l : Launch) (hlt : l.stackTraces = false) (G : GG) (h : AH) (a0 : Option Nat) (a1 : Int32) (P : Option Nat → AH → Prop) (hw : w_J2_grow_2 a0 a1 h P) : ct_q l yJ2_grow_2 (ws_ yJ2_grow_2 cJ2_grow_2 4 (Option.some (Jvm.ClassFile.FieldType.array (Jvm.ClassFile.FieldType.object "java/lang/Object")))) rm_J2_grow_2 G h [vR a0, vI a1] P := by
  refine j_startq hlt [(0, vR a0), (1, vI a1)] (plainFor_of_name (by decide)) rfl rfl (fun x X eG er en hQ => ?_)
  subst eG
  refine j_aload_n X (pc := 0) 0 dJ2_grow_2_0 rfl rfl ?_
  refine j_getq (ci := 15) X (pc := 1) in_J2 rfl (by decide) 1 (by decide) q141 (Or.inl rfl) dJ2_grow_2_1 hw (fun y1 hw => ?_)
  refine j_alen X (pc := 4) dJ2_grow_2_4 hw (fun y4 hw => ?_)
  refine j_istore_n X (pc := 5) [(2, vI y4), (0, vR a0), (1, vI a1)] dJ2_grow_2_5 rfl (Nat.le_of_ble_eq_true rfl) rfl ?_
  refine j_iload_n X (pc := 6) 0 dJ2_grow_2_6 rfl rfl ?_
  refine j_if_gt X (pc := 7) 20 dJ2_grow_2_7 (by decide) hw (fun hw => ?_) (fun hw => ?_)
  · refine j_lv [(0, vR a0), (1, vI a1), (2, vI y4)] [1, 2, 0] rfl ?_
    refine j_cs (u' := 0) (v' := 0) (Nat.le_of_ble_eq_true rfl) (Nat.le_of_ble_eq_true rfl) ?_
    exact wk_J2_grow_2_20 X er en hQ a0 a1 y4 h hw
  · refine j_aload_n X (pc := 10) 1 dJ2_grow_2_10 rfl rfl ?_
    refine j_getq (ci := 15) X (pc := 11) in_J2 rfl (by decide) 1 (by decide) q141 (Or.inl rfl) dJ2_grow_2_11 hw (fun y11 hw => ?_)
    refine j_gsDE X (pc := 14) q139 dJ2_grow_2_14 ?_
    refine j_acmp_eq X (pc := 17) 45 dJ2_grow_2_17 (by decide) hw (fun hw => ?_) (fun hw => ?_)
    · refine j_aload_n X (pc := 45) 1 dJ2_grow_2_45 rfl rfl ?_
      refine j_bipush X (pc := 46) 10 dJ2_grow_2_46 (by decide) ?_
      refine j_iload_n X (pc := 48) 2 dJ2_grow_2_48 rfl rfl ?_
      refine j_calli (j_runS (n8 := 2) (As := [vI 10, vI a1]) (rest := [vR a0]) X (pc := 49) (met_J14_max_2 (xl x) X.hl (xG x) h 10 a1 _ hw) q675 q622 q92 q623 (by decide +kernel) dJ2_grow_2_49 rfl ⟨Nat.le_of_ble_eq_true rfl, Nat.le_of_ble_eq_true rfl⟩ (Nat.le_of_ble_eq_true rfl) ⟨Nat.le_of_ble_eq_true rfl, Nat.le_of_ble_eq_true rfl⟩) (fun y49 h49 hw => ?_)
      refine j_newQ X (pc := 52) 8 rfl (by decide) 64 dJ2_grow_2_52 q676 (fun U hU => kt_8 hU) (by decide) (Nat.le_of_ble_eq_true rfl) (Nat.le_of_ble_eq_true rfl) hw (fun q52 h52 hw => ?_)
      refine j_dup_x1 X (pc := 55) dJ2_grow_2_55 rfl rfl ?_
      refine j_put (ci := 15) X (pc := 56) in_J2 rfl (by decide) 1 (by decide) q141 (Or.inl rfl) tyJ2 tyJ2_ok nmJ2 rfl rfl (ty := (.array (.object "java/lang/Object"))) (tyJ2_ok 1 (by decide)) (rt_nar _ rfl _) (rt_fit _ rfl _) dJ2_grow_2_56 hw (fun h56 hw => ?_)
      exact j_aret X (pc := 59) (ty := (.array (.object "java/lang/Object"))) hQ er (Or.inr ⟨_, rfl⟩) (Nat.le_of_ble_eq_true rfl) (Nat.le_of_ble_eq_true rfl) dJ2_grow_2_59 hw
    · refine j_lv [(0, vR a0), (1, vI a1), (2, vI y4)] [1, 2, 0] rfl ?_
      refine j_cs (u' := 0) (v' := 0) (Nat.le_of_ble_eq_true rfl) (Nat.le_of_ble_eq_true rfl) ?_
      exact wk_J2_grow_2_20 X er en hQ a0 a1 y4 h hw
abbrev cJ2_grow : ByteArray := prog_54_method_7_code
def yJ2_grow : MethodName := ⟨RJ2, "grow", "()[Ljava/lang/Object;"⟩
def dkwJ2_grow_0 : List UInt8 := [42, 42, 180, 0, 48, 4, 96, 182, 0, 69, 176]
abbrev dktJ2_grow_0 : List UInt8 := dkwJ2_grow_0 ++ []
theorem dksJ2_grow_0 : cJ2_grow.data.toList.drop 0 = dktJ2_grow_0 := by decide +kernel
theorem dJ2_grow_0 : decode cJ2_grow 0 = .ok (.aload_n 0, 1) := dk_42 (dk_at dksJ2_grow_0 0 rfl rfl)
theorem dJ2_grow_1 : decode cJ2_grow 1 = .ok (.aload_n 0, 1) := dk_42 (dk_at dksJ2_grow_0 1 rfl rfl)
theorem dJ2_grow_2 : decode cJ2_grow 2 = .ok (.getfield 48, 3) := dk_180 0 48 (dk_at dksJ2_grow_0 2 rfl rfl)
theorem dJ2_grow_5 : decode cJ2_grow 5 = .ok (.iconst 1, 1) := dk_4 (dk_at dksJ2_grow_0 5 rfl rfl)
theorem dJ2_grow_6 : decode cJ2_grow 6 = .ok (.iadd, 1) := dk_96 (dk_at dksJ2_grow_0 6 rfl rfl)
theorem dJ2_grow_7 : decode cJ2_grow 7 = .ok (.invokevirtual 69, 3) := dk_182 0 69 (dk_at dksJ2_grow_0 7 rfl rfl)
theorem dJ2_grow_10 : decode cJ2_grow 10 = .ok (.areturn, 1) := dk_176 (dk_at dksJ2_grow_0 10 rfl rfl)
theorem q614 : (Jvm.Cond.methodLink "java/util/ArrayList" (69 : Nat) ({ cls := "java/util/ArrayList", name := "grow", desc := "(I)[Ljava/lang/Object;" } : Jvm.MethodName)) ∈ lw_all := lw_g (lw_at lw_m3 64 rfl) rfl
theorem q616 : (Jvm.Cond.instanceMethod ({ cls := "java/util/ArrayList", name := "grow", desc := "(I)[Ljava/lang/Object;" } : Jvm.MethodName)) ∈ lw_all := lw_g (lw_at lw_m3 66 rfl) rfl
theorem q617 : (Jvm.Cond.code ({ cls := "java/util/ArrayList", name := "grow", desc := "(I)[Ljava/lang/Object;" } : Jvm.MethodName) prog_54_method_6_code (4 : Nat) (Option.some (Jvm.ClassFile.FieldType.array (Jvm.ClassFile.FieldType.object "java/lang/Object")))) ∈ lw_all := lw_g (lw_at lw_m3 67 rfl) rfl
abbrev rm_J2_grow : Room := { frames := 4, cells := 1, slots := 64, locals := 107 }
def w_J2_grow (a0 : Option Nat) (h : AH) (P : Option Nat → AH → Prop) : Prop :=
  g_i h a0 15 2 fun y2 =>
  is_c h a0 [15] (
  w_J2_grow_2 a0 (y2 + 1) h (fun y7 h7 =>
  P y7 h7))
theorem met_J2_grow (l : Launch) (hlt : l.stackTraces = false) (G : GG) (h : AH) (a0 : Option Nat) (P : Option Nat → AH → Prop) (hw : w_J2_grow a0 h P) : ct_q l yJ2_grow (ws_ yJ2_grow cJ2_grow 1 (Option.some (Jvm.ClassFile.FieldType.array (Jvm.ClassFile.FieldType.object "java/lang/Object")))) rm_J2_grow G h [vR a0] P := by
  refine j_startq hlt [(0, vR a0)] (plainFor_of_name (by decide)) rfl rfl (fun x X eG er en hQ => ?_)
  subst eG
  refine j_aload_n X (pc := 0) 0 dJ2_grow_0 rfl rfl ?_
  refine j_aload_n X (pc := 1) 0 dJ2_grow_1 rfl rfl ?_
  refine j_geti (ci := 15) X (pc := 2) in_J2 rfl (by decide) 2 (by decide) q144 (Or.inl rfl) dJ2_grow_2 hw (fun y2 hw => ?_)
  refine j_iconst X (pc := 5) 1 dJ2_grow_5 (by decide) ?_
  refine j_iadd X (pc := 6) dJ2_grow_6 ?_
  obtain ⟨b9, c9, f9, hr9, ho9, hc9, hw⟩ := hw
  obtain rfl := List.mem_singleton.mp hc9
  refine j_callq (j_runV (n8 := 1) (As := [vI (y2 + 1)]) (rest := []) X (pc := 7) hr9 (met_J2_grow_2 (xl x) X.hl (xG x) h a0 (y2 + 1) _ hw) ho9 (by decide) rfl q614 q616 qs5 q74 q617 (by decide +kernel) dJ2_grow_7 rfl ⟨Nat.le_of_ble_eq_true rfl, Nat.le_of_ble_eq_true rfl⟩ (Nat.le_of_ble_eq_true rfl) ⟨Nat.le_of_ble_eq_true rfl, Nat.le_of_ble_eq_true rfl⟩) (fun y7 h7 hw => ?_)
  exact j_aret X (pc := 10) (ty := (.array (.object "java/lang/Object"))) hQ er (Or.inr ⟨_, rfl⟩) (Nat.le_of_ble_eq_true rfl) (Nat.le_of_ble_eq_true rfl) dJ2_grow_10 hw
abbrev cJ2_add_2 : ByteArray := prog_54_method_24_code
def yJ2_add_2 : MethodName := ⟨RJ2, "add", "(Ljava/lang/Object;[Ljava/lang/Object;I)V"⟩
def dkwJ2_add_2_0 : List UInt8 := [29, 44, 190, 160, 0, 8, 42, 182, 0, 129, 77, 44, 29, 43, 83, 42, 29, 4, 96, 181, 0, 48, 177]
abbrev dktJ2_add_2_0 : List UInt8 := dkwJ2_add_2_0 ++ []
theorem dksJ2_add_2_0 : cJ2_add_2.data.toList.drop 0 = dktJ2_add_2_0 := by decide +kernel
theorem dJ2_add_2_0 : decode cJ2_add_2 0 = .ok (.iload_n 3, 1) := dk_29 (dk_at dksJ2_add_2_0 0 rfl rfl)
theorem dJ2_add_2_1 : decode cJ2_add_2 1 = .ok (.aload_n 2, 1) := dk_44 (dk_at dksJ2_add_2_0 1 rfl rfl)
theorem dJ2_add_2_2 : decode cJ2_add_2 2 = .ok (.arraylength, 1) := dk_190 (dk_at dksJ2_add_2_0 2 rfl rfl)
theorem dJ2_add_2_3 : decode cJ2_add_2 3 = .ok (.if_icmp .ne 8, 3) := dk_160 0 8 (dk_at dksJ2_add_2_0 3 rfl rfl)
theorem dJ2_add_2_6 : decode cJ2_add_2 6 = .ok (.aload_n 0, 1) := dk_42 (dk_at dksJ2_add_2_0 6 rfl rfl)
theorem dJ2_add_2_7 : decode cJ2_add_2 7 = .ok (.invokevirtual 129, 3) := dk_182 0 129 (dk_at dksJ2_add_2_0 7 rfl rfl)
theorem dJ2_add_2_10 : decode cJ2_add_2 10 = .ok (.astore_n 2, 1) := dk_77 (dk_at dksJ2_add_2_0 10 rfl rfl)
theorem dJ2_add_2_11 : decode cJ2_add_2 11 = .ok (.aload_n 2, 1) := dk_44 (dk_at dksJ2_add_2_0 11 rfl rfl)
theorem dJ2_add_2_12 : decode cJ2_add_2 12 = .ok (.iload_n 3, 1) := dk_29 (dk_at dksJ2_add_2_0 12 rfl rfl)
theorem dJ2_add_2_13 : decode cJ2_add_2 13 = .ok (.aload_n 1, 1) := dk_43 (dk_at dksJ2_add_2_0 13 rfl rfl)
theorem dJ2_add_2_14 : decode cJ2_add_2 14 = .ok (.aastore, 1) := dk_83 (dk_at dksJ2_add_2_0 14 rfl rfl)
theorem dJ2_add_2_15 : decode cJ2_add_2 15 = .ok (.aload_n 0, 1) := dk_42 (dk_at dksJ2_add_2_0 15 rfl rfl)
theorem dJ2_add_2_16 : decode cJ2_add_2 16 = .ok (.iload_n 3, 1) := dk_29 (dk_at dksJ2_add_2_0 16 rfl rfl)
theorem dJ2_add_2_17 : decode cJ2_add_2 17 = .ok (.iconst 1, 1) := dk_4 (dk_at dksJ2_add_2_0 17 rfl rfl)
theorem dJ2_add_2_18 : decode cJ2_add_2 18 = .ok (.iadd, 1) := dk_96 (dk_at dksJ2_add_2_0 18 rfl rfl)
theorem dJ2_add_2_19 : decode cJ2_add_2 19 = .ok (.putfield 48, 3) := dk_181 0 48 (dk_at dksJ2_add_2_0 19 rfl rfl)
theorem dJ2_add_2_22 : decode cJ2_add_2 22 = .ok (.return_, 1) := dk_177 (dk_at dksJ2_add_2_0 22 rfl rfl)
theorem q610 : (Jvm.Cond.methodLink "java/util/ArrayList" (129 : Nat) ({ cls := "java/util/ArrayList", name := "grow", desc := "()[Ljava/lang/Object;" } : Jvm.MethodName)) ∈ lw_all := lw_g (lw_at lw_m3 60 rfl) rfl
theorem q612 : (Jvm.Cond.instanceMethod ({ cls := "java/util/ArrayList", name := "grow", desc := "()[Ljava/lang/Object;" } : Jvm.MethodName)) ∈ lw_all := lw_g (lw_at lw_m3 62 rfl) rfl
theorem q613 : (Jvm.Cond.code ({ cls := "java/util/ArrayList", name := "grow", desc := "()[Ljava/lang/Object;" } : Jvm.MethodName) prog_54_method_7_code (1 : Nat) (Option.some (Jvm.ClassFile.FieldType.array (Jvm.ClassFile.FieldType.object "java/lang/Object")))) ∈ lw_all := lw_g (lw_at lw_m3 63 rfl) rfl
abbrev rm_J2_add_2 : Room := { frames := 5, cells := 1, slots := 64, locals := 127 }
def w_J2_add_2_11 (P : AH → Prop) (x0 : Option Nat) (x1 : Option Nat) (x2 : Option Nat) (x3 : Int32) (h : AH) : Prop :=
  s_q h x2 8 x3 x1 fun h14 =>
  p_v h14 x0 15 2 (vI (x3 + 1)) fun h19 =>
  P h19
def w_J2_add_2 (a0 : Option Nat) (a1 : Option Nat) (a2 : Option Nat) (a3 : Int32) (h : AH) (P : AH → Prop) : Prop :=
  n_a h a2 fun y2 =>
  ((a3 = y2 →
    is_c h a0 [15] (
    w_J2_grow a0 h (fun y7 h7 =>
    w_J2_add_2_11 P a0 a1 y7 a3 h7))) ∧
   (¬ a3 = y2 →
    w_J2_add_2_11 P a0 a1 a2 a3 h))
theorem wk_J2_add_2_11 {x : CX} (X : Ok x cJ2_add_2 RJ2 rm_J2_add_2 4) (er : xrt x = (Option.none : Option Jvm.ClassFile.FieldType)) (en : xnm x = yJ2_add_2.name) {P : AH → Prop} (hQ : xr_v x P) (x0 : Option Nat) (x1 : Option Nat) (x2 : Option Nat) (x3 : Int32) (h : AH) (hw : w_J2_add_2_11 P x0 x1 x2 x3 h) : J x h 1 64 11 [(0, vR x0), (1, vR x1), (2, vR x2), (3, vI x3)] [] := by
  refine j_aload_n X (pc := 11) 2 dJ2_add_2_11 rfl rfl ?_
  refine j_iload_n X (pc := 12) 3 dJ2_add_2_12 rfl rfl ?_
  refine j_aload_n X (pc := 13) 1 dJ2_add_2_13 rfl rfl ?_
  refine j_aast X (pc := 14) 8 (Nat.le_of_ble_eq_true rfl) rfl dJ2_add_2_14 hw (fun h14 hw => ?_)
  refine j_aload_n X (pc := 15) 0 dJ2_add_2_15 rfl rfl ?_
  refine j_iload_n X (pc := 16) 3 dJ2_add_2_16 rfl rfl ?_
  refine j_iconst X (pc := 17) 1 dJ2_add_2_17 (by decide) ?_
  refine j_iadd X (pc := 18) dJ2_add_2_18 ?_
  refine j_put (ci := 15) X (pc := 19) in_J2 rfl (by decide) 2 (by decide) q144 (Or.inl rfl) tyJ2 tyJ2_ok nmJ2 rfl rfl (ty := .int) (tyJ2_ok 2 (by decide)) rfl rfl dJ2_add_2_19 hw (fun h19 hw => ?_)
  exact j_vret X (pc := 22) hQ er (Nat.le_of_ble_eq_true rfl) (Nat.le_of_ble_eq_true rfl) dJ2_add_2_22 hw
theorem met_J2_add_2 (l : Launch) (hlt : l.stackTraces = false) (G : GG) (h : AH) (a0 : Option Nat) (a1 : Option Nat) (a2 : Option Nat) (a3 : Int32) (P : AH → Prop) (hw : w_J2_add_2 a0 a1 a2 a3 h P) : ct_v l yJ2_add_2 (ws_ yJ2_add_2 cJ2_add_2 4 (Option.none : Option Jvm.ClassFile.FieldType)) rm_J2_add_2 G h [vR a0, vR a1, vR a2, vI a3] P := by
  refine j_startv hlt [(0, vR a0), (1, vR a1), (2, vR a2), (3, vI a3)] (plainFor_of_name (by decide)) rfl rfl (fun x X eG er en hQ => ?_)
  subst eG
  refine j_iload_n X (pc := 0) 3 dJ2_add_2_0 rfl rfl ?_
  refine j_aload_n X (pc := 1) 2 dJ2_add_2_1 rfl rfl ?_
  refine j_alen X (pc := 2) dJ2_add_2_2 hw (fun y2 hw => ?_)
  refine j_icmp_ne X (pc := 3) 11 dJ2_add_2_3 (by decide) hw (fun hw => ?_) (fun hw => ?_)
  · refine j_aload_n X (pc := 6) 0 dJ2_add_2_6 rfl rfl ?_
    obtain ⟨b9, c9, f9, hr9, ho9, hc9, hw⟩ := hw
    obtain rfl := List.mem_singleton.mp hc9
    refine j_callq (j_runV (n8 := 0) (As := []) (rest := []) X (pc := 7) hr9 (met_J2_grow (xl x) X.hl (xG x) h a0 _ hw) ho9 (by decide) rfl q610 q612 qs4 q74 q613 (by decide +kernel) dJ2_add_2_7 rfl ⟨Nat.le_of_ble_eq_true rfl, Nat.le_of_ble_eq_true rfl⟩ (Nat.le_of_ble_eq_true rfl) ⟨Nat.le_of_ble_eq_true rfl, Nat.le_of_ble_eq_true rfl⟩) (fun y7 h7 hw => ?_)
    refine j_astore_n X (pc := 10) [(2, vR y7), (0, vR a0), (1, vR a1), (3, vI a3)] dJ2_add_2_10 rfl (Nat.le_of_ble_eq_true rfl) rfl ?_
    refine j_lv [(0, vR a0), (1, vR a1), (2, vR y7), (3, vI a3)] [1, 2, 0, 3] rfl ?_
    refine j_cs (u' := 1) (v' := 64) (Nat.le_of_ble_eq_true rfl) (Nat.le_of_ble_eq_true rfl) ?_
    exact wk_J2_add_2_11 X er en hQ a0 a1 y7 a3 h7 hw
  · refine j_cs (u' := 1) (v' := 64) (Nat.le_of_ble_eq_true rfl) (Nat.le_of_ble_eq_true rfl) ?_
    exact wk_J2_add_2_11 X er en hQ a0 a1 a2 a3 h hw
abbrev cJ2_add : ByteArray := prog_54_method_25_code
def yJ2_add : MethodName := ⟨RJ2, "add", "(Ljava/lang/Object;)Z"⟩
def dkwJ2_add_1 : List UInt8 := [172]
abbrev dktJ2_add_1 : List UInt8 := dkwJ2_add_1 ++ []
def dkwJ2_add_0 : List UInt8 := [42, 89, 180, 0, 63, 4, 96, 181, 0, 63, 42, 43, 42, 180, 0, 9, 42, 180, 0, 48, 182, 0, 131, 4]
abbrev dktJ2_add_0 : List UInt8 := dkwJ2_add_0 ++ dktJ2_add_1
theorem dksJ2_add_0 : cJ2_add.data.toList.drop 0 = dktJ2_add_0 := by decide +kernel
theorem dksJ2_add_1 : cJ2_add.data.toList.drop 24 = dktJ2_add_1 := dk_seg dksJ2_add_0 24 rfl rfl
theorem dJ2_add_0 : decode cJ2_add 0 = .ok (.aload_n 0, 1) := dk_42 (dk_at dksJ2_add_0 0 rfl rfl)
theorem dJ2_add_1 : decode cJ2_add 1 = .ok (.dup, 1) := dk_89 (dk_at dksJ2_add_0 1 rfl rfl)
theorem dJ2_add_2 : decode cJ2_add 2 = .ok (.getfield 63, 3) := dk_180 0 63 (dk_at dksJ2_add_0 2 rfl rfl)
theorem dJ2_add_5 : decode cJ2_add 5 = .ok (.iconst 1, 1) := dk_4 (dk_at dksJ2_add_0 5 rfl rfl)
theorem dJ2_add_6 : decode cJ2_add 6 = .ok (.iadd, 1) := dk_96 (dk_at dksJ2_add_0 6 rfl rfl)
theorem dJ2_add_7 : decode cJ2_add 7 = .ok (.putfield 63, 3) := dk_181 0 63 (dk_at dksJ2_add_0 7 rfl rfl)
theorem dJ2_add_10 : decode cJ2_add 10 = .ok (.aload_n 0, 1) := dk_42 (dk_at dksJ2_add_0 10 rfl rfl)
theorem dJ2_add_11 : decode cJ2_add 11 = .ok (.aload_n 1, 1) := dk_43 (dk_at dksJ2_add_0 11 rfl rfl)
theorem dJ2_add_12 : decode cJ2_add 12 = .ok (.aload_n 0, 1) := dk_42 (dk_at dksJ2_add_0 12 rfl rfl)
theorem dJ2_add_13 : decode cJ2_add 13 = .ok (.getfield 9, 3) := dk_180 0 9 (dk_at dksJ2_add_0 13 rfl rfl)
theorem dJ2_add_16 : decode cJ2_add 16 = .ok (.aload_n 0, 1) := dk_42 (dk_at dksJ2_add_0 16 rfl rfl)
theorem dJ2_add_17 : decode cJ2_add 17 = .ok (.getfield 48, 3) := dk_180 0 48 (dk_at dksJ2_add_0 17 rfl rfl)
theorem dJ2_add_20 : decode cJ2_add 20 = .ok (.invokevirtual 131, 3) := dk_182 0 131 (dk_at dksJ2_add_0 20 rfl rfl)
theorem dJ2_add_23 : decode cJ2_add 23 = .ok (.iconst 1, 1) := dk_4 (dk_at dksJ2_add_0 23 rfl rfl)
theorem dJ2_add_24 : decode cJ2_add 24 = .ok (.ireturn, 1) := dk_172 (dk_at dksJ2_add_1 0 rfl rfl)
theorem q147 : (Jvm.Cond.sameField "java/util/ArrayList" "java/util/AbstractList" "modCount" "I") ∈ lw_all := lw_g (lw_at lw_m1 77 rfl) rfl
theorem q148 : (Jvm.Cond.fieldLink "java/util/ArrayList" (63 : Nat) "java/util/ArrayList" "modCount" "I") ∈ lw_all := lw_g (lw_at lw_m1 78 rfl) rfl
theorem q606 : (Jvm.Cond.methodLink "java/util/ArrayList" (131 : Nat) ({ cls := "java/util/ArrayList", name := "add", desc := "(Ljava/lang/Object;[Ljava/lang/Object;I)V" } : Jvm.MethodName)) ∈ lw_all := lw_g (lw_at lw_m3 56 rfl) rfl
theorem q608 : (Jvm.Cond.instanceMethod ({ cls := "java/util/ArrayList", name := "add", desc := "(Ljava/lang/Object;[Ljava/lang/Object;I)V" } : Jvm.MethodName)) ∈ lw_all := lw_g (lw_at lw_m3 58 rfl) rfl
theorem q609 : (Jvm.Cond.code ({ cls := "java/util/ArrayList", name := "add", desc := "(Ljava/lang/Object;[Ljava/lang/Object;I)V" } : Jvm.MethodName) prog_54_method_24_code (4 : Nat) (Option.none : Option Jvm.ClassFile.FieldType)) ∈ lw_all := lw_g (lw_at lw_m3 59 rfl) rfl
abbrev rm_J2_add : Room := { frames := 6, cells := 1, slots := 64, locals := 150 }
def w_J2_add (a0 : Option Nat) (a1 : Option Nat) (h : AH) (P : Int32 → AH → Prop) : Prop :=
  g_i h a0 15 0 fun y2 =>
  p_v h a0 15 0 (vI (y2 + 1)) fun h7 =>
  g_q h7 a0 15 1 fun y13 =>
  g_i h7 a0 15 2 fun y17 =>
  is_c h7 a0 [15] (
  w_J2_add_2 a0 a1 y13 y17 h7 (fun h20 =>
  P 1 h20))
theorem met_J2_add (l : Launch) (hlt : l.stackTraces = false) (G : GG) (h : AH) (a0 : Option Nat) (a1 : Option Nat) (P : Int32 → AH → Prop) (hw : w_J2_add a0 a1 h P) : ct_i l yJ2_add (ws_ yJ2_add cJ2_add 2 (Option.some Jvm.ClassFile.FieldType.boolean)) rm_J2_add G h [vR a0, vR a1] P := by
  refine j_starti hlt [(0, vR a0), (1, vR a1)] (plainFor_of_name (by decide)) rfl rfl (fun x X eG er en hQ => ?_)
  subst eG
  refine j_aload_n X (pc := 0) 0 dJ2_add_0 rfl rfl ?_
  refine j_dup X (pc := 1) dJ2_add_1 rfl ?_
  refine j_geti (ci := 15) X (pc := 2) in_J2 rfl (by decide) 0 (by decide) q148 (Or.inr q147) dJ2_add_2 hw (fun y2 hw => ?_)
  refine j_iconst X (pc := 5) 1 dJ2_add_5 (by decide) ?_
  refine j_iadd X (pc := 6) dJ2_add_6 ?_
  refine j_put (ci := 15) X (pc := 7) in_J2 rfl (by decide) 0 (by decide) q148 (Or.inr q147) tyJ2 tyJ2_ok nmJ2 rfl rfl (ty := .int) (tyJ2_ok 0 (by decide)) rfl rfl dJ2_add_7 hw (fun h7 hw => ?_)
  refine j_aload_n X (pc := 10) 0 dJ2_add_10 rfl rfl ?_
  refine j_aload_n X (pc := 11) 1 dJ2_add_11 rfl rfl ?_
  refine j_aload_n X (pc := 12) 0 dJ2_add_12 rfl rfl ?_
  refine j_getq (ci := 15) X (pc := 13) in_J2 rfl (by decide) 1 (by decide) q141 (Or.inl rfl) dJ2_add_13 hw (fun y13 hw => ?_)
  refine j_aload_n X (pc := 16) 0 dJ2_add_16 rfl rfl ?_
  refine j_geti (ci := 15) X (pc := 17) in_J2 rfl (by decide) 2 (by decide) q144 (Or.inl rfl) dJ2_add_17 hw (fun y17 hw => ?_)
  obtain ⟨b9, c9, f9, hr9, ho9, hc9, hw⟩ := hw
  obtain rfl := List.mem_singleton.mp hc9
  refine j_callv (j_runV (n8 := 3) (As := [vR a1, vR y13, vI y17]) (rest := []) X (pc := 20) hr9 (met_J2_add_2 (xl x) X.hl (xG x) h7 a0 a1 y13 y17 _ hw) ho9 (by decide) rfl q606 q608 qs3 q74 q609 (by decide +kernel) dJ2_add_20 rfl ⟨Nat.le_of_ble_eq_true rfl, Nat.le_of_ble_eq_true rfl⟩ (Nat.le_of_ble_eq_true rfl) ⟨Nat.le_of_ble_eq_true rfl, Nat.le_of_ble_eq_true rfl⟩) (fun h20 hw => ?_)
  refine j_iconst X (pc := 23) 1 dJ2_add_23 (by decide) ?_
  exact j_zret X (pc := 24) (ty := .boolean) hQ er rfl (Nat.le_of_ble_eq_true rfl) (Nat.le_of_ble_eq_true rfl) dJ2_add_24 hw
abbrev cJ13_isNaN : ByteArray := prog_31_method_6_code
def yJ13_isNaN : MethodName := ⟨RJ13, "isNaN", "(F)Z"⟩
def dkwJ13_isNaN_0 : List UInt8 := [34, 34, 149, 153, 0, 7, 4, 167, 0, 4, 3, 172]
abbrev dktJ13_isNaN_0 : List UInt8 := dkwJ13_isNaN_0 ++ []
theorem dksJ13_isNaN_0 : cJ13_isNaN.data.toList.drop 0 = dktJ13_isNaN_0 := by decide +kernel
theorem dJ13_isNaN_0 : decode cJ13_isNaN 0 = .ok (.fload_n 0, 1) := dk_34 (dk_at dksJ13_isNaN_0 0 rfl rfl)
theorem dJ13_isNaN_1 : decode cJ13_isNaN 1 = .ok (.fload_n 0, 1) := dk_34 (dk_at dksJ13_isNaN_0 1 rfl rfl)
theorem dJ13_isNaN_2 : decode cJ13_isNaN 2 = .ok (.fcmp .l, 1) := dk_149 (dk_at dksJ13_isNaN_0 2 rfl rfl)
theorem dJ13_isNaN_3 : decode cJ13_isNaN 3 = .ok (.ifCond .eq 7, 3) := dk_153 0 7 (dk_at dksJ13_isNaN_0 3 rfl rfl)
theorem dJ13_isNaN_6 : decode cJ13_isNaN 6 = .ok (.iconst 1, 1) := dk_4 (dk_at dksJ13_isNaN_0 6 rfl rfl)
theorem dJ13_isNaN_7 : decode cJ13_isNaN 7 = .ok (.goto 4, 3) := dk_167 0 4 (dk_at dksJ13_isNaN_0 7 rfl rfl)
theorem dJ13_isNaN_10 : decode cJ13_isNaN 10 = .ok (.iconst 0, 1) := dk_3 (dk_at dksJ13_isNaN_0 10 rfl rfl)
theorem dJ13_isNaN_11 : decode cJ13_isNaN 11 = .ok (.ireturn, 1) := dk_172 (dk_at dksJ13_isNaN_0 11 rfl rfl)
abbrev rm_J13_isNaN : Room := { frames := 0, cells := 0, slots := 0, locals := 0 }
def w_J13_isNaN (a0 : UInt32) (h : AH) (P : Int32 → AH → Prop) : Prop :=
  (((Op.cmpValue (FP.fcmp a0 a0) .l) = 0 →
    P 0 h) ∧
   (¬ (Op.cmpValue (FP.fcmp a0 a0) .l) = 0 →
    P 1 h))
theorem met_J13_isNaN (l : Launch) (hlt : l.stackTraces = false) (G : GG) (h : AH) (a0 : UInt32) (P : Int32 → AH → Prop) (hw : w_J13_isNaN a0 h P) : ct_i l yJ13_isNaN (ws_ yJ13_isNaN cJ13_isNaN 1 (Option.some Jvm.ClassFile.FieldType.boolean)) rm_J13_isNaN G h [vF a0] P := by
  refine j_starti hlt [(0, vF a0)] (by decide +kernel) rfl rfl (fun x X eG er en hQ => ?_)
  subst eG
  refine j_fload_n X (pc := 0) 0 dJ13_isNaN_0 rfl rfl ?_
  refine j_fload_n X (pc := 1) 0 dJ13_isNaN_1 rfl rfl ?_
  refine j_fcmp X (pc := 2) dJ13_isNaN_2 ?_
  refine j_if_eq X (pc := 3) 10 dJ13_isNaN_3 (by decide) hw (fun hw => ?_) (fun hw => ?_)
  · refine j_iconst X (pc := 10) 0 dJ13_isNaN_10 (by decide) ?_
    exact j_zret X (pc := 11) (ty := .boolean) hQ er rfl (Nat.le_of_ble_eq_true rfl) (Nat.le_of_ble_eq_true rfl) dJ13_isNaN_11 hw
  · refine j_iconst X (pc := 6) 1 dJ13_isNaN_6 (by decide) ?_
    refine j_goto X (pc := 7) 11 dJ13_isNaN_7 (by decide) ?_
    exact j_zret X (pc := 11) (ty := .boolean) hQ er rfl (Nat.le_of_ble_eq_true rfl) (Nat.le_of_ble_eq_true rfl) dJ13_isNaN_11 hw
