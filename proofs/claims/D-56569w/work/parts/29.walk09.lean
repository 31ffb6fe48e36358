/-! walks (printed): Plugboard, Plugboard.Board, Plugboard.Connector, Plugboard.End, PlugboardLaw, PlugboardModel -/
set_option maxRecDepth 100000
abbrev cX0_connect : ByteArray := method_11_code
def yX0_connect : MethodName := ⟨RX0, "connect", "(LPlugboard;IICIC[J)I"⟩
def dkwX0_connect_1 : List UInt8 := [58, 7, 5, 172, 58, 7, 6, 172, 3, 172]
abbrev dktX0_connect_1 : List UInt8 := dkwX0_connect_1 ++ []
def dkwX0_connect_0 : List UInt8 := [25, 6, 3, 42, 27, 28, 29, 21, 4, 21, 5, 182, 0, 45, 133, 80, 167, 0, 15, 58, 7, 4, 172]
abbrev dktX0_connect_0 : List UInt8 := dkwX0_connect_0 ++ dktX0_connect_1
theorem dksX0_connect_0 : cX0_connect.data.toList.drop 0 = dktX0_connect_0 := by decide +kernel
theorem dksX0_connect_1 : cX0_connect.data.toList.drop 23 = dktX0_connect_1 := dk_seg dksX0_connect_0 23 rfl rfl
theorem dX0_connect_0 : decode cX0_connect 0 = .ok (.aload 6, 2) := dk_25 6 (dk_at dksX0_connect_0 0 rfl rfl)
theorem dX0_connect_2 : decode cX0_connect 2 = .ok (.iconst 0, 1) := dk_3 (dk_at dksX0_connect_0 2 rfl rfl)
theorem dX0_connect_3 : decode cX0_connect 3 = .ok (.aload_n 0, 1) := dk_42 (dk_at dksX0_connect_0 3 rfl rfl)
theorem dX0_connect_4 : decode cX0_connect 4 = .ok (.iload_n 1, 1) := dk_27 (dk_at dksX0_connect_0 4 rfl rfl)
theorem dX0_connect_5 : decode cX0_connect 5 = .ok (.iload_n 2, 1) := dk_28 (dk_at dksX0_connect_0 5 rfl rfl)
theorem dX0_connect_6 : decode cX0_connect 6 = .ok (.iload_n 3, 1) := dk_29 (dk_at dksX0_connect_0 6 rfl rfl)
theorem dX0_connect_7 : decode cX0_connect 7 = .ok (.iload 4, 2) := dk_21 4 (dk_at dksX0_connect_0 7 rfl rfl)
theorem dX0_connect_9 : decode cX0_connect 9 = .ok (.iload 5, 2) := dk_21 5 (dk_at dksX0_connect_0 9 rfl rfl)
theorem dX0_connect_11 : decode cX0_connect 11 = .ok (.invokevirtual 45, 3) := dk_182 0 45 (dk_at dksX0_connect_0 11 rfl rfl)
theorem dX0_connect_14 : decode cX0_connect 14 = .ok (.i2l, 1) := dk_133 (dk_at dksX0_connect_0 14 rfl rfl)
theorem dX0_connect_15 : decode cX0_connect 15 = .ok (.lastore, 1) := dk_80 (dk_at dksX0_connect_0 15 rfl rfl)
theorem dX0_connect_16 : decode cX0_connect 16 = .ok (.goto 15, 3) := dk_167 0 15 (dk_at dksX0_connect_0 16 rfl rfl)
theorem dX0_connect_19 : decode cX0_connect 19 = .ok (.astore 7, 2) := dk_58 7 (dk_at dksX0_connect_0 19 rfl rfl)
theorem dX0_connect_21 : decode cX0_connect 21 = .ok (.iconst 1, 1) := dk_4 (dk_at dksX0_connect_0 21 rfl rfl)
theorem dX0_connect_22 : decode cX0_connect 22 = .ok (.ireturn, 1) := dk_172 (dk_at dksX0_connect_0 22 rfl rfl)
theorem dX0_connect_23 : decode cX0_connect 23 = .ok (.astore 7, 2) := dk_58 7 (dk_at dksX0_connect_1 0 rfl rfl)
theorem dX0_connect_25 : decode cX0_connect 25 = .ok (.iconst 2, 1) := dk_5 (dk_at dksX0_connect_1 2 rfl rfl)
theorem dX0_connect_26 : decode cX0_connect 26 = .ok (.ireturn, 1) := dk_172 (dk_at dksX0_connect_1 3 rfl rfl)
theorem dX0_connect_27 : decode cX0_connect 27 = .ok (.astore 7, 2) := dk_58 7 (dk_at dksX0_connect_1 4 rfl rfl)
theorem dX0_connect_29 : decode cX0_connect 29 = .ok (.iconst 3, 1) := dk_6 (dk_at dksX0_connect_1 6 rfl rfl)
theorem dX0_connect_30 : decode cX0_connect 30 = .ok (.ireturn, 1) := dk_172 (dk_at dksX0_connect_1 7 rfl rfl)
theorem dX0_connect_31 : decode cX0_connect 31 = .ok (.iconst 0, 1) := dk_3 (dk_at dksX0_connect_1 8 rfl rfl)
theorem dX0_connect_32 : decode cX0_connect 32 = .ok (.ireturn, 1) := dk_172 (dk_at dksX0_connect_1 9 rfl rfl)
theorem q1247 : (Jvm.Cond.methodLink "PlugboardLaw" (45 : Nat) ({ cls := "Plugboard", name := "connect", desc := "(IICIC)I" } : Jvm.MethodName)) ∈ lw_all := lw_g (lw_at lw_m5 217 rfl) rfl
theorem q1248 : (Jvm.Cond.instanceMethod ({ cls := "Plugboard", name := "connect", desc := "(IICIC)I" } : Jvm.MethodName)) ∈ lw_all := lw_g (lw_at lw_m5 218 rfl) rfl
theorem q1249 : (Jvm.Cond.selects "Plugboard" ({ cls := "Plugboard", name := "connect", desc := "(IICIC)I" } : Jvm.MethodName) ({ cls := "Plugboard", name := "connect", desc := "(IICIC)I" } : Jvm.MethodName)) ∈ lw_all := lw_g (lw_at lw_m5 219 rfl) rfl
theorem q1250 : (Jvm.Cond.code ({ cls := "Plugboard", name := "connect", desc := "(IICIC)I" } : Jvm.MethodName) prog_1_method_29_code (10 : Nat) (Option.some Jvm.ClassFile.FieldType.int)) ∈ lw_all := lw_g (lw_at lw_m5 220 rfl) rfl
abbrev rm_X0_connect : Room := { frames := 12, cells := 22, slots := 304, locals := 299 }
def w_X0_connect (a0 : Option Nat) (a1 : Int32) (a2 : Int32) (a3 : Int32) (a4 : Int32) (a5 : Int32) (a6 : Option Nat) (h : AH) (P : Int32 → AH → Prop) : Prop :=
  is_c h a0 [0] (
  w_X1_connect a0 a1 a2 a3 a4 a5 h (fun y11 h11 =>
  s_L h11 a6 0 (Int32.toInt64 y11) fun h15 =>
  P 0 h15)
    (fun E9 h9 => (E9 = "java/lang/IllegalArgumentException" ∧ ∀ q9 : Nat,
    P 1 h9) ∨
    (E9 = "java/util/NoSuchElementException" ∧ ∀ q9 : Nat,
    P 2 h9) ∨
    (E9 = "java/lang/IllegalStateException" ∧ ∀ q9 : Nat,
    P 3 h9)))
theorem met_X0_connect (l : Launch) (hlt : l.stackTraces = false) (G : GG) (h : AH) (a0 : Option Nat) (a1 : Int32) (a2 : Int32) (a3 : Int32) (a4 : Int32) (a5 : Int32) (a6 : Option Nat) (P : Int32 → AH → Prop) (hw : w_X0_connect a0 a1 a2 a3 a4 a5 a6 h P) : ct_i l yX0_connect (wsW_ yX0_connect cX0_connect 8 (Option.some Jvm.ClassFile.FieldType.int) [((0 : Nat), (16 : Nat), (19 : Nat), (13 : Nat)), ((0 : Nat), (16 : Nat), (23 : Nat), (21 : Nat)), ((0 : Nat), (16 : Nat), (27 : Nat), (15 : Nat))]) rm_X0_connect G h [vR a0, vI a1, vI a2, vI a3, vI a4, vI a5, vR a6] P := by
  refine j_startWi hlt [(0, vR a0), (1, vI a1), (2, vI a2), (3, vI a3), (4, vI a4), (5, vI a5), (6, vR a6)] (by decide) rfl rfl (fun x X eG er en hQ hex => ?_)
  subst eG
  refine j_aload X (pc := 0) 6 dX0_connect_0 rfl ?_
  refine j_iconst X (pc := 2) 0 dX0_connect_2 (by decide) ?_
  refine j_aload_n X (pc := 3) 0 dX0_connect_3 rfl rfl ?_
  refine j_iload_n X (pc := 4) 1 dX0_connect_4 rfl rfl ?_
  refine j_iload_n X (pc := 5) 2 dX0_connect_5 rfl rfl ?_
  refine j_iload_n X (pc := 6) 3 dX0_connect_6 rfl rfl ?_
  refine j_iload X (pc := 7) 4 dX0_connect_7 rfl ?_
  refine j_iload X (pc := 9) 5 dX0_connect_9 rfl ?_
  obtain ⟨b9, c9, f9, hr9, ho9, hc9, hw⟩ := hw
  obtain rfl := List.mem_singleton.mp hc9
  refine j_callXi (j_runVX (n8 := 5) (As := [vI a1, vI a2, vI a3, vI a4, vI a5]) (rest := [vI 0, vR a6]) X (pc := 11) hr9 (met_X1_connect (xl x) X.hl (xG x) h a0 a1 a2 a3 a4 a5 _ _ hw) ho9 (by decide) rfl q1247 q1248 q1249 q71 q1250 (by decide +kernel) dX0_connect_11 rfl ⟨Nat.le_of_ble_eq_true rfl, Nat.le_of_ble_eq_true rfl⟩ (Nat.le_of_ble_eq_true rfl) ⟨Nat.le_of_ble_eq_true rfl, Nat.le_of_ble_eq_true rfl⟩) ?_ (fun y11 h11 hw => ?_)
  · intro E9 h9 hx
    rcases hx with ⟨rfl, hw⟩ | ⟨rfl, hw⟩ | ⟨rfl, hw⟩
    · refine j_catch X (pc := 11) "java/lang/IllegalArgumentException" hex [] [⟨0, 16, 23, 21⟩, ⟨0, 16, 27, 15⟩] ⟨0, 16, 19, 13⟩ rfl (by intro y hy; cases hy) (by decide) (by decide) q291 q312 (fun q9 => ?_)
      have hw := hw q9
      refine j_astore X (pc := 19) [(7, vR (some q9)), (0, vR a0), (1, vI a1), (2, vI a2), (3, vI a3), (4, vI a4), (5, vI a5), (6, vR a6)] dX0_connect_19 (Nat.le_of_ble_eq_true rfl) rfl ?_
      refine j_iconst X (pc := 21) 1 dX0_connect_21 (by decide) ?_
      exact j_iret X (pc := 22) hQ er (Nat.le_of_ble_eq_true rfl) (Nat.le_of_ble_eq_true rfl) dX0_connect_22 hw
    · refine j_catch X (pc := 11) "java/util/NoSuchElementException" hex [⟨0, 16, 19, 13⟩] [⟨0, 16, 27, 15⟩] ⟨0, 16, 23, 21⟩ rfl (by intro y hy; simp only [List.mem_cons, List.not_mem_nil, or_false] at hy; subst hy; exact Or.inr ⟨by decide, "java/lang/IllegalArgumentException", q291, by decide +kernel⟩) (by decide) (by decide) q1068 q537 (fun q9 => ?_)
      have hw := hw q9
      refine j_astore X (pc := 23) [(7, vR (some q9)), (0, vR a0), (1, vI a1), (2, vI a2), (3, vI a3), (4, vI a4), (5, vI a5), (6, vR a6)] dX0_connect_23 (Nat.le_of_ble_eq_true rfl) rfl ?_
      refine j_iconst X (pc := 25) 2 dX0_connect_25 (by decide) ?_
      exact j_iret X (pc := 26) hQ er (Nat.le_of_ble_eq_true rfl) (Nat.le_of_ble_eq_true rfl) dX0_connect_26 hw
    · refine j_catch X (pc := 11) "java/lang/IllegalStateException" hex [⟨0, 16, 19, 13⟩, ⟨0, 16, 23, 21⟩] [] ⟨0, 16, 27, 15⟩ rfl (by intro y hy; simp only [List.mem_cons, List.not_mem_nil, or_false] at hy; rcases hy with rfl | rfl <;> first | exact Or.inr ⟨by decide, "java/lang/IllegalArgumentException", q291, by decide +kernel⟩ | exact Or.inr ⟨by decide, "java/util/NoSuchElementException", q1068, by decide +kernel⟩) (by decide) (by decide) q292 q387 (fun q9 => ?_)
      have hw := hw q9
      refine j_astore X (pc := 27) [(7, vR (some q9)), (0, vR a0), (1, vI a1), (2, vI a2), (3, vI a3), (4, vI a4), (5, vI a5), (6, vR a6)] dX0_connect_27 (Nat.le_of_ble_eq_true rfl) rfl ?_
      refine j_iconst X (pc := 29) 3 dX0_connect_29 (by decide) ?_
      exact j_iret X (pc := 30) hQ er (Nat.le_of_ble_eq_true rfl) (Nat.le_of_ble_eq_true rfl) dX0_connect_30 hw
  refine j_i2l X (pc := 14) dX0_connect_14 ?_
  refine j_last X (pc := 15) dX0_connect_15 hw (fun h15 hw => ?_)
  refine j_goto X (pc := 16) 31 dX0_connect_16 (by decide) ?_
  refine j_iconst X (pc := 31) 0 dX0_connect_31 (by decide) ?_
  exact j_iret X (pc := 32) hQ er (Nat.le_of_ble_eq_true rfl) (Nat.le_of_ble_eq_true rfl) dX0_connect_32 hw
abbrev cX5_isSide : ByteArray := prog_19_method_37_code
def yX5_isSide : MethodName := ⟨RX5, "isSide", "(C)Z"⟩
def dkwX5_isSide_1 : List UInt8 := [4, 167, 0, 4, 3, 172]
abbrev dktX5_isSide_1 : List UInt8 := dkwX5_isSide_1 ++ []
def dkwX5_isSide_0 : List UInt8 := [26, 16, 116, 159, 0, 21, 26, 16, 98, 159, 0, 15, 26, 16, 108, 159, 0, 9, 26, 16, 114, 160, 0, 7]
abbrev dktX5_isSide_0 : List UInt8 := dkwX5_isSide_0 ++ dktX5_isSide_1
theorem dksX5_isSide_0 : cX5_isSide.data.toList.drop 0 = dktX5_isSide_0 := by decide +kernel
theorem dksX5_isSide_1 : cX5_isSide.data.toList.drop 24 = dktX5_isSide_1 := dk_seg dksX5_isSide_0 24 rfl rfl
theorem dX5_isSide_0 : decode cX5_isSide 0 = .ok (.iload_n 0, 1) := dk_26 (dk_at dksX5_isSide_0 0 rfl rfl)
theorem dX5_isSide_1 : decode cX5_isSide 1 = .ok (.bipush 116, 2) := dk_16 116 (dk_at dksX5_isSide_0 1 rfl rfl)
theorem dX5_isSide_3 : decode cX5_isSide 3 = .ok (.if_icmp .eq 21, 3) := dk_159 0 21 (dk_at dksX5_isSide_0 3 rfl rfl)
theorem dX5_isSide_6 : decode cX5_isSide 6 = .ok (.iload_n 0, 1) := dk_26 (dk_at dksX5_isSide_0 6 rfl rfl)
theorem dX5_isSide_7 : decode cX5_isSide 7 = .ok (.bipush 98, 2) := dk_16 98 (dk_at dksX5_isSide_0 7 rfl rfl)
theorem dX5_isSide_9 : decode cX5_isSide 9 = .ok (.if_icmp .eq 15, 3) := dk_159 0 15 (dk_at dksX5_isSide_0 9 rfl rfl)
theorem dX5_isSide_12 : decode cX5_isSide 12 = .ok (.iload_n 0, 1) := dk_26 (dk_at dksX5_isSide_0 12 rfl rfl)
theorem dX5_isSide_13 : decode cX5_isSide 13 = .ok (.bipush 108, 2) := dk_16 108 (dk_at dksX5_isSide_0 13 rfl rfl)
theorem dX5_isSide_15 : decode cX5_isSide 15 = .ok (.if_icmp .eq 9, 3) := dk_159 0 9 (dk_at dksX5_isSide_0 15 rfl rfl)
theorem dX5_isSide_18 : decode cX5_isSide 18 = .ok (.iload_n 0, 1) := dk_26 (dk_at dksX5_isSide_0 18 rfl rfl)
theorem dX5_isSide_19 : decode cX5_isSide 19 = .ok (.bipush 114, 2) := dk_16 114 (dk_at dksX5_isSide_0 19 rfl rfl)
theorem dX5_isSide_21 : decode cX5_isSide 21 = .ok (.if_icmp .ne 7, 3) := dk_160 0 7 (dk_at dksX5_isSide_0 21 rfl rfl)
theorem dX5_isSide_24 : decode cX5_isSide 24 = .ok (.iconst 1, 1) := dk_4 (dk_at dksX5_isSide_1 0 rfl rfl)
theorem dX5_isSide_25 : decode cX5_isSide 25 = .ok (.goto 4, 3) := dk_167 0 4 (dk_at dksX5_isSide_1 1 rfl rfl)
theorem dX5_isSide_28 : decode cX5_isSide 28 = .ok (.iconst 0, 1) := dk_3 (dk_at dksX5_isSide_1 4 rfl rfl)
theorem dX5_isSide_29 : decode cX5_isSide 29 = .ok (.ireturn, 1) := dk_172 (dk_at dksX5_isSide_1 5 rfl rfl)
abbrev rm_X5_isSide : Room := { frames := 0, cells := 0, slots := 0, locals := 0 }
def w_X5_isSide (a0 : Int32) (h : AH) (P : Int32 → AH → Prop) : Prop :=
  ((a0 = 116 →
    P 1 h) ∧
   (¬ a0 = 116 →
    ((a0 = 98 →
      P 1 h) ∧
     (¬ a0 = 98 →
      ((a0 = 108 →
        P 1 h) ∧
       (¬ a0 = 108 →
        ((a0 = 114 →
          P 1 h) ∧
         (¬ a0 = 114 →
          P 0 h))))))))
theorem met_X5_isSide (l : Launch) (hlt : l.stackTraces = false) (G : GG) (h : AH) (a0 : Int32) (P : Int32 → AH → Prop) (hw : w_X5_isSide a0 h P) : ct_i l yX5_isSide (ws_ yX5_isSide cX5_isSide 1 (Option.some Jvm.ClassFile.FieldType.boolean)) rm_X5_isSide G h [vI a0] P := by
  refine j_starti hlt [(0, vI a0)] (plainFor_of_name (by decide)) rfl rfl (fun x X eG er en hQ => ?_)
  subst eG
  refine j_iload_n X (pc := 0) 0 dX5_isSide_0 rfl rfl ?_
  refine j_bipush X (pc := 1) 116 dX5_isSide_1 (by decide) ?_
  refine j_icmp_eq X (pc := 3) 24 dX5_isSide_3 (by decide) hw (fun hw => ?_) (fun hw => ?_)
  · refine j_iconst X (pc := 24) 1 dX5_isSide_24 (by decide) ?_
    refine j_goto X (pc := 25) 29 dX5_isSide_25 (by decide) ?_
    exact j_zret X (pc := 29) (ty := .boolean) hQ er rfl (Nat.le_of_ble_eq_true rfl) (Nat.le_of_ble_eq_true rfl) dX5_isSide_29 hw
  · refine j_iload_n X (pc := 6) 0 dX5_isSide_6 rfl rfl ?_
    refine j_bipush X (pc := 7) 98 dX5_isSide_7 (by decide) ?_
    refine j_icmp_eq X (pc := 9) 24 dX5_isSide_9 (by decide) hw (fun hw => ?_) (fun hw => ?_)
    · refine j_iconst X (pc := 24) 1 dX5_isSide_24 (by decide) ?_
      refine j_goto X (pc := 25) 29 dX5_isSide_25 (by decide) ?_
      exact j_zret X (pc := 29) (ty := .boolean) hQ er rfl (Nat.le_of_ble_eq_true rfl) (Nat.le_of_ble_eq_true rfl) dX5_isSide_29 hw
    · refine j_iload_n X (pc := 12) 0 dX5_isSide_12 rfl rfl ?_
      refine j_bipush X (pc := 13) 108 dX5_isSide_13 (by decide) ?_
      refine j_icmp_eq X (pc := 15) 24 dX5_isSide_15 (by decide) hw (fun hw => ?_) (fun hw => ?_)
      · refine j_iconst X (pc := 24) 1 dX5_isSide_24 (by decide) ?_
        refine j_goto X (pc := 25) 29 dX5_isSide_25 (by decide) ?_
        exact j_zret X (pc := 29) (ty := .boolean) hQ er rfl (Nat.le_of_ble_eq_true rfl) (Nat.le_of_ble_eq_true rfl) dX5_isSide_29 hw
      · refine j_iload_n X (pc := 18) 0 dX5_isSide_18 rfl rfl ?_
        refine j_bipush X (pc := 19) 114 dX5_isSide_19 (by decide) ?_
        refine j_icmp_ne X (pc := 21) 28 dX5_isSide_21 (by decide) hw (fun hw => ?_) (fun hw => ?_)
        · refine j_iconst X (pc := 24) 1 dX5_isSide_24 (by decide) ?_
          refine j_goto X (pc := 25) 29 dX5_isSide_25 (by decide) ?_
          exact j_zret X (pc := 29) (ty := .boolean) hQ er rfl (Nat.le_of_ble_eq_true rfl) (Nat.le_of_ble_eq_true rfl) dX5_isSide_29 hw
        · refine j_iconst X (pc := 28) 0 dX5_isSide_28 (by decide) ?_
          exact j_zret X (pc := 29) (ty := .boolean) hQ er rfl (Nat.le_of_ble_eq_true rfl) (Nat.le_of_ble_eq_true rfl) dX5_isSide_29 hw
abbrev cX5_connect : ByteArray := prog_19_method_38_code
def yX5_connect : MethodName := ⟨RX5, "connect", "(IICIC)I"⟩
def dkwX5_connect_7 : List UInt8 := [42, 180, 0, 122, 4, 100, 172]
abbrev dktX5_connect_7 : List UInt8 := dkwX5_connect_7 ++ []
def dkwX5_connect_6 : List UInt8 := [180, 0, 122, 96, 4, 182, 0, 179, 42, 89, 180, 0, 122, 4, 96, 181, 0, 122, 42, 27, 4, 182, 0, 186]
abbrev dktX5_connect_6 : List UInt8 := dkwX5_connect_6 ++ dktX5_connect_7
def dkwX5_connect_5 : List UInt8 := [180, 0, 26, 42, 180, 0, 122, 29, 85, 42, 180, 0, 30, 42, 180, 0, 122, 21, 5, 85, 42, 16, 48, 42]
abbrev dktX5_connect_5 : List UInt8 := dkwX5_connect_5 ++ dktX5_connect_6
def dkwX5_connect_4 : List UInt8 := [42, 180, 0, 16, 42, 180, 0, 122, 28, 79, 42, 180, 0, 19, 42, 180, 0, 122, 21, 4, 79, 42]
abbrev dktX5_connect_4 : List UInt8 := dkwX5_connect_4 ++ dktX5_connect_5
def dkwX5_connect_3 : List UInt8 := [180, 0, 122, 16, 8, 159, 0, 13, 42, 180, 0, 108, 17, 0, 250, 160, 0, 9, 42, 6, 182, 0, 172, 172]
abbrev dktX5_connect_3 : List UInt8 := dkwX5_connect_3 ++ dktX5_connect_4
def dkwX5_connect_2 : List UInt8 := [182, 0, 125, 153, 0, 12, 42, 21, 4, 182, 0, 125, 154, 0, 9, 42, 5, 182, 0, 172, 172, 42]
abbrev dktX5_connect_2 : List UInt8 := dkwX5_connect_2 ++ dktX5_connect_3
def dkwX5_connect_1 : List UInt8 := [153, 0, 9, 28, 21, 4, 160, 0, 9, 42, 4, 182, 0, 172, 172, 42, 27, 182, 0, 161, 42, 28]
abbrev dktX5_connect_1 : List UInt8 := dkwX5_connect_1 ++ dktX5_connect_2
def dkwX5_connect_0 : List UInt8 := [42, 3, 181, 0, 97, 27, 184, 0, 165, 153, 0, 24, 29, 184, 0, 212, 153, 0, 17, 21, 5, 184, 0, 212]
abbrev dktX5_connect_0 : List UInt8 := dkwX5_connect_0 ++ dktX5_connect_1
theorem dksX5_connect_0 : cX5_connect.data.toList.drop 0 = dktX5_connect_0 := by decide +kernel
theorem dksX5_connect_1 : cX5_connect.data.toList.drop 24 = dktX5_connect_1 := dk_seg dksX5_connect_0 24 rfl rfl
theorem dksX5_connect_2 : cX5_connect.data.toList.drop 46 = dktX5_connect_2 := dk_seg dksX5_connect_1 22 rfl rfl
theorem dksX5_connect_3 : cX5_connect.data.toList.drop 68 = dktX5_connect_3 := dk_seg dksX5_connect_2 22 rfl rfl
theorem dksX5_connect_4 : cX5_connect.data.toList.drop 92 = dktX5_connect_4 := dk_seg dksX5_connect_3 24 rfl rfl
theorem dksX5_connect_5 : cX5_connect.data.toList.drop 114 = dktX5_connect_5 := dk_seg dksX5_connect_4 22 rfl rfl
theorem dksX5_connect_6 : cX5_connect.data.toList.drop 138 = dktX5_connect_6 := dk_seg dksX5_connect_5 24 rfl rfl
theorem dksX5_connect_7 : cX5_connect.data.toList.drop 162 = dktX5_connect_7 := dk_seg dksX5_connect_6 24 rfl rfl
theorem dX5_connect_0 : decode cX5_connect 0 = .ok (.aload_n 0, 1) := dk_42 (dk_at dksX5_connect_0 0 rfl rfl)
theorem dX5_connect_1 : decode cX5_connect 1 = .ok (.iconst 0, 1) := dk_3 (dk_at dksX5_connect_0 1 rfl rfl)
theorem dX5_connect_2 : decode cX5_connect 2 = .ok (.putfield 97, 3) := dk_181 0 97 (dk_at dksX5_connect_0 2 rfl rfl)
theorem dX5_connect_5 : decode cX5_connect 5 = .ok (.iload_n 1, 1) := dk_27 (dk_at dksX5_connect_0 5 rfl rfl)
theorem dX5_connect_6 : decode cX5_connect 6 = .ok (.invokestatic 165, 3) := dk_184 0 165 (dk_at dksX5_connect_0 6 rfl rfl)
theorem dX5_connect_9 : decode cX5_connect 9 = .ok (.ifCond .eq 24, 3) := dk_153 0 24 (dk_at dksX5_connect_0 9 rfl rfl)
theorem dX5_connect_12 : decode cX5_connect 12 = .ok (.iload_n 3, 1) := dk_29 (dk_at dksX5_connect_0 12 rfl rfl)
theorem dX5_connect_13 : decode cX5_connect 13 = .ok (.invokestatic 212, 3) := dk_184 0 212 (dk_at dksX5_connect_0 13 rfl rfl)
theorem dX5_connect_16 : decode cX5_connect 16 = .ok (.ifCond .eq 17, 3) := dk_153 0 17 (dk_at dksX5_connect_0 16 rfl rfl)
theorem dX5_connect_19 : decode cX5_connect 19 = .ok (.iload 5, 2) := dk_21 5 (dk_at dksX5_connect_0 19 rfl rfl)
theorem dX5_connect_21 : decode cX5_connect 21 = .ok (.invokestatic 212, 3) := dk_184 0 212 (dk_at dksX5_connect_0 21 rfl rfl)
theorem dX5_connect_24 : decode cX5_connect 24 = .ok (.ifCond .eq 9, 3) := dk_153 0 9 (dk_at dksX5_connect_1 0 rfl rfl)
theorem dX5_connect_27 : decode cX5_connect 27 = .ok (.iload_n 2, 1) := dk_28 (dk_at dksX5_connect_1 3 rfl rfl)
theorem dX5_connect_28 : decode cX5_connect 28 = .ok (.iload 4, 2) := dk_21 4 (dk_at dksX5_connect_1 4 rfl rfl)
theorem dX5_connect_30 : decode cX5_connect 30 = .ok (.if_icmp .ne 9, 3) := dk_160 0 9 (dk_at dksX5_connect_1 6 rfl rfl)
theorem dX5_connect_33 : decode cX5_connect 33 = .ok (.aload_n 0, 1) := dk_42 (dk_at dksX5_connect_1 9 rfl rfl)
theorem dX5_connect_34 : decode cX5_connect 34 = .ok (.iconst 1, 1) := dk_4 (dk_at dksX5_connect_1 10 rfl rfl)
theorem dX5_connect_35 : decode cX5_connect 35 = .ok (.invokevirtual 172, 3) := dk_182 0 172 (dk_at dksX5_connect_1 11 rfl rfl)
theorem dX5_connect_38 : decode cX5_connect 38 = .ok (.ireturn, 1) := dk_172 (dk_at dksX5_connect_1 14 rfl rfl)
theorem dX5_connect_39 : decode cX5_connect 39 = .ok (.aload_n 0, 1) := dk_42 (dk_at dksX5_connect_1 15 rfl rfl)
theorem dX5_connect_40 : decode cX5_connect 40 = .ok (.iload_n 1, 1) := dk_27 (dk_at dksX5_connect_1 16 rfl rfl)
theorem dX5_connect_41 : decode cX5_connect 41 = .ok (.invokevirtual 161, 3) := dk_182 0 161 (dk_at dksX5_connect_1 17 rfl rfl)
theorem dX5_connect_44 : decode cX5_connect 44 = .ok (.aload_n 0, 1) := dk_42 (dk_at dksX5_connect_1 20 rfl rfl)
theorem dX5_connect_45 : decode cX5_connect 45 = .ok (.iload_n 2, 1) := dk_28 (dk_at dksX5_connect_1 21 rfl rfl)
theorem dX5_connect_46 : decode cX5_connect 46 = .ok (.invokevirtual 125, 3) := dk_182 0 125 (dk_at dksX5_connect_2 0 rfl rfl)
theorem dX5_connect_49 : decode cX5_connect 49 = .ok (.ifCond .eq 12, 3) := dk_153 0 12 (dk_at dksX5_connect_2 3 rfl rfl)
theorem dX5_connect_52 : decode cX5_connect 52 = .ok (.aload_n 0, 1) := dk_42 (dk_at dksX5_connect_2 6 rfl rfl)
theorem dX5_connect_53 : decode cX5_connect 53 = .ok (.iload 4, 2) := dk_21 4 (dk_at dksX5_connect_2 7 rfl rfl)
theorem dX5_connect_55 : decode cX5_connect 55 = .ok (.invokevirtual 125, 3) := dk_182 0 125 (dk_at dksX5_connect_2 9 rfl rfl)
theorem dX5_connect_58 : decode cX5_connect 58 = .ok (.ifCond .ne 9, 3) := dk_154 0 9 (dk_at dksX5_connect_2 12 rfl rfl)
theorem dX5_connect_61 : decode cX5_connect 61 = .ok (.aload_n 0, 1) := dk_42 (dk_at dksX5_connect_2 15 rfl rfl)
theorem dX5_connect_62 : decode cX5_connect 62 = .ok (.iconst 2, 1) := dk_5 (dk_at dksX5_connect_2 16 rfl rfl)
theorem dX5_connect_63 : decode cX5_connect 63 = .ok (.invokevirtual 172, 3) := dk_182 0 172 (dk_at dksX5_connect_2 17 rfl rfl)
theorem dX5_connect_66 : decode cX5_connect 66 = .ok (.ireturn, 1) := dk_172 (dk_at dksX5_connect_2 20 rfl rfl)
theorem dX5_connect_67 : decode cX5_connect 67 = .ok (.aload_n 0, 1) := dk_42 (dk_at dksX5_connect_2 21 rfl rfl)
theorem dX5_connect_68 : decode cX5_connect 68 = .ok (.getfield 122, 3) := dk_180 0 122 (dk_at dksX5_connect_3 0 rfl rfl)
theorem dX5_connect_71 : decode cX5_connect 71 = .ok (.bipush 8, 2) := dk_16 8 (dk_at dksX5_connect_3 3 rfl rfl)
theorem dX5_connect_73 : decode cX5_connect 73 = .ok (.if_icmp .eq 13, 3) := dk_159 0 13 (dk_at dksX5_connect_3 5 rfl rfl)
theorem dX5_connect_76 : decode cX5_connect 76 = .ok (.aload_n 0, 1) := dk_42 (dk_at dksX5_connect_3 8 rfl rfl)
theorem dX5_connect_77 : decode cX5_connect 77 = .ok (.getfield 108, 3) := dk_180 0 108 (dk_at dksX5_connect_3 9 rfl rfl)
theorem dX5_connect_80 : decode cX5_connect 80 = .ok (.sipush 250, 3) := dk_17 0 250 (dk_at dksX5_connect_3 12 rfl rfl)
theorem dX5_connect_83 : decode cX5_connect 83 = .ok (.if_icmp .ne 9, 3) := dk_160 0 9 (dk_at dksX5_connect_3 15 rfl rfl)
theorem dX5_connect_86 : decode cX5_connect 86 = .ok (.aload_n 0, 1) := dk_42 (dk_at dksX5_connect_3 18 rfl rfl)
theorem dX5_connect_87 : decode cX5_connect 87 = .ok (.iconst 3, 1) := dk_6 (dk_at dksX5_connect_3 19 rfl rfl)
theorem dX5_connect_88 : decode cX5_connect 88 = .ok (.invokevirtual 172, 3) := dk_182 0 172 (dk_at dksX5_connect_3 20 rfl rfl)
theorem dX5_connect_91 : decode cX5_connect 91 = .ok (.ireturn, 1) := dk_172 (dk_at dksX5_connect_3 23 rfl rfl)
theorem dX5_connect_92 : decode cX5_connect 92 = .ok (.aload_n 0, 1) := dk_42 (dk_at dksX5_connect_4 0 rfl rfl)
theorem dX5_connect_93 : decode cX5_connect 93 = .ok (.getfield 16, 3) := dk_180 0 16 (dk_at dksX5_connect_4 1 rfl rfl)
theorem dX5_connect_96 : decode cX5_connect 96 = .ok (.aload_n 0, 1) := dk_42 (dk_at dksX5_connect_4 4 rfl rfl)
theorem dX5_connect_97 : decode cX5_connect 97 = .ok (.getfield 122, 3) := dk_180 0 122 (dk_at dksX5_connect_4 5 rfl rfl)
theorem dX5_connect_100 : decode cX5_connect 100 = .ok (.iload_n 2, 1) := dk_28 (dk_at dksX5_connect_4 8 rfl rfl)
theorem dX5_connect_101 : decode cX5_connect 101 = .ok (.iastore, 1) := dk_79 (dk_at dksX5_connect_4 9 rfl rfl)
theorem dX5_connect_102 : decode cX5_connect 102 = .ok (.aload_n 0, 1) := dk_42 (dk_at dksX5_connect_4 10 rfl rfl)
theorem dX5_connect_103 : decode cX5_connect 103 = .ok (.getfield 19, 3) := dk_180 0 19 (dk_at dksX5_connect_4 11 rfl rfl)
theorem dX5_connect_106 : decode cX5_connect 106 = .ok (.aload_n 0, 1) := dk_42 (dk_at dksX5_connect_4 14 rfl rfl)
theorem dX5_connect_107 : decode cX5_connect 107 = .ok (.getfield 122, 3) := dk_180 0 122 (dk_at dksX5_connect_4 15 rfl rfl)
theorem dX5_connect_110 : decode cX5_connect 110 = .ok (.iload 4, 2) := dk_21 4 (dk_at dksX5_connect_4 18 rfl rfl)
theorem dX5_connect_112 : decode cX5_connect 112 = .ok (.iastore, 1) := dk_79 (dk_at dksX5_connect_4 20 rfl rfl)
theorem dX5_connect_113 : decode cX5_connect 113 = .ok (.aload_n 0, 1) := dk_42 (dk_at dksX5_connect_4 21 rfl rfl)
theorem dX5_connect_114 : decode cX5_connect 114 = .ok (.getfield 26, 3) := dk_180 0 26 (dk_at dksX5_connect_5 0 rfl rfl)
theorem dX5_connect_117 : decode cX5_connect 117 = .ok (.aload_n 0, 1) := dk_42 (dk_at dksX5_connect_5 3 rfl rfl)
theorem dX5_connect_118 : decode cX5_connect 118 = .ok (.getfield 122, 3) := dk_180 0 122 (dk_at dksX5_connect_5 4 rfl rfl)
theorem dX5_connect_121 : decode cX5_connect 121 = .ok (.iload_n 3, 1) := dk_29 (dk_at dksX5_connect_5 7 rfl rfl)
theorem dX5_connect_122 : decode cX5_connect 122 = .ok (.castore, 1) := dk_85 (dk_at dksX5_connect_5 8 rfl rfl)
theorem dX5_connect_123 : decode cX5_connect 123 = .ok (.aload_n 0, 1) := dk_42 (dk_at dksX5_connect_5 9 rfl rfl)
theorem dX5_connect_124 : decode cX5_connect 124 = .ok (.getfield 30, 3) := dk_180 0 30 (dk_at dksX5_connect_5 10 rfl rfl)
theorem dX5_connect_127 : decode cX5_connect 127 = .ok (.aload_n 0, 1) := dk_42 (dk_at dksX5_connect_5 13 rfl rfl)
theorem dX5_connect_128 : decode cX5_connect 128 = .ok (.getfield 122, 3) := dk_180 0 122 (dk_at dksX5_connect_5 14 rfl rfl)
theorem dX5_connect_131 : decode cX5_connect 131 = .ok (.iload 5, 2) := dk_21 5 (dk_at dksX5_connect_5 17 rfl rfl)
theorem dX5_connect_133 : decode cX5_connect 133 = .ok (.castore, 1) := dk_85 (dk_at dksX5_connect_5 19 rfl rfl)
theorem dX5_connect_134 : decode cX5_connect 134 = .ok (.aload_n 0, 1) := dk_42 (dk_at dksX5_connect_5 20 rfl rfl)
theorem dX5_connect_135 : decode cX5_connect 135 = .ok (.bipush 48, 2) := dk_16 48 (dk_at dksX5_connect_5 21 rfl rfl)
theorem dX5_connect_137 : decode cX5_connect 137 = .ok (.aload_n 0, 1) := dk_42 (dk_at dksX5_connect_5 23 rfl rfl)
theorem dX5_connect_138 : decode cX5_connect 138 = .ok (.getfield 122, 3) := dk_180 0 122 (dk_at dksX5_connect_6 0 rfl rfl)
theorem dX5_connect_141 : decode cX5_connect 141 = .ok (.iadd, 1) := dk_96 (dk_at dksX5_connect_6 3 rfl rfl)
theorem dX5_connect_142 : decode cX5_connect 142 = .ok (.iconst 1, 1) := dk_4 (dk_at dksX5_connect_6 4 rfl rfl)
theorem dX5_connect_143 : decode cX5_connect 143 = .ok (.invokevirtual 179, 3) := dk_182 0 179 (dk_at dksX5_connect_6 5 rfl rfl)
theorem dX5_connect_146 : decode cX5_connect 146 = .ok (.aload_n 0, 1) := dk_42 (dk_at dksX5_connect_6 8 rfl rfl)
theorem dX5_connect_147 : decode cX5_connect 147 = .ok (.dup, 1) := dk_89 (dk_at dksX5_connect_6 9 rfl rfl)
theorem dX5_connect_148 : decode cX5_connect 148 = .ok (.getfield 122, 3) := dk_180 0 122 (dk_at dksX5_connect_6 10 rfl rfl)
theorem dX5_connect_151 : decode cX5_connect 151 = .ok (.iconst 1, 1) := dk_4 (dk_at dksX5_connect_6 13 rfl rfl)
theorem dX5_connect_152 : decode cX5_connect 152 = .ok (.iadd, 1) := dk_96 (dk_at dksX5_connect_6 14 rfl rfl)
theorem dX5_connect_153 : decode cX5_connect 153 = .ok (.putfield 122, 3) := dk_181 0 122 (dk_at dksX5_connect_6 15 rfl rfl)
theorem dX5_connect_156 : decode cX5_connect 156 = .ok (.aload_n 0, 1) := dk_42 (dk_at dksX5_connect_6 18 rfl rfl)
theorem dX5_connect_157 : decode cX5_connect 157 = .ok (.iload_n 1, 1) := dk_27 (dk_at dksX5_connect_6 19 rfl rfl)
theorem dX5_connect_158 : decode cX5_connect 158 = .ok (.iconst 1, 1) := dk_4 (dk_at dksX5_connect_6 20 rfl rfl)
theorem dX5_connect_159 : decode cX5_connect 159 = .ok (.invokevirtual 186, 3) := dk_182 0 186 (dk_at dksX5_connect_6 21 rfl rfl)
theorem dX5_connect_162 : decode cX5_connect 162 = .ok (.aload_n 0, 1) := dk_42 (dk_at dksX5_connect_7 0 rfl rfl)
theorem dX5_connect_163 : decode cX5_connect 163 = .ok (.getfield 122, 3) := dk_180 0 122 (dk_at dksX5_connect_7 1 rfl rfl)
theorem dX5_connect_166 : decode cX5_connect 166 = .ok (.iconst 1, 1) := dk_4 (dk_at dksX5_connect_7 4 rfl rfl)
theorem dX5_connect_167 : decode cX5_connect 167 = .ok (.isub, 1) := dk_100 (dk_at dksX5_connect_7 5 rfl rfl)
theorem dX5_connect_168 : decode cX5_connect 168 = .ok (.ireturn, 1) := dk_172 (dk_at dksX5_connect_7 6 rfl rfl)
theorem q1881 : (Jvm.Cond.fieldLink "PlugboardModel" (122 : Nat) "PlugboardModel" "connectors" "I") ∈ lw_all := lw_g (lw_at lw_m8 131 rfl) rfl
theorem q2103 : (Jvm.Cond.methodLink "PlugboardModel" (212 : Nat) ({ cls := "PlugboardModel", name := "isSide", desc := "(C)Z" } : Jvm.MethodName)) ∈ lw_all := lw_g (lw_at lw_m9 113 rfl) rfl
theorem q2104 : (Jvm.Cond.static ({ cls := "PlugboardModel", name := "isSide", desc := "(C)Z" } : Jvm.MethodName)) ∈ lw_all := lw_g (lw_at lw_m9 114 rfl) rfl
theorem q2105 : (Jvm.Cond.code ({ cls := "PlugboardModel", name := "isSide", desc := "(C)Z" } : Jvm.MethodName) prog_19_method_37_code (1 : Nat) (Option.some Jvm.ClassFile.FieldType.boolean)) ∈ lw_all := lw_g (lw_at lw_m9 115 rfl) rfl
abbrev rm_X5_connect : Room := { frames := 4, cells := 0, slots := 0, locals := 90 }
def w_X5_connect (a0 : Option Nat) (a1 : Int32) (a2 : Int32) (a3 : Int32) (a4 : Int32) (a5 : Int32) (h : AH) (P : Int32 → AH → Prop) : Prop :=
  p_v h a0 4 0 (vI 0) fun h2 =>
  w_X5_isUser a1 h2 (fun y6 h6 =>
  ((y6 = 0 →
    is_c h6 a0 [4] (
    w_X5_fails a0 1 h6 (fun y35 h35 =>
    P y35 h35))) ∧
   (¬ y6 = 0 →
    w_X5_isSide a3 h6 (fun y13 h13 =>
    ((y13 = 0 →
      is_c h13 a0 [4] (
      w_X5_fails a0 1 h13 (fun y35 h35 =>
      P y35 h35))) ∧
     (¬ y13 = 0 →
      w_X5_isSide a5 h13 (fun y21 h21 =>
      ((y21 = 0 →
        is_c h21 a0 [4] (
        w_X5_fails a0 1 h21 (fun y35 h35 =>
        P y35 h35))) ∧
       (¬ y21 = 0 →
        ((a2 = a4 →
          is_c h21 a0 [4] (
          w_X5_fails a0 1 h21 (fun y35 h35 =>
          P y35 h35))) ∧
         (¬ a2 = a4 →
          is_c h21 a0 [4] (
          w_X5_builds a0 a1 h21 (fun h41 =>
          is_c h41 a0 [4] (
          w_X5_isSeen a0 a2 h41 (fun y46 h46 =>
          ((y46 = 0 →
            is_c h46 a0 [4] (
            w_X5_fails a0 2 h46 (fun y63 h63 =>
            P y63 h63))) ∧
           (¬ y46 = 0 →
            is_c h46 a0 [4] (
            w_X5_isSeen a0 a4 h46 (fun y55 h55 =>
            ((y55 = 0 →
              is_c h55 a0 [4] (
              w_X5_fails a0 2 h55 (fun y63 h63 =>
              P y63 h63))) ∧
             (¬ y55 = 0 →
              g_i h55 a0 4 9 fun y68 =>
              ((y68 = 8 →
                is_c h55 a0 [4] (
                w_X5_fails a0 3 h55 (fun y88 h88 =>
                P y88 h88))) ∧
               (¬ y68 = 8 →
                g_i h55 a0 4 20 fun y77 =>
                ((y77 = 250 →
                  is_c h55 a0 [4] (
                  w_X5_fails a0 3 h55 (fun y88 h88 =>
                  P y88 h88))) ∧
                 (¬ y77 = 250 →
                  g_q h55 a0 4 3 fun y93 =>
                  g_i h55 a0 4 9 fun y97 =>
                  s_i h55 y93 0 y97 a2 fun h101 =>
                  g_q h101 a0 4 4 fun y103 =>
                  g_i h101 a0 4 9 fun y107 =>
                  s_i h101 y103 0 y107 a4 fun h112 =>
                  g_q h112 a0 4 6 fun y114 =>
                  g_i h112 a0 4 9 fun y118 =>
                  nrw .char a3 ∧
                  s_i h112 y114 4 y118 a3 fun h122 =>
                  g_q h122 a0 4 7 fun y124 =>
                  g_i h122 a0 4 9 fun y128 =>
                  nrw .char a5 ∧
                  s_i h122 y124 4 y128 a5 fun h133 =>
                  g_i h133 a0 4 9 fun y138 =>
                  is_c h133 a0 [4] (
                  w_X5_plans a0 (48 + y138) 1 h133 (fun h143 =>
                  g_i h143 a0 4 9 fun y148 =>
                  p_v h143 a0 4 9 (vI (y148 + 1)) fun h153 =>
                  is_c h153 a0 [4] (
                  w_X5_makes a0 a1 1 h153 (fun h159 =>
                  g_i h159 a0 4 9 fun y163 =>
                  P (y163 - 1) h159)))))))))))))))))))))))))))))
theorem met_X5_connect (l : Launch) (hlt : l.stackTraces = false) (G : GG) (h : AH) (a0 : Option Nat) (a1 : Int32) (a2 : Int32) (a3 : Int32) (a4 : Int32) (a5 : Int32) (P : Int32 → AH → Prop) (hw : w_X5_connect a0 a1 a2 a3 a4 a5 h P) : ct_i l yX5_connect (ws_ yX5_connect cX5_connect 6 (Option.some Jvm.ClassFile.FieldType.int)) rm_X5_connect G h [vR a0, vI a1, vI a2, vI a3, vI a4, vI a5] P := by
  refine j_starti hlt [(0, vR a0), (1, vI a1), (2, vI a2), (3, vI a3), (4, vI a4), (5, vI a5)] (plainFor_of_name (by decide)) rfl rfl (fun x X eG er en hQ => ?_)
  subst eG
  refine j_aload_n X (pc := 0) 0 dX5_connect_0 rfl rfl ?_
  refine j_iconst X (pc := 1) 0 dX5_connect_1 (by decide) ?_
  refine j_put (ci := 4) X (pc := 2) in_X5 rfl (by decide) 0 (by decide) q1872 (Or.inl rfl) tyX5 tyX5_ok nmX5 rfl rfl (ty := .int) (tyX5_ok 0 (by decide)) rfl rfl dX5_connect_2 hw (fun h2 hw => ?_)
  refine j_iload_n X (pc := 5) 1 dX5_connect_5 rfl rfl ?_
  refine j_calli (j_runS (n8 := 1) (As := [vI a1]) (rest := []) X (pc := 6) (met_X5_isUser (xl x) X.hl (xG x) h2 a1 _ hw) q1978 q1979 q78 q1980 (by decide +kernel) dX5_connect_6 rfl ⟨Nat.le_of_ble_eq_true rfl, Nat.le_of_ble_eq_true rfl⟩ (Nat.le_of_ble_eq_true rfl) ⟨Nat.le_of_ble_eq_true rfl, Nat.le_of_ble_eq_true rfl⟩) (fun y6 h6 hw => ?_)
  refine j_if_eq X (pc := 9) 33 dX5_connect_9 (by decide) hw (fun hw => ?_) (fun hw => ?_)
  · refine j_aload_n X (pc := 33) 0 dX5_connect_33 rfl rfl ?_
    refine j_iconst X (pc := 34) 1 dX5_connect_34 (by decide) ?_
    obtain ⟨b9, c9, f9, hr9, ho9, hc9, hw⟩ := hw
    obtain rfl := List.mem_singleton.mp hc9
    refine j_calli (j_runV (n8 := 1) (As := [vI 1]) (rest := []) X (pc := 35) hr9 (met_X5_fails (xl x) X.hl (xG x) h6 a0 1 _ hw) ho9 (by decide) rfl q1988 q1990 qs33 q78 q1991 (by decide +kernel) dX5_connect_35 rfl ⟨Nat.le_of_ble_eq_true rfl, Nat.le_of_ble_eq_true rfl⟩ (Nat.le_of_ble_eq_true rfl) ⟨Nat.le_of_ble_eq_true rfl, Nat.le_of_ble_eq_true rfl⟩) (fun y35 h35 hw => ?_)
    exact j_iret X (pc := 38) hQ er (Nat.le_of_ble_eq_true rfl) (Nat.le_of_ble_eq_true rfl) dX5_connect_38 hw
  · refine j_iload_n X (pc := 12) 3 dX5_connect_12 rfl rfl ?_
    refine j_calli (j_runS (n8 := 1) (As := [vI a3]) (rest := []) X (pc := 13) (met_X5_isSide (xl x) X.hl (xG x) h6 a3 _ hw) q2103 q2104 q78 q2105 (by decide +kernel) dX5_connect_13 rfl ⟨Nat.le_of_ble_eq_true rfl, Nat.le_of_ble_eq_true rfl⟩ (Nat.le_of_ble_eq_true rfl) ⟨Nat.le_of_ble_eq_true rfl, Nat.le_of_ble_eq_true rfl⟩) (fun y13 h13 hw => ?_)
    refine j_if_eq X (pc := 16) 33 dX5_connect_16 (by decide) hw (fun hw => ?_) (fun hw => ?_)
    · refine j_aload_n X (pc := 33) 0 dX5_connect_33 rfl rfl ?_
      refine j_iconst X (pc := 34) 1 dX5_connect_34 (by decide) ?_
      obtain ⟨b9, c9, f9, hr9, ho9, hc9, hw⟩ := hw
      obtain rfl := List.mem_singleton.mp hc9
      refine j_calli (j_runV (n8 := 1) (As := [vI 1]) (rest := []) X (pc := 35) hr9 (met_X5_fails (xl x) X.hl (xG x) h13 a0 1 _ hw) ho9 (by decide) rfl q1988 q1990 qs33 q78 q1991 (by decide +kernel) dX5_connect_35 rfl ⟨Nat.le_of_ble_eq_true rfl, Nat.le_of_ble_eq_true rfl⟩ (Nat.le_of_ble_eq_true rfl) ⟨Nat.le_of_ble_eq_true rfl, Nat.le_of_ble_eq_true rfl⟩) (fun y35 h35 hw => ?_)
      exact j_iret X (pc := 38) hQ er (Nat.le_of_ble_eq_true rfl) (Nat.le_of_ble_eq_true rfl) dX5_connect_38 hw
    · refine j_iload X (pc := 19) 5 dX5_connect_19 rfl ?_
      refine j_calli (j_runS (n8 := 1) (As := [vI a5]) (rest := []) X (pc := 21) (met_X5_isSide (xl x) X.hl (xG x) h13 a5 _ hw) q2103 q2104 q78 q2105 (by decide +kernel) dX5_connect_21 rfl ⟨Nat.le_of_ble_eq_true rfl, Nat.le_of_ble_eq_true rfl⟩ (Nat.le_of_ble_eq_true rfl) ⟨Nat.le_of_ble_eq_true rfl, Nat.le_of_ble_eq_true rfl⟩) (fun y21 h21 hw => ?_)
      refine j_if_eq X (pc := 24) 33 dX5_connect_24 (by decide) hw (fun hw => ?_) (fun hw => ?_)
      · refine j_aload_n X (pc := 33) 0 dX5_connect_33 rfl rfl ?_
        refine j_iconst X (pc := 34) 1 dX5_connect_34 (by decide) ?_
        obtain ⟨b9, c9, f9, hr9, ho9, hc9, hw⟩ := hw
        obtain rfl := List.mem_singleton.mp hc9
        refine j_calli (j_runV (n8 := 1) (As := [vI 1]) (rest := []) X (pc := 35) hr9 (met_X5_fails (xl x) X.hl (xG x) h21 a0 1 _ hw) ho9 (by decide) rfl q1988 q1990 qs33 q78 q1991 (by decide +kernel) dX5_connect_35 rfl ⟨Nat.le_of_ble_eq_true rfl, Nat.le_of_ble_eq_true rfl⟩ (Nat.le_of_ble_eq_true rfl) ⟨Nat.le_of_ble_eq_true rfl, Nat.le_of_ble_eq_true rfl⟩) (fun y35 h35 hw => ?_)
        exact j_iret X (pc := 38) hQ er (Nat.le_of_ble_eq_true rfl) (Nat.le_of_ble_eq_true rfl) dX5_connect_38 hw
      · refine j_iload_n X (pc := 27) 2 dX5_connect_27 rfl rfl ?_
        refine j_iload X (pc := 28) 4 dX5_connect_28 rfl ?_
        refine j_icmp_ne X (pc := 30) 39 dX5_connect_30 (by decide) hw (fun hw => ?_) (fun hw => ?_)
        · refine j_aload_n X (pc := 33) 0 dX5_connect_33 rfl rfl ?_
          refine j_iconst X (pc := 34) 1 dX5_connect_34 (by decide) ?_
          obtain ⟨b9, c9, f9, hr9, ho9, hc9, hw⟩ := hw
          obtain rfl := List.mem_singleton.mp hc9
          refine j_calli (j_runV (n8 := 1) (As := [vI 1]) (rest := []) X (pc := 35) hr9 (met_X5_fails (xl x) X.hl (xG x) h21 a0 1 _ hw) ho9 (by decide) rfl q1988 q1990 qs33 q78 q1991 (by decide +kernel) dX5_connect_35 rfl ⟨Nat.le_of_ble_eq_true rfl, Nat.le_of_ble_eq_true rfl⟩ (Nat.le_of_ble_eq_true rfl) ⟨Nat.le_of_ble_eq_true rfl, Nat.le_of_ble_eq_true rfl⟩) (fun y35 h35 hw => ?_)
          exact j_iret X (pc := 38) hQ er (Nat.le_of_ble_eq_true rfl) (Nat.le_of_ble_eq_true rfl) dX5_connect_38 hw
        · refine j_aload_n X (pc := 39) 0 dX5_connect_39 rfl rfl ?_
          refine j_iload_n X (pc := 40) 1 dX5_connect_40 rfl rfl ?_
          obtain ⟨b9, c9, f9, hr9, ho9, hc9, hw⟩ := hw
          obtain rfl := List.mem_singleton.mp hc9
          refine j_callv (j_runV (n8 := 1) (As := [vI a1]) (rest := []) X (pc := 41) hr9 (met_X5_builds (xl x) X.hl (xG x) h21 a0 a1 _ hw) ho9 (by decide) rfl q1992 q1994 qs34 q78 q1995 (by decide +kernel) dX5_connect_41 rfl ⟨Nat.le_of_ble_eq_true rfl, Nat.le_of_ble_eq_true rfl⟩ (Nat.le_of_ble_eq_true rfl) ⟨Nat.le_of_ble_eq_true rfl, Nat.le_of_ble_eq_true rfl⟩) (fun h41 hw => ?_)
          refine j_aload_n X (pc := 44) 0 dX5_connect_44 rfl rfl ?_
          refine j_iload_n X (pc := 45) 2 dX5_connect_45 rfl rfl ?_
          obtain ⟨b9, c9, f9, hr9, ho9, hc9, hw⟩ := hw
          obtain rfl := List.mem_singleton.mp hc9
          refine j_calli (j_runV (n8 := 1) (As := [vI a2]) (rest := []) X (pc := 46) hr9 (met_X5_isSeen (xl x) X.hl (xG x) h41 a0 a2 _ hw) ho9 (by decide) rfl q2012 q2014 qs39 q78 q2015 (by decide +kernel) dX5_connect_46 rfl ⟨Nat.le_of_ble_eq_true rfl, Nat.le_of_ble_eq_true rfl⟩ (Nat.le_of_ble_eq_true rfl) ⟨Nat.le_of_ble_eq_true rfl, Nat.le_of_ble_eq_true rfl⟩) (fun y46 h46 hw => ?_)
          refine j_if_eq X (pc := 49) 61 dX5_connect_49 (by decide) hw (fun hw => ?_) (fun hw => ?_)
          · refine j_aload_n X (pc := 61) 0 dX5_connect_61 rfl rfl ?_
            refine j_iconst X (pc := 62) 2 dX5_connect_62 (by decide) ?_
            obtain ⟨b9, c9, f9, hr9, ho9, hc9, hw⟩ := hw
            obtain rfl := List.mem_singleton.mp hc9
            refine j_calli (j_runV (n8 := 1) (As := [vI 2]) (rest := []) X (pc := 63) hr9 (met_X5_fails (xl x) X.hl (xG x) h46 a0 2 _ hw) ho9 (by decide) rfl q1988 q1990 qs33 q78 q1991 (by decide +kernel) dX5_connect_63 rfl ⟨Nat.le_of_ble_eq_true rfl, Nat.le_of_ble_eq_true rfl⟩ (Nat.le_of_ble_eq_true rfl) ⟨Nat.le_of_ble_eq_true rfl, Nat.le_of_ble_eq_true rfl⟩) (fun y63 h63 hw => ?_)
            exact j_iret X (pc := 66) hQ er (Nat.le_of_ble_eq_true rfl) (Nat.le_of_ble_eq_true rfl) dX5_connect_66 hw
          · refine j_aload_n X (pc := 52) 0 dX5_connect_52 rfl rfl ?_
            refine j_iload X (pc := 53) 4 dX5_connect_53 rfl ?_
            obtain ⟨b9, c9, f9, hr9, ho9, hc9, hw⟩ := hw
            obtain rfl := List.mem_singleton.mp hc9
            refine j_calli (j_runV (n8 := 1) (As := [vI a4]) (rest := []) X (pc := 55) hr9 (met_X5_isSeen (xl x) X.hl (xG x) h46 a0 a4 _ hw) ho9 (by decide) rfl q2012 q2014 qs39 q78 q2015 (by decide +kernel) dX5_connect_55 rfl ⟨Nat.le_of_ble_eq_true rfl, Nat.le_of_ble_eq_true rfl⟩ (Nat.le_of_ble_eq_true rfl) ⟨Nat.le_of_ble_eq_true rfl, Nat.le_of_ble_eq_true rfl⟩) (fun y55 h55 hw => ?_)
            refine j_if_ne X (pc := 58) 67 dX5_connect_58 (by decide) hw (fun hw => ?_) (fun hw => ?_)
            · refine j_aload_n X (pc := 61) 0 dX5_connect_61 rfl rfl ?_
              refine j_iconst X (pc := 62) 2 dX5_connect_62 (by decide) ?_
              obtain ⟨b9, c9, f9, hr9, ho9, hc9, hw⟩ := hw
              obtain rfl := List.mem_singleton.mp hc9
              refine j_calli (j_runV (n8 := 1) (As := [vI 2]) (rest := []) X (pc := 63) hr9 (met_X5_fails (xl x) X.hl (xG x) h55 a0 2 _ hw) ho9 (by decide) rfl q1988 q1990 qs33 q78 q1991 (by decide +kernel) dX5_connect_63 rfl ⟨Nat.le_of_ble_eq_true rfl, Nat.le_of_ble_eq_true rfl⟩ (Nat.le_of_ble_eq_true rfl) ⟨Nat.le_of_ble_eq_true rfl, Nat.le_of_ble_eq_true rfl⟩) (fun y63 h63 hw => ?_)
              exact j_iret X (pc := 66) hQ er (Nat.le_of_ble_eq_true rfl) (Nat.le_of_ble_eq_true rfl) dX5_connect_66 hw
            · refine j_aload_n X (pc := 67) 0 dX5_connect_67 rfl rfl ?_
              refine j_geti (ci := 4) X (pc := 68) in_X5 rfl (by decide) 9 (by decide) q1881 (Or.inl rfl) dX5_connect_68 hw (fun y68 hw => ?_)
              refine j_bipush X (pc := 71) 8 dX5_connect_71 (by decide) ?_
              refine j_icmp_eq X (pc := 73) 86 dX5_connect_73 (by decide) hw (fun hw => ?_) (fun hw => ?_)
              · refine j_aload_n X (pc := 86) 0 dX5_connect_86 rfl rfl ?_
                refine j_iconst X (pc := 87) 3 dX5_connect_87 (by decide) ?_
                obtain ⟨b9, c9, f9, hr9, ho9, hc9, hw⟩ := hw
                obtain rfl := List.mem_singleton.mp hc9
                refine j_calli (j_runV (n8 := 1) (As := [vI 3]) (rest := []) X (pc := 88) hr9 (met_X5_fails (xl x) X.hl (xG x) h55 a0 3 _ hw) ho9 (by decide) rfl q1988 q1990 qs33 q78 q1991 (by decide +kernel) dX5_connect_88 rfl ⟨Nat.le_of_ble_eq_true rfl, Nat.le_of_ble_eq_true rfl⟩ (Nat.le_of_ble_eq_true rfl) ⟨Nat.le_of_ble_eq_true rfl, Nat.le_of_ble_eq_true rfl⟩) (fun y88 h88 hw => ?_)
                exact j_iret X (pc := 91) hQ er (Nat.le_of_ble_eq_true rfl) (Nat.le_of_ble_eq_true rfl) dX5_connect_91 hw
              · refine j_aload_n X (pc := 76) 0 dX5_connect_76 rfl rfl ?_
                refine j_geti (ci := 4) X (pc := 77) in_X5 rfl (by decide) 20 (by decide) q1892 (Or.inl rfl) dX5_connect_77 hw (fun y77 hw => ?_)
                refine j_sipush X (pc := 80) 250 dX5_connect_80 (by decide) ?_
                refine j_icmp_ne X (pc := 83) 92 dX5_connect_83 (by decide) hw (fun hw => ?_) (fun hw => ?_)
                · refine j_aload_n X (pc := 86) 0 dX5_connect_86 rfl rfl ?_
                  refine j_iconst X (pc := 87) 3 dX5_connect_87 (by decide) ?_
                  obtain ⟨b9, c9, f9, hr9, ho9, hc9, hw⟩ := hw
                  obtain rfl := List.mem_singleton.mp hc9
                  refine j_calli (j_runV (n8 := 1) (As := [vI 3]) (rest := []) X (pc := 88) hr9 (met_X5_fails (xl x) X.hl (xG x) h55 a0 3 _ hw) ho9 (by decide) rfl q1988 q1990 qs33 q78 q1991 (by decide +kernel) dX5_connect_88 rfl ⟨Nat.le_of_ble_eq_true rfl, Nat.le_of_ble_eq_true rfl⟩ (Nat.le_of_ble_eq_true rfl) ⟨Nat.le_of_ble_eq_true rfl, Nat.le_of_ble_eq_true rfl⟩) (fun y88 h88 hw => ?_)
                  exact j_iret X (pc := 91) hQ er (Nat.le_of_ble_eq_true rfl) (Nat.le_of_ble_eq_true rfl) dX5_connect_91 hw
                · refine j_aload_n X (pc := 92) 0 dX5_connect_92 rfl rfl ?_
                  refine j_getq (ci := 4) X (pc := 93) in_X5 rfl (by decide) 3 (by decide) q1875 (Or.inl rfl) dX5_connect_93 hw (fun y93 hw => ?_)
                  refine j_aload_n X (pc := 96) 0 dX5_connect_96 rfl rfl ?_
                  refine j_geti (ci := 4) X (pc := 97) in_X5 rfl (by decide) 9 (by decide) q1881 (Or.inl rfl) dX5_connect_97 hw (fun y97 hw => ?_)
                  refine j_iload_n X (pc := 100) 2 dX5_connect_100 rfl rfl ?_
                  refine j_iast X (pc := 101) 0 rfl rfl dX5_connect_101 hw (fun h101 hw => ?_)
                  refine j_aload_n X (pc := 102) 0 dX5_connect_102 rfl rfl ?_
                  refine j_getq (ci := 4) X (pc := 103) in_X5 rfl (by decide) 4 (by decide) q1876 (Or.inl rfl) dX5_connect_103 hw (fun y103 hw => ?_)
                  refine j_aload_n X (pc := 106) 0 dX5_connect_106 rfl rfl ?_
                  refine j_geti (ci := 4) X (pc := 107) in_X5 rfl (by decide) 9 (by decide) q1881 (Or.inl rfl) dX5_connect_107 hw (fun y107 hw => ?_)
                  refine j_iload X (pc := 110) 4 dX5_connect_110 rfl ?_
                  refine j_iast X (pc := 112) 0 rfl rfl dX5_connect_112 hw (fun h112 hw => ?_)
                  refine j_aload_n X (pc := 113) 0 dX5_connect_113 rfl rfl ?_
                  refine j_getq (ci := 4) X (pc := 114) in_X5 rfl (by decide) 6 (by decide) q1878 (Or.inl rfl) dX5_connect_114 hw (fun y114 hw => ?_)
                  refine j_aload_n X (pc := 117) 0 dX5_connect_117 rfl rfl ?_
                  refine j_geti (ci := 4) X (pc := 118) in_X5 rfl (by decide) 9 (by decide) q1881 (Or.inl rfl) dX5_connect_118 hw (fun y118 hw => ?_)
                  refine j_iload_n X (pc := 121) 3 dX5_connect_121 rfl rfl ?_
                  have hnr := hw.1
                  have hw := hw.2
                  refine j_cast X (pc := 122) 4 rfl rfl hnr dX5_connect_122 hw (fun h122 hw => ?_)
                  refine j_aload_n X (pc := 123) 0 dX5_connect_123 rfl rfl ?_
                  refine j_getq (ci := 4) X (pc := 124) in_X5 rfl (by decide) 7 (by decide) q1879 (Or.inl rfl) dX5_connect_124 hw (fun y124 hw => ?_)
                  refine j_aload_n X (pc := 127) 0 dX5_connect_127 rfl rfl ?_
                  refine j_geti (ci := 4) X (pc := 128) in_X5 rfl (by decide) 9 (by decide) q1881 (Or.inl rfl) dX5_connect_128 hw (fun y128 hw => ?_)
                  refine j_iload X (pc := 131) 5 dX5_connect_131 rfl ?_
                  have hnr := hw.1
                  have hw := hw.2
                  refine j_cast X (pc := 133) 4 rfl rfl hnr dX5_connect_133 hw (fun h133 hw => ?_)
                  refine j_aload_n X (pc := 134) 0 dX5_connect_134 rfl rfl ?_
                  refine j_bipush X (pc := 135) 48 dX5_connect_135 (by decide) ?_
                  refine j_aload_n X (pc := 137) 0 dX5_connect_137 rfl rfl ?_
                  refine j_geti (ci := 4) X (pc := 138) in_X5 rfl (by decide) 9 (by decide) q1881 (Or.inl rfl) dX5_connect_138 hw (fun y138 hw => ?_)
                  refine j_iadd X (pc := 141) dX5_connect_141 ?_
                  refine j_iconst X (pc := 142) 1 dX5_connect_142 (by decide) ?_
                  obtain ⟨b9, c9, f9, hr9, ho9, hc9, hw⟩ := hw
                  obtain rfl := List.mem_singleton.mp hc9
                  refine j_callv (j_runV (n8 := 2) (As := [vI (48 + y138), vI 1]) (rest := []) X (pc := 143) hr9 (met_X5_plans (xl x) X.hl (xG x) h133 a0 (48 + y138) 1 _ hw) ho9 (by decide) rfl q2021 q2023 qs41 q78 q2024 (by decide +kernel) dX5_connect_143 rfl ⟨Nat.le_of_ble_eq_true rfl, Nat.le_of_ble_eq_true rfl⟩ (Nat.le_of_ble_eq_true rfl) ⟨Nat.le_of_ble_eq_true rfl, Nat.le_of_ble_eq_true rfl⟩) (fun h143 hw => ?_)
                  refine j_aload_n X (pc := 146) 0 dX5_connect_146 rfl rfl ?_
                  refine j_dup X (pc := 147) dX5_connect_147 rfl ?_
                  refine j_geti (ci := 4) X (pc := 148) in_X5 rfl (by decide) 9 (by decide) q1881 (Or.inl rfl) dX5_connect_148 hw (fun y148 hw => ?_)
                  refine j_iconst X (pc := 151) 1 dX5_connect_151 (by decide) ?_
                  refine j_iadd X (pc := 152) dX5_connect_152 ?_
                  refine j_put (ci := 4) X (pc := 153) in_X5 rfl (by decide) 9 (by decide) q1881 (Or.inl rfl) tyX5 tyX5_ok nmX5 rfl rfl (ty := .int) (tyX5_ok 9 (by decide)) rfl rfl dX5_connect_153 hw (fun h153 hw => ?_)
                  refine j_aload_n X (pc := 156) 0 dX5_connect_156 rfl rfl ?_
                  refine j_iload_n X (pc := 157) 1 dX5_connect_157 rfl rfl ?_
                  refine j_iconst X (pc := 158) 1 dX5_connect_158 (by decide) ?_
                  obtain ⟨b9, c9, f9, hr9, ho9, hc9, hw⟩ := hw
                  obtain rfl := List.mem_singleton.mp hc9
                  refine j_callv (j_runV (n8 := 2) (As := [vI a1, vI 1]) (rest := []) X (pc := 159) hr9 (met_X5_makes (xl x) X.hl (xG x) h153 a0 a1 1 _ hw) ho9 (by decide) rfl q2030 q2032 qs43 q78 q2033 (by decide +kernel) dX5_connect_159 rfl ⟨Nat.le_of_ble_eq_true rfl, Nat.le_of_ble_eq_true rfl⟩ (Nat.le_of_ble_eq_true rfl) ⟨Nat.le_of_ble_eq_true rfl, Nat.le_of_ble_eq_true rfl⟩) (fun h159 hw => ?_)
                  refine j_aload_n X (pc := 162) 0 dX5_connect_162 rfl rfl ?_
                  refine j_geti (ci := 4) X (pc := 163) in_X5 rfl (by decide) 9 (by decide) q1881 (Or.inl rfl) dX5_connect_163 hw (fun y163 hw => ?_)
                  refine j_iconst X (pc := 166) 1 dX5_connect_166 (by decide) ?_
                  refine j_isub X (pc := 167) dX5_connect_167 ?_
                  exact j_iret X (pc := 168) hQ er (Nat.le_of_ble_eq_true rfl) (Nat.le_of_ble_eq_true rfl) dX5_connect_168 hw
abbrev cX15_from : ByteArray := prog_7_method_6_code
def yX15_from : MethodName := ⟨RX15, "from", "()LPlugboard$End;"⟩
theorem dX15_from_0 : decode cX15_from 0 = .ok (.aload_n 0, 1) := by decide +kernel
theorem dX15_from_1 : decode cX15_from 1 = .ok (.getfield 13, 3) := by decide +kernel
theorem dX15_from_4 : decode cX15_from 4 = .ok (.areturn, 1) := by decide +kernel
abbrev rm_X15_from : Room := { frames := 0, cells := 0, slots := 0, locals := 0 }
def w_X15_from (a0 : Option Nat) (h : AH) (P : Option Nat → AH → Prop) : Prop :=
  g_q h a0 13 1 fun y1 =>
  P y1 h
theorem met_X15_from (l : Launch) (hlt : l.stackTraces = false) (G : GG) (h : AH) (a0 : Option Nat) (P : Option Nat → AH → Prop) (hw : w_X15_from a0 h P) : ct_q l yX15_from (ws_ yX15_from cX15_from 1 (Option.some (Jvm.ClassFile.FieldType.object "Plugboard$End"))) rm_X15_from G h [vR a0] P := by
  refine j_startq hlt [(0, vR a0)] (plainFor_of_name (by decide)) rfl rfl (fun x X eG er en hQ => ?_)
  subst eG
  refine j_aload_n X (pc := 0) 0 dX15_from_0 rfl rfl ?_
  refine j_getq (ci := 13) X (pc := 1) in_X15 rfl (by decide) 1 (by decide) q1277 (Or.inl rfl) dX15_from_1 hw (fun y1 hw => ?_)
  exact j_aret X (pc := 4) (ty := (.object "Plugboard$End")) hQ er (Or.inl ⟨_, rfl⟩) (Nat.le_of_ble_eq_true rfl) (Nat.le_of_ble_eq_true rfl) dX15_from_4 hw
abbrev cX14_shape : ByteArray := prog_8_method_5_code
def yX14_shape : MethodName := ⟨RX14, "shape", "()LPlugboard$Shape;"⟩
theorem dX14_shape_0 : decode cX14_shape 0 = .ok (.aload_n 0, 1) := by decide +kernel
theorem dX14_shape_1 : decode cX14_shape 1 = .ok (.getfield 7, 3) := by decide +kernel
theorem dX14_shape_4 : decode cX14_shape 4 = .ok (.areturn, 1) := by decide +kernel
abbrev rm_X14_shape : Room := { frames := 0, cells := 0, slots := 0, locals := 0 }
def w_X14_shape (a0 : Option Nat) (h : AH) (P : Option Nat → AH → Prop) : Prop :=
  g_q h a0 12 0 fun y1 =>
  P y1 h
theorem met_X14_shape (l : Launch) (hlt : l.stackTraces = false) (G : GG) (h : AH) (a0 : Option Nat) (P : Option Nat → AH → Prop) (hw : w_X14_shape a0 h P) : ct_q l yX14_shape (ws_ yX14_shape cX14_shape 1 (Option.some (Jvm.ClassFile.FieldType.object "Plugboard$Shape"))) rm_X14_shape G h [vR a0] P := by
  refine j_startq hlt [(0, vR a0)] (plainFor_of_name (by decide)) rfl rfl (fun x X eG er en hQ => ?_)
  subst eG
  refine j_aload_n X (pc := 0) 0 dX14_shape_0 rfl rfl ?_
  refine j_getq (ci := 12) X (pc := 1) in_X14 rfl (by decide) 0 (by decide) q1263 (Or.inl rfl) dX14_shape_1 hw (fun y1 hw => ?_)
  exact j_aret X (pc := 4) (ty := (.object "Plugboard$Shape")) hQ er (Or.inl ⟨_, rfl⟩) (Nat.le_of_ble_eq_true rfl) (Nat.le_of_ble_eq_true rfl) dX14_shape_4 hw
abbrev cX15_to : ByteArray := prog_7_method_7_code
def yX15_to : MethodName := ⟨RX15, "to", "()LPlugboard$End;"⟩
theorem dX15_to_0 : decode cX15_to 0 = .ok (.aload_n 0, 1) := by decide +kernel
theorem dX15_to_1 : decode cX15_to 1 = .ok (.getfield 17, 3) := by decide +kernel
theorem dX15_to_4 : decode cX15_to 4 = .ok (.areturn, 1) := by decide +kernel
abbrev rm_X15_to : Room := { frames := 0, cells := 0, slots := 0, locals := 0 }
def w_X15_to (a0 : Option Nat) (h : AH) (P : Option Nat → AH → Prop) : Prop :=
  g_q h a0 13 2 fun y1 =>
  P y1 h
theorem met_X15_to (l : Launch) (hlt : l.stackTraces = false) (G : GG) (h : AH) (a0 : Option Nat) (P : Option Nat → AH → Prop) (hw : w_X15_to a0 h P) : ct_q l yX15_to (ws_ yX15_to cX15_to 1 (Option.some (Jvm.ClassFile.FieldType.object "Plugboard$End"))) rm_X15_to G h [vR a0] P := by
  refine j_startq hlt [(0, vR a0)] (plainFor_of_name (by decide)) rfl rfl (fun x X eG er en hQ => ?_)
  subst eG
  refine j_aload_n X (pc := 0) 0 dX15_to_0 rfl rfl ?_
  refine j_getq (ci := 13) X (pc := 1) in_X15 rfl (by decide) 2 (by decide) q1278 (Or.inl rfl) dX15_to_1 hw (fun y1 hw => ?_)
  exact j_aret X (pc := 4) (ty := (.object "Plugboard$End")) hQ er (Or.inl ⟨_, rfl⟩) (Nat.le_of_ble_eq_true rfl) (Nat.le_of_ble_eq_true rfl) dX15_to_4 hw
abbrev cX3_seesConnector : ByteArray := prog_3_method_4_code
def yX3_seesConnector : MethodName := ⟨RX3, "seesConnector", "(I)Z"⟩
def dkwX3_seesConnector_3 : List UInt8 := [182, 0, 110, 182, 0, 97, 180, 0, 103, 182, 0, 106, 153, 0, 7, 4, 167, 0, 4, 3, 172]
abbrev dktX3_seesConnector_3 : List UInt8 := dkwX3_seesConnector_3 ++ []
def dkwX3_seesConnector_2 : List UInt8 := [192, 0, 91, 77, 42, 44, 182, 0, 93, 182, 0, 97, 180, 0, 103, 182, 0, 106, 153, 0, 24, 42, 44]
abbrev dktX3_seesConnector_2 : List UInt8 := dkwX3_seesConnector_2 ++ dktX3_seesConnector_3
def dkwX3_seesConnector_1 : List UInt8 := [180, 0, 80, 16, 48, 27, 96, 46, 154, 0, 5, 3, 172, 42, 180, 0, 3, 180, 0, 84, 27, 182, 0, 87]
abbrev dktX3_seesConnector_1 : List UInt8 := dkwX3_seesConnector_1 ++ dktX3_seesConnector_2
def dkwX3_seesConnector_0 : List UInt8 := [27, 3, 42, 180, 0, 3, 180, 0, 84, 182, 0, 70, 4, 100, 184, 0, 76, 153, 0, 18, 42, 180, 0, 18]
abbrev dktX3_seesConnector_0 : List UInt8 := dkwX3_seesConnector_0 ++ dktX3_seesConnector_1
theorem dksX3_seesConnector_0 : cX3_seesConnector.data.toList.drop 0 = dktX3_seesConnector_0 := by decide +kernel
theorem dksX3_seesConnector_1 : cX3_seesConnector.data.toList.drop 24 = dktX3_seesConnector_1 := dk_seg dksX3_seesConnector_0 24 rfl rfl
theorem dksX3_seesConnector_2 : cX3_seesConnector.data.toList.drop 48 = dktX3_seesConnector_2 := dk_seg dksX3_seesConnector_1 24 rfl rfl
theorem dksX3_seesConnector_3 : cX3_seesConnector.data.toList.drop 71 = dktX3_seesConnector_3 := dk_seg dksX3_seesConnector_2 23 rfl rfl
theorem dX3_seesConnector_0 : decode cX3_seesConnector 0 = .ok (.iload_n 1, 1) := dk_27 (dk_at dksX3_seesConnector_0 0 rfl rfl)
theorem dX3_seesConnector_1 : decode cX3_seesConnector 1 = .ok (.iconst 0, 1) := dk_3 (dk_at dksX3_seesConnector_0 1 rfl rfl)
theorem dX3_seesConnector_2 : decode cX3_seesConnector 2 = .ok (.aload_n 0, 1) := dk_42 (dk_at dksX3_seesConnector_0 2 rfl rfl)
theorem dX3_seesConnector_3 : decode cX3_seesConnector 3 = .ok (.getfield 3, 3) := dk_180 0 3 (dk_at dksX3_seesConnector_0 3 rfl rfl)
theorem dX3_seesConnector_6 : decode cX3_seesConnector 6 = .ok (.getfield 84, 3) := dk_180 0 84 (dk_at dksX3_seesConnector_0 6 rfl rfl)
theorem dX3_seesConnector_9 : decode cX3_seesConnector 9 = .ok (.invokevirtual 70, 3) := dk_182 0 70 (dk_at dksX3_seesConnector_0 9 rfl rfl)
theorem dX3_seesConnector_12 : decode cX3_seesConnector 12 = .ok (.iconst 1, 1) := dk_4 (dk_at dksX3_seesConnector_0 12 rfl rfl)
theorem dX3_seesConnector_13 : decode cX3_seesConnector 13 = .ok (.isub, 1) := dk_100 (dk_at dksX3_seesConnector_0 13 rfl rfl)
theorem dX3_seesConnector_14 : decode cX3_seesConnector 14 = .ok (.invokestatic 76, 3) := dk_184 0 76 (dk_at dksX3_seesConnector_0 14 rfl rfl)
theorem dX3_seesConnector_17 : decode cX3_seesConnector 17 = .ok (.ifCond .eq 18, 3) := dk_153 0 18 (dk_at dksX3_seesConnector_0 17 rfl rfl)
theorem dX3_seesConnector_20 : decode cX3_seesConnector 20 = .ok (.aload_n 0, 1) := dk_42 (dk_at dksX3_seesConnector_0 20 rfl rfl)
theorem dX3_seesConnector_21 : decode cX3_seesConnector 21 = .ok (.getfield 18, 3) := dk_180 0 18 (dk_at dksX3_seesConnector_0 21 rfl rfl)
theorem dX3_seesConnector_24 : decode cX3_seesConnector 24 = .ok (.getfield 80, 3) := dk_180 0 80 (dk_at dksX3_seesConnector_1 0 rfl rfl)
theorem dX3_seesConnector_27 : decode cX3_seesConnector 27 = .ok (.bipush 48, 2) := dk_16 48 (dk_at dksX3_seesConnector_1 3 rfl rfl)
theorem dX3_seesConnector_29 : decode cX3_seesConnector 29 = .ok (.iload_n 1, 1) := dk_27 (dk_at dksX3_seesConnector_1 5 rfl rfl)
theorem dX3_seesConnector_30 : decode cX3_seesConnector 30 = .ok (.iadd, 1) := dk_96 (dk_at dksX3_seesConnector_1 6 rfl rfl)
theorem dX3_seesConnector_31 : decode cX3_seesConnector 31 = .ok (.iaload, 1) := dk_46 (dk_at dksX3_seesConnector_1 7 rfl rfl)
theorem dX3_seesConnector_32 : decode cX3_seesConnector 32 = .ok (.ifCond .ne 5, 3) := dk_154 0 5 (dk_at dksX3_seesConnector_1 8 rfl rfl)
theorem dX3_seesConnector_35 : decode cX3_seesConnector 35 = .ok (.iconst 0, 1) := dk_3 (dk_at dksX3_seesConnector_1 11 rfl rfl)
theorem dX3_seesConnector_36 : decode cX3_seesConnector 36 = .ok (.ireturn, 1) := dk_172 (dk_at dksX3_seesConnector_1 12 rfl rfl)
theorem dX3_seesConnector_37 : decode cX3_seesConnector 37 = .ok (.aload_n 0, 1) := dk_42 (dk_at dksX3_seesConnector_1 13 rfl rfl)
theorem dX3_seesConnector_38 : decode cX3_seesConnector 38 = .ok (.getfield 3, 3) := dk_180 0 3 (dk_at dksX3_seesConnector_1 14 rfl rfl)
theorem dX3_seesConnector_41 : decode cX3_seesConnector 41 = .ok (.getfield 84, 3) := dk_180 0 84 (dk_at dksX3_seesConnector_1 17 rfl rfl)
theorem dX3_seesConnector_44 : decode cX3_seesConnector 44 = .ok (.iload_n 1, 1) := dk_27 (dk_at dksX3_seesConnector_1 20 rfl rfl)
theorem dX3_seesConnector_45 : decode cX3_seesConnector 45 = .ok (.invokevirtual 87, 3) := dk_182 0 87 (dk_at dksX3_seesConnector_1 21 rfl rfl)
theorem dX3_seesConnector_48 : decode cX3_seesConnector 48 = .ok (.checkcast 91, 3) := dk_192 0 91 (dk_at dksX3_seesConnector_2 0 rfl rfl)
theorem dX3_seesConnector_51 : decode cX3_seesConnector 51 = .ok (.astore_n 2, 1) := dk_77 (dk_at dksX3_seesConnector_2 3 rfl rfl)
theorem dX3_seesConnector_52 : decode cX3_seesConnector 52 = .ok (.aload_n 0, 1) := dk_42 (dk_at dksX3_seesConnector_2 4 rfl rfl)
theorem dX3_seesConnector_53 : decode cX3_seesConnector 53 = .ok (.aload_n 2, 1) := dk_44 (dk_at dksX3_seesConnector_2 5 rfl rfl)
theorem dX3_seesConnector_54 : decode cX3_seesConnector 54 = .ok (.invokevirtual 93, 3) := dk_182 0 93 (dk_at dksX3_seesConnector_2 6 rfl rfl)
theorem dX3_seesConnector_57 : decode cX3_seesConnector 57 = .ok (.invokevirtual 97, 3) := dk_182 0 97 (dk_at dksX3_seesConnector_2 9 rfl rfl)
theorem dX3_seesConnector_60 : decode cX3_seesConnector 60 = .ok (.getfield 103, 3) := dk_180 0 103 (dk_at dksX3_seesConnector_2 12 rfl rfl)
theorem dX3_seesConnector_63 : decode cX3_seesConnector 63 = .ok (.invokevirtual 106, 3) := dk_182 0 106 (dk_at dksX3_seesConnector_2 15 rfl rfl)
theorem dX3_seesConnector_66 : decode cX3_seesConnector 66 = .ok (.ifCond .eq 24, 3) := dk_153 0 24 (dk_at dksX3_seesConnector_2 18 rfl rfl)
theorem dX3_seesConnector_69 : decode cX3_seesConnector 69 = .ok (.aload_n 0, 1) := dk_42 (dk_at dksX3_seesConnector_2 21 rfl rfl)
theorem dX3_seesConnector_70 : decode cX3_seesConnector 70 = .ok (.aload_n 2, 1) := dk_44 (dk_at dksX3_seesConnector_2 22 rfl rfl)
theorem dX3_seesConnector_71 : decode cX3_seesConnector 71 = .ok (.invokevirtual 110, 3) := dk_182 0 110 (dk_at dksX3_seesConnector_3 0 rfl rfl)
theorem dX3_seesConnector_74 : decode cX3_seesConnector 74 = .ok (.invokevirtual 97, 3) := dk_182 0 97 (dk_at dksX3_seesConnector_3 3 rfl rfl)
theorem dX3_seesConnector_77 : decode cX3_seesConnector 77 = .ok (.getfield 103, 3) := dk_180 0 103 (dk_at dksX3_seesConnector_3 6 rfl rfl)
theorem dX3_seesConnector_80 : decode cX3_seesConnector 80 = .ok (.invokevirtual 106, 3) := dk_182 0 106 (dk_at dksX3_seesConnector_3 9 rfl rfl)
theorem dX3_seesConnector_83 : decode cX3_seesConnector 83 = .ok (.ifCond .eq 7, 3) := dk_153 0 7 (dk_at dksX3_seesConnector_3 12 rfl rfl)
theorem dX3_seesConnector_86 : decode cX3_seesConnector 86 = .ok (.iconst 1, 1) := dk_4 (dk_at dksX3_seesConnector_3 15 rfl rfl)
theorem dX3_seesConnector_87 : decode cX3_seesConnector 87 = .ok (.goto 4, 3) := dk_167 0 4 (dk_at dksX3_seesConnector_3 16 rfl rfl)
theorem dX3_seesConnector_90 : decode cX3_seesConnector 90 = .ok (.iconst 0, 1) := dk_3 (dk_at dksX3_seesConnector_3 19 rfl rfl)
theorem dX3_seesConnector_91 : decode cX3_seesConnector 91 = .ok (.ireturn, 1) := dk_172 (dk_at dksX3_seesConnector_3 20 rfl rfl)
theorem q241 : (Jvm.Cond.fieldLinkNest "Plugboard$Board" (84 : Nat) "Plugboard" "connectors" "Ljava/util/ArrayList;" "Plugboard") ∈ lw_tbl := lw_at lw_m1 171 rfl
theorem q1301 : (Jvm.Cond.classLink "Plugboard$Board" (91 : Nat) "Plugboard$Connector") ∈ lw_all := lw_g (lw_at lw_m6 31 rfl) rfl
theorem q1302 : (Jvm.Cond.methodLink "Plugboard$Board" (93 : Nat) ({ cls := "Plugboard$Connector", name := "from", desc := "()LPlugboard$End;" } : Jvm.MethodName)) ∈ lw_all := lw_g (lw_at lw_m6 32 rfl) rfl
theorem q1303 : (Jvm.Cond.instanceMethod ({ cls := "Plugboard$Connector", name := "from", desc := "()LPlugboard$End;" } : Jvm.MethodName)) ∈ lw_all := lw_g (lw_at lw_m6 33 rfl) rfl
theorem q1304 : (Jvm.Cond.selects "Plugboard$Connector" ({ cls := "Plugboard$Connector", name := "from", desc := "()LPlugboard$End;" } : Jvm.MethodName) ({ cls := "Plugboard$Connector", name := "from", desc := "()LPlugboard$End;" } : Jvm.MethodName)) ∈ lw_all := lw_g (lw_at lw_m6 34 rfl) rfl
theorem q1305 : (Jvm.Cond.code ({ cls := "Plugboard$Connector", name := "from", desc := "()LPlugboard$End;" } : Jvm.MethodName) prog_7_method_6_code (1 : Nat) (Option.some (Jvm.ClassFile.FieldType.object "Plugboard$End"))) ∈ lw_all := lw_g (lw_at lw_m6 35 rfl) rfl
theorem q1306 : (Jvm.Cond.methodLink "Plugboard$Board" (97 : Nat) ({ cls := "Plugboard$End", name := "shape", desc := "()LPlugboard$Shape;" } : Jvm.MethodName)) ∈ lw_all := lw_g (lw_at lw_m6 36 rfl) rfl
theorem q1307 : (Jvm.Cond.instanceMethod ({ cls := "Plugboard$End", name := "shape", desc := "()LPlugboard$Shape;" } : Jvm.MethodName)) ∈ lw_all := lw_g (lw_at lw_m6 37 rfl) rfl
theorem q1308 : (Jvm.Cond.selects "Plugboard$End" ({ cls := "Plugboard$End", name := "shape", desc := "()LPlugboard$Shape;" } : Jvm.MethodName) ({ cls := "Plugboard$End", name := "shape", desc := "()LPlugboard$Shape;" } : Jvm.MethodName)) ∈ lw_all := lw_g (lw_at lw_m6 38 rfl) rfl
theorem q1309 : (Jvm.Cond.code ({ cls := "Plugboard$End", name := "shape", desc := "()LPlugboard$Shape;" } : Jvm.MethodName) prog_8_method_5_code (1 : Nat) (Option.some (Jvm.ClassFile.FieldType.object "Plugboard$Shape"))) ∈ lw_all := lw_g (lw_at lw_m6 39 rfl) rfl
theorem q1310 : (Jvm.Cond.methodLink "Plugboard$Board" (110 : Nat) ({ cls := "Plugboard$Connector", name := "to", desc := "()LPlugboard$End;" } : Jvm.MethodName)) ∈ lw_all := lw_g (lw_at lw_m6 40 rfl) rfl
theorem q1311 : (Jvm.Cond.instanceMethod ({ cls := "Plugboard$Connector", name := "to", desc := "()LPlugboard$End;" } : Jvm.MethodName)) ∈ lw_all := lw_g (lw_at lw_m6 41 rfl) rfl
theorem q1312 : (Jvm.Cond.selects "Plugboard$Connector" ({ cls := "Plugboard$Connector", name := "to", desc := "()LPlugboard$End;" } : Jvm.MethodName) ({ cls := "Plugboard$Connector", name := "to", desc := "()LPlugboard$End;" } : Jvm.MethodName)) ∈ lw_all := lw_g (lw_at lw_m6 42 rfl) rfl
theorem q1313 : (Jvm.Cond.code ({ cls := "Plugboard$Connector", name := "to", desc := "()LPlugboard$End;" } : Jvm.MethodName) prog_7_method_7_code (1 : Nat) (Option.some (Jvm.ClassFile.FieldType.object "Plugboard$End"))) ∈ lw_all := lw_g (lw_at lw_m6 43 rfl) rfl
abbrev rm_X3_seesConnector : Room := { frames := 3, cells := 0, slots := 0, locals := 64 }
def w_X3_seesConnector (a0 : Option Nat) (a1 : Int32) (h : AH) (P : Int32 → AH → Prop) : Prop :=
  g_q h a0 2 5 fun y3 =>
  g_q h y3 0 1 fun y6 =>
  is_c h y6 [15] (
  w_J2_size y6 h (fun y9 h9 =>
  w_X1_isBetween a1 0 (y9 - 1) h9 (fun y14 h14 =>
  ((y14 = 0 →
    P 0 h14) ∧
   (¬ y14 = 0 →
    g_q h14 a0 2 1 fun y21 =>
    g_q h14 y21 1 0 fun y24 =>
    l_i h14 y24 0 (48 + a1) fun y31 =>
    ((y31 = 0 →
      P 0 h14) ∧
     (¬ y31 = 0 →
      g_q h14 a0 2 5 fun y38 =>
      g_q h14 y38 0 1 fun y41 =>
      is_c h14 y41 [15] (
      w_J2_get y41 a1 h14 (fun y45 h45 =>
      is_c h45 y45 [13] (
      is_c h45 y45 [13] (
      w_X15_from y45 h45 (fun y54 h54 =>
      is_c h54 y54 [12] (
      w_X14_shape y54 h54 (fun y57 h57 =>
      g_iS h57 y57 0 fun y60 =>
      is_c h57 a0 [2] (
      w_X3_sees a0 y60 h57 (fun y63 h63 =>
      ((y63 = 0 →
        P 0 h63) ∧
       (¬ y63 = 0 →
        is_c h63 y45 [13] (
        w_X15_to y45 h63 (fun y71 h71 =>
        is_c h71 y71 [12] (
        w_X14_shape y71 h71 (fun y74 h74 =>
        g_iS h74 y74 0 fun y77 =>
        is_c h74 a0 [2] (
        w_X3_sees a0 y77 h74 (fun y80 h80 =>
        ((y80 = 0 →
          P 0 h80) ∧
         (¬ y80 = 0 →
          P 1 h80))))))))))))))))))))))))))
theorem met_X3_seesConnector (l : Launch) (hlt : l.stackTraces = false) (G : GG) (h : AH) (a0 : Option Nat) (a1 : Int32) (P : Int32 → AH → Prop) (hw : w_X3_seesConnector a0 a1 h P) : ct_i l yX3_seesConnector (ws_ yX3_seesConnector cX3_seesConnector 3 (Option.some Jvm.ClassFile.FieldType.boolean)) rm_X3_seesConnector G h [vR a0, vI a1] P := by
  refine j_starti hlt [(0, vR a0), (1, vI a1)] (plainFor_of_name (by decide)) rfl rfl (fun x X eG er en hQ => ?_)
  subst eG
  refine j_iload_n X (pc := 0) 1 dX3_seesConnector_0 rfl rfl ?_
  refine j_iconst X (pc := 1) 0 dX3_seesConnector_1 (by decide) ?_
  refine j_aload_n X (pc := 2) 0 dX3_seesConnector_2 rfl rfl ?_
  refine j_getq (ci := 2) X (pc := 3) in_X3 rfl (by decide) 5 (by decide) q218 (Or.inl rfl) dX3_seesConnector_3 hw (fun y3 hw => ?_)
  refine j_getqN (ci := 0) X (pc := 6) in_X1 rfl (by decide) 1 (by decide) q241 (Or.inl rfl) dX3_seesConnector_6 hw (fun y6 hw => ?_)
  obtain ⟨b9, c9, f9, hr9, ho9, hc9, hw⟩ := hw
  obtain rfl := List.mem_singleton.mp hc9
  refine j_calli (j_runV (n8 := 0) (As := []) (rest := [vI 0, vI a1]) X (pc := 9) hr9 (met_J2_size (xl x) X.hl (xG x) h y6 _ hw) ho9 (by decide) rfl q408 q285 q286 q74 q287 (by decide +kernel) dX3_seesConnector_9 rfl ⟨Nat.le_of_ble_eq_true rfl, Nat.le_of_ble_eq_true rfl⟩ (Nat.le_of_ble_eq_true rfl) ⟨Nat.le_of_ble_eq_true rfl, Nat.le_of_ble_eq_true rfl⟩) (fun y9 h9 hw => ?_)
  refine j_iconst X (pc := 12) 1 dX3_seesConnector_12 (by decide) ?_
  refine j_isub X (pc := 13) dX3_seesConnector_13 ?_
  refine j_calli (j_runSN (n8 := 3) (As := [vI a1, vI 0, vI (y9 - 1)]) (rest := []) X (pc := 14) (met_X1_isBetween (xl x) X.hl (xG x) h9 a1 0 (y9 - 1) _ hw) q413 q305 q71 q306 (by decide +kernel) dX3_seesConnector_14 rfl ⟨Nat.le_of_ble_eq_true rfl, Nat.le_of_ble_eq_true rfl⟩ (Nat.le_of_ble_eq_true rfl) ⟨Nat.le_of_ble_eq_true rfl, Nat.le_of_ble_eq_true rfl⟩) (fun y14 h14 hw => ?_)
  refine j_if_eq X (pc := 17) 35 dX3_seesConnector_17 (by decide) hw (fun hw => ?_) (fun hw => ?_)
  · refine j_iconst X (pc := 35) 0 dX3_seesConnector_35 (by decide) ?_
    exact j_zret X (pc := 36) (ty := .boolean) hQ er rfl (Nat.le_of_ble_eq_true rfl) (Nat.le_of_ble_eq_true rfl) dX3_seesConnector_36 hw
  · refine j_aload_n X (pc := 20) 0 dX3_seesConnector_20 rfl rfl ?_
    refine j_getq (ci := 2) X (pc := 21) in_X3 rfl (by decide) 1 (by decide) q208 (Or.inl rfl) dX3_seesConnector_21 hw (fun y21 hw => ?_)
    refine j_getqN (ci := 1) X (pc := 24) in_X2 rfl (by decide) 0 (by decide) q167 (Or.inl rfl) dX3_seesConnector_24 hw (fun y24 hw => ?_)
    refine j_bipush X (pc := 27) 48 dX3_seesConnector_27 (by decide) ?_
    refine j_iload_n X (pc := 29) 1 dX3_seesConnector_29 rfl rfl ?_
    refine j_iadd X (pc := 30) dX3_seesConnector_30 ?_
    refine j_iald X (pc := 31) 0 rfl dX3_seesConnector_31 hw (fun y31 hw => ?_)
    refine j_if_ne X (pc := 32) 37 dX3_seesConnector_32 (by decide) hw (fun hw => ?_) (fun hw => ?_)
    · refine j_iconst X (pc := 35) 0 dX3_seesConnector_35 (by decide) ?_
      exact j_zret X (pc := 36) (ty := .boolean) hQ er rfl (Nat.le_of_ble_eq_true rfl) (Nat.le_of_ble_eq_true rfl) dX3_seesConnector_36 hw
    · refine j_aload_n X (pc := 37) 0 dX3_seesConnector_37 rfl rfl ?_
      refine j_getq (ci := 2) X (pc := 38) in_X3 rfl (by decide) 5 (by decide) q218 (Or.inl rfl) dX3_seesConnector_38 hw (fun y38 hw => ?_)
      refine j_getqN (ci := 0) X (pc := 41) in_X1 rfl (by decide) 1 (by decide) q241 (Or.inl rfl) dX3_seesConnector_41 hw (fun y41 hw => ?_)
      refine j_iload_n X (pc := 44) 1 dX3_seesConnector_44 rfl rfl ?_
      obtain ⟨b9, c9, f9, hr9, ho9, hc9, hw⟩ := hw
      obtain rfl := List.mem_singleton.mp hc9
      refine j_callq (j_runV (n8 := 1) (As := [vI a1]) (rest := []) X (pc := 45) hr9 (met_J2_get (xl x) X.hl (xG x) h14 y41 a1 _ hw) ho9 (by decide) rfl q1197 q512 q513 q74 q514 (by decide +kernel) dX3_seesConnector_45 rfl ⟨Nat.le_of_ble_eq_true rfl, Nat.le_of_ble_eq_true rfl⟩ (Nat.le_of_ble_eq_true rfl) ⟨Nat.le_of_ble_eq_true rfl, Nat.le_of_ble_eq_true rfl⟩) (fun y45 h45 hw => ?_)
      refine j_chk X (pc := 48) (L := [13]) q1301 (by intro ci hci; obtain rfl := List.mem_singleton.mp hci; exact ⟨by decide, _, _, _, rfl, Or.inl rfl⟩) dX3_seesConnector_48 hw (fun hw => ?_)
      refine j_astore_n X (pc := 51) [(2, vR y45), (0, vR a0), (1, vI a1)] dX3_seesConnector_51 rfl (Nat.le_of_ble_eq_true rfl) rfl ?_
      refine j_aload_n X (pc := 52) 1 dX3_seesConnector_52 rfl rfl ?_
      refine j_aload_n X (pc := 53) 0 dX3_seesConnector_53 rfl rfl ?_
      obtain ⟨b9, c9, f9, hr9, ho9, hc9, hw⟩ := hw
      obtain rfl := List.mem_singleton.mp hc9
      refine j_callq (j_runV (n8 := 0) (As := []) (rest := [vR a0]) X (pc := 54) hr9 (met_X15_from (xl x) X.hl (xG x) h45 y45 _ hw) ho9 (by decide) rfl q1302 q1303 q1304 q113 q1305 (by decide +kernel) dX3_seesConnector_54 rfl ⟨Nat.le_of_ble_eq_true rfl, Nat.le_of_ble_eq_true rfl⟩ (Nat.le_of_ble_eq_true rfl) ⟨Nat.le_of_ble_eq_true rfl, Nat.le_of_ble_eq_true rfl⟩) (fun y54 h54 hw => ?_)
      obtain ⟨b9, c9, f9, hr9, ho9, hc9, hw⟩ := hw
      obtain rfl := List.mem_singleton.mp hc9
      refine j_callq (j_runV (n8 := 0) (As := []) (rest := [vR a0]) X (pc := 57) hr9 (met_X14_shape (xl x) X.hl (xG x) h54 y54 _ hw) ho9 (by decide) rfl q1306 q1307 q1308 q112 q1309 (by decide +kernel) dX3_seesConnector_57 rfl ⟨Nat.le_of_ble_eq_true rfl, Nat.le_of_ble_eq_true rfl⟩ (Nat.le_of_ble_eq_true rfl) ⟨Nat.le_of_ble_eq_true rfl, Nat.le_of_ble_eq_true rfl⟩) (fun y57 h57 hw => ?_)
      refine j_getiSN X (pc := 60) 0 (by decide) q577 dX3_seesConnector_60 hw (fun y60 hw => ?_)
      obtain ⟨b9, c9, f9, hr9, ho9, hc9, hw⟩ := hw
      obtain rfl := List.mem_singleton.mp hc9
      refine j_calli (j_runV (n8 := 1) (As := [vI y60]) (rest := []) X (pc := 63) hr9 (met_X3_sees (xl x) X.hl (xG x) h57 a0 y60 _ hw) ho9 (by decide) rfl q409 q410 q411 q76 q412 (by decide +kernel) dX3_seesConnector_63 rfl ⟨Nat.le_of_ble_eq_true rfl, Nat.le_of_ble_eq_true rfl⟩ (Nat.le_of_ble_eq_true rfl) ⟨Nat.le_of_ble_eq_true rfl, Nat.le_of_ble_eq_true rfl⟩) (fun y63 h63 hw => ?_)
      refine j_if_eq X (pc := 66) 90 dX3_seesConnector_66 (by decide) hw (fun hw => ?_) (fun hw => ?_)
      · refine j_iconst X (pc := 90) 0 dX3_seesConnector_90 (by decide) ?_
        exact j_zret X (pc := 91) (ty := .boolean) hQ er rfl (Nat.le_of_ble_eq_true rfl) (Nat.le_of_ble_eq_true rfl) dX3_seesConnector_91 hw
      · refine j_aload_n X (pc := 69) 1 dX3_seesConnector_69 rfl rfl ?_
        refine j_aload_n X (pc := 70) 0 dX3_seesConnector_70 rfl rfl ?_
        obtain ⟨b9, c9, f9, hr9, ho9, hc9, hw⟩ := hw
        obtain rfl := List.mem_singleton.mp hc9
        refine j_callq (j_runV (n8 := 0) (As := []) (rest := [vR a0]) X (pc := 71) hr9 (met_X15_to (xl x) X.hl (xG x) h63 y45 _ hw) ho9 (by decide) rfl q1310 q1311 q1312 q113 q1313 (by decide +kernel) dX3_seesConnector_71 rfl ⟨Nat.le_of_ble_eq_true rfl, Nat.le_of_ble_eq_true rfl⟩ (Nat.le_of_ble_eq_true rfl) ⟨Nat.le_of_ble_eq_true rfl, Nat.le_of_ble_eq_true rfl⟩) (fun y71 h71 hw => ?_)
        obtain ⟨b9, c9, f9, hr9, ho9, hc9, hw⟩ := hw
        obtain rfl := List.mem_singleton.mp hc9
        refine j_callq (j_runV (n8 := 0) (As := []) (rest := [vR a0]) X (pc := 74) hr9 (met_X14_shape (xl x) X.hl (xG x) h71 y71 _ hw) ho9 (by decide) rfl q1306 q1307 q1308 q112 q1309 (by decide +kernel) dX3_seesConnector_74 rfl ⟨Nat.le_of_ble_eq_true rfl, Nat.le_of_ble_eq_true rfl⟩ (Nat.le_of_ble_eq_true rfl) ⟨Nat.le_of_ble_eq_true rfl, Nat.le_of_ble_eq_true rfl⟩) (fun y74 h74 hw => ?_)
        refine j_getiSN X (pc := 77) 0 (by decide) q577 dX3_seesConnector_77 hw (fun y77 hw => ?_)
        obtain ⟨b9, c9, f9, hr9, ho9, hc9, hw⟩ := hw
        obtain rfl := List.mem_singleton.mp hc9
        refine j_calli (j_runV (n8 := 1) (As := [vI y77]) (rest := []) X (pc := 80) hr9 (met_X3_sees (xl x) X.hl (xG x) h74 a0 y77 _ hw) ho9 (by decide) rfl q409 q410 q411 q76 q412 (by decide +kernel) dX3_seesConnector_80 rfl ⟨Nat.le_of_ble_eq_true rfl, Nat.le_of_ble_eq_true rfl⟩ (Nat.le_of_ble_eq_true rfl) ⟨Nat.le_of_ble_eq_true rfl, Nat.le_of_ble_eq_true rfl⟩) (fun y80 h80 hw => ?_)
        refine j_if_eq X (pc := 83) 90 dX3_seesConnector_83 (by decide) hw (fun hw => ?_) (fun hw => ?_)
        · refine j_iconst X (pc := 90) 0 dX3_seesConnector_90 (by decide) ?_
          exact j_zret X (pc := 91) (ty := .boolean) hQ er rfl (Nat.le_of_ble_eq_true rfl) (Nat.le_of_ble_eq_true rfl) dX3_seesConnector_91 hw
        · refine j_iconst X (pc := 86) 1 dX3_seesConnector_86 (by decide) ?_
          refine j_goto X (pc := 87) 91 dX3_seesConnector_87 (by decide) ?_
          exact j_zret X (pc := 91) (ty := .boolean) hQ er rfl (Nat.le_of_ble_eq_true rfl) (Nat.le_of_ble_eq_true rfl) dX3_seesConnector_91 hw
abbrev cX1_connector : ByteArray := prog_1_method_30_code
def yX1_connector : MethodName := ⟨RX1, "connector", "(LPlugboard$Board;I)LPlugboard$Connector;"⟩
def dkwX1_connector_0 : List UInt8 := [43, 28, 182, 1, 43, 184, 0, 117, 42, 180, 0, 59, 28, 182, 0, 121, 192, 1, 38, 176]
abbrev dktX1_connector_0 : List UInt8 := dkwX1_connector_0 ++ []
theorem dksX1_connector_0 : cX1_connector.data.toList.drop 0 = dktX1_connector_0 := by decide +kernel
theorem dX1_connector_0 : decode cX1_connector 0 = .ok (.aload_n 1, 1) := dk_43 (dk_at dksX1_connector_0 0 rfl rfl)
theorem dX1_connector_1 : decode cX1_connector 1 = .ok (.iload_n 2, 1) := dk_28 (dk_at dksX1_connector_0 1 rfl rfl)
theorem dX1_connector_2 : decode cX1_connector 2 = .ok (.invokevirtual 299, 3) := dk_182 1 43 (dk_at dksX1_connector_0 2 rfl rfl)
theorem dX1_connector_5 : decode cX1_connector 5 = .ok (.invokestatic 117, 3) := dk_184 0 117 (dk_at dksX1_connector_0 5 rfl rfl)
theorem dX1_connector_8 : decode cX1_connector 8 = .ok (.aload_n 0, 1) := dk_42 (dk_at dksX1_connector_0 8 rfl rfl)
theorem dX1_connector_9 : decode cX1_connector 9 = .ok (.getfield 59, 3) := dk_180 0 59 (dk_at dksX1_connector_0 9 rfl rfl)
theorem dX1_connector_12 : decode cX1_connector 12 = .ok (.iload_n 2, 1) := dk_28 (dk_at dksX1_connector_0 12 rfl rfl)
theorem dX1_connector_13 : decode cX1_connector 13 = .ok (.invokevirtual 121, 3) := dk_182 0 121 (dk_at dksX1_connector_0 13 rfl rfl)
theorem dX1_connector_16 : decode cX1_connector 16 = .ok (.checkcast 294, 3) := dk_192 1 38 (dk_at dksX1_connector_0 16 rfl rfl)
theorem dX1_connector_19 : decode cX1_connector 19 = .ok (.areturn, 1) := dk_176 (dk_at dksX1_connector_0 19 rfl rfl)
theorem q1297 : (Jvm.Cond.methodLink "Plugboard" (299 : Nat) ({ cls := "Plugboard$Board", name := "seesConnector", desc := "(I)Z" } : Jvm.MethodName)) ∈ lw_all := lw_g (lw_at lw_m6 27 rfl) rfl
theorem q1298 : (Jvm.Cond.instanceMethod ({ cls := "Plugboard$Board", name := "seesConnector", desc := "(I)Z" } : Jvm.MethodName)) ∈ lw_all := lw_g (lw_at lw_m6 28 rfl) rfl
theorem q1299 : (Jvm.Cond.selects "Plugboard$Board" ({ cls := "Plugboard$Board", name := "seesConnector", desc := "(I)Z" } : Jvm.MethodName) ({ cls := "Plugboard$Board", name := "seesConnector", desc := "(I)Z" } : Jvm.MethodName)) ∈ lw_all := lw_g (lw_at lw_m6 29 rfl) rfl
theorem q1300 : (Jvm.Cond.code ({ cls := "Plugboard$Board", name := "seesConnector", desc := "(I)Z" } : Jvm.MethodName) prog_3_method_4_code (3 : Nat) (Option.some Jvm.ClassFile.FieldType.boolean)) ∈ lw_all := lw_g (lw_at lw_m6 30 rfl) rfl
abbrev rm_X1_connector : Room := { frames := 7, cells := 1, slots := 6, locals := 101 }
def w_X1_connector (a0 : Option Nat) (a1 : Option Nat) (a2 : Int32) (h : AH) (P : Option Nat → AH → Prop) (PX : String → AH → Prop) : Prop :=
  is_c h a1 [2] (
  w_X3_seesConnector a1 a2 h (fun y2 h2 =>
  w_X1_requireElement y2 h2 (fun h5 =>
  g_q h5 a0 0 1 fun y9 =>
  is_c h5 y9 [15] (
  w_J2_get y9 a2 h5 (fun y13 h13 =>
  is_c h13 y13 [13] (
  P y13 h13)))) PX))
theorem met_X1_connector (l : Launch) (hlt : l.stackTraces = false) (G : GG) (h : AH) (a0 : Option Nat) (a1 : Option Nat) (a2 : Int32) (P : Option Nat → AH → Prop) (PX : String → AH → Prop) (hw : w_X1_connector a0 a1 a2 h P PX) : cx_q l yX1_connector (ws_ yX1_connector cX1_connector 3 (Option.some (Jvm.ClassFile.FieldType.object "Plugboard$Connector"))) rm_X1_connector G h [vR a0, vR a1, vI a2] P PX := by
  refine j_startXq hlt [(0, vR a0), (1, vR a1), (2, vI a2)] (by decide) rfl rfl (fun x X eG er en hQ hT hex => ?_)
  subst eG
  refine j_aload_n X (pc := 0) 1 dX1_connector_0 rfl rfl ?_
  refine j_iload_n X (pc := 1) 2 dX1_connector_1 rfl rfl ?_
  obtain ⟨b9, c9, f9, hr9, ho9, hc9, hw⟩ := hw
  obtain rfl := List.mem_singleton.mp hc9
  refine j_calli (j_runV (n8 := 1) (As := [vI a2]) (rest := []) X (pc := 2) hr9 (met_X3_seesConnector (xl x) X.hl (xG x) h a1 a2 _ hw) ho9 (by decide) rfl q1297 q1298 q1299 q76 q1300 (by decide +kernel) dX1_connector_2 rfl ⟨Nat.le_of_ble_eq_true rfl, Nat.le_of_ble_eq_true rfl⟩ (Nat.le_of_ble_eq_true rfl) ⟨Nat.le_of_ble_eq_true rfl, Nat.le_of_ble_eq_true rfl⟩) (fun y2 h2 hw => ?_)
  refine j_callXv (j_runSX (n8 := 1) (As := [vI y2]) (rest := []) X (pc := 5) (met_X1_requireElement (xl x) X.hl (xG x) h2 y2 _ _ hw) q1080 q1081 q71 q1082 (by decide +kernel) dX1_connector_5 rfl ⟨Nat.le_of_ble_eq_true rfl, Nat.le_of_ble_eq_true rfl⟩ (Nat.le_of_ble_eq_true rfl) ⟨Nat.le_of_ble_eq_true rfl, Nat.le_of_ble_eq_true rfl⟩) (fun E h9 hx => j_out X hT hex (Nat.le_of_ble_eq_true rfl) (Nat.le_of_ble_eq_true rfl) hx) (fun h5 hw => ?_)
  refine j_aload_n X (pc := 8) 0 dX1_connector_8 rfl rfl ?_
  refine j_getq (ci := 0) X (pc := 9) in_X1 rfl (by decide) 1 (by decide) q242 (Or.inl rfl) dX1_connector_9 hw (fun y9 hw => ?_)
  refine j_iload_n X (pc := 12) 2 dX1_connector_12 rfl rfl ?_
  obtain ⟨b9, c9, f9, hr9, ho9, hc9, hw⟩ := hw
  obtain rfl := List.mem_singleton.mp hc9
  refine j_callq (j_runV (n8 := 1) (As := [vI a2]) (rest := []) X (pc := 13) hr9 (met_J2_get (xl x) X.hl (xG x) h5 y9 a2 _ hw) ho9 (by decide) rfl q1074 q512 q513 q74 q514 (by decide +kernel) dX1_connector_13 rfl ⟨Nat.le_of_ble_eq_true rfl, Nat.le_of_ble_eq_true rfl⟩ (Nat.le_of_ble_eq_true rfl) ⟨Nat.le_of_ble_eq_true rfl, Nat.le_of_ble_eq_true rfl⟩) (fun y13 h13 hw => ?_)
  refine j_chk X (pc := 16) (L := [13]) q1270 (by intro ci hci; obtain rfl := List.mem_singleton.mp hci; exact ⟨by decide, _, _, _, rfl, Or.inl rfl⟩) dX1_connector_16 hw (fun hw => ?_)
  exact j_aret X (pc := 19) (ty := (.object "Plugboard$Connector")) hQ er (Or.inl ⟨_, rfl⟩) (Nat.le_of_ble_eq_true rfl) (Nat.le_of_ble_eq_true rfl) dX1_connector_19 hw
abbrev cX15_number : ByteArray := prog_7_method_5_code
def yX15_number : MethodName := ⟨RX15, "number", "()I"⟩
theorem dX15_number_0 : decode cX15_number 0 = .ok (.aload_n 0, 1) := by decide +kernel
theorem dX15_number_1 : decode cX15_number 1 = .ok (.getfield 7, 3) := by decide +kernel
theorem dX15_number_4 : decode cX15_number 4 = .ok (.ireturn, 1) := by decide +kernel
abbrev rm_X15_number : Room := { frames := 0, cells := 0, slots := 0, locals := 0 }
def w_X15_number (a0 : Option Nat) (h : AH) (P : Int32 → AH → Prop) : Prop :=
  g_i h a0 13 0 fun y1 =>
  P y1 h
theorem met_X15_number (l : Launch) (hlt : l.stackTraces = false) (G : GG) (h : AH) (a0 : Option Nat) (P : Int32 → AH → Prop) (hw : w_X15_number a0 h P) : ct_i l yX15_number (ws_ yX15_number cX15_number 1 (Option.some Jvm.ClassFile.FieldType.int)) rm_X15_number G h [vR a0] P := by
  refine j_starti hlt [(0, vR a0)] (plainFor_of_name (by decide)) rfl rfl (fun x X eG er en hQ => ?_)
  subst eG
  refine j_aload_n X (pc := 0) 0 dX15_number_0 rfl rfl ?_
  refine j_geti (ci := 13) X (pc := 1) in_X15 rfl (by decide) 0 (by decide) q1276 (Or.inl rfl) dX15_number_1 hw (fun y1 hw => ?_)
  exact j_iret X (pc := 4) hQ er (Nat.le_of_ble_eq_true rfl) (Nat.le_of_ble_eq_true rfl) dX15_number_4 hw
abbrev cX1_countConnectors : ByteArray := prog_1_method_31_code
def yX1_countConnectors : MethodName := ⟨RX1, "countConnectors", "(LPlugboard$Board;)I"⟩
def dkwX1_countConnectors_1 : List UInt8 := [4, 167, 0, 4, 3, 96, 61, 132, 3, 1, 167, 255, 226, 28, 172]
abbrev dktX1_countConnectors_1 : List UInt8 := dkwX1_countConnectors_1 ++ []
def dkwX1_countConnectors_0 : List UInt8 := [3, 61, 3, 62, 29, 42, 180, 0, 59, 182, 0, 126, 162, 0, 25, 28, 43, 29, 182, 1, 43, 153, 0, 7]
abbrev dktX1_countConnectors_0 : List UInt8 := dkwX1_countConnectors_0 ++ dktX1_countConnectors_1
theorem dksX1_countConnectors_0 : cX1_countConnectors.data.toList.drop 0 = dktX1_countConnectors_0 := by decide +kernel
theorem dksX1_countConnectors_1 : cX1_countConnectors.data.toList.drop 24 = dktX1_countConnectors_1 := dk_seg dksX1_countConnectors_0 24 rfl rfl
theorem dX1_countConnectors_0 : decode cX1_countConnectors 0 = .ok (.iconst 0, 1) := dk_3 (dk_at dksX1_countConnectors_0 0 rfl rfl)
theorem dX1_countConnectors_1 : decode cX1_countConnectors 1 = .ok (.istore_n 2, 1) := dk_61 (dk_at dksX1_countConnectors_0 1 rfl rfl)
theorem dX1_countConnectors_2 : decode cX1_countConnectors 2 = .ok (.iconst 0, 1) := dk_3 (dk_at dksX1_countConnectors_0 2 rfl rfl)
theorem dX1_countConnectors_3 : decode cX1_countConnectors 3 = .ok (.istore_n 3, 1) := dk_62 (dk_at dksX1_countConnectors_0 3 rfl rfl)
theorem dX1_countConnectors_4 : decode cX1_countConnectors 4 = .ok (.iload_n 3, 1) := dk_29 (dk_at dksX1_countConnectors_0 4 rfl rfl)
theorem dX1_countConnectors_5 : decode cX1_countConnectors 5 = .ok (.aload_n 0, 1) := dk_42 (dk_at dksX1_countConnectors_0 5 rfl rfl)
theorem dX1_countConnectors_6 : decode cX1_countConnectors 6 = .ok (.getfield 59, 3) := dk_180 0 59 (dk_at dksX1_countConnectors_0 6 rfl rfl)
theorem dX1_countConnectors_9 : decode cX1_countConnectors 9 = .ok (.invokevirtual 126, 3) := dk_182 0 126 (dk_at dksX1_countConnectors_0 9 rfl rfl)
theorem dX1_countConnectors_12 : decode cX1_countConnectors 12 = .ok (.if_icmp .ge 25, 3) := dk_162 0 25 (dk_at dksX1_countConnectors_0 12 rfl rfl)
theorem dX1_countConnectors_15 : decode cX1_countConnectors 15 = .ok (.iload_n 2, 1) := dk_28 (dk_at dksX1_countConnectors_0 15 rfl rfl)
theorem dX1_countConnectors_16 : decode cX1_countConnectors 16 = .ok (.aload_n 1, 1) := dk_43 (dk_at dksX1_countConnectors_0 16 rfl rfl)
theorem dX1_countConnectors_17 : decode cX1_countConnectors 17 = .ok (.iload_n 3, 1) := dk_29 (dk_at dksX1_countConnectors_0 17 rfl rfl)
theorem dX1_countConnectors_18 : decode cX1_countConnectors 18 = .ok (.invokevirtual 299, 3) := dk_182 1 43 (dk_at dksX1_countConnectors_0 18 rfl rfl)
theorem dX1_countConnectors_21 : decode cX1_countConnectors 21 = .ok (.ifCond .eq 7, 3) := dk_153 0 7 (dk_at dksX1_countConnectors_0 21 rfl rfl)
theorem dX1_countConnectors_24 : decode cX1_countConnectors 24 = .ok (.iconst 1, 1) := dk_4 (dk_at dksX1_countConnectors_1 0 rfl rfl)
theorem dX1_countConnectors_25 : decode cX1_countConnectors 25 = .ok (.goto 4, 3) := dk_167 0 4 (dk_at dksX1_countConnectors_1 1 rfl rfl)
theorem dX1_countConnectors_28 : decode cX1_countConnectors 28 = .ok (.iconst 0, 1) := dk_3 (dk_at dksX1_countConnectors_1 4 rfl rfl)
theorem dX1_countConnectors_29 : decode cX1_countConnectors 29 = .ok (.iadd, 1) := dk_96 (dk_at dksX1_countConnectors_1 5 rfl rfl)
theorem dX1_countConnectors_30 : decode cX1_countConnectors 30 = .ok (.istore_n 2, 1) := dk_61 (dk_at dksX1_countConnectors_1 6 rfl rfl)
theorem dX1_countConnectors_31 : decode cX1_countConnectors 31 = .ok (.iinc 3 1, 3) := dk_132 3 1 (dk_at dksX1_countConnectors_1 7 rfl rfl)
theorem dX1_countConnectors_34 : decode cX1_countConnectors 34 = .ok (.goto (-30), 3) := dk_167 255 226 (dk_at dksX1_countConnectors_1 10 rfl rfl)
theorem dX1_countConnectors_37 : decode cX1_countConnectors 37 = .ok (.iload_n 2, 1) := dk_28 (dk_at dksX1_countConnectors_1 13 rfl rfl)
theorem dX1_countConnectors_38 : decode cX1_countConnectors 38 = .ok (.ireturn, 1) := dk_172 (dk_at dksX1_countConnectors_1 14 rfl rfl)
abbrev rm_X1_countConnectors : Room := { frames := 4, cells := 0, slots := 0, locals := 86 }
def w_X1_countConnectors_4 (P : Int32 → AH → Prop) (x0 : Option Nat) (x1 : Option Nat) (x2 : Int32) (x3 : Int32) (h : AH) : Prop :=
  ∀ Z4 : Int32 → Int32 → AH → Prop, (∀ x2 x3 h, (
      g_q h x0 0 1 fun y6 =>
      is_c h y6 [15] (
      w_J2_size y6 h (fun y9 h9 =>
      ((y9 ≤ x3 →
        P x2 h9) ∧
       (¬ y9 ≤ x3 →
        is_c h9 x1 [2] (
        w_X3_seesConnector x1 x3 h9 (fun y18 h18 =>
        ((y18 = 0 →
          Z4 (x2 + 0) (x3 + 1) h18) ∧
         (¬ y18 = 0 →
          Z4 (x2 + 1) (x3 + 1) h18)))))))))
      → Z4 x2 x3 h) → Z4 x2 x3 h
def w_X1_countConnectors (a0 : Option Nat) (a1 : Option Nat) (h : AH) (P : Int32 → AH → Prop) : Prop :=
  w_X1_countConnectors_4 P a0 a1 0 0 h
theorem wk_X1_countConnectors_4 {x : CX} (X : Ok x cX1_countConnectors RX1 rm_X1_countConnectors 4) (er : xrt x = (Option.some Jvm.ClassFile.FieldType.int)) (en : xnm x = yX1_countConnectors.name) {P : Int32 → AH → Prop} (hQ : xr_i x P) (x0 : Option Nat) (x1 : Option Nat) (x2 : Int32) (x3 : Int32) (h : AH) (hw : w_X1_countConnectors_4 P x0 x1 x2 x3 h) : J x h 0 0 4 [(0, vR x0), (1, vR x1), (2, vI x2), (3, vI x3)] [] := by
  refine hw (fun x2 x3 h => J x h 0 0 4 [(0, vR x0), (1, vR x1), (2, vI x2), (3, vI x3)] []) (fun x2 x3 h hw => ?_)
  refine j_iload_n X (pc := 4) 3 dX1_countConnectors_4 rfl rfl ?_
  refine j_aload_n X (pc := 5) 0 dX1_countConnectors_5 rfl rfl ?_
  refine j_getq (ci := 0) X (pc := 6) in_X1 rfl (by decide) 1 (by decide) q242 (Or.inl rfl) dX1_countConnectors_6 hw (fun y6 hw => ?_)
  obtain ⟨b9, c9, f9, hr9, ho9, hc9, hw⟩ := hw
  obtain rfl := List.mem_singleton.mp hc9
  refine j_calli (j_runV (n8 := 0) (As := []) (rest := [vI x3]) X (pc := 9) hr9 (met_J2_size (xl x) X.hl (xG x) h y6 _ hw) ho9 (by decide) rfl q284 q285 q286 q74 q287 (by decide +kernel) dX1_countConnectors_9 rfl ⟨Nat.le_of_ble_eq_true rfl, Nat.le_of_ble_eq_true rfl⟩ (Nat.le_of_ble_eq_true rfl) ⟨Nat.le_of_ble_eq_true rfl, Nat.le_of_ble_eq_true rfl⟩) (fun y9 h9 hw => ?_)
  refine j_icmp_ge X (pc := 12) 37 dX1_countConnectors_12 (by decide) hw (fun hw => ?_) (fun hw => ?_)
  · refine j_iload_n X (pc := 37) 2 dX1_countConnectors_37 rfl rfl ?_
    exact j_iret X (pc := 38) hQ er (Nat.le_of_ble_eq_true rfl) (Nat.le_of_ble_eq_true rfl) dX1_countConnectors_38 hw
  · refine j_iload_n X (pc := 15) 2 dX1_countConnectors_15 rfl rfl ?_
    refine j_aload_n X (pc := 16) 1 dX1_countConnectors_16 rfl rfl ?_
    refine j_iload_n X (pc := 17) 3 dX1_countConnectors_17 rfl rfl ?_
    obtain ⟨b9, c9, f9, hr9, ho9, hc9, hw⟩ := hw
    obtain rfl := List.mem_singleton.mp hc9
    refine j_calli (j_runV (n8 := 1) (As := [vI x3]) (rest := [vI x2]) X (pc := 18) hr9 (met_X3_seesConnector (xl x) X.hl (xG x) h9 x1 x3 _ hw) ho9 (by decide) rfl q1297 q1298 q1299 q76 q1300 (by decide +kernel) dX1_countConnectors_18 rfl ⟨Nat.le_of_ble_eq_true rfl, Nat.le_of_ble_eq_true rfl⟩ (Nat.le_of_ble_eq_true rfl) ⟨Nat.le_of_ble_eq_true rfl, Nat.le_of_ble_eq_true rfl⟩) (fun y18 h18 hw => ?_)
    refine j_if_eq X (pc := 21) 28 dX1_countConnectors_21 (by decide) hw (fun hw => ?_) (fun hw => ?_)
    · refine j_iconst X (pc := 28) 0 dX1_countConnectors_28 (by decide) ?_
      refine j_iadd X (pc := 29) dX1_countConnectors_29 ?_
      refine j_istore_n X (pc := 30) [(2, vI (x2 + 0)), (0, vR x0), (1, vR x1), (3, vI x3)] dX1_countConnectors_30 rfl (Nat.le_of_ble_eq_true rfl) rfl ?_
      refine j_iinc X (pc := 31) 3 (x3 + 1) [(3, vI (x3 + 1)), (2, vI (x2 + 0)), (0, vR x0), (1, vR x1)] dX1_countConnectors_31 rfl rfl (Nat.le_of_ble_eq_true rfl) rfl ?_
      refine j_goto X (pc := 34) 4 dX1_countConnectors_34 (by decide) ?_
      refine j_lv [(0, vR x0), (1, vR x1), (2, vI (x2 + 0)), (3, vI (x3 + 1))] [2, 3, 1, 0] rfl ?_
      refine j_cs (u' := 0) (v' := 0) (Nat.le_of_ble_eq_true rfl) (Nat.le_of_ble_eq_true rfl) ?_
      exact hw
    · refine j_iconst X (pc := 24) 1 dX1_countConnectors_24 (by decide) ?_
      refine j_goto X (pc := 25) 29 dX1_countConnectors_25 (by decide) ?_
      refine j_iadd X (pc := 29) dX1_countConnectors_29 ?_
      refine j_istore_n X (pc := 30) [(2, vI (x2 + 1)), (0, vR x0), (1, vR x1), (3, vI x3)] dX1_countConnectors_30 rfl (Nat.le_of_ble_eq_true rfl) rfl ?_
      refine j_iinc X (pc := 31) 3 (x3 + 1) [(3, vI (x3 + 1)), (2, vI (x2 + 1)), (0, vR x0), (1, vR x1)] dX1_countConnectors_31 rfl rfl (Nat.le_of_ble_eq_true rfl) rfl ?_
      refine j_goto X (pc := 34) 4 dX1_countConnectors_34 (by decide) ?_
      refine j_lv [(0, vR x0), (1, vR x1), (2, vI (x2 + 1)), (3, vI (x3 + 1))] [2, 3, 1, 0] rfl ?_
      refine j_cs (u' := 0) (v' := 0) (Nat.le_of_ble_eq_true rfl) (Nat.le_of_ble_eq_true rfl) ?_
      exact hw
theorem met_X1_countConnectors (l : Launch) (hlt : l.stackTraces = false) (G : GG) (h : AH) (a0 : Option Nat) (a1 : Option Nat) (P : Int32 → AH → Prop) (hw : w_X1_countConnectors a0 a1 h P) : ct_i l yX1_countConnectors (ws_ yX1_countConnectors cX1_countConnectors 4 (Option.some Jvm.ClassFile.FieldType.int)) rm_X1_countConnectors G h [vR a0, vR a1] P := by
  refine j_starti hlt [(0, vR a0), (1, vR a1)] (plainFor_of_name (by decide)) rfl rfl (fun x X eG er en hQ => ?_)
  subst eG
  refine j_iconst X (pc := 0) 0 dX1_countConnectors_0 (by decide) ?_
  refine j_istore_n X (pc := 1) [(2, vI 0), (0, vR a0), (1, vR a1)] dX1_countConnectors_1 rfl (Nat.le_of_ble_eq_true rfl) rfl ?_
  refine j_iconst X (pc := 2) 0 dX1_countConnectors_2 (by decide) ?_
  refine j_istore_n X (pc := 3) [(3, vI 0), (2, vI 0), (0, vR a0), (1, vR a1)] dX1_countConnectors_3 rfl (Nat.le_of_ble_eq_true rfl) rfl ?_
  refine j_lv [(0, vR a0), (1, vR a1), (2, vI 0), (3, vI 0)] [2, 3, 1, 0] rfl ?_
  refine j_cs (u' := 0) (v' := 0) (Nat.le_of_ble_eq_true rfl) (Nat.le_of_ble_eq_true rfl) ?_
  exact wk_X1_countConnectors_4 X er en hQ a0 a1 0 0 h hw
abbrev cX1_disconnect : ByteArray := prog_1_method_32_code
def yX1_disconnect : MethodName := ⟨RX1, "disconnect", "(II)I"⟩
def dkwX1_disconnect_1 : List UInt8 := [182, 1, 50, 96, 3, 182, 1, 11, 42, 45, 182, 1, 52, 172]
abbrev dktX1_disconnect_1 : List UInt8 := dkwX1_disconnect_1 ++ []
def dkwX1_disconnect_0 : List UInt8 := [42, 27, 182, 0, 199, 78, 42, 45, 28, 182, 1, 46, 58, 4, 42, 182, 0, 207, 42, 45, 16, 48, 25, 4]
abbrev dktX1_disconnect_0 : List UInt8 := dkwX1_disconnect_0 ++ dktX1_disconnect_1
theorem dksX1_disconnect_0 : cX1_disconnect.data.toList.drop 0 = dktX1_disconnect_0 := by decide +kernel
theorem dksX1_disconnect_1 : cX1_disconnect.data.toList.drop 24 = dktX1_disconnect_1 := dk_seg dksX1_disconnect_0 24 rfl rfl
theorem dX1_disconnect_0 : decode cX1_disconnect 0 = .ok (.aload_n 0, 1) := dk_42 (dk_at dksX1_disconnect_0 0 rfl rfl)
theorem dX1_disconnect_1 : decode cX1_disconnect 1 = .ok (.iload_n 1, 1) := dk_27 (dk_at dksX1_disconnect_0 1 rfl rfl)
theorem dX1_disconnect_2 : decode cX1_disconnect 2 = .ok (.invokevirtual 199, 3) := dk_182 0 199 (dk_at dksX1_disconnect_0 2 rfl rfl)
theorem dX1_disconnect_5 : decode cX1_disconnect 5 = .ok (.astore_n 3, 1) := dk_78 (dk_at dksX1_disconnect_0 5 rfl rfl)
theorem dX1_disconnect_6 : decode cX1_disconnect 6 = .ok (.aload_n 0, 1) := dk_42 (dk_at dksX1_disconnect_0 6 rfl rfl)
theorem dX1_disconnect_7 : decode cX1_disconnect 7 = .ok (.aload_n 3, 1) := dk_45 (dk_at dksX1_disconnect_0 7 rfl rfl)
theorem dX1_disconnect_8 : decode cX1_disconnect 8 = .ok (.iload_n 2, 1) := dk_28 (dk_at dksX1_disconnect_0 8 rfl rfl)
theorem dX1_disconnect_9 : decode cX1_disconnect 9 = .ok (.invokevirtual 302, 3) := dk_182 1 46 (dk_at dksX1_disconnect_0 9 rfl rfl)
theorem dX1_disconnect_12 : decode cX1_disconnect 12 = .ok (.astore 4, 2) := dk_58 4 (dk_at dksX1_disconnect_0 12 rfl rfl)
theorem dX1_disconnect_14 : decode cX1_disconnect 14 = .ok (.aload_n 0, 1) := dk_42 (dk_at dksX1_disconnect_0 14 rfl rfl)
theorem dX1_disconnect_15 : decode cX1_disconnect 15 = .ok (.invokevirtual 207, 3) := dk_182 0 207 (dk_at dksX1_disconnect_0 15 rfl rfl)
theorem dX1_disconnect_18 : decode cX1_disconnect 18 = .ok (.aload_n 0, 1) := dk_42 (dk_at dksX1_disconnect_0 18 rfl rfl)
theorem dX1_disconnect_19 : decode cX1_disconnect 19 = .ok (.aload_n 3, 1) := dk_45 (dk_at dksX1_disconnect_0 19 rfl rfl)
theorem dX1_disconnect_20 : decode cX1_disconnect 20 = .ok (.bipush 48, 2) := dk_16 48 (dk_at dksX1_disconnect_0 20 rfl rfl)
theorem dX1_disconnect_22 : decode cX1_disconnect 22 = .ok (.aload 4, 2) := dk_25 4 (dk_at dksX1_disconnect_0 22 rfl rfl)
theorem dX1_disconnect_24 : decode cX1_disconnect 24 = .ok (.invokevirtual 306, 3) := dk_182 1 50 (dk_at dksX1_disconnect_1 0 rfl rfl)
theorem dX1_disconnect_27 : decode cX1_disconnect 27 = .ok (.iadd, 1) := dk_96 (dk_at dksX1_disconnect_1 3 rfl rfl)
theorem dX1_disconnect_28 : decode cX1_disconnect 28 = .ok (.iconst 0, 1) := dk_3 (dk_at dksX1_disconnect_1 4 rfl rfl)
theorem dX1_disconnect_29 : decode cX1_disconnect 29 = .ok (.invokevirtual 267, 3) := dk_182 1 11 (dk_at dksX1_disconnect_1 5 rfl rfl)
theorem dX1_disconnect_32 : decode cX1_disconnect 32 = .ok (.aload_n 0, 1) := dk_42 (dk_at dksX1_disconnect_1 8 rfl rfl)
theorem dX1_disconnect_33 : decode cX1_disconnect 33 = .ok (.aload_n 3, 1) := dk_45 (dk_at dksX1_disconnect_1 9 rfl rfl)
theorem dX1_disconnect_34 : decode cX1_disconnect 34 = .ok (.invokevirtual 308, 3) := dk_182 1 52 (dk_at dksX1_disconnect_1 10 rfl rfl)
theorem dX1_disconnect_37 : decode cX1_disconnect 37 = .ok (.ireturn, 1) := dk_172 (dk_at dksX1_disconnect_1 13 rfl rfl)
theorem q1293 : (Jvm.Cond.methodLink "Plugboard" (302 : Nat) ({ cls := "Plugboard", name := "connector", desc := "(LPlugboard$Board;I)LPlugboard$Connector;" } : Jvm.MethodName)) ∈ lw_all := lw_g (lw_at lw_m6 23 rfl) rfl
theorem q1295 : (Jvm.Cond.instanceMethod ({ cls := "Plugboard", name := "connector", desc := "(LPlugboard$Board;I)LPlugboard$Connector;" } : Jvm.MethodName)) ∈ lw_all := lw_g (lw_at lw_m6 25 rfl) rfl
theorem q1296 : (Jvm.Cond.code ({ cls := "Plugboard", name := "connector", desc := "(LPlugboard$Board;I)LPlugboard$Connector;" } : Jvm.MethodName) prog_1_method_30_code (3 : Nat) (Option.some (Jvm.ClassFile.FieldType.object "Plugboard$Connector"))) ∈ lw_all := lw_g (lw_at lw_m6 26 rfl) rfl
theorem q1314 : (Jvm.Cond.methodLink "Plugboard" (306 : Nat) ({ cls := "Plugboard$Connector", name := "number", desc := "()I" } : Jvm.MethodName)) ∈ lw_all := lw_g (lw_at lw_m6 44 rfl) rfl
theorem q1315 : (Jvm.Cond.instanceMethod ({ cls := "Plugboard$Connector", name := "number", desc := "()I" } : Jvm.MethodName)) ∈ lw_all := lw_g (lw_at lw_m6 45 rfl) rfl
theorem q1316 : (Jvm.Cond.selects "Plugboard$Connector" ({ cls := "Plugboard$Connector", name := "number", desc := "()I" } : Jvm.MethodName) ({ cls := "Plugboard$Connector", name := "number", desc := "()I" } : Jvm.MethodName)) ∈ lw_all := lw_g (lw_at lw_m6 46 rfl) rfl
theorem q1317 : (Jvm.Cond.code ({ cls := "Plugboard$Connector", name := "number", desc := "()I" } : Jvm.MethodName) prog_7_method_5_code (1 : Nat) (Option.some Jvm.ClassFile.FieldType.int)) ∈ lw_all := lw_g (lw_at lw_m6 47 rfl) rfl
theorem q1318 : (Jvm.Cond.methodLink "Plugboard" (308 : Nat) ({ cls := "Plugboard", name := "countConnectors", desc := "(LPlugboard$Board;)I" } : Jvm.MethodName)) ∈ lw_all := lw_g (lw_at lw_m6 48 rfl) rfl
theorem q1320 : (Jvm.Cond.instanceMethod ({ cls := "Plugboard", name := "countConnectors", desc := "(LPlugboard$Board;)I" } : Jvm.MethodName)) ∈ lw_all := lw_g (lw_at lw_m6 50 rfl) rfl
theorem q1321 : (Jvm.Cond.code ({ cls := "Plugboard", name := "countConnectors", desc := "(LPlugboard$Board;)I" } : Jvm.MethodName) prog_1_method_31_code (4 : Nat) (Option.some Jvm.ClassFile.FieldType.int)) ∈ lw_all := lw_g (lw_at lw_m6 51 rfl) rfl
abbrev rm_X1_disconnect : Room := { frames := 11, cells := 14, slots := 212, locals := 270 }
def w_X1_disconnect (a0 : Option Nat) (a1 : Int32) (a2 : Int32) (h : AH) (P : Int32 → AH → Prop) (PX : String → AH → Prop) : Prop :=
  is_c h a0 [0] (
  w_X1_board a0 a1 h (fun y2 h2 =>
  is_c h2 a0 [0] (
  w_X1_connector a0 y2 a2 h2 (fun y9 h9 =>
  is_c h9 a0 [0] (
  w_X1_requireRoom a0 h9 (fun h15 =>
  is_c h15 y9 [13] (
  w_X15_number y9 h15 (fun y24 h24 =>
  is_c h24 a0 [0] (
  w_X1_write a0 y2 (48 + y24) 0 h24 (fun h29 =>
  is_c h29 a0 [0] (
  w_X1_countConnectors a0 y2 h29 (fun y34 h34 =>
  P y34 h34))))))) PX)) PX)) PX)
theorem met_X1_disconnect (l : Launch) (hlt : l.stackTraces = false) (G : GG) (h : AH) (a0 : Option Nat) (a1 : Int32) (a2 : Int32) (P : Int32 → AH → Prop) (PX : String → AH → Prop) (hw : w_X1_disconnect a0 a1 a2 h P PX) : cx_i l yX1_disconnect (ws_ yX1_disconnect cX1_disconnect 5 (Option.some Jvm.ClassFile.FieldType.int)) rm_X1_disconnect G h [vR a0, vI a1, vI a2] P PX := by
  refine j_startXi hlt [(0, vR a0), (1, vI a1), (2, vI a2)] (by decide) rfl rfl (fun x X eG er en hQ hT hex => ?_)
  subst eG
  refine j_aload_n X (pc := 0) 0 dX1_disconnect_0 rfl rfl ?_
  refine j_iload_n X (pc := 1) 1 dX1_disconnect_1 rfl rfl ?_
  obtain ⟨b9, c9, f9, hr9, ho9, hc9, hw⟩ := hw
  obtain rfl := List.mem_singleton.mp hc9
  refine j_callXq (j_runVX (n8 := 1) (As := [vI a1]) (rest := []) X (pc := 2) hr9 (met_X1_board (xl x) X.hl (xG x) h a0 a1 _ _ hw) ho9 (by decide) rfl q297 q299 qs0 q71 q300 (by decide +kernel) dX1_disconnect_2 rfl ⟨Nat.le_of_ble_eq_true rfl, Nat.le_of_ble_eq_true rfl⟩ (Nat.le_of_ble_eq_true rfl) ⟨Nat.le_of_ble_eq_true rfl, Nat.le_of_ble_eq_true rfl⟩) (fun E h9 hx => j_out X hT hex (Nat.le_of_ble_eq_true rfl) (Nat.le_of_ble_eq_true rfl) hx) (fun y2 h2 hw => ?_)
  refine j_astore_n X (pc := 5) [(3, vR y2), (0, vR a0), (1, vI a1), (2, vI a2)] dX1_disconnect_5 rfl (Nat.le_of_ble_eq_true rfl) rfl ?_
  refine j_aload_n X (pc := 6) 1 dX1_disconnect_6 rfl rfl ?_
  refine j_aload_n X (pc := 7) 0 dX1_disconnect_7 rfl rfl ?_
  refine j_iload_n X (pc := 8) 3 dX1_disconnect_8 rfl rfl ?_
  obtain ⟨b9, c9, f9, hr9, ho9, hc9, hw⟩ := hw
  obtain rfl := List.mem_singleton.mp hc9
  refine j_callXq (j_runVX (n8 := 2) (As := [vR y2, vI a2]) (rest := []) X (pc := 9) hr9 (met_X1_connector (xl x) X.hl (xG x) h2 a0 y2 a2 _ _ hw) ho9 (by decide) rfl q1293 q1295 qs14 q71 q1296 (by decide +kernel) dX1_disconnect_9 rfl ⟨Nat.le_of_ble_eq_true rfl, Nat.le_of_ble_eq_true rfl⟩ (Nat.le_of_ble_eq_true rfl) ⟨Nat.le_of_ble_eq_true rfl, Nat.le_of_ble_eq_true rfl⟩) (fun E h9 hx => j_out X hT hex (Nat.le_of_ble_eq_true rfl) (Nat.le_of_ble_eq_true rfl) hx) (fun y9 h9 hw => ?_)
  refine j_astore X (pc := 12) [(4, vR y9), (3, vR y2), (0, vR a0), (1, vI a1), (2, vI a2)] dX1_disconnect_12 (Nat.le_of_ble_eq_true rfl) rfl ?_
  refine j_aload_n X (pc := 14) 2 dX1_disconnect_14 rfl rfl ?_
  obtain ⟨b9, c9, f9, hr9, ho9, hc9, hw⟩ := hw
  obtain rfl := List.mem_singleton.mp hc9
  refine j_callXv (j_runVX (n8 := 0) (As := []) (rest := []) X (pc := 15) hr9 (met_X1_requireRoom (xl x) X.hl (xG x) h9 a0 _ _ hw) ho9 (by decide) rfl q400 q402 qs2 q71 q403 (by decide +kernel) dX1_disconnect_15 rfl ⟨Nat.le_of_ble_eq_true rfl, Nat.le_of_ble_eq_true rfl⟩ (Nat.le_of_ble_eq_true rfl) ⟨Nat.le_of_ble_eq_true rfl, Nat.le_of_ble_eq_true rfl⟩) (fun E h9 hx => j_out X hT hex (Nat.le_of_ble_eq_true rfl) (Nat.le_of_ble_eq_true rfl) hx) (fun h15 hw => ?_)
  refine j_aload_n X (pc := 18) 2 dX1_disconnect_18 rfl rfl ?_
  refine j_aload_n X (pc := 19) 1 dX1_disconnect_19 rfl rfl ?_
  refine j_bipush X (pc := 20) 48 dX1_disconnect_20 (by decide) ?_
  refine j_aload X (pc := 22) 0 dX1_disconnect_22 rfl ?_
  obtain ⟨b9, c9, f9, hr9, ho9, hc9, hw⟩ := hw
  obtain rfl := List.mem_singleton.mp hc9
  refine j_calli (j_runV (n8 := 0) (As := []) (rest := [vI 48, vR y2, vR a0]) X (pc := 24) hr9 (met_X15_number (xl x) X.hl (xG x) h15 y9 _ hw) ho9 (by decide) rfl q1314 q1315 q1316 q113 q1317 (by decide +kernel) dX1_disconnect_24 rfl ⟨Nat.le_of_ble_eq_true rfl, Nat.le_of_ble_eq_true rfl⟩ (Nat.le_of_ble_eq_true rfl) ⟨Nat.le_of_ble_eq_true rfl, Nat.le_of_ble_eq_true rfl⟩) (fun y24 h24 hw => ?_)
  refine j_iadd X (pc := 27) dX1_disconnect_27 ?_
  refine j_iconst X (pc := 28) 0 dX1_disconnect_28 (by decide) ?_
  obtain ⟨b9, c9, f9, hr9, ho9, hc9, hw⟩ := hw
  obtain rfl := List.mem_singleton.mp hc9
  refine j_callv (j_runV (n8 := 3) (As := [vR y2, vI (48 + y24), vI 0]) (rest := []) X (pc := 29) hr9 (met_X1_write (xl x) X.hl (xG x) h24 a0 y2 (48 + y24) 0 _ hw) ho9 (by decide) rfl q1189 q1191 qs12 q71 q1192 (by decide +kernel) dX1_disconnect_29 rfl ⟨Nat.le_of_ble_eq_true rfl, Nat.le_of_ble_eq_true rfl⟩ (Nat.le_of_ble_eq_true rfl) ⟨Nat.le_of_ble_eq_true rfl, Nat.le_of_ble_eq_true rfl⟩) (fun h29 hw => ?_)
  refine j_aload_n X (pc := 32) 2 dX1_disconnect_32 rfl rfl ?_
  refine j_aload_n X (pc := 33) 1 dX1_disconnect_33 rfl rfl ?_
  obtain ⟨b9, c9, f9, hr9, ho9, hc9, hw⟩ := hw
  obtain rfl := List.mem_singleton.mp hc9
  refine j_calli (j_runV (n8 := 1) (As := [vR y2]) (rest := []) X (pc := 34) hr9 (met_X1_countConnectors (xl x) X.hl (xG x) h29 a0 y2 _ hw) ho9 (by decide) rfl q1318 q1320 qs15 q71 q1321 (by decide +kernel) dX1_disconnect_34 rfl ⟨Nat.le_of_ble_eq_true rfl, Nat.le_of_ble_eq_true rfl⟩ (Nat.le_of_ble_eq_true rfl) ⟨Nat.le_of_ble_eq_true rfl, Nat.le_of_ble_eq_true rfl⟩) (fun y34 h34 hw => ?_)
  exact j_iret X (pc := 37) hQ er (Nat.le_of_ble_eq_true rfl) (Nat.le_of_ble_eq_true rfl) dX1_disconnect_37 hw
abbrev cX0_disconnect : ByteArray := method_12_code
def yX0_disconnect : MethodName := ⟨RX0, "disconnect", "(LPlugboard;II[J)I"⟩
def dkwX0_disconnect_1 : List UInt8 := [172, 3, 172]
abbrev dktX0_disconnect_1 : List UInt8 := dkwX0_disconnect_1 ++ []
def dkwX0_disconnect_0 : List UInt8 := [45, 3, 42, 27, 28, 182, 0, 49, 133, 80, 167, 0, 15, 58, 4, 4, 172, 58, 4, 5, 172, 58, 4, 6]
abbrev dktX0_disconnect_0 : List UInt8 := dkwX0_disconnect_0 ++ dktX0_disconnect_1
theorem dksX0_disconnect_0 : cX0_disconnect.data.toList.drop 0 = dktX0_disconnect_0 := by decide +kernel
theorem dksX0_disconnect_1 : cX0_disconnect.data.toList.drop 24 = dktX0_disconnect_1 := dk_seg dksX0_disconnect_0 24 rfl rfl
theorem dX0_disconnect_0 : decode cX0_disconnect 0 = .ok (.aload_n 3, 1) := dk_45 (dk_at dksX0_disconnect_0 0 rfl rfl)
theorem dX0_disconnect_1 : decode cX0_disconnect 1 = .ok (.iconst 0, 1) := dk_3 (dk_at dksX0_disconnect_0 1 rfl rfl)
theorem dX0_disconnect_2 : decode cX0_disconnect 2 = .ok (.aload_n 0, 1) := dk_42 (dk_at dksX0_disconnect_0 2 rfl rfl)
theorem dX0_disconnect_3 : decode cX0_disconnect 3 = .ok (.iload_n 1, 1) := dk_27 (dk_at dksX0_disconnect_0 3 rfl rfl)
theorem dX0_disconnect_4 : decode cX0_disconnect 4 = .ok (.iload_n 2, 1) := dk_28 (dk_at dksX0_disconnect_0 4 rfl rfl)
theorem dX0_disconnect_5 : decode cX0_disconnect 5 = .ok (.invokevirtual 49, 3) := dk_182 0 49 (dk_at dksX0_disconnect_0 5 rfl rfl)
theorem dX0_disconnect_8 : decode cX0_disconnect 8 = .ok (.i2l, 1) := dk_133 (dk_at dksX0_disconnect_0 8 rfl rfl)
theorem dX0_disconnect_9 : decode cX0_disconnect 9 = .ok (.lastore, 1) := dk_80 (dk_at dksX0_disconnect_0 9 rfl rfl)
theorem dX0_disconnect_10 : decode cX0_disconnect 10 = .ok (.goto 15, 3) := dk_167 0 15 (dk_at dksX0_disconnect_0 10 rfl rfl)
theorem dX0_disconnect_13 : decode cX0_disconnect 13 = .ok (.astore 4, 2) := dk_58 4 (dk_at dksX0_disconnect_0 13 rfl rfl)
theorem dX0_disconnect_15 : decode cX0_disconnect 15 = .ok (.iconst 1, 1) := dk_4 (dk_at dksX0_disconnect_0 15 rfl rfl)
theorem dX0_disconnect_16 : decode cX0_disconnect 16 = .ok (.ireturn, 1) := dk_172 (dk_at dksX0_disconnect_0 16 rfl rfl)
theorem dX0_disconnect_17 : decode cX0_disconnect 17 = .ok (.astore 4, 2) := dk_58 4 (dk_at dksX0_disconnect_0 17 rfl rfl)
theorem dX0_disconnect_19 : decode cX0_disconnect 19 = .ok (.iconst 2, 1) := dk_5 (dk_at dksX0_disconnect_0 19 rfl rfl)
theorem dX0_disconnect_20 : decode cX0_disconnect 20 = .ok (.ireturn, 1) := dk_172 (dk_at dksX0_disconnect_0 20 rfl rfl)
theorem dX0_disconnect_21 : decode cX0_disconnect 21 = .ok (.astore 4, 2) := dk_58 4 (dk_at dksX0_disconnect_0 21 rfl rfl)
theorem dX0_disconnect_23 : decode cX0_disconnect 23 = .ok (.iconst 3, 1) := dk_6 (dk_at dksX0_disconnect_0 23 rfl rfl)
theorem dX0_disconnect_24 : decode cX0_disconnect 24 = .ok (.ireturn, 1) := dk_172 (dk_at dksX0_disconnect_1 0 rfl rfl)
theorem dX0_disconnect_25 : decode cX0_disconnect 25 = .ok (.iconst 0, 1) := dk_3 (dk_at dksX0_disconnect_1 1 rfl rfl)
theorem dX0_disconnect_26 : decode cX0_disconnect 26 = .ok (.ireturn, 1) := dk_172 (dk_at dksX0_disconnect_1 2 rfl rfl)
theorem q1289 : (Jvm.Cond.methodLink "PlugboardLaw" (49 : Nat) ({ cls := "Plugboard", name := "disconnect", desc := "(II)I" } : Jvm.MethodName)) ∈ lw_all := lw_g (lw_at lw_m6 19 rfl) rfl
theorem q1290 : (Jvm.Cond.instanceMethod ({ cls := "Plugboard", name := "disconnect", desc := "(II)I" } : Jvm.MethodName)) ∈ lw_all := lw_g (lw_at lw_m6 20 rfl) rfl
theorem q1291 : (Jvm.Cond.selects "Plugboard" ({ cls := "Plugboard", name := "disconnect", desc := "(II)I" } : Jvm.MethodName) ({ cls := "Plugboard", name := "disconnect", desc := "(II)I" } : Jvm.MethodName)) ∈ lw_all := lw_g (lw_at lw_m6 21 rfl) rfl
theorem q1292 : (Jvm.Cond.code ({ cls := "Plugboard", name := "disconnect", desc := "(II)I" } : Jvm.MethodName) prog_1_method_32_code (5 : Nat) (Option.some Jvm.ClassFile.FieldType.int)) ∈ lw_all := lw_g (lw_at lw_m6 22 rfl) rfl
abbrev rm_X0_disconnect : Room := { frames := 12, cells := 14, slots := 212, locals := 294 }
def w_X0_disconnect (a0 : Option Nat) (a1 : Int32) (a2 : Int32) (a3 : Option Nat) (h : AH) (P : Int32 → AH → Prop) : Prop :=
  is_c h a0 [0] (
  w_X1_disconnect a0 a1 a2 h (fun y5 h5 =>
  s_L h5 a3 0 (Int32.toInt64 y5) fun h9 =>
  P 0 h9)
    (fun E9 h9 => (E9 = "java/lang/IllegalArgumentException" ∧ ∀ q9 : Nat,
    P 1 h9) ∨
    (E9 = "java/util/NoSuchElementException" ∧ ∀ q9 : Nat,
    P 2 h9) ∨
    (E9 = "java/lang/IllegalStateException" ∧ ∀ q9 : Nat,
    P 3 h9)))
theorem met_X0_disconnect (l : Launch) (hlt : l.stackTraces = false) (G : GG) (h : AH) (a0 : Option Nat) (a1 : Int32) (a2 : Int32) (a3 : Option Nat) (P : Int32 → AH → Prop) (hw : w_X0_disconnect a0 a1 a2 a3 h P) : ct_i l yX0_disconnect (wsW_ yX0_disconnect cX0_disconnect 5 (Option.some Jvm.ClassFile.FieldType.int) [((0 : Nat), (10 : Nat), (13 : Nat), (13 : Nat)), ((0 : Nat), (10 : Nat), (17 : Nat), (21 : Nat)), ((0 : Nat), (10 : Nat), (21 : Nat), (15 : Nat))]) rm_X0_disconnect G h [vR a0, vI a1, vI a2, vR a3] P := by
  refine j_startWi hlt [(0, vR a0), (1, vI a1), (2, vI a2), (3, vR a3)] (by decide) rfl rfl (fun x X eG er en hQ hex => ?_)
  subst eG
  refine j_aload_n X (pc := 0) 3 dX0_disconnect_0 rfl rfl ?_
  refine j_iconst X (pc := 1) 0 dX0_disconnect_1 (by decide) ?_
  refine j_aload_n X (pc := 2) 0 dX0_disconnect_2 rfl rfl ?_
  refine j_iload_n X (pc := 3) 1 dX0_disconnect_3 rfl rfl ?_
  refine j_iload_n X (pc := 4) 2 dX0_disconnect_4 rfl rfl ?_
  obtain ⟨b9, c9, f9, hr9, ho9, hc9, hw⟩ := hw
  obtain rfl := List.mem_singleton.mp hc9
  refine j_callXi (j_runVX (n8 := 2) (As := [vI a1, vI a2]) (rest := [vI 0, vR a3]) X (pc := 5) hr9 (met_X1_disconnect (xl x) X.hl (xG x) h a0 a1 a2 _ _ hw) ho9 (by decide) rfl q1289 q1290 q1291 q71 q1292 (by decide +kernel) dX0_disconnect_5 rfl ⟨Nat.le_of_ble_eq_true rfl, Nat.le_of_ble_eq_true rfl⟩ (Nat.le_of_ble_eq_true rfl) ⟨Nat.le_of_ble_eq_true rfl, Nat.le_of_ble_eq_true rfl⟩) ?_ (fun y5 h5 hw => ?_)
  · intro E9 h9 hx
    rcases hx with ⟨rfl, hw⟩ | ⟨rfl, hw⟩ | ⟨rfl, hw⟩
    · refine j_catch X (pc := 5) "java/lang/IllegalArgumentException" hex [] [⟨0, 10, 17, 21⟩, ⟨0, 10, 21, 15⟩] ⟨0, 10, 13, 13⟩ rfl (by intro y hy; cases hy) (by decide) (by decide) q291 q312 (fun q9 => ?_)
      have hw := hw q9
      refine j_astore X (pc := 13) [(4, vR (some q9)), (0, vR a0), (1, vI a1), (2, vI a2), (3, vR a3)] dX0_disconnect_13 (Nat.le_of_ble_eq_true rfl) rfl ?_
      refine j_iconst X (pc := 15) 1 dX0_disconnect_15 (by decide) ?_
      exact j_iret X (pc := 16) hQ er (Nat.le_of_ble_eq_true rfl) (Nat.le_of_ble_eq_true rfl) dX0_disconnect_16 hw
    · refine j_catch X (pc := 5) "java/util/NoSuchElementException" hex [⟨0, 10, 13, 13⟩] [⟨0, 10, 21, 15⟩] ⟨0, 10, 17, 21⟩ rfl (by intro y hy; simp only [List.mem_cons, List.not_mem_nil, or_false] at hy; subst hy; exact Or.inr ⟨by decide, "java/lang/IllegalArgumentException", q291, by decide +kernel⟩) (by decide) (by decide) q1068 q537 (fun q9 => ?_)
      have hw := hw q9
      refine j_astore X (pc := 17) [(4, vR (some q9)), (0, vR a0), (1, vI a1), (2, vI a2), (3, vR a3)] dX0_disconnect_17 (Nat.le_of_ble_eq_true rfl) rfl ?_
      refine j_iconst X (pc := 19) 2 dX0_disconnect_19 (by decide) ?_
      exact j_iret X (pc := 20) hQ er (Nat.le_of_ble_eq_true rfl) (Nat.le_of_ble_eq_true rfl) dX0_disconnect_20 hw
    · refine j_catch X (pc := 5) "java/lang/IllegalStateException" hex [⟨0, 10, 13, 13⟩, ⟨0, 10, 17, 21⟩] [] ⟨0, 10, 21, 15⟩ rfl (by intro y hy; simp only [List.mem_cons, List.not_mem_nil, or_false] at hy; rcases hy with rfl | rfl <;> first | exact Or.inr ⟨by decide, "java/lang/IllegalArgumentException", q291, by decide +kernel⟩ | exact Or.inr ⟨by decide, "java/util/NoSuchElementException", q1068, by decide +kernel⟩) (by decide) (by decide) q292 q387 (fun q9 => ?_)
      have hw := hw q9
      refine j_astore X (pc := 21) [(4, vR (some q9)), (0, vR a0), (1, vI a1), (2, vI a2), (3, vR a3)] dX0_disconnect_21 (Nat.le_of_ble_eq_true rfl) rfl ?_
      refine j_iconst X (pc := 23) 3 dX0_disconnect_23 (by decide) ?_
      exact j_iret X (pc := 24) hQ er (Nat.le_of_ble_eq_true rfl) (Nat.le_of_ble_eq_true rfl) dX0_disconnect_24 hw
  refine j_i2l X (pc := 8) dX0_disconnect_8 ?_
  refine j_last X (pc := 9) dX0_disconnect_9 hw (fun h9 hw => ?_)
  refine j_goto X (pc := 10) 25 dX0_disconnect_10 (by decide) ?_
  refine j_iconst X (pc := 25) 0 dX0_disconnect_25 (by decide) ?_
  exact j_iret X (pc := 26) hQ er (Nat.le_of_ble_eq_true rfl) (Nat.le_of_ble_eq_true rfl) dX0_disconnect_26 hw
abbrev cX5_isJoined : ByteArray := prog_19_method_12_code
def yX5_isJoined : MethodName := ⟨RX5, "isJoined", "(I)Z"⟩
def dkwX5_isJoined_2 : List UInt8 := [182, 0, 125, 153, 0, 7, 4, 167, 0, 4, 3, 172]
abbrev dktX5_isJoined_2 : List UInt8 := dkwX5_isJoined_2 ++ []
def dkwX5_isJoined_1 : List UInt8 := [160, 0, 33, 42, 42, 180, 0, 16, 27, 46, 182, 0, 125, 153, 0, 20, 42, 42, 180, 0, 19, 27, 46]
abbrev dktX5_isJoined_1 : List UInt8 := dkwX5_isJoined_1 ++ dktX5_isJoined_2
def dkwX5_isJoined_0 : List UInt8 := [27, 3, 42, 180, 0, 122, 4, 100, 184, 0, 101, 153, 0, 46, 42, 180, 0, 67, 16, 48, 27, 96, 46, 4]
abbrev dktX5_isJoined_0 : List UInt8 := dkwX5_isJoined_0 ++ dktX5_isJoined_1
theorem dksX5_isJoined_0 : cX5_isJoined.data.toList.drop 0 = dktX5_isJoined_0 := by decide +kernel
theorem dksX5_isJoined_1 : cX5_isJoined.data.toList.drop 24 = dktX5_isJoined_1 := dk_seg dksX5_isJoined_0 24 rfl rfl
theorem dksX5_isJoined_2 : cX5_isJoined.data.toList.drop 47 = dktX5_isJoined_2 := dk_seg dksX5_isJoined_1 23 rfl rfl
theorem dX5_isJoined_0 : decode cX5_isJoined 0 = .ok (.iload_n 1, 1) := dk_27 (dk_at dksX5_isJoined_0 0 rfl rfl)
theorem dX5_isJoined_1 : decode cX5_isJoined 1 = .ok (.iconst 0, 1) := dk_3 (dk_at dksX5_isJoined_0 1 rfl rfl)
theorem dX5_isJoined_2 : decode cX5_isJoined 2 = .ok (.aload_n 0, 1) := dk_42 (dk_at dksX5_isJoined_0 2 rfl rfl)
theorem dX5_isJoined_3 : decode cX5_isJoined 3 = .ok (.getfield 122, 3) := dk_180 0 122 (dk_at dksX5_isJoined_0 3 rfl rfl)
theorem dX5_isJoined_6 : decode cX5_isJoined 6 = .ok (.iconst 1, 1) := dk_4 (dk_at dksX5_isJoined_0 6 rfl rfl)
theorem dX5_isJoined_7 : decode cX5_isJoined 7 = .ok (.isub, 1) := dk_100 (dk_at dksX5_isJoined_0 7 rfl rfl)
theorem dX5_isJoined_8 : decode cX5_isJoined 8 = .ok (.invokestatic 101, 3) := dk_184 0 101 (dk_at dksX5_isJoined_0 8 rfl rfl)
theorem dX5_isJoined_11 : decode cX5_isJoined 11 = .ok (.ifCond .eq 46, 3) := dk_153 0 46 (dk_at dksX5_isJoined_0 11 rfl rfl)
theorem dX5_isJoined_14 : decode cX5_isJoined 14 = .ok (.aload_n 0, 1) := dk_42 (dk_at dksX5_isJoined_0 14 rfl rfl)
theorem dX5_isJoined_15 : decode cX5_isJoined 15 = .ok (.getfield 67, 3) := dk_180 0 67 (dk_at dksX5_isJoined_0 15 rfl rfl)
theorem dX5_isJoined_18 : decode cX5_isJoined 18 = .ok (.bipush 48, 2) := dk_16 48 (dk_at dksX5_isJoined_0 18 rfl rfl)
theorem dX5_isJoined_20 : decode cX5_isJoined 20 = .ok (.iload_n 1, 1) := dk_27 (dk_at dksX5_isJoined_0 20 rfl rfl)
theorem dX5_isJoined_21 : decode cX5_isJoined 21 = .ok (.iadd, 1) := dk_96 (dk_at dksX5_isJoined_0 21 rfl rfl)
theorem dX5_isJoined_22 : decode cX5_isJoined 22 = .ok (.iaload, 1) := dk_46 (dk_at dksX5_isJoined_0 22 rfl rfl)
theorem dX5_isJoined_23 : decode cX5_isJoined 23 = .ok (.iconst 1, 1) := dk_4 (dk_at dksX5_isJoined_0 23 rfl rfl)
theorem dX5_isJoined_24 : decode cX5_isJoined 24 = .ok (.if_icmp .ne 33, 3) := dk_160 0 33 (dk_at dksX5_isJoined_1 0 rfl rfl)
theorem dX5_isJoined_27 : decode cX5_isJoined 27 = .ok (.aload_n 0, 1) := dk_42 (dk_at dksX5_isJoined_1 3 rfl rfl)
theorem dX5_isJoined_28 : decode cX5_isJoined 28 = .ok (.aload_n 0, 1) := dk_42 (dk_at dksX5_isJoined_1 4 rfl rfl)
theorem dX5_isJoined_29 : decode cX5_isJoined 29 = .ok (.getfield 16, 3) := dk_180 0 16 (dk_at dksX5_isJoined_1 5 rfl rfl)
theorem dX5_isJoined_32 : decode cX5_isJoined 32 = .ok (.iload_n 1, 1) := dk_27 (dk_at dksX5_isJoined_1 8 rfl rfl)
theorem dX5_isJoined_33 : decode cX5_isJoined 33 = .ok (.iaload, 1) := dk_46 (dk_at dksX5_isJoined_1 9 rfl rfl)
theorem dX5_isJoined_34 : decode cX5_isJoined 34 = .ok (.invokevirtual 125, 3) := dk_182 0 125 (dk_at dksX5_isJoined_1 10 rfl rfl)
theorem dX5_isJoined_37 : decode cX5_isJoined 37 = .ok (.ifCond .eq 20, 3) := dk_153 0 20 (dk_at dksX5_isJoined_1 13 rfl rfl)
theorem dX5_isJoined_40 : decode cX5_isJoined 40 = .ok (.aload_n 0, 1) := dk_42 (dk_at dksX5_isJoined_1 16 rfl rfl)
theorem dX5_isJoined_41 : decode cX5_isJoined 41 = .ok (.aload_n 0, 1) := dk_42 (dk_at dksX5_isJoined_1 17 rfl rfl)
theorem dX5_isJoined_42 : decode cX5_isJoined 42 = .ok (.getfield 19, 3) := dk_180 0 19 (dk_at dksX5_isJoined_1 18 rfl rfl)
theorem dX5_isJoined_45 : decode cX5_isJoined 45 = .ok (.iload_n 1, 1) := dk_27 (dk_at dksX5_isJoined_1 21 rfl rfl)
theorem dX5_isJoined_46 : decode cX5_isJoined 46 = .ok (.iaload, 1) := dk_46 (dk_at dksX5_isJoined_1 22 rfl rfl)
theorem dX5_isJoined_47 : decode cX5_isJoined 47 = .ok (.invokevirtual 125, 3) := dk_182 0 125 (dk_at dksX5_isJoined_2 0 rfl rfl)
theorem dX5_isJoined_50 : decode cX5_isJoined 50 = .ok (.ifCond .eq 7, 3) := dk_153 0 7 (dk_at dksX5_isJoined_2 3 rfl rfl)
theorem dX5_isJoined_53 : decode cX5_isJoined 53 = .ok (.iconst 1, 1) := dk_4 (dk_at dksX5_isJoined_2 6 rfl rfl)
theorem dX5_isJoined_54 : decode cX5_isJoined 54 = .ok (.goto 4, 3) := dk_167 0 4 (dk_at dksX5_isJoined_2 7 rfl rfl)
theorem dX5_isJoined_57 : decode cX5_isJoined 57 = .ok (.iconst 0, 1) := dk_3 (dk_at dksX5_isJoined_2 10 rfl rfl)
theorem dX5_isJoined_58 : decode cX5_isJoined 58 = .ok (.ireturn, 1) := dk_172 (dk_at dksX5_isJoined_2 11 rfl rfl)
abbrev rm_X5_isJoined : Room := { frames := 2, cells := 0, slots := 0, locals := 43 }
def w_X5_isJoined (a0 : Option Nat) (a1 : Int32) (h : AH) (P : Int32 → AH → Prop) : Prop :=
  g_i h a0 4 9 fun y3 =>
  w_X5_isBetween a1 0 (y3 - 1) h (fun y8 h8 =>
  ((y8 = 0 →
    P 0 h8) ∧
   (¬ y8 = 0 →
    g_q h8 a0 4 21 fun y15 =>
    l_i h8 y15 0 (48 + a1) fun y22 =>
    ((y22 = 1 →
      g_q h8 a0 4 3 fun y29 =>
      l_i h8 y29 0 a1 fun y33 =>
      is_c h8 a0 [4] (
      w_X5_isSeen a0 y33 h8 (fun y34 h34 =>
      ((y34 = 0 →
        P 0 h34) ∧
       (¬ y34 = 0 →
        g_q h34 a0 4 4 fun y42 =>
        l_i h34 y42 0 a1 fun y46 =>
        is_c h34 a0 [4] (
        w_X5_isSeen a0 y46 h34 (fun y47 h47 =>
        ((y47 = 0 →
          P 0 h47) ∧
         (¬ y47 = 0 →
          P 1 h47))))))))) ∧
     (¬ y22 = 1 →
      P 0 h8)))))
theorem met_X5_isJoined (l : Launch) (hlt : l.stackTraces = false) (G : GG) (h : AH) (a0 : Option Nat) (a1 : Int32) (P : Int32 → AH → Prop) (hw : w_X5_isJoined a0 a1 h P) : ct_i l yX5_isJoined (ws_ yX5_isJoined cX5_isJoined 2 (Option.some Jvm.ClassFile.FieldType.boolean)) rm_X5_isJoined G h [vR a0, vI a1] P := by
  refine j_starti hlt [(0, vR a0), (1, vI a1)] (plainFor_of_name (by decide)) rfl rfl (fun x X eG er en hQ => ?_)
  subst eG
  refine j_iload_n X (pc := 0) 1 dX5_isJoined_0 rfl rfl ?_
  refine j_iconst X (pc := 1) 0 dX5_isJoined_1 (by decide) ?_
  refine j_aload_n X (pc := 2) 0 dX5_isJoined_2 rfl rfl ?_
  refine j_geti (ci := 4) X (pc := 3) in_X5 rfl (by decide) 9 (by decide) q1881 (Or.inl rfl) dX5_isJoined_3 hw (fun y3 hw => ?_)
  refine j_iconst X (pc := 6) 1 dX5_isJoined_6 (by decide) ?_
  refine j_isub X (pc := 7) dX5_isJoined_7 ?_
  refine j_calli (j_runS (n8 := 3) (As := [vI a1, vI 0, vI (y3 - 1)]) (rest := []) X (pc := 8) (met_X5_isBetween (xl x) X.hl (xG x) h a1 0 (y3 - 1) _ hw) q1981 q1982 q78 q1983 (by decide +kernel) dX5_isJoined_8 rfl ⟨Nat.le_of_ble_eq_true rfl, Nat.le_of_ble_eq_true rfl⟩ (Nat.le_of_ble_eq_true rfl) ⟨Nat.le_of_ble_eq_true rfl, Nat.le_of_ble_eq_true rfl⟩) (fun y8 h8 hw => ?_)
  refine j_if_eq X (pc := 11) 57 dX5_isJoined_11 (by decide) hw (fun hw => ?_) (fun hw => ?_)
  · refine j_iconst X (pc := 57) 0 dX5_isJoined_57 (by decide) ?_
    exact j_zret X (pc := 58) (ty := .boolean) hQ er rfl (Nat.le_of_ble_eq_true rfl) (Nat.le_of_ble_eq_true rfl) dX5_isJoined_58 hw
  · refine j_aload_n X (pc := 14) 0 dX5_isJoined_14 rfl rfl ?_
    refine j_getq (ci := 4) X (pc := 15) in_X5 rfl (by decide) 21 (by decide) q1893 (Or.inl rfl) dX5_isJoined_15 hw (fun y15 hw => ?_)
    refine j_bipush X (pc := 18) 48 dX5_isJoined_18 (by decide) ?_
    refine j_iload_n X (pc := 20) 1 dX5_isJoined_20 rfl rfl ?_
    refine j_iadd X (pc := 21) dX5_isJoined_21 ?_
    refine j_iald X (pc := 22) 0 rfl dX5_isJoined_22 hw (fun y22 hw => ?_)
    refine j_iconst X (pc := 23) 1 dX5_isJoined_23 (by decide) ?_
    refine j_icmp_ne X (pc := 24) 57 dX5_isJoined_24 (by decide) hw (fun hw => ?_) (fun hw => ?_)
    · refine j_aload_n X (pc := 27) 0 dX5_isJoined_27 rfl rfl ?_
      refine j_aload_n X (pc := 28) 0 dX5_isJoined_28 rfl rfl ?_
      refine j_getq (ci := 4) X (pc := 29) in_X5 rfl (by decide) 3 (by decide) q1875 (Or.inl rfl) dX5_isJoined_29 hw (fun y29 hw => ?_)
      refine j_iload_n X (pc := 32) 1 dX5_isJoined_32 rfl rfl ?_
      refine j_iald X (pc := 33) 0 rfl dX5_isJoined_33 hw (fun y33 hw => ?_)
      obtain ⟨b9, c9, f9, hr9, ho9, hc9, hw⟩ := hw
      obtain rfl := List.mem_singleton.mp hc9
      refine j_calli (j_runV (n8 := 1) (As := [vI y33]) (rest := []) X (pc := 34) hr9 (met_X5_isSeen (xl x) X.hl (xG x) h8 a0 y33 _ hw) ho9 (by decide) rfl q2012 q2014 qs39 q78 q2015 (by decide +kernel) dX5_isJoined_34 rfl ⟨Nat.le_of_ble_eq_true rfl, Nat.le_of_ble_eq_true rfl⟩ (Nat.le_of_ble_eq_true rfl) ⟨Nat.le_of_ble_eq_true rfl, Nat.le_of_ble_eq_true rfl⟩) (fun y34 h34 hw => ?_)
      refine j_if_eq X (pc := 37) 57 dX5_isJoined_37 (by decide) hw (fun hw => ?_) (fun hw => ?_)
      · refine j_iconst X (pc := 57) 0 dX5_isJoined_57 (by decide) ?_
        exact j_zret X (pc := 58) (ty := .boolean) hQ er rfl (Nat.le_of_ble_eq_true rfl) (Nat.le_of_ble_eq_true rfl) dX5_isJoined_58 hw
      · refine j_aload_n X (pc := 40) 0 dX5_isJoined_40 rfl rfl ?_
        refine j_aload_n X (pc := 41) 0 dX5_isJoined_41 rfl rfl ?_
        refine j_getq (ci := 4) X (pc := 42) in_X5 rfl (by decide) 4 (by decide) q1876 (Or.inl rfl) dX5_isJoined_42 hw (fun y42 hw => ?_)
        refine j_iload_n X (pc := 45) 1 dX5_isJoined_45 rfl rfl ?_
        refine j_iald X (pc := 46) 0 rfl dX5_isJoined_46 hw (fun y46 hw => ?_)
        obtain ⟨b9, c9, f9, hr9, ho9, hc9, hw⟩ := hw
        obtain rfl := List.mem_singleton.mp hc9
        refine j_calli (j_runV (n8 := 1) (As := [vI y46]) (rest := []) X (pc := 47) hr9 (met_X5_isSeen (xl x) X.hl (xG x) h34 a0 y46 _ hw) ho9 (by decide) rfl q2012 q2014 qs39 q78 q2015 (by decide +kernel) dX5_isJoined_47 rfl ⟨Nat.le_of_ble_eq_true rfl, Nat.le_of_ble_eq_true rfl⟩ (Nat.le_of_ble_eq_true rfl) ⟨Nat.le_of_ble_eq_true rfl, Nat.le_of_ble_eq_true rfl⟩) (fun y47 h47 hw => ?_)
        refine j_if_eq X (pc := 50) 57 dX5_isJoined_50 (by decide) hw (fun hw => ?_) (fun hw => ?_)
        · refine j_iconst X (pc := 57) 0 dX5_isJoined_57 (by decide) ?_
          exact j_zret X (pc := 58) (ty := .boolean) hQ er rfl (Nat.le_of_ble_eq_true rfl) (Nat.le_of_ble_eq_true rfl) dX5_isJoined_58 hw
        · refine j_iconst X (pc := 53) 1 dX5_isJoined_53 (by decide) ?_
          refine j_goto X (pc := 54) 58 dX5_isJoined_54 (by decide) ?_
          exact j_zret X (pc := 58) (ty := .boolean) hQ er rfl (Nat.le_of_ble_eq_true rfl) (Nat.le_of_ble_eq_true rfl) dX5_isJoined_58 hw
    · refine j_iconst X (pc := 57) 0 dX5_isJoined_57 (by decide) ?_
      exact j_zret X (pc := 58) (ty := .boolean) hQ er rfl (Nat.le_of_ble_eq_true rfl) (Nat.le_of_ble_eq_true rfl) dX5_isJoined_58 hw
abbrev cX5_joinedMany : ByteArray := prog_19_method_17_code
def yX5_joinedMany : MethodName := ⟨RX5, "joinedMany", "()I"⟩
def dkwX5_joinedMany_1 : List UInt8 := [167, 0, 4, 3, 96, 60, 132, 2, 1, 167, 255, 229, 27, 172]
abbrev dktX5_joinedMany_1 : List UInt8 := dkwX5_joinedMany_1 ++ []
def dkwX5_joinedMany_0 : List UInt8 := [3, 60, 3, 61, 28, 42, 180, 0, 122, 162, 0, 25, 27, 42, 28, 182, 0, 135, 153, 0, 7, 4]
abbrev dktX5_joinedMany_0 : List UInt8 := dkwX5_joinedMany_0 ++ dktX5_joinedMany_1
theorem dksX5_joinedMany_0 : cX5_joinedMany.data.toList.drop 0 = dktX5_joinedMany_0 := by decide +kernel
theorem dksX5_joinedMany_1 : cX5_joinedMany.data.toList.drop 22 = dktX5_joinedMany_1 := dk_seg dksX5_joinedMany_0 22 rfl rfl
theorem dX5_joinedMany_0 : decode cX5_joinedMany 0 = .ok (.iconst 0, 1) := dk_3 (dk_at dksX5_joinedMany_0 0 rfl rfl)
theorem dX5_joinedMany_1 : decode cX5_joinedMany 1 = .ok (.istore_n 1, 1) := dk_60 (dk_at dksX5_joinedMany_0 1 rfl rfl)
theorem dX5_joinedMany_2 : decode cX5_joinedMany 2 = .ok (.iconst 0, 1) := dk_3 (dk_at dksX5_joinedMany_0 2 rfl rfl)
theorem dX5_joinedMany_3 : decode cX5_joinedMany 3 = .ok (.istore_n 2, 1) := dk_61 (dk_at dksX5_joinedMany_0 3 rfl rfl)
theorem dX5_joinedMany_4 : decode cX5_joinedMany 4 = .ok (.iload_n 2, 1) := dk_28 (dk_at dksX5_joinedMany_0 4 rfl rfl)
theorem dX5_joinedMany_5 : decode cX5_joinedMany 5 = .ok (.aload_n 0, 1) := dk_42 (dk_at dksX5_joinedMany_0 5 rfl rfl)
theorem dX5_joinedMany_6 : decode cX5_joinedMany 6 = .ok (.getfield 122, 3) := dk_180 0 122 (dk_at dksX5_joinedMany_0 6 rfl rfl)
theorem dX5_joinedMany_9 : decode cX5_joinedMany 9 = .ok (.if_icmp .ge 25, 3) := dk_162 0 25 (dk_at dksX5_joinedMany_0 9 rfl rfl)
theorem dX5_joinedMany_12 : decode cX5_joinedMany 12 = .ok (.iload_n 1, 1) := dk_27 (dk_at dksX5_joinedMany_0 12 rfl rfl)
theorem dX5_joinedMany_13 : decode cX5_joinedMany 13 = .ok (.aload_n 0, 1) := dk_42 (dk_at dksX5_joinedMany_0 13 rfl rfl)
theorem dX5_joinedMany_14 : decode cX5_joinedMany 14 = .ok (.iload_n 2, 1) := dk_28 (dk_at dksX5_joinedMany_0 14 rfl rfl)
theorem dX5_joinedMany_15 : decode cX5_joinedMany 15 = .ok (.invokevirtual 135, 3) := dk_182 0 135 (dk_at dksX5_joinedMany_0 15 rfl rfl)
theorem dX5_joinedMany_18 : decode cX5_joinedMany 18 = .ok (.ifCond .eq 7, 3) := dk_153 0 7 (dk_at dksX5_joinedMany_0 18 rfl rfl)
theorem dX5_joinedMany_21 : decode cX5_joinedMany 21 = .ok (.iconst 1, 1) := dk_4 (dk_at dksX5_joinedMany_0 21 rfl rfl)
theorem dX5_joinedMany_22 : decode cX5_joinedMany 22 = .ok (.goto 4, 3) := dk_167 0 4 (dk_at dksX5_joinedMany_1 0 rfl rfl)
theorem dX5_joinedMany_25 : decode cX5_joinedMany 25 = .ok (.iconst 0, 1) := dk_3 (dk_at dksX5_joinedMany_1 3 rfl rfl)
theorem dX5_joinedMany_26 : decode cX5_joinedMany 26 = .ok (.iadd, 1) := dk_96 (dk_at dksX5_joinedMany_1 4 rfl rfl)
theorem dX5_joinedMany_27 : decode cX5_joinedMany 27 = .ok (.istore_n 1, 1) := dk_60 (dk_at dksX5_joinedMany_1 5 rfl rfl)
theorem dX5_joinedMany_28 : decode cX5_joinedMany 28 = .ok (.iinc 2 1, 3) := dk_132 2 1 (dk_at dksX5_joinedMany_1 6 rfl rfl)
theorem dX5_joinedMany_31 : decode cX5_joinedMany 31 = .ok (.goto (-27), 3) := dk_167 255 229 (dk_at dksX5_joinedMany_1 9 rfl rfl)
theorem dX5_joinedMany_34 : decode cX5_joinedMany 34 = .ok (.iload_n 1, 1) := dk_27 (dk_at dksX5_joinedMany_1 12 rfl rfl)
theorem dX5_joinedMany_35 : decode cX5_joinedMany 35 = .ok (.ireturn, 1) := dk_172 (dk_at dksX5_joinedMany_1 13 rfl rfl)
theorem q2110 : (Jvm.Cond.methodLink "PlugboardModel" (135 : Nat) ({ cls := "PlugboardModel", name := "isJoined", desc := "(I)Z" } : Jvm.MethodName)) ∈ lw_all := lw_g (lw_at lw_m9 120 rfl) rfl
theorem q2112 : (Jvm.Cond.instanceMethod ({ cls := "PlugboardModel", name := "isJoined", desc := "(I)Z" } : Jvm.MethodName)) ∈ lw_all := lw_g (lw_at lw_m9 122 rfl) rfl
theorem q2113 : (Jvm.Cond.code ({ cls := "PlugboardModel", name := "isJoined", desc := "(I)Z" } : Jvm.MethodName) prog_19_method_12_code (2 : Nat) (Option.some Jvm.ClassFile.FieldType.boolean)) ∈ lw_all := lw_g (lw_at lw_m9 123 rfl) rfl
abbrev rm_X5_joinedMany : Room := { frames := 3, cells := 0, slots := 0, locals := 64 }
def w_X5_joinedMany_4 (P : Int32 → AH → Prop) (x0 : Option Nat) (x1 : Int32) (x2 : Int32) (h : AH) : Prop :=
  ∀ Z4 : Int32 → Int32 → AH → Prop, (∀ x1 x2 h, (
      g_i h x0 4 9 fun y6 =>
      ((y6 ≤ x2 →
        P x1 h) ∧
       (¬ y6 ≤ x2 →
        is_c h x0 [4] (
        w_X5_isJoined x0 x2 h (fun y15 h15 =>
        ((y15 = 0 →
          Z4 (x1 + 0) (x2 + 1) h15) ∧
         (¬ y15 = 0 →
          Z4 (x1 + 1) (x2 + 1) h15)))))))
      → Z4 x1 x2 h) → Z4 x1 x2 h
def w_X5_joinedMany (a0 : Option Nat) (h : AH) (P : Int32 → AH → Prop) : Prop :=
  w_X5_joinedMany_4 P a0 0 0 h
theorem wk_X5_joinedMany_4 {x : CX} (X : Ok x cX5_joinedMany RX5 rm_X5_joinedMany 3) (er : xrt x = (Option.some Jvm.ClassFile.FieldType.int)) (en : xnm x = yX5_joinedMany.name) {P : Int32 → AH → Prop} (hQ : xr_i x P) (x0 : Option Nat) (x1 : Int32) (x2 : Int32) (h : AH) (hw : w_X5_joinedMany_4 P x0 x1 x2 h) : J x h 0 0 4 [(0, vR x0), (1, vI x1), (2, vI x2)] [] := by
  refine hw (fun x1 x2 h => J x h 0 0 4 [(0, vR x0), (1, vI x1), (2, vI x2)] []) (fun x1 x2 h hw => ?_)
  refine j_iload_n X (pc := 4) 2 dX5_joinedMany_4 rfl rfl ?_
  refine j_aload_n X (pc := 5) 0 dX5_joinedMany_5 rfl rfl ?_
  refine j_geti (ci := 4) X (pc := 6) in_X5 rfl (by decide) 9 (by decide) q1881 (Or.inl rfl) dX5_joinedMany_6 hw (fun y6 hw => ?_)
  refine j_icmp_ge X (pc := 9) 34 dX5_joinedMany_9 (by decide) hw (fun hw => ?_) (fun hw => ?_)
  · refine j_iload_n X (pc := 34) 1 dX5_joinedMany_34 rfl rfl ?_
    exact j_iret X (pc := 35) hQ er (Nat.le_of_ble_eq_true rfl) (Nat.le_of_ble_eq_true rfl) dX5_joinedMany_35 hw
  · refine j_iload_n X (pc := 12) 1 dX5_joinedMany_12 rfl rfl ?_
    refine j_aload_n X (pc := 13) 0 dX5_joinedMany_13 rfl rfl ?_
    refine j_iload_n X (pc := 14) 2 dX5_joinedMany_14 rfl rfl ?_
    obtain ⟨b9, c9, f9, hr9, ho9, hc9, hw⟩ := hw
    obtain rfl := List.mem_singleton.mp hc9
    refine j_calli (j_runV (n8 := 1) (As := [vI x2]) (rest := [vI x1]) X (pc := 15) hr9 (met_X5_isJoined (xl x) X.hl (xG x) h x0 x2 _ hw) ho9 (by decide) rfl q2110 q2112 qs53 q78 q2113 (by decide +kernel) dX5_joinedMany_15 rfl ⟨Nat.le_of_ble_eq_true rfl, Nat.le_of_ble_eq_true rfl⟩ (Nat.le_of_ble_eq_true rfl) ⟨Nat.le_of_ble_eq_true rfl, Nat.le_of_ble_eq_true rfl⟩) (fun y15 h15 hw => ?_)
    refine j_if_eq X (pc := 18) 25 dX5_joinedMany_18 (by decide) hw (fun hw => ?_) (fun hw => ?_)
    · refine j_iconst X (pc := 25) 0 dX5_joinedMany_25 (by decide) ?_
      refine j_iadd X (pc := 26) dX5_joinedMany_26 ?_
      refine j_istore_n X (pc := 27) [(1, vI (x1 + 0)), (0, vR x0), (2, vI x2)] dX5_joinedMany_27 rfl (Nat.le_of_ble_eq_true rfl) rfl ?_
      refine j_iinc X (pc := 28) 2 (x2 + 1) [(2, vI (x2 + 1)), (1, vI (x1 + 0)), (0, vR x0)] dX5_joinedMany_28 rfl rfl (Nat.le_of_ble_eq_true rfl) rfl ?_
      refine j_goto X (pc := 31) 4 dX5_joinedMany_31 (by decide) ?_
      refine j_lv [(0, vR x0), (1, vI (x1 + 0)), (2, vI (x2 + 1))] [2, 1, 0] rfl ?_
      refine j_cs (u' := 0) (v' := 0) (Nat.le_of_ble_eq_true rfl) (Nat.le_of_ble_eq_true rfl) ?_
      exact hw
    · refine j_iconst X (pc := 21) 1 dX5_joinedMany_21 (by decide) ?_
      refine j_goto X (pc := 22) 26 dX5_joinedMany_22 (by decide) ?_
      refine j_iadd X (pc := 26) dX5_joinedMany_26 ?_
      refine j_istore_n X (pc := 27) [(1, vI (x1 + 1)), (0, vR x0), (2, vI x2)] dX5_joinedMany_27 rfl (Nat.le_of_ble_eq_true rfl) rfl ?_
      refine j_iinc X (pc := 28) 2 (x2 + 1) [(2, vI (x2 + 1)), (1, vI (x1 + 1)), (0, vR x0)] dX5_joinedMany_28 rfl rfl (Nat.le_of_ble_eq_true rfl) rfl ?_
      refine j_goto X (pc := 31) 4 dX5_joinedMany_31 (by decide) ?_
      refine j_lv [(0, vR x0), (1, vI (x1 + 1)), (2, vI (x2 + 1))] [2, 1, 0] rfl ?_
      refine j_cs (u' := 0) (v' := 0) (Nat.le_of_ble_eq_true rfl) (Nat.le_of_ble_eq_true rfl) ?_
      exact hw
theorem met_X5_joinedMany (l : Launch) (hlt : l.stackTraces = false) (G : GG) (h : AH) (a0 : Option Nat) (P : Int32 → AH → Prop) (hw : w_X5_joinedMany a0 h P) : ct_i l yX5_joinedMany (ws_ yX5_joinedMany cX5_joinedMany 3 (Option.some Jvm.ClassFile.FieldType.int)) rm_X5_joinedMany G h [vR a0] P := by
  refine j_starti hlt [(0, vR a0)] (plainFor_of_name (by decide)) rfl rfl (fun x X eG er en hQ => ?_)
  subst eG
  refine j_iconst X (pc := 0) 0 dX5_joinedMany_0 (by decide) ?_
  refine j_istore_n X (pc := 1) [(1, vI 0), (0, vR a0)] dX5_joinedMany_1 rfl (Nat.le_of_ble_eq_true rfl) rfl ?_
  refine j_iconst X (pc := 2) 0 dX5_joinedMany_2 (by decide) ?_
  refine j_istore_n X (pc := 3) [(2, vI 0), (1, vI 0), (0, vR a0)] dX5_joinedMany_3 rfl (Nat.le_of_ble_eq_true rfl) rfl ?_
  refine j_lv [(0, vR a0), (1, vI 0), (2, vI 0)] [2, 1, 0] rfl ?_
  refine j_cs (u' := 0) (v' := 0) (Nat.le_of_ble_eq_true rfl) (Nat.le_of_ble_eq_true rfl) ?_
  exact wk_X5_joinedMany_4 X er en hQ a0 0 0 h hw
abbrev cX5_disconnect : ByteArray := prog_19_method_39_code
def yX5_disconnect : MethodName := ⟨RX5, "disconnect", "(II)I"⟩
def dkwX5_disconnect_3 : List UInt8 := [172]
abbrev dktX5_disconnect_3 : List UInt8 := dkwX5_disconnect_3 ++ []
def dkwX5_disconnect_2 : List UInt8 := [6, 182, 0, 172, 172, 42, 16, 48, 28, 96, 3, 182, 0, 179, 42, 27, 4, 182, 0, 186, 42, 182, 0, 216]
abbrev dktX5_disconnect_2 : List UInt8 := dkwX5_disconnect_2 ++ dktX5_disconnect_3
def dkwX5_disconnect_1 : List UInt8 := [28, 182, 0, 135, 154, 0, 9, 42, 5, 182, 0, 172, 172, 42, 180, 0, 108, 17, 0, 250, 160, 0, 9, 42]
abbrev dktX5_disconnect_1 : List UInt8 := dkwX5_disconnect_1 ++ dktX5_disconnect_2
def dkwX5_disconnect_0 : List UInt8 := [42, 3, 181, 0, 97, 27, 184, 0, 165, 154, 0, 9, 42, 4, 182, 0, 172, 172, 42, 27, 182, 0, 161, 42]
abbrev dktX5_disconnect_0 : List UInt8 := dkwX5_disconnect_0 ++ dktX5_disconnect_1
theorem dksX5_disconnect_0 : cX5_disconnect.data.toList.drop 0 = dktX5_disconnect_0 := by decide +kernel
theorem dksX5_disconnect_1 : cX5_disconnect.data.toList.drop 24 = dktX5_disconnect_1 := dk_seg dksX5_disconnect_0 24 rfl rfl
theorem dksX5_disconnect_2 : cX5_disconnect.data.toList.drop 48 = dktX5_disconnect_2 := dk_seg dksX5_disconnect_1 24 rfl rfl
theorem dksX5_disconnect_3 : cX5_disconnect.data.toList.drop 72 = dktX5_disconnect_3 := dk_seg dksX5_disconnect_2 24 rfl rfl
theorem dX5_disconnect_0 : decode cX5_disconnect 0 = .ok (.aload_n 0, 1) := dk_42 (dk_at dksX5_disconnect_0 0 rfl rfl)
theorem dX5_disconnect_1 : decode cX5_disconnect 1 = .ok (.iconst 0, 1) := dk_3 (dk_at dksX5_disconnect_0 1 rfl rfl)
theorem dX5_disconnect_2 : decode cX5_disconnect 2 = .ok (.putfield 97, 3) := dk_181 0 97 (dk_at dksX5_disconnect_0 2 rfl rfl)
theorem dX5_disconnect_5 : decode cX5_disconnect 5 = .ok (.iload_n 1, 1) := dk_27 (dk_at dksX5_disconnect_0 5 rfl rfl)
theorem dX5_disconnect_6 : decode cX5_disconnect 6 = .ok (.invokestatic 165, 3) := dk_184 0 165 (dk_at dksX5_disconnect_0 6 rfl rfl)
theorem dX5_disconnect_9 : decode cX5_disconnect 9 = .ok (.ifCond .ne 9, 3) := dk_154 0 9 (dk_at dksX5_disconnect_0 9 rfl rfl)
theorem dX5_disconnect_12 : decode cX5_disconnect 12 = .ok (.aload_n 0, 1) := dk_42 (dk_at dksX5_disconnect_0 12 rfl rfl)
theorem dX5_disconnect_13 : decode cX5_disconnect 13 = .ok (.iconst 1, 1) := dk_4 (dk_at dksX5_disconnect_0 13 rfl rfl)
theorem dX5_disconnect_14 : decode cX5_disconnect 14 = .ok (.invokevirtual 172, 3) := dk_182 0 172 (dk_at dksX5_disconnect_0 14 rfl rfl)
theorem dX5_disconnect_17 : decode cX5_disconnect 17 = .ok (.ireturn, 1) := dk_172 (dk_at dksX5_disconnect_0 17 rfl rfl)
theorem dX5_disconnect_18 : decode cX5_disconnect 18 = .ok (.aload_n 0, 1) := dk_42 (dk_at dksX5_disconnect_0 18 rfl rfl)
theorem dX5_disconnect_19 : decode cX5_disconnect 19 = .ok (.iload_n 1, 1) := dk_27 (dk_at dksX5_disconnect_0 19 rfl rfl)
theorem dX5_disconnect_20 : decode cX5_disconnect 20 = .ok (.invokevirtual 161, 3) := dk_182 0 161 (dk_at dksX5_disconnect_0 20 rfl rfl)
theorem dX5_disconnect_23 : decode cX5_disconnect 23 = .ok (.aload_n 0, 1) := dk_42 (dk_at dksX5_disconnect_0 23 rfl rfl)
theorem dX5_disconnect_24 : decode cX5_disconnect 24 = .ok (.iload_n 2, 1) := dk_28 (dk_at dksX5_disconnect_1 0 rfl rfl)
theorem dX5_disconnect_25 : decode cX5_disconnect 25 = .ok (.invokevirtual 135, 3) := dk_182 0 135 (dk_at dksX5_disconnect_1 1 rfl rfl)
theorem dX5_disconnect_28 : decode cX5_disconnect 28 = .ok (.ifCond .ne 9, 3) := dk_154 0 9 (dk_at dksX5_disconnect_1 4 rfl rfl)
theorem dX5_disconnect_31 : decode cX5_disconnect 31 = .ok (.aload_n 0, 1) := dk_42 (dk_at dksX5_disconnect_1 7 rfl rfl)
theorem dX5_disconnect_32 : decode cX5_disconnect 32 = .ok (.iconst 2, 1) := dk_5 (dk_at dksX5_disconnect_1 8 rfl rfl)
theorem dX5_disconnect_33 : decode cX5_disconnect 33 = .ok (.invokevirtual 172, 3) := dk_182 0 172 (dk_at dksX5_disconnect_1 9 rfl rfl)
theorem dX5_disconnect_36 : decode cX5_disconnect 36 = .ok (.ireturn, 1) := dk_172 (dk_at dksX5_disconnect_1 12 rfl rfl)
theorem dX5_disconnect_37 : decode cX5_disconnect 37 = .ok (.aload_n 0, 1) := dk_42 (dk_at dksX5_disconnect_1 13 rfl rfl)
theorem dX5_disconnect_38 : decode cX5_disconnect 38 = .ok (.getfield 108, 3) := dk_180 0 108 (dk_at dksX5_disconnect_1 14 rfl rfl)
theorem dX5_disconnect_41 : decode cX5_disconnect 41 = .ok (.sipush 250, 3) := dk_17 0 250 (dk_at dksX5_disconnect_1 17 rfl rfl)
theorem dX5_disconnect_44 : decode cX5_disconnect 44 = .ok (.if_icmp .ne 9, 3) := dk_160 0 9 (dk_at dksX5_disconnect_1 20 rfl rfl)
theorem dX5_disconnect_47 : decode cX5_disconnect 47 = .ok (.aload_n 0, 1) := dk_42 (dk_at dksX5_disconnect_1 23 rfl rfl)
theorem dX5_disconnect_48 : decode cX5_disconnect 48 = .ok (.iconst 3, 1) := dk_6 (dk_at dksX5_disconnect_2 0 rfl rfl)
theorem dX5_disconnect_49 : decode cX5_disconnect 49 = .ok (.invokevirtual 172, 3) := dk_182 0 172 (dk_at dksX5_disconnect_2 1 rfl rfl)
theorem dX5_disconnect_52 : decode cX5_disconnect 52 = .ok (.ireturn, 1) := dk_172 (dk_at dksX5_disconnect_2 4 rfl rfl)
theorem dX5_disconnect_53 : decode cX5_disconnect 53 = .ok (.aload_n 0, 1) := dk_42 (dk_at dksX5_disconnect_2 5 rfl rfl)
theorem dX5_disconnect_54 : decode cX5_disconnect 54 = .ok (.bipush 48, 2) := dk_16 48 (dk_at dksX5_disconnect_2 6 rfl rfl)
theorem dX5_disconnect_56 : decode cX5_disconnect 56 = .ok (.iload_n 2, 1) := dk_28 (dk_at dksX5_disconnect_2 8 rfl rfl)
theorem dX5_disconnect_57 : decode cX5_disconnect 57 = .ok (.iadd, 1) := dk_96 (dk_at dksX5_disconnect_2 9 rfl rfl)
theorem dX5_disconnect_58 : decode cX5_disconnect 58 = .ok (.iconst 0, 1) := dk_3 (dk_at dksX5_disconnect_2 10 rfl rfl)
theorem dX5_disconnect_59 : decode cX5_disconnect 59 = .ok (.invokevirtual 179, 3) := dk_182 0 179 (dk_at dksX5_disconnect_2 11 rfl rfl)
theorem dX5_disconnect_62 : decode cX5_disconnect 62 = .ok (.aload_n 0, 1) := dk_42 (dk_at dksX5_disconnect_2 14 rfl rfl)
theorem dX5_disconnect_63 : decode cX5_disconnect 63 = .ok (.iload_n 1, 1) := dk_27 (dk_at dksX5_disconnect_2 15 rfl rfl)
theorem dX5_disconnect_64 : decode cX5_disconnect 64 = .ok (.iconst 1, 1) := dk_4 (dk_at dksX5_disconnect_2 16 rfl rfl)
theorem dX5_disconnect_65 : decode cX5_disconnect 65 = .ok (.invokevirtual 186, 3) := dk_182 0 186 (dk_at dksX5_disconnect_2 17 rfl rfl)
theorem dX5_disconnect_68 : decode cX5_disconnect 68 = .ok (.aload_n 0, 1) := dk_42 (dk_at dksX5_disconnect_2 20 rfl rfl)
theorem dX5_disconnect_69 : decode cX5_disconnect 69 = .ok (.invokevirtual 216, 3) := dk_182 0 216 (dk_at dksX5_disconnect_2 21 rfl rfl)
theorem dX5_disconnect_72 : decode cX5_disconnect 72 = .ok (.ireturn, 1) := dk_172 (dk_at dksX5_disconnect_3 0 rfl rfl)
theorem q2114 : (Jvm.Cond.methodLink "PlugboardModel" (216 : Nat) ({ cls := "PlugboardModel", name := "joinedMany", desc := "()I" } : Jvm.MethodName)) ∈ lw_all := lw_g (lw_at lw_m9 124 rfl) rfl
theorem q2116 : (Jvm.Cond.instanceMethod ({ cls := "PlugboardModel", name := "joinedMany", desc := "()I" } : Jvm.MethodName)) ∈ lw_all := lw_g (lw_at lw_m9 126 rfl) rfl
theorem q2117 : (Jvm.Cond.code ({ cls := "PlugboardModel", name := "joinedMany", desc := "()I" } : Jvm.MethodName) prog_19_method_17_code (3 : Nat) (Option.some Jvm.ClassFile.FieldType.int)) ∈ lw_all := lw_g (lw_at lw_m9 127 rfl) rfl
abbrev rm_X5_disconnect : Room := { frames := 4, cells := 0, slots := 0, locals := 90 }
def w_X5_disconnect (a0 : Option Nat) (a1 : Int32) (a2 : Int32) (h : AH) (P : Int32 → AH → Prop) : Prop :=
  p_v h a0 4 0 (vI 0) fun h2 =>
  w_X5_isUser a1 h2 (fun y6 h6 =>
  ((y6 = 0 →
    is_c h6 a0 [4] (
    w_X5_fails a0 1 h6 (fun y14 h14 =>
    P y14 h14))) ∧
   (¬ y6 = 0 →
    is_c h6 a0 [4] (
    w_X5_builds a0 a1 h6 (fun h20 =>
    is_c h20 a0 [4] (
    w_X5_isJoined a0 a2 h20 (fun y25 h25 =>
    ((y25 = 0 →
      is_c h25 a0 [4] (
      w_X5_fails a0 2 h25 (fun y33 h33 =>
      P y33 h33))) ∧
     (¬ y25 = 0 →
      g_i h25 a0 4 20 fun y38 =>
      ((y38 = 250 →
        is_c h25 a0 [4] (
        w_X5_fails a0 3 h25 (fun y49 h49 =>
        P y49 h49))) ∧
       (¬ y38 = 250 →
        is_c h25 a0 [4] (
        w_X5_plans a0 (48 + a2) 0 h25 (fun h59 =>
        is_c h59 a0 [4] (
        w_X5_makes a0 a1 1 h59 (fun h65 =>
        is_c h65 a0 [4] (
        w_X5_joinedMany a0 h65 (fun y69 h69 =>
        P y69 h69)))))))))))))))))
theorem met_X5_disconnect (l : Launch) (hlt : l.stackTraces = false) (G : GG) (h : AH) (a0 : Option Nat) (a1 : Int32) (a2 : Int32) (P : Int32 → AH → Prop) (hw : w_X5_disconnect a0 a1 a2 h P) : ct_i l yX5_disconnect (ws_ yX5_disconnect cX5_disconnect 3 (Option.some Jvm.ClassFile.FieldType.int)) rm_X5_disconnect G h [vR a0, vI a1, vI a2] P := by
  refine j_starti hlt [(0, vR a0), (1, vI a1), (2, vI a2)] (plainFor_of_name (by decide)) rfl rfl (fun x X eG er en hQ => ?_)
  subst eG
  refine j_aload_n X (pc := 0) 0 dX5_disconnect_0 rfl rfl ?_
  refine j_iconst X (pc := 1) 0 dX5_disconnect_1 (by decide) ?_
  refine j_put (ci := 4) X (pc := 2) in_X5 rfl (by decide) 0 (by decide) q1872 (Or.inl rfl) tyX5 tyX5_ok nmX5 rfl rfl (ty := .int) (tyX5_ok 0 (by decide)) rfl rfl dX5_disconnect_2 hw (fun h2 hw => ?_)
  refine j_iload_n X (pc := 5) 1 dX5_disconnect_5 rfl rfl ?_
  refine j_calli (j_runS (n8 := 1) (As := [vI a1]) (rest := []) X (pc := 6) (met_X5_isUser (xl x) X.hl (xG x) h2 a1 _ hw) q1978 q1979 q78 q1980 (by decide +kernel) dX5_disconnect_6 rfl ⟨Nat.le_of_ble_eq_true rfl, Nat.le_of_ble_eq_true rfl⟩ (Nat.le_of_ble_eq_true rfl) ⟨Nat.le_of_ble_eq_true rfl, Nat.le_of_ble_eq_true rfl⟩) (fun y6 h6 hw => ?_)
  refine j_if_ne X (pc := 9) 18 dX5_disconnect_9 (by decide) hw (fun hw => ?_) (fun hw => ?_)
  · refine j_aload_n X (pc := 12) 0 dX5_disconnect_12 rfl rfl ?_
    refine j_iconst X (pc := 13) 1 dX5_disconnect_13 (by decide) ?_
    obtain ⟨b9, c9, f9, hr9, ho9, hc9, hw⟩ := hw
    obtain rfl := List.mem_singleton.mp hc9
    refine j_calli (j_runV (n8 := 1) (As := [vI 1]) (rest := []) X (pc := 14) hr9 (met_X5_fails (xl x) X.hl (xG x) h6 a0 1 _ hw) ho9 (by decide) rfl q1988 q1990 qs33 q78 q1991 (by decide +kernel) dX5_disconnect_14 rfl ⟨Nat.le_of_ble_eq_true rfl, Nat.le_of_ble_eq_true rfl⟩ (Nat.le_of_ble_eq_true rfl) ⟨Nat.le_of_ble_eq_true rfl, Nat.le_of_ble_eq_true rfl⟩) (fun y14 h14 hw => ?_)
    exact j_iret X (pc := 17) hQ er (Nat.le_of_ble_eq_true rfl) (Nat.le_of_ble_eq_true rfl) dX5_disconnect_17 hw
  · refine j_aload_n X (pc := 18) 0 dX5_disconnect_18 rfl rfl ?_
    refine j_iload_n X (pc := 19) 1 dX5_disconnect_19 rfl rfl ?_
    obtain ⟨b9, c9, f9, hr9, ho9, hc9, hw⟩ := hw
    obtain rfl := List.mem_singleton.mp hc9
    refine j_callv (j_runV (n8 := 1) (As := [vI a1]) (rest := []) X (pc := 20) hr9 (met_X5_builds (xl x) X.hl (xG x) h6 a0 a1 _ hw) ho9 (by decide) rfl q1992 q1994 qs34 q78 q1995 (by decide +kernel) dX5_disconnect_20 rfl ⟨Nat.le_of_ble_eq_true rfl, Nat.le_of_ble_eq_true rfl⟩ (Nat.le_of_ble_eq_true rfl) ⟨Nat.le_of_ble_eq_true rfl, Nat.le_of_ble_eq_true rfl⟩) (fun h20 hw => ?_)
    refine j_aload_n X (pc := 23) 0 dX5_disconnect_23 rfl rfl ?_
    refine j_iload_n X (pc := 24) 2 dX5_disconnect_24 rfl rfl ?_
    obtain ⟨b9, c9, f9, hr9, ho9, hc9, hw⟩ := hw
    obtain rfl := List.mem_singleton.mp hc9
    refine j_calli (j_runV (n8 := 1) (As := [vI a2]) (rest := []) X (pc := 25) hr9 (met_X5_isJoined (xl x) X.hl (xG x) h20 a0 a2 _ hw) ho9 (by decide) rfl q2110 q2112 qs53 q78 q2113 (by decide +kernel) dX5_disconnect_25 rfl ⟨Nat.le_of_ble_eq_true rfl, Nat.le_of_ble_eq_true rfl⟩ (Nat.le_of_ble_eq_true rfl) ⟨Nat.le_of_ble_eq_true rfl, Nat.le_of_ble_eq_true rfl⟩) (fun y25 h25 hw => ?_)
    refine j_if_ne X (pc := 28) 37 dX5_disconnect_28 (by decide) hw (fun hw => ?_) (fun hw => ?_)
    · refine j_aload_n X (pc := 31) 0 dX5_disconnect_31 rfl rfl ?_
      refine j_iconst X (pc := 32) 2 dX5_disconnect_32 (by decide) ?_
      obtain ⟨b9, c9, f9, hr9, ho9, hc9, hw⟩ := hw
      obtain rfl := List.mem_singleton.mp hc9
      refine j_calli (j_runV (n8 := 1) (As := [vI 2]) (rest := []) X (pc := 33) hr9 (met_X5_fails (xl x) X.hl (xG x) h25 a0 2 _ hw) ho9 (by decide) rfl q1988 q1990 qs33 q78 q1991 (by decide +kernel) dX5_disconnect_33 rfl ⟨Nat.le_of_ble_eq_true rfl, Nat.le_of_ble_eq_true rfl⟩ (Nat.le_of_ble_eq_true rfl) ⟨Nat.le_of_ble_eq_true rfl, Nat.le_of_ble_eq_true rfl⟩) (fun y33 h33 hw => ?_)
      exact j_iret X (pc := 36) hQ er (Nat.le_of_ble_eq_true rfl) (Nat.le_of_ble_eq_true rfl) dX5_disconnect_36 hw
    · refine j_aload_n X (pc := 37) 0 dX5_disconnect_37 rfl rfl ?_
      refine j_geti (ci := 4) X (pc := 38) in_X5 rfl (by decide) 20 (by decide) q1892 (Or.inl rfl) dX5_disconnect_38 hw (fun y38 hw => ?_)
      refine j_sipush X (pc := 41) 250 dX5_disconnect_41 (by decide) ?_
      refine j_icmp_ne X (pc := 44) 53 dX5_disconnect_44 (by decide) hw (fun hw => ?_) (fun hw => ?_)
      · refine j_aload_n X (pc := 47) 0 dX5_disconnect_47 rfl rfl ?_
        refine j_iconst X (pc := 48) 3 dX5_disconnect_48 (by decide) ?_
        obtain ⟨b9, c9, f9, hr9, ho9, hc9, hw⟩ := hw
        obtain rfl := List.mem_singleton.mp hc9
        refine j_calli (j_runV (n8 := 1) (As := [vI 3]) (rest := []) X (pc := 49) hr9 (met_X5_fails (xl x) X.hl (xG x) h25 a0 3 _ hw) ho9 (by decide) rfl q1988 q1990 qs33 q78 q1991 (by decide +kernel) dX5_disconnect_49 rfl ⟨Nat.le_of_ble_eq_true rfl, Nat.le_of_ble_eq_true rfl⟩ (Nat.le_of_ble_eq_true rfl) ⟨Nat.le_of_ble_eq_true rfl, Nat.le_of_ble_eq_true rfl⟩) (fun y49 h49 hw => ?_)
        exact j_iret X (pc := 52) hQ er (Nat.le_of_ble_eq_true rfl) (Nat.le_of_ble_eq_true rfl) dX5_disconnect_52 hw
      · refine j_aload_n X (pc := 53) 0 dX5_disconnect_53 rfl rfl ?_
        refine j_bipush X (pc := 54) 48 dX5_disconnect_54 (by decide) ?_
        refine j_iload_n X (pc := 56) 2 dX5_disconnect_56 rfl rfl ?_
        refine j_iadd X (pc := 57) dX5_disconnect_57 ?_
        refine j_iconst X (pc := 58) 0 dX5_disconnect_58 (by decide) ?_
        obtain ⟨b9, c9, f9, hr9, ho9, hc9, hw⟩ := hw
        obtain rfl := List.mem_singleton.mp hc9
        refine j_callv (j_runV (n8 := 2) (As := [vI (48 + a2), vI 0]) (rest := []) X (pc := 59) hr9 (met_X5_plans (xl x) X.hl (xG x) h25 a0 (48 + a2) 0 _ hw) ho9 (by decide) rfl q2021 q2023 qs41 q78 q2024 (by decide +kernel) dX5_disconnect_59 rfl ⟨Nat.le_of_ble_eq_true rfl, Nat.le_of_ble_eq_true rfl⟩ (Nat.le_of_ble_eq_true rfl) ⟨Nat.le_of_ble_eq_true rfl, Nat.le_of_ble_eq_true rfl⟩) (fun h59 hw => ?_)
        refine j_aload_n X (pc := 62) 0 dX5_disconnect_62 rfl rfl ?_
        refine j_iload_n X (pc := 63) 1 dX5_disconnect_63 rfl rfl ?_
        refine j_iconst X (pc := 64) 1 dX5_disconnect_64 (by decide) ?_
        obtain ⟨b9, c9, f9, hr9, ho9, hc9, hw⟩ := hw
        obtain rfl := List.mem_singleton.mp hc9
        refine j_callv (j_runV (n8 := 2) (As := [vI a1, vI 1]) (rest := []) X (pc := 65) hr9 (met_X5_makes (xl x) X.hl (xG x) h59 a0 a1 1 _ hw) ho9 (by decide) rfl q2030 q2032 qs43 q78 q2033 (by decide +kernel) dX5_disconnect_65 rfl ⟨Nat.le_of_ble_eq_true rfl, Nat.le_of_ble_eq_true rfl⟩ (Nat.le_of_ble_eq_true rfl) ⟨Nat.le_of_ble_eq_true rfl, Nat.le_of_ble_eq_true rfl⟩) (fun h65 hw => ?_)
        refine j_aload_n X (pc := 68) 0 dX5_disconnect_68 rfl rfl ?_
        obtain ⟨b9, c9, f9, hr9, ho9, hc9, hw⟩ := hw
        obtain rfl := List.mem_singleton.mp hc9
        refine j_calli (j_runV (n8 := 0) (As := []) (rest := []) X (pc := 69) hr9 (met_X5_joinedMany (xl x) X.hl (xG x) h65 a0 _ hw) ho9 (by decide) rfl q2114 q2116 qs54 q78 q2117 (by decide +kernel) dX5_disconnect_69 rfl ⟨Nat.le_of_ble_eq_true rfl, Nat.le_of_ble_eq_true rfl⟩ (Nat.le_of_ble_eq_true rfl) ⟨Nat.le_of_ble_eq_true rfl, Nat.le_of_ble_eq_true rfl⟩) (fun y69 h69 hw => ?_)
        exact j_iret X (pc := 72) hQ er (Nat.le_of_ble_eq_true rfl) (Nat.le_of_ble_eq_true rfl) dX5_disconnect_72 hw
abbrev cX1_votesField : ByteArray := prog_1_method_33_code
def yX1_votesField : MethodName := ⟨RX1, "votesField", "(II)I"⟩
def dkwX1_votesField_0 : List UInt8 := [16, 56, 16, 12, 26, 104, 96, 27, 96, 172]
abbrev dktX1_votesField_0 : List UInt8 := dkwX1_votesField_0 ++ []
theorem dksX1_votesField_0 : cX1_votesField.data.toList.drop 0 = dktX1_votesField_0 := by decide +kernel
theorem dX1_votesField_0 : decode cX1_votesField 0 = .ok (.bipush 56, 2) := dk_16 56 (dk_at dksX1_votesField_0 0 rfl rfl)
theorem dX1_votesField_2 : decode cX1_votesField 2 = .ok (.bipush 12, 2) := dk_16 12 (dk_at dksX1_votesField_0 2 rfl rfl)
theorem dX1_votesField_4 : decode cX1_votesField 4 = .ok (.iload_n 0, 1) := dk_26 (dk_at dksX1_votesField_0 4 rfl rfl)
theorem dX1_votesField_5 : decode cX1_votesField 5 = .ok (.imul, 1) := dk_104 (dk_at dksX1_votesField_0 5 rfl rfl)
theorem dX1_votesField_6 : decode cX1_votesField 6 = .ok (.iadd, 1) := dk_96 (dk_at dksX1_votesField_0 6 rfl rfl)
theorem dX1_votesField_7 : decode cX1_votesField 7 = .ok (.iload_n 1, 1) := dk_27 (dk_at dksX1_votesField_0 7 rfl rfl)
theorem dX1_votesField_8 : decode cX1_votesField 8 = .ok (.iadd, 1) := dk_96 (dk_at dksX1_votesField_0 8 rfl rfl)
theorem dX1_votesField_9 : decode cX1_votesField 9 = .ok (.ireturn, 1) := dk_172 (dk_at dksX1_votesField_0 9 rfl rfl)
abbrev rm_X1_votesField : Room := { frames := 0, cells := 0, slots := 0, locals := 0 }
def w_X1_votesField (a0 : Int32) (a1 : Int32) (h : AH) (P : Int32 → AH → Prop) : Prop :=
  P ((56 + (12 * a0)) + a1) h
theorem met_X1_votesField (l : Launch) (hlt : l.stackTraces = false) (G : GG) (h : AH) (a0 : Int32) (a1 : Int32) (P : Int32 → AH → Prop) (hw : w_X1_votesField a0 a1 h P) : ct_i l yX1_votesField (ws_ yX1_votesField cX1_votesField 2 (Option.some Jvm.ClassFile.FieldType.int)) rm_X1_votesField G h [vI a0, vI a1] P := by
  refine j_starti hlt [(0, vI a0), (1, vI a1)] (plainFor_of_name (by decide)) rfl rfl (fun x X eG er en hQ => ?_)
  subst eG
  refine j_bipush X (pc := 0) 56 dX1_votesField_0 (by decide) ?_
  refine j_bipush X (pc := 2) 12 dX1_votesField_2 (by decide) ?_
  refine j_iload_n X (pc := 4) 0 dX1_votesField_4 rfl rfl ?_
  refine j_imul X (pc := 5) dX1_votesField_5 ?_
  refine j_iadd X (pc := 6) dX1_votesField_6 ?_
  refine j_iload_n X (pc := 7) 1 dX1_votesField_7 rfl rfl ?_
  refine j_iadd X (pc := 8) dX1_votesField_8 ?_
  exact j_iret X (pc := 9) hQ er (Nat.le_of_ble_eq_true rfl) (Nat.le_of_ble_eq_true rfl) dX1_votesField_9 hw
abbrev cX1_areShown : ByteArray := prog_1_method_35_code
def yX1_areShown : MethodName := ⟨RX1, "areShown", "(LPlugboard$Board;)Z"⟩
def dkwX1_areShown_0 : List UInt8 := [42, 180, 0, 136, 180, 0, 139, 16, 92, 46, 4, 160, 0, 7, 4, 167, 0, 4, 3, 172]
abbrev dktX1_areShown_0 : List UInt8 := dkwX1_areShown_0 ++ []
theorem dksX1_areShown_0 : cX1_areShown.data.toList.drop 0 = dktX1_areShown_0 := by decide +kernel
theorem dX1_areShown_0 : decode cX1_areShown 0 = .ok (.aload_n 0, 1) := dk_42 (dk_at dksX1_areShown_0 0 rfl rfl)
theorem dX1_areShown_1 : decode cX1_areShown 1 = .ok (.getfield 136, 3) := dk_180 0 136 (dk_at dksX1_areShown_0 1 rfl rfl)
theorem dX1_areShown_4 : decode cX1_areShown 4 = .ok (.getfield 139, 3) := dk_180 0 139 (dk_at dksX1_areShown_0 4 rfl rfl)
theorem dX1_areShown_7 : decode cX1_areShown 7 = .ok (.bipush 92, 2) := dk_16 92 (dk_at dksX1_areShown_0 7 rfl rfl)
theorem dX1_areShown_9 : decode cX1_areShown 9 = .ok (.iaload, 1) := dk_46 (dk_at dksX1_areShown_0 9 rfl rfl)
theorem dX1_areShown_10 : decode cX1_areShown 10 = .ok (.iconst 1, 1) := dk_4 (dk_at dksX1_areShown_0 10 rfl rfl)
theorem dX1_areShown_11 : decode cX1_areShown 11 = .ok (.if_icmp .ne 7, 3) := dk_160 0 7 (dk_at dksX1_areShown_0 11 rfl rfl)
theorem dX1_areShown_14 : decode cX1_areShown 14 = .ok (.iconst 1, 1) := dk_4 (dk_at dksX1_areShown_0 14 rfl rfl)
theorem dX1_areShown_15 : decode cX1_areShown 15 = .ok (.goto 4, 3) := dk_167 0 4 (dk_at dksX1_areShown_0 15 rfl rfl)
theorem dX1_areShown_18 : decode cX1_areShown 18 = .ok (.iconst 0, 1) := dk_3 (dk_at dksX1_areShown_0 18 rfl rfl)
theorem dX1_areShown_19 : decode cX1_areShown 19 = .ok (.ireturn, 1) := dk_172 (dk_at dksX1_areShown_0 19 rfl rfl)
abbrev rm_X1_areShown : Room := { frames := 0, cells := 0, slots := 0, locals := 0 }
def w_X1_areShown (a0 : Option Nat) (h : AH) (P : Int32 → AH → Prop) : Prop :=
  g_q h a0 2 1 fun y1 =>
  g_q h y1 1 0 fun y4 =>
  l_i h y4 0 92 fun y9 =>
  ((y9 = 1 →
    P 1 h) ∧
   (¬ y9 = 1 →
    P 0 h))
theorem met_X1_areShown (l : Launch) (hlt : l.stackTraces = false) (G : GG) (h : AH) (a0 : Option Nat) (P : Int32 → AH → Prop) (hw : w_X1_areShown a0 h P) : ct_i l yX1_areShown (ws_ yX1_areShown cX1_areShown 1 (Option.some Jvm.ClassFile.FieldType.boolean)) rm_X1_areShown G h [vR a0] P := by
  refine j_starti hlt [(0, vR a0)] (plainFor_of_name (by decide)) rfl rfl (fun x X eG er en hQ => ?_)
  subst eG
  refine j_aload_n X (pc := 0) 0 dX1_areShown_0 rfl rfl ?_
  refine j_getqN (ci := 2) X (pc := 1) in_X3 rfl (by decide) 1 (by decide) q210 (Or.inl rfl) dX1_areShown_1 hw (fun y1 hw => ?_)
  refine j_getqN (ci := 1) X (pc := 4) in_X2 rfl (by decide) 0 (by decide) q168 (Or.inl rfl) dX1_areShown_4 hw (fun y4 hw => ?_)
  refine j_bipush X (pc := 7) 92 dX1_areShown_7 (by decide) ?_
  refine j_iald X (pc := 9) 0 rfl dX1_areShown_9 hw (fun y9 hw => ?_)
  refine j_iconst X (pc := 10) 1 dX1_areShown_10 (by decide) ?_
  refine j_icmp_ne X (pc := 11) 18 dX1_areShown_11 (by decide) hw (fun hw => ?_) (fun hw => ?_)
  · refine j_iconst X (pc := 14) 1 dX1_areShown_14 (by decide) ?_
    refine j_goto X (pc := 15) 19 dX1_areShown_15 (by decide) ?_
    exact j_zret X (pc := 19) (ty := .boolean) hQ er rfl (Nat.le_of_ble_eq_true rfl) (Nat.le_of_ble_eq_true rfl) dX1_areShown_19 hw
  · refine j_iconst X (pc := 18) 0 dX1_areShown_18 (by decide) ?_
    exact j_zret X (pc := 19) (ty := .boolean) hQ er rfl (Nat.le_of_ble_eq_true rfl) (Nat.le_of_ble_eq_true rfl) dX1_areShown_19 hw
