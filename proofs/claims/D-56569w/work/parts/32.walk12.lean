/-! walks (printed): Plugboard, PlugboardLaw, PlugboardModel -/
set_option maxRecDepth 100000
abbrev cX1_sync : ByteArray := prog_1_method_42_code
def yX1_sync : MethodName := ⟨RX1, "sync", "(II)I"⟩
theorem dX1_sync_0 : decode cX1_sync 0 = .ok (.aload_n 0, 1) := by decide +kernel
theorem dX1_sync_1 : decode cX1_sync 1 = .ok (.iload_n 1, 1) := by decide +kernel
theorem dX1_sync_2 : decode cX1_sync 2 = .ok (.invokevirtual 199, 3) := by decide +kernel
theorem dX1_sync_5 : decode cX1_sync 5 = .ok (.astore_n 3, 1) := by decide +kernel
theorem dX1_sync_6 : decode cX1_sync 6 = .ok (.aload_n 0, 1) := by decide +kernel
theorem dX1_sync_7 : decode cX1_sync 7 = .ok (.iload_n 2, 1) := by decide +kernel
theorem dX1_sync_8 : decode cX1_sync 8 = .ok (.invokevirtual 199, 3) := by decide +kernel
theorem dX1_sync_11 : decode cX1_sync 11 = .ok (.astore 4, 2) := by decide +kernel
theorem dX1_sync_13 : decode cX1_sync 13 = .ok (.iconst 1, 1) := by decide +kernel
theorem dX1_sync_14 : decode cX1_sync 14 = .ok (.newarray .boolean, 2) := by decide +kernel
theorem dX1_sync_16 : decode cX1_sync 16 = .ok (.dup, 1) := by decide +kernel
theorem dX1_sync_17 : decode cX1_sync 17 = .ok (.iconst 0, 1) := by decide +kernel
theorem dX1_sync_18 : decode cX1_sync 18 = .ok (.iload_n 1, 1) := by decide +kernel
theorem dX1_sync_19 : decode cX1_sync 19 = .ok (.iload_n 2, 1) := by decide +kernel
theorem dX1_sync_20 : decode cX1_sync 20 = .ok (.if_icmp .eq 7, 3) := by decide +kernel
theorem dX1_sync_23 : decode cX1_sync 23 = .ok (.iconst 1, 1) := by decide +kernel
theorem dX1_sync_24 : decode cX1_sync 24 = .ok (.goto 4, 3) := by decide +kernel
theorem dX1_sync_27 : decode cX1_sync 27 = .ok (.iconst 0, 1) := by decide +kernel
theorem dX1_sync_28 : decode cX1_sync 28 = .ok (.bastore, 1) := by decide +kernel
theorem dX1_sync_29 : decode cX1_sync 29 = .ok (.invokestatic 25, 3) := by decide +kernel
theorem dX1_sync_32 : decode cX1_sync 32 = .ok (.iconst 0, 1) := by decide +kernel
theorem dX1_sync_33 : decode cX1_sync 33 = .ok (.istore 5, 2) := by decide +kernel
theorem dX1_sync_35 : decode cX1_sync 35 = .ok (.iconst 0, 1) := by decide +kernel
theorem dX1_sync_36 : decode cX1_sync 36 = .ok (.istore 6, 2) := by decide +kernel
theorem dX1_sync_38 : decode cX1_sync 38 = .ok (.iload 6, 2) := by decide +kernel
theorem dX1_sync_40 : decode cX1_sync 40 = .ok (.aload_n 0, 1) := by decide +kernel
theorem dX1_sync_41 : decode cX1_sync 41 = .ok (.getfield 62, 3) := by decide +kernel
theorem dX1_sync_44 : decode cX1_sync 44 = .ok (.invokevirtual 126, 3) := by decide +kernel
theorem dX1_sync_47 : decode cX1_sync 47 = .ok (.if_icmp .ge 106, 3) := by decide +kernel
theorem dX1_sync_50 : decode cX1_sync 50 = .ok (.aload_n 3, 1) := by decide +kernel
theorem dX1_sync_51 : decode cX1_sync 51 = .ok (.getfield 353, 3) := by decide +kernel
theorem dX1_sync_54 : decode cX1_sync 54 = .ok (.iload 6, 2) := by decide +kernel
theorem dX1_sync_56 : decode cX1_sync 56 = .ok (.baload, 1) := by decide +kernel
theorem dX1_sync_57 : decode cX1_sync 57 = .ok (.ifCond .ne 14, 3) := by decide +kernel
theorem dX1_sync_60 : decode cX1_sync 60 = .ok (.aload 4, 2) := by decide +kernel
theorem dX1_sync_62 : decode cX1_sync 62 = .ok (.getfield 353, 3) := by decide +kernel
theorem dX1_sync_65 : decode cX1_sync 65 = .ok (.iload 6, 2) := by decide +kernel
theorem dX1_sync_67 : decode cX1_sync 67 = .ok (.baload, 1) := by decide +kernel
theorem dX1_sync_68 : decode cX1_sync 68 = .ok (.ifCond .eq 7, 3) := by decide +kernel
theorem dX1_sync_71 : decode cX1_sync 71 = .ok (.iconst 1, 1) := by decide +kernel
theorem dX1_sync_72 : decode cX1_sync 72 = .ok (.goto 4, 3) := by decide +kernel
theorem dX1_sync_75 : decode cX1_sync 75 = .ok (.iconst 0, 1) := by decide +kernel
theorem dX1_sync_76 : decode cX1_sync 76 = .ok (.istore 7, 2) := by decide +kernel
theorem dX1_sync_78 : decode cX1_sync 78 = .ok (.iload 5, 2) := by decide +kernel
theorem dX1_sync_80 : decode cX1_sync 80 = .ok (.iload 7, 2) := by decide +kernel
theorem dX1_sync_82 : decode cX1_sync 82 = .ok (.ifCond .eq 26, 3) := by decide +kernel
theorem dX1_sync_85 : decode cX1_sync 85 = .ok (.aload_n 3, 1) := by decide +kernel
theorem dX1_sync_86 : decode cX1_sync 86 = .ok (.aload_n 0, 1) := by decide +kernel
theorem dX1_sync_87 : decode cX1_sync 87 = .ok (.getfield 62, 3) := by decide +kernel
theorem dX1_sync_90 : decode cX1_sync 90 = .ok (.iload 6, 2) := by decide +kernel
theorem dX1_sync_92 : decode cX1_sync 92 = .ok (.invokevirtual 121, 3) := by decide +kernel
theorem dX1_sync_95 : decode cX1_sync 95 = .ok (.checkcast 145, 3) := by decide +kernel
theorem dX1_sync_98 : decode cX1_sync 98 = .ok (.invokevirtual 160, 3) := by decide +kernel
theorem dX1_sync_101 : decode cX1_sync 101 = .ok (.ifCond .eq 7, 3) := by decide +kernel
theorem dX1_sync_104 : decode cX1_sync 104 = .ok (.iconst 1, 1) := by decide +kernel
theorem dX1_sync_105 : decode cX1_sync 105 = .ok (.goto 4, 3) := by decide +kernel
theorem dX1_sync_108 : decode cX1_sync 108 = .ok (.iconst 0, 1) := by decide +kernel
theorem dX1_sync_109 : decode cX1_sync 109 = .ok (.iadd, 1) := by decide +kernel
theorem dX1_sync_110 : decode cX1_sync 110 = .ok (.istore 5, 2) := by decide +kernel
theorem dX1_sync_112 : decode cX1_sync 112 = .ok (.iload 5, 2) := by decide +kernel
theorem dX1_sync_114 : decode cX1_sync 114 = .ok (.iload 7, 2) := by decide +kernel
theorem dX1_sync_116 : decode cX1_sync 116 = .ok (.ifCond .eq 27, 3) := by decide +kernel
theorem dX1_sync_119 : decode cX1_sync 119 = .ok (.aload 4, 2) := by decide +kernel
theorem dX1_sync_121 : decode cX1_sync 121 = .ok (.aload_n 0, 1) := by decide +kernel
theorem dX1_sync_122 : decode cX1_sync 122 = .ok (.getfield 62, 3) := by decide +kernel
theorem dX1_sync_125 : decode cX1_sync 125 = .ok (.iload 6, 2) := by decide +kernel
theorem dX1_sync_127 : decode cX1_sync 127 = .ok (.invokevirtual 121, 3) := by decide +kernel
theorem dX1_sync_130 : decode cX1_sync 130 = .ok (.checkcast 145, 3) := by decide +kernel
theorem dX1_sync_133 : decode cX1_sync 133 = .ok (.invokevirtual 160, 3) := by decide +kernel
theorem dX1_sync_136 : decode cX1_sync 136 = .ok (.ifCond .eq 7, 3) := by decide +kernel
theorem dX1_sync_139 : decode cX1_sync 139 = .ok (.iconst 1, 1) := by decide +kernel
theorem dX1_sync_140 : decode cX1_sync 140 = .ok (.goto 4, 3) := by decide +kernel
theorem dX1_sync_143 : decode cX1_sync 143 = .ok (.iconst 0, 1) := by decide +kernel
theorem dX1_sync_144 : decode cX1_sync 144 = .ok (.iadd, 1) := by decide +kernel
theorem dX1_sync_145 : decode cX1_sync 145 = .ok (.istore 5, 2) := by decide +kernel
theorem dX1_sync_147 : decode cX1_sync 147 = .ok (.iinc 6 1, 3) := by decide +kernel
theorem dX1_sync_150 : decode cX1_sync 150 = .ok (.goto (-112), 3) := by decide +kernel
theorem dX1_sync_153 : decode cX1_sync 153 = .ok (.iload 5, 2) := by decide +kernel
theorem dX1_sync_155 : decode cX1_sync 155 = .ok (.ireturn, 1) := by decide +kernel
theorem q215 : (Jvm.Cond.fieldLinkNest "Plugboard" (353 : Nat) "Plugboard$Board" "areKnown" "[Z" "Plugboard") ∈ lw_tbl := lw_at lw_m1 145 rfl
theorem q1372 : (Jvm.Cond.instanceMethod ({ cls := "Plugboard", name := "sync", desc := "(II)I" } : Jvm.MethodName)) ∈ lw_all := lw_g (lw_at lw_m6 102 rfl) rfl
abbrev rm_X1_sync : Room := { frames := 9, cells := 4000, slots := 60000, locals := 217 }
def w_X1_sync_109 (P : Int32 → AH → Prop) (PX : String → AH → Prop) (Z38 : Int32 → Int32 → Nat → Nat → AH → Prop) (x0 : Option Nat) (x3 : Option Nat) (x4 : Option Nat) (x6 : Int32) (x7 : Int32) (t0 : Int32) (t1 : Int32) (u9 : Nat) (v9 : Nat) (h : AH) : Prop :=
  ((x7 = 0 →
    Z38 ((t1 + t0) + 0) (x6 + 1) u9 v9 h) ∧
   (¬ x7 = 0 →
    g_q h x0 0 2 fun y122 =>
    u9 + 0 ≤ 4000 ∧ v9 + 0 ≤ 60000 ∧
    is_c h y122 [15] (
    w_J2_get y122 x6 h (fun y127 h127 =>
    is_c h127 y127 [9] (
    u9 + 2 ≤ 4000 ∧ v9 + 64 ≤ 60000 ∧
    is_c h127 x4 [2] (
    w_X3_take x4 y127 h127 (fun y133 h133 =>
    ((y133 = 0 →
      Z38 ((t1 + t0) + 0) (x6 + 1) (u9 + 2) (v9 + 64) h133) ∧
     (¬ y133 = 0 →
      Z38 ((t1 + t0) + 1) (x6 + 1) (u9 + 2) (v9 + 64) h133)))))))))
def w_X1_sync_76 (P : Int32 → AH → Prop) (PX : String → AH → Prop) (Z38 : Int32 → Int32 → Nat → Nat → AH → Prop) (x0 : Option Nat) (x3 : Option Nat) (x4 : Option Nat) (x5 : Int32) (x6 : Int32) (t0 : Int32) (u9 : Nat) (v9 : Nat) (h : AH) : Prop :=
  ((t0 = 0 →
    w_X1_sync_109 P PX Z38 x0 x3 x4 x6 t0 0 x5 u9 v9 h) ∧
   (¬ t0 = 0 →
    g_q h x0 0 2 fun y87 =>
    u9 + 0 ≤ 4000 ∧ v9 + 0 ≤ 60000 ∧
    is_c h y87 [15] (
    w_J2_get y87 x6 h (fun y92 h92 =>
    is_c h92 y92 [9] (
    u9 + 2 ≤ 4000 ∧ v9 + 64 ≤ 60000 ∧
    is_c h92 x3 [2] (
    w_X3_take x3 y92 h92 (fun y98 h98 =>
    ((y98 = 0 →
      w_X1_sync_109 P PX Z38 x0 x3 x4 x6 t0 0 x5 (u9 + 2) (v9 + 64) h98) ∧
     (¬ y98 = 0 →
      w_X1_sync_109 P PX Z38 x0 x3 x4 x6 t0 1 x5 (u9 + 2) (v9 + 64) h98)))))))))
def w_X1_sync_38 (P : Int32 → AH → Prop) (PX : String → AH → Prop) (x0 : Option Nat) (x3 : Option Nat) (x4 : Option Nat) (x5 : Int32) (x6 : Int32) (u9 : Nat) (v9 : Nat) (h : AH) : Prop :=
  ∀ Z38 : Int32 → Int32 → Nat → Nat → AH → Prop, (∀ x5 x6 u9 v9 h, (
      g_q h x0 0 2 fun y41 =>
      u9 + 0 ≤ 4000 ∧ v9 + 0 ≤ 60000 ∧
      is_c h y41 [15] (
      w_J2_size y41 h (fun y44 h44 =>
      ((y44 ≤ x6 →
        u9 ≤ 4000 ∧ v9 ≤ 60000 ∧
        P x5 h44) ∧
       (¬ y44 ≤ x6 →
        g_q h44 x3 2 3 fun y51 =>
        l_i h44 y51 1 x6 fun y56 =>
        ((y56 = 0 →
          g_q h44 x4 2 3 fun y62 =>
          l_i h44 y62 1 x6 fun y67 =>
          ((y67 = 0 →
            w_X1_sync_76 P PX Z38 x0 x3 x4 x5 x6 0 u9 v9 h44) ∧
           (¬ y67 = 0 →
            w_X1_sync_76 P PX Z38 x0 x3 x4 x5 x6 1 u9 v9 h44))) ∧
         (¬ y56 = 0 →
          w_X1_sync_76 P PX Z38 x0 x3 x4 x5 x6 1 u9 v9 h44)))))))
      → Z38 x5 x6 u9 v9 h) → Z38 x5 x6 u9 v9 h
def w_X1_sync (a0 : Option Nat) (a1 : Int32) (a2 : Int32) (h : AH) (P : Int32 → AH → Prop) (PX : String → AH → Prop) : Prop :=
  is_c h a0 [0] (
  w_X1_board a0 a1 h (fun y2 h2 =>
  is_c h2 a0 [0] (
  w_X1_board a0 a2 h2 (fun y8 h8 =>
  mk_i h8 1 1 1 fun q14 h14 =>
  ((a1 = a2 →
    s_i h14 (some q14) 1 0 0 fun h28 =>
    w_X1_require (some q14) h28 (fun h29 =>
    w_X1_sync_38 P PX a0 y2 y8 0 0 6 21 h29) PX) ∧
   (¬ a1 = a2 →
    s_i h14 (some q14) 1 0 1 fun h28 =>
    w_X1_require (some q14) h28 (fun h29 =>
    w_X1_sync_38 P PX a0 y2 y8 0 0 6 21 h29) PX))) PX)) PX)
theorem wk_X1_sync_109 {x : CX} {lk : Nat} (X : OkS x cX1_sync RX1 rm_X1_sync 8) (er : xrt x = (Option.some Jvm.ClassFile.FieldType.int)) (en : xnm x = yX1_sync.name) {P : Int32 → AH → Prop} {PX : String → AH → Prop} {G0 : GG} {s0 : State} {cl0 : Cell} (hQ : SY x lk G0 s0 cl0 P PX rm_X1_sync) (Z38 : Int32 → Int32 → Nat → Nat → AH → Prop) (x0 : Option Nat) (x3 : Option Nat) (x4 : Option Nat) (x6 : Int32) (x7 : Int32) (t0 : Int32) (t1 : Int32) (u9 : Nat) (v9 : Nat) (h : AH) (hZ38 : ∀ x5 x6 u9 v9 h, Z38 x5 x6 u9 v9 h → JK lk x h u9 v9 38 [(0, vR x0), (3, vR x3), (4, vR x4), (5, vI x5), (6, vI x6)] []) (hw : w_X1_sync_109 P PX Z38 x0 x3 x4 x6 x7 t0 t1 u9 v9 h) : JK lk x h u9 v9 109 [(0, vR x0), (3, vR x3), (4, vR x4), (6, vI x6), (7, vI x7)] [vI t0, vI t1] := by
  refine k_iadd X (pc := 109) dX1_sync_109 ?_
  refine k_istore X (pc := 110) [(5, vI (t1 + t0)), (0, vR x0), (3, vR x3), (4, vR x4), (6, vI x6), (7, vI x7)] dX1_sync_110 (Nat.le_of_ble_eq_true rfl) rfl ?_
  refine k_iload X (pc := 112) 0 dX1_sync_112 rfl ?_
  refine k_iload X (pc := 114) 5 dX1_sync_114 rfl ?_
  refine k_if_eq X (pc := 116) 143 dX1_sync_116 (by decide) hw (fun hw => ?_) (fun hw => ?_)
  · refine k_iconst X (pc := 143) 0 dX1_sync_143 (by decide) ?_
    refine k_iadd X (pc := 144) dX1_sync_144 ?_
    refine k_istore X (pc := 145) [(5, vI ((t1 + t0) + 0)), (0, vR x0), (3, vR x3), (4, vR x4), (6, vI x6), (7, vI x7)] dX1_sync_145 (Nat.le_of_ble_eq_true rfl) rfl ?_
    refine k_iinc X (pc := 147) 4 (x6 + 1) [(6, vI (x6 + 1)), (5, vI ((t1 + t0) + 0)), (0, vR x0), (3, vR x3), (4, vR x4), (7, vI x7)] dX1_sync_147 rfl rfl (Nat.le_of_ble_eq_true rfl) rfl ?_
    refine k_goto X (pc := 150) 38 dX1_sync_150 (by decide) ?_
    refine k_lv [(0, vR x0), (3, vR x3), (4, vR x4), (5, vI ((t1 + t0) + 0)), (6, vI (x6 + 1))] [2, 3, 4, 1, 0] rfl ?_
    exact hZ38 ((t1 + t0) + 0) (x6 + 1) u9 v9 h hw
  · refine k_aload X (pc := 119) 3 dX1_sync_119 rfl ?_
    refine k_aload_n X (pc := 121) 1 dX1_sync_121 rfl rfl ?_
    refine k_getq (ci := 0) X (pc := 122) in_X1 rfl (by decide) 2 (by decide) q243 (Or.inl rfl) dX1_sync_122 hw (fun y122 hw => ?_)
    refine k_iload X (pc := 125) 4 dX1_sync_125 rfl ?_
    obtain ⟨hu9, hv9, hw⟩ := hw
    obtain ⟨b9, c9, f9, hr9, ho9, hc9, hw⟩ := hw
    obtain rfl := List.mem_singleton.mp hc9
    refine k_callq (k_runV (n8 := 1) (As := [vI x6]) (rest := [vR x4, vI (t1 + t0)]) X (pc := 127) hr9 (met_J2_get (xl x) X.hl (xG x) h y122 x6 _ hw) ho9 (by decide) rfl q1074 q512 q513 q74 q514 (by decide +kernel) dX1_sync_127 rfl ⟨Nat.le_of_ble_eq_true rfl, Nat.le_of_ble_eq_true rfl⟩ (Nat.le_of_ble_eq_true rfl) ⟨hu9, hv9⟩) (fun y127 h127 hw => ?_)
    refine k_chk X (pc := 130) (L := [9]) q692 (by intro ci hci; obtain rfl := List.mem_singleton.mp hci; exact ⟨by decide, _, _, _, rfl, Or.inl rfl⟩) dX1_sync_130 hw (fun hw => ?_)
    obtain ⟨hu9, hv9, hw⟩ := hw
    obtain ⟨b9, c9, f9, hr9, ho9, hc9, hw⟩ := hw
    obtain rfl := List.mem_singleton.mp hc9
    refine k_calli (k_runV (n8 := 1) (As := [vR y127]) (rest := [vI (t1 + t0)]) X (pc := 133) hr9 (met_X3_take (xl x) X.hl (xG x) h127 x4 y127 _ hw) ho9 (by decide) rfl q741 q742 q743 q76 q744 (by decide +kernel) dX1_sync_133 rfl ⟨Nat.le_of_ble_eq_true rfl, Nat.le_of_ble_eq_true rfl⟩ (Nat.le_of_ble_eq_true rfl) ⟨hu9, hv9⟩) (fun y133 h133 hw => ?_)
    refine k_if_eq X (pc := 136) 143 dX1_sync_136 (by decide) hw (fun hw => ?_) (fun hw => ?_)
    · refine k_iconst X (pc := 143) 0 dX1_sync_143 (by decide) ?_
      refine k_iadd X (pc := 144) dX1_sync_144 ?_
      refine k_istore X (pc := 145) [(5, vI ((t1 + t0) + 0)), (0, vR x0), (3, vR x3), (4, vR x4), (6, vI x6), (7, vI x7)] dX1_sync_145 (Nat.le_of_ble_eq_true rfl) rfl ?_
      refine k_iinc X (pc := 147) 4 (x6 + 1) [(6, vI (x6 + 1)), (5, vI ((t1 + t0) + 0)), (0, vR x0), (3, vR x3), (4, vR x4), (7, vI x7)] dX1_sync_147 rfl rfl (Nat.le_of_ble_eq_true rfl) rfl ?_
      refine k_goto X (pc := 150) 38 dX1_sync_150 (by decide) ?_
      refine k_lv [(0, vR x0), (3, vR x3), (4, vR x4), (5, vI ((t1 + t0) + 0)), (6, vI (x6 + 1))] [2, 3, 4, 1, 0] rfl ?_
      exact hZ38 ((t1 + t0) + 0) (x6 + 1) (u9 + 2) (v9 + 64) h133 hw
    · refine k_iconst X (pc := 139) 1 dX1_sync_139 (by decide) ?_
      refine k_goto X (pc := 140) 144 dX1_sync_140 (by decide) ?_
      refine k_iadd X (pc := 144) dX1_sync_144 ?_
      refine k_istore X (pc := 145) [(5, vI ((t1 + t0) + 1)), (0, vR x0), (3, vR x3), (4, vR x4), (6, vI x6), (7, vI x7)] dX1_sync_145 (Nat.le_of_ble_eq_true rfl) rfl ?_
      refine k_iinc X (pc := 147) 4 (x6 + 1) [(6, vI (x6 + 1)), (5, vI ((t1 + t0) + 1)), (0, vR x0), (3, vR x3), (4, vR x4), (7, vI x7)] dX1_sync_147 rfl rfl (Nat.le_of_ble_eq_true rfl) rfl ?_
      refine k_goto X (pc := 150) 38 dX1_sync_150 (by decide) ?_
      refine k_lv [(0, vR x0), (3, vR x3), (4, vR x4), (5, vI ((t1 + t0) + 1)), (6, vI (x6 + 1))] [2, 3, 4, 1, 0] rfl ?_
      exact hZ38 ((t1 + t0) + 1) (x6 + 1) (u9 + 2) (v9 + 64) h133 hw
theorem wk_X1_sync_76 {x : CX} {lk : Nat} (X : OkS x cX1_sync RX1 rm_X1_sync 8) (er : xrt x = (Option.some Jvm.ClassFile.FieldType.int)) (en : xnm x = yX1_sync.name) {P : Int32 → AH → Prop} {PX : String → AH → Prop} {G0 : GG} {s0 : State} {cl0 : Cell} (hQ : SY x lk G0 s0 cl0 P PX rm_X1_sync) (Z38 : Int32 → Int32 → Nat → Nat → AH → Prop) (x0 : Option Nat) (x3 : Option Nat) (x4 : Option Nat) (x5 : Int32) (x6 : Int32) (t0 : Int32) (u9 : Nat) (v9 : Nat) (h : AH) (hZ38 : ∀ x5 x6 u9 v9 h, Z38 x5 x6 u9 v9 h → JK lk x h u9 v9 38 [(0, vR x0), (3, vR x3), (4, vR x4), (5, vI x5), (6, vI x6)] []) (hw : w_X1_sync_76 P PX Z38 x0 x3 x4 x5 x6 t0 u9 v9 h) : JK lk x h u9 v9 76 [(0, vR x0), (3, vR x3), (4, vR x4), (5, vI x5), (6, vI x6)] [vI t0] := by
  refine k_istore X (pc := 76) [(7, vI t0), (0, vR x0), (3, vR x3), (4, vR x4), (5, vI x5), (6, vI x6)] dX1_sync_76 (Nat.le_of_ble_eq_true rfl) rfl ?_
  refine k_iload X (pc := 78) 4 dX1_sync_78 rfl ?_
  refine k_iload X (pc := 80) 0 dX1_sync_80 rfl ?_
  refine k_if_eq X (pc := 82) 108 dX1_sync_82 (by decide) hw (fun hw => ?_) (fun hw => ?_)
  · refine k_iconst X (pc := 108) 0 dX1_sync_108 (by decide) ?_
    refine k_lv [(0, vR x0), (3, vR x3), (4, vR x4), (6, vI x6), (7, vI t0)] [1, 2, 3, 5, 0] rfl ?_
    exact wk_X1_sync_109 X er en hQ _ x0 x3 x4 x6 t0 0 x5 u9 v9 h hZ38 hw
  · refine k_aload_n X (pc := 85) 2 dX1_sync_85 rfl rfl ?_
    refine k_aload_n X (pc := 86) 1 dX1_sync_86 rfl rfl ?_
    refine k_getq (ci := 0) X (pc := 87) in_X1 rfl (by decide) 2 (by decide) q243 (Or.inl rfl) dX1_sync_87 hw (fun y87 hw => ?_)
    refine k_iload X (pc := 90) 5 dX1_sync_90 rfl ?_
    obtain ⟨hu9, hv9, hw⟩ := hw
    obtain ⟨b9, c9, f9, hr9, ho9, hc9, hw⟩ := hw
    obtain rfl := List.mem_singleton.mp hc9
    refine k_callq (k_runV (n8 := 1) (As := [vI x6]) (rest := [vR x3, vI x5]) X (pc := 92) hr9 (met_J2_get (xl x) X.hl (xG x) h y87 x6 _ hw) ho9 (by decide) rfl q1074 q512 q513 q74 q514 (by decide +kernel) dX1_sync_92 rfl ⟨Nat.le_of_ble_eq_true rfl, Nat.le_of_ble_eq_true rfl⟩ (Nat.le_of_ble_eq_true rfl) ⟨hu9, hv9⟩) (fun y92 h92 hw => ?_)
    refine k_chk X (pc := 95) (L := [9]) q692 (by intro ci hci; obtain rfl := List.mem_singleton.mp hci; exact ⟨by decide, _, _, _, rfl, Or.inl rfl⟩) dX1_sync_95 hw (fun hw => ?_)
    obtain ⟨hu9, hv9, hw⟩ := hw
    obtain ⟨b9, c9, f9, hr9, ho9, hc9, hw⟩ := hw
    obtain rfl := List.mem_singleton.mp hc9
    refine k_calli (k_runV (n8 := 1) (As := [vR y92]) (rest := [vI x5]) X (pc := 98) hr9 (met_X3_take (xl x) X.hl (xG x) h92 x3 y92 _ hw) ho9 (by decide) rfl q741 q742 q743 q76 q744 (by decide +kernel) dX1_sync_98 rfl ⟨Nat.le_of_ble_eq_true rfl, Nat.le_of_ble_eq_true rfl⟩ (Nat.le_of_ble_eq_true rfl) ⟨hu9, hv9⟩) (fun y98 h98 hw => ?_)
    refine k_if_eq X (pc := 101) 108 dX1_sync_101 (by decide) hw (fun hw => ?_) (fun hw => ?_)
    · refine k_iconst X (pc := 108) 0 dX1_sync_108 (by decide) ?_
      refine k_lv [(0, vR x0), (3, vR x3), (4, vR x4), (6, vI x6), (7, vI t0)] [1, 2, 3, 5, 0] rfl ?_
      exact wk_X1_sync_109 X er en hQ _ x0 x3 x4 x6 t0 0 x5 (u9 + 2) (v9 + 64) h98 hZ38 hw
    · refine k_iconst X (pc := 104) 1 dX1_sync_104 (by decide) ?_
      refine k_goto X (pc := 105) 109 dX1_sync_105 (by decide) ?_
      refine k_lv [(0, vR x0), (3, vR x3), (4, vR x4), (6, vI x6), (7, vI t0)] [1, 2, 3, 5, 0] rfl ?_
      exact wk_X1_sync_109 X er en hQ _ x0 x3 x4 x6 t0 1 x5 (u9 + 2) (v9 + 64) h98 hZ38 hw
theorem wk_X1_sync_38 {x : CX} {lk : Nat} (X : OkS x cX1_sync RX1 rm_X1_sync 8) (er : xrt x = (Option.some Jvm.ClassFile.FieldType.int)) (en : xnm x = yX1_sync.name) {P : Int32 → AH → Prop} {PX : String → AH → Prop} {G0 : GG} {s0 : State} {cl0 : Cell} (hQ : SY x lk G0 s0 cl0 P PX rm_X1_sync) (x0 : Option Nat) (x3 : Option Nat) (x4 : Option Nat) (x5 : Int32) (x6 : Int32) (u9 : Nat) (v9 : Nat) (h : AH) (hw : w_X1_sync_38 P PX x0 x3 x4 x5 x6 u9 v9 h) : JK lk x h u9 v9 38 [(0, vR x0), (3, vR x3), (4, vR x4), (5, vI x5), (6, vI x6)] [] := by
  refine hw (fun x5 x6 u9 v9 h => JK lk x h u9 v9 38 [(0, vR x0), (3, vR x3), (4, vR x4), (5, vI x5), (6, vI x6)] []) (fun x5 x6 u9 v9 h hw => ?_)
  refine k_iload X (pc := 38) 4 dX1_sync_38 rfl ?_
  refine k_aload_n X (pc := 40) 0 dX1_sync_40 rfl rfl ?_
  refine k_getq (ci := 0) X (pc := 41) in_X1 rfl (by decide) 2 (by decide) q243 (Or.inl rfl) dX1_sync_41 hw (fun y41 hw => ?_)
  obtain ⟨hu9, hv9, hw⟩ := hw
  obtain ⟨b9, c9, f9, hr9, ho9, hc9, hw⟩ := hw
  obtain rfl := List.mem_singleton.mp hc9
  refine k_calli (k_runV (n8 := 0) (As := []) (rest := [vI x6]) X (pc := 44) hr9 (met_J2_size (xl x) X.hl (xG x) h y41 _ hw) ho9 (by decide) rfl q284 q285 q286 q74 q287 (by decide +kernel) dX1_sync_44 rfl ⟨Nat.le_of_ble_eq_true rfl, Nat.le_of_ble_eq_true rfl⟩ (Nat.le_of_ble_eq_true rfl) ⟨hu9, hv9⟩) (fun y44 h44 hw => ?_)
  refine k_icmp_ge X (pc := 47) 153 dX1_sync_47 (by decide) hw (fun hw => ?_) (fun hw => ?_)
  · refine k_iload X (pc := 153) 3 dX1_sync_153 rfl ?_
    obtain ⟨hu9, hv9, hw⟩ := hw
    exact k_iret X (pc := 155) hQ er hu9 hv9 dX1_sync_155 hw
  · refine k_aload_n X (pc := 50) 1 dX1_sync_50 rfl rfl ?_
    refine k_getqN (ci := 2) X (pc := 51) in_X3 rfl (by decide) 3 (by decide) q215 (Or.inl rfl) dX1_sync_51 hw (fun y51 hw => ?_)
    refine k_iload X (pc := 54) 4 dX1_sync_54 rfl ?_
    refine k_zald X (pc := 56) 1 rfl dX1_sync_56 hw (fun y56 hw => ?_)
    refine k_if_ne X (pc := 57) 71 dX1_sync_57 (by decide) hw (fun hw => ?_) (fun hw => ?_)
    · refine k_aload X (pc := 60) 2 dX1_sync_60 rfl ?_
      refine k_getqN (ci := 2) X (pc := 62) in_X3 rfl (by decide) 3 (by decide) q215 (Or.inl rfl) dX1_sync_62 hw (fun y62 hw => ?_)
      refine k_iload X (pc := 65) 4 dX1_sync_65 rfl ?_
      refine k_zald X (pc := 67) 1 rfl dX1_sync_67 hw (fun y67 hw => ?_)
      refine k_if_eq X (pc := 68) 75 dX1_sync_68 (by decide) hw (fun hw => ?_) (fun hw => ?_)
      · refine k_iconst X (pc := 75) 0 dX1_sync_75 (by decide) ?_
        exact wk_X1_sync_76 X er en hQ _ x0 x3 x4 x5 x6 0 u9 v9 h44 (fun x5_ x6_ u9_ v9_ h_ hz => hz) hw
      · refine k_iconst X (pc := 71) 1 dX1_sync_71 (by decide) ?_
        refine k_goto X (pc := 72) 76 dX1_sync_72 (by decide) ?_
        exact wk_X1_sync_76 X er en hQ _ x0 x3 x4 x5 x6 1 u9 v9 h44 (fun x5_ x6_ u9_ v9_ h_ hz => hz) hw
    · refine k_iconst X (pc := 71) 1 dX1_sync_71 (by decide) ?_
      refine k_goto X (pc := 72) 76 dX1_sync_72 (by decide) ?_
      exact wk_X1_sync_76 X er en hQ _ x0 x3 x4 x5 x6 1 u9 v9 h44 (fun x5_ x6_ u9_ v9_ h_ hz => hz) hw
theorem met_X1_sync (l : Launch) (hlt : l.stackTraces = false) (G : GG) (hG : G.2.2.1 99 < G.2.1) (h : AH) (a0 : Option Nat) (a1 : Int32) (a2 : Int32) (P : Int32 → AH → Prop) (PX : String → AH → Prop) (hw : w_X1_sync a0 a1 a2 h P PX) : cx_i l yX1_sync (wsY_ yX1_sync cX1_sync 8 (Option.some Jvm.ClassFile.FieldType.int)) rm_X1_sync G h [vR a0, vI a1, vI a2] P PX := by
  have hw0 := hw
  obtain ⟨b9, c9, f9, hr9, ho9, hc9, -⟩ := hw0
  obtain rfl := List.mem_singleton.mp hc9
  refine k_startXi hlt hG [(0, vR a0), (1, vI a1), (2, vI a2)] (by decide) q1372 ho9 (as := [vI a1, vI a2]) (by rw [hr9]) rfl rfl (fun x s0 cl0 X er en hQ => ?_)
  refine k_aload_n X (pc := 0) 0 dX1_sync_0 rfl rfl ?_
  refine k_iload_n X (pc := 1) 1 dX1_sync_1 rfl rfl ?_
  obtain ⟨b9, c9, f9, hr9, ho9, hc9, hw⟩ := hw
  obtain rfl := List.mem_singleton.mp hc9
  refine k_callXq (k_runVX (n8 := 1) (As := [vI a1]) (rest := []) X (pc := 2) hr9 (met_X1_board (xl x) X.hl (xG x) h a0 a1 _ _ hw) ho9 (by decide) rfl q297 q299 qs0 q71 q300 (by decide +kernel) dX1_sync_2 rfl ⟨Nat.le_of_ble_eq_true rfl, Nat.le_of_ble_eq_true rfl⟩ (Nat.le_of_ble_eq_true rfl) ⟨Nat.le_of_ble_eq_true rfl, Nat.le_of_ble_eq_true rfl⟩) (fun E h9 hx => k_out X hQ (Nat.le_of_ble_eq_true rfl) (Nat.le_of_ble_eq_true rfl) hx) (fun y2 h2 hw => ?_)
  refine k_astore_n X (pc := 5) [(3, vR y2), (0, vR a0), (1, vI a1), (2, vI a2)] dX1_sync_5 rfl (Nat.le_of_ble_eq_true rfl) rfl ?_
  refine k_aload_n X (pc := 6) 1 dX1_sync_6 rfl rfl ?_
  refine k_iload_n X (pc := 7) 3 dX1_sync_7 rfl rfl ?_
  obtain ⟨b9, c9, f9, hr9, ho9, hc9, hw⟩ := hw
  obtain rfl := List.mem_singleton.mp hc9
  refine k_callXq (k_runVX (n8 := 1) (As := [vI a2]) (rest := []) X (pc := 8) hr9 (met_X1_board (xl x) X.hl (xG x) h2 a0 a2 _ _ hw) ho9 (by decide) rfl q297 q299 qs0 q71 q300 (by decide +kernel) dX1_sync_8 rfl ⟨Nat.le_of_ble_eq_true rfl, Nat.le_of_ble_eq_true rfl⟩ (Nat.le_of_ble_eq_true rfl) ⟨Nat.le_of_ble_eq_true rfl, Nat.le_of_ble_eq_true rfl⟩) (fun E h9 hx => k_out X hQ (Nat.le_of_ble_eq_true rfl) (Nat.le_of_ble_eq_true rfl) hx) (fun y8 h8 hw => ?_)
  refine k_astore X (pc := 11) [(4, vR y8), (3, vR y2), (0, vR a0), (1, vI a1), (2, vI a2)] dX1_sync_11 (Nat.le_of_ble_eq_true rfl) rfl ?_
  refine k_iconst X (pc := 13) 1 dX1_sync_13 (by decide) ?_
  refine k_newZ X (pc := 14) 1 dX1_sync_14 q233 (by decide) (Nat.le_of_ble_eq_true rfl) (Nat.le_of_ble_eq_true rfl) hw (fun q14 h14 hw => ?_)
  refine k_dup X (pc := 16) dX1_sync_16 rfl ?_
  refine k_iconst X (pc := 17) 0 dX1_sync_17 (by decide) ?_
  refine k_iload_n X (pc := 18) 3 dX1_sync_18 rfl rfl ?_
  refine k_iload_n X (pc := 19) 4 dX1_sync_19 rfl rfl ?_
  refine k_icmp_eq X (pc := 20) 27 dX1_sync_20 (by decide) hw (fun hw => ?_) (fun hw => ?_)
  · refine k_iconst X (pc := 27) 0 dX1_sync_27 (by decide) ?_
    refine k_zast X (pc := 28) 1 rfl rfl ⟨rfl, rfl⟩ dX1_sync_28 hw (fun h28 hw => ?_)
    refine k_callXv (k_runSX (n8 := 1) (As := [vR (some q14)]) (rest := []) X (pc := 29) (met_X1_require (xl x) X.hl (xG x) h28 (some q14) _ _ hw) q307 q308 q71 q309 (by decide +kernel) dX1_sync_29 rfl ⟨Nat.le_of_ble_eq_true rfl, Nat.le_of_ble_eq_true rfl⟩ (Nat.le_of_ble_eq_true rfl) ⟨Nat.le_of_ble_eq_true rfl, Nat.le_of_ble_eq_true rfl⟩) (fun E h9 hx => k_out X hQ (Nat.le_of_ble_eq_true rfl) (Nat.le_of_ble_eq_true rfl) hx) (fun h29 hw => ?_)
    refine k_iconst X (pc := 32) 0 dX1_sync_32 (by decide) ?_
    refine k_istore X (pc := 33) [(5, vI 0), (4, vR y8), (3, vR y2), (0, vR a0), (1, vI a1), (2, vI a2)] dX1_sync_33 (Nat.le_of_ble_eq_true rfl) rfl ?_
    refine k_iconst X (pc := 35) 0 dX1_sync_35 (by decide) ?_
    refine k_istore X (pc := 36) [(6, vI 0), (5, vI 0), (4, vR y8), (3, vR y2), (0, vR a0), (1, vI a1), (2, vI a2)] dX1_sync_36 (Nat.le_of_ble_eq_true rfl) rfl ?_
    refine k_lv [(0, vR a0), (3, vR y2), (4, vR y8), (5, vI 0), (6, vI 0)] [4, 3, 2, 1, 0] rfl ?_
    exact wk_X1_sync_38 X er en hQ a0 y2 y8 0 0 6 21 h29 hw
  · refine k_iconst X (pc := 23) 1 dX1_sync_23 (by decide) ?_
    refine k_goto X (pc := 24) 28 dX1_sync_24 (by decide) ?_
    refine k_zast X (pc := 28) 1 rfl rfl ⟨rfl, rfl⟩ dX1_sync_28 hw (fun h28 hw => ?_)
    refine k_callXv (k_runSX (n8 := 1) (As := [vR (some q14)]) (rest := []) X (pc := 29) (met_X1_require (xl x) X.hl (xG x) h28 (some q14) _ _ hw) q307 q308 q71 q309 (by decide +kernel) dX1_sync_29 rfl ⟨Nat.le_of_ble_eq_true rfl, Nat.le_of_ble_eq_true rfl⟩ (Nat.le_of_ble_eq_true rfl) ⟨Nat.le_of_ble_eq_true rfl, Nat.le_of_ble_eq_true rfl⟩) (fun E h9 hx => k_out X hQ (Nat.le_of_ble_eq_true rfl) (Nat.le_of_ble_eq_true rfl) hx) (fun h29 hw => ?_)
    refine k_iconst X (pc := 32) 0 dX1_sync_32 (by decide) ?_
    refine k_istore X (pc := 33) [(5, vI 0), (4, vR y8), (3, vR y2), (0, vR a0), (1, vI a1), (2, vI a2)] dX1_sync_33 (Nat.le_of_ble_eq_true rfl) rfl ?_
    refine k_iconst X (pc := 35) 0 dX1_sync_35 (by decide) ?_
    refine k_istore X (pc := 36) [(6, vI 0), (5, vI 0), (4, vR y8), (3, vR y2), (0, vR a0), (1, vI a1), (2, vI a2)] dX1_sync_36 (Nat.le_of_ble_eq_true rfl) rfl ?_
    refine k_lv [(0, vR a0), (3, vR y2), (4, vR y8), (5, vI 0), (6, vI 0)] [4, 3, 2, 1, 0] rfl ?_
    exact wk_X1_sync_38 X er en hQ a0 y2 y8 0 0 6 21 h29 hw
abbrev cX0_sync : ByteArray := method_17_code
def yX0_sync : MethodName := ⟨RX0, "sync", "(LPlugboard;II[J)I"⟩
def dkwX0_sync_0 : List UInt8 := [45, 3, 42, 27, 28, 182, 0, 66, 133, 80, 167, 0, 7, 58, 4, 4, 172, 3, 172]
abbrev dktX0_sync_0 : List UInt8 := dkwX0_sync_0 ++ []
theorem dksX0_sync_0 : cX0_sync.data.toList.drop 0 = dktX0_sync_0 := by decide +kernel
theorem dX0_sync_0 : decode cX0_sync 0 = .ok (.aload_n 3, 1) := dk_45 (dk_at dksX0_sync_0 0 rfl rfl)
theorem dX0_sync_1 : decode cX0_sync 1 = .ok (.iconst 0, 1) := dk_3 (dk_at dksX0_sync_0 1 rfl rfl)
theorem dX0_sync_2 : decode cX0_sync 2 = .ok (.aload_n 0, 1) := dk_42 (dk_at dksX0_sync_0 2 rfl rfl)
theorem dX0_sync_3 : decode cX0_sync 3 = .ok (.iload_n 1, 1) := dk_27 (dk_at dksX0_sync_0 3 rfl rfl)
theorem dX0_sync_4 : decode cX0_sync 4 = .ok (.iload_n 2, 1) := dk_28 (dk_at dksX0_sync_0 4 rfl rfl)
theorem dX0_sync_5 : decode cX0_sync 5 = .ok (.invokevirtual 66, 3) := dk_182 0 66 (dk_at dksX0_sync_0 5 rfl rfl)
theorem dX0_sync_8 : decode cX0_sync 8 = .ok (.i2l, 1) := dk_133 (dk_at dksX0_sync_0 8 rfl rfl)
theorem dX0_sync_9 : decode cX0_sync 9 = .ok (.lastore, 1) := dk_80 (dk_at dksX0_sync_0 9 rfl rfl)
theorem dX0_sync_10 : decode cX0_sync 10 = .ok (.goto 7, 3) := dk_167 0 7 (dk_at dksX0_sync_0 10 rfl rfl)
theorem dX0_sync_13 : decode cX0_sync 13 = .ok (.astore 4, 2) := dk_58 4 (dk_at dksX0_sync_0 13 rfl rfl)
theorem dX0_sync_15 : decode cX0_sync 15 = .ok (.iconst 1, 1) := dk_4 (dk_at dksX0_sync_0 15 rfl rfl)
theorem dX0_sync_16 : decode cX0_sync 16 = .ok (.ireturn, 1) := dk_172 (dk_at dksX0_sync_0 16 rfl rfl)
theorem dX0_sync_17 : decode cX0_sync 17 = .ok (.iconst 0, 1) := dk_3 (dk_at dksX0_sync_0 17 rfl rfl)
theorem dX0_sync_18 : decode cX0_sync 18 = .ok (.ireturn, 1) := dk_172 (dk_at dksX0_sync_0 18 rfl rfl)
theorem q1371 : (Jvm.Cond.methodLink "PlugboardLaw" (66 : Nat) ({ cls := "Plugboard", name := "sync", desc := "(II)I" } : Jvm.MethodName)) ∈ lw_all := lw_g (lw_at lw_m6 101 rfl) rfl
theorem q1373 : (Jvm.Cond.selects "Plugboard" ({ cls := "Plugboard", name := "sync", desc := "(II)I" } : Jvm.MethodName) ({ cls := "Plugboard", name := "sync", desc := "(II)I" } : Jvm.MethodName)) ∈ lw_all := lw_g (lw_at lw_m6 103 rfl) rfl
theorem q1374 : (Jvm.Cond.codeSync ({ cls := "Plugboard", name := "sync", desc := "(II)I" } : Jvm.MethodName) prog_1_method_42_code (8 : Nat) (Option.some Jvm.ClassFile.FieldType.int)) ∈ lw_all := lw_g (lw_at lw_m6 104 rfl) rfl
abbrev rm_X0_sync : Room := { frames := 10, cells := 4000, slots := 60000, locals := 244 }
def w_X0_sync (a0 : Option Nat) (a1 : Int32) (a2 : Int32) (a3 : Option Nat) (h : AH) (P : Int32 → AH → Prop) : Prop :=
  is_c h a0 [0] (
  w_X1_sync a0 a1 a2 h (fun y5 h5 =>
  s_L h5 a3 0 (Int32.toInt64 y5) fun h9 =>
  P 0 h9)
    (fun E9 h9 => (E9 = "java/lang/IllegalArgumentException" ∧ ∀ q9 : Nat,
    P 1 h9)))
theorem met_X0_sync (l : Launch) (hlt : l.stackTraces = false) (G : GG) (hG : G.2.2.1 99 < G.2.1) (h : AH) (a0 : Option Nat) (a1 : Int32) (a2 : Int32) (a3 : Option Nat) (P : Int32 → AH → Prop) (hw : w_X0_sync a0 a1 a2 a3 h P) : ct_i l yX0_sync (wsW_ yX0_sync cX0_sync 5 (Option.some Jvm.ClassFile.FieldType.int) [((0 : Nat), (10 : Nat), (13 : Nat), (13 : Nat))]) rm_X0_sync G h [vR a0, vI a1, vI a2, vR a3] P := by
  refine j_startWi hlt [(0, vR a0), (1, vI a1), (2, vI a2), (3, vR a3)] (by decide) rfl rfl (fun x X eG er en hQ hex => ?_)
  subst eG
  refine j_aload_n X (pc := 0) 3 dX0_sync_0 rfl rfl ?_
  refine j_iconst X (pc := 1) 0 dX0_sync_1 (by decide) ?_
  refine j_aload_n X (pc := 2) 0 dX0_sync_2 rfl rfl ?_
  refine j_iload_n X (pc := 3) 1 dX0_sync_3 rfl rfl ?_
  refine j_iload_n X (pc := 4) 2 dX0_sync_4 rfl rfl ?_
  obtain ⟨b9, c9, f9, hr9, ho9, hc9, hw⟩ := hw
  obtain rfl := List.mem_singleton.mp hc9
  refine j_callXi (j_runVYX (n8 := 2) (As := [vI a1, vI a2]) (rest := [vI 0, vR a3]) X (pc := 5) hr9 (met_X1_sync (xl x) X.hl (xG x) hG h a0 a1 a2 _ _ hw) ho9 (by decide) rfl q1371 q1372 q1373 q71 q1374 (by decide +kernel) dX0_sync_5 rfl ⟨Nat.le_of_ble_eq_true rfl, Nat.le_of_ble_eq_true rfl⟩ (Nat.le_of_ble_eq_true rfl) ⟨Nat.le_of_ble_eq_true rfl, Nat.le_of_ble_eq_true rfl⟩) ?_ (fun y5 h5 hw => ?_)
  · intro E9 h9 hx
    obtain ⟨rfl, hw⟩ := hx
    refine j_catch X (pc := 5) "java/lang/IllegalArgumentException" hex [] [] ⟨0, 10, 13, 13⟩ rfl (by intro y hy; cases hy) (by decide) (by decide) q291 q312 (fun q9 => ?_)
    have hw := hw q9
    refine j_astore X (pc := 13) [(4, vR (some q9)), (0, vR a0), (1, vI a1), (2, vI a2), (3, vR a3)] dX0_sync_13 (Nat.le_of_ble_eq_true rfl) rfl ?_
    refine j_iconst X (pc := 15) 1 dX0_sync_15 (by decide) ?_
    exact j_iret X (pc := 16) hQ er (Nat.le_of_ble_eq_true rfl) (Nat.le_of_ble_eq_true rfl) dX0_sync_16 hw
  refine j_i2l X (pc := 8) dX0_sync_8 ?_
  refine j_last X (pc := 9) dX0_sync_9 hw (fun h9 hw => ?_)
  refine j_goto X (pc := 10) 17 dX0_sync_10 (by decide) ?_
  refine j_iconst X (pc := 17) 0 dX0_sync_17 (by decide) ?_
  exact j_iret X (pc := 18) hQ er (Nat.le_of_ble_eq_true rfl) (Nat.le_of_ble_eq_true rfl) dX0_sync_18 hw
abbrev cX5_sync : ByteArray := prog_19_method_46_code
def yX5_sync : MethodName := ⟨RX5, "sync", "(II)I"⟩
def dkwX5_sync_4 : List UInt8 := [167, 255, 197, 29, 172]
abbrev dktX5_sync_4 : List UInt8 := dkwX5_sync_4 ++ []
def dkwX5_sync_3 : List UInt8 := [27, 50, 21, 4, 4, 84, 42, 180, 0, 64, 28, 50, 21, 4, 4, 84, 132, 3, 1, 132, 4, 1]
abbrev dktX5_sync_3 : List UInt8 := dkwX5_sync_3 ++ dktX5_sync_4
def dkwX5_sync_2 : List UInt8 := [27, 50, 21, 4, 51, 42, 180, 0, 64, 28, 50, 21, 4, 51, 160, 0, 6, 167, 0, 26, 42, 180, 0, 64]
abbrev dktX5_sync_2 : List UInt8 := dkwX5_sync_2 ++ dktX5_sync_3
def dkwX5_sync_1 : List UInt8 := [42, 4, 182, 0, 172, 172, 3, 62, 3, 54, 4, 21, 4, 42, 180, 0, 108, 162, 0, 56, 42, 180, 0, 64]
abbrev dktX5_sync_1 : List UInt8 := dkwX5_sync_1 ++ dktX5_sync_2
def dkwX5_sync_0 : List UInt8 := [42, 3, 181, 0, 97, 27, 184, 0, 165, 153, 0, 15, 28, 184, 0, 165, 153, 0, 8, 27, 28, 160, 0, 9]
abbrev dktX5_sync_0 : List UInt8 := dkwX5_sync_0 ++ dktX5_sync_1
theorem dksX5_sync_0 : cX5_sync.data.toList.drop 0 = dktX5_sync_0 := by decide +kernel
theorem dksX5_sync_1 : cX5_sync.data.toList.drop 24 = dktX5_sync_1 := dk_seg dksX5_sync_0 24 rfl rfl
theorem dksX5_sync_2 : cX5_sync.data.toList.drop 48 = dktX5_sync_2 := dk_seg dksX5_sync_1 24 rfl rfl
theorem dksX5_sync_3 : cX5_sync.data.toList.drop 72 = dktX5_sync_3 := dk_seg dksX5_sync_2 24 rfl rfl
theorem dksX5_sync_4 : cX5_sync.data.toList.drop 94 = dktX5_sync_4 := dk_seg dksX5_sync_3 22 rfl rfl
theorem dX5_sync_0 : decode cX5_sync 0 = .ok (.aload_n 0, 1) := dk_42 (dk_at dksX5_sync_0 0 rfl rfl)
theorem dX5_sync_1 : decode cX5_sync 1 = .ok (.iconst 0, 1) := dk_3 (dk_at dksX5_sync_0 1 rfl rfl)
theorem dX5_sync_2 : decode cX5_sync 2 = .ok (.putfield 97, 3) := dk_181 0 97 (dk_at dksX5_sync_0 2 rfl rfl)
theorem dX5_sync_5 : decode cX5_sync 5 = .ok (.iload_n 1, 1) := dk_27 (dk_at dksX5_sync_0 5 rfl rfl)
theorem dX5_sync_6 : decode cX5_sync 6 = .ok (.invokestatic 165, 3) := dk_184 0 165 (dk_at dksX5_sync_0 6 rfl rfl)
theorem dX5_sync_9 : decode cX5_sync 9 = .ok (.ifCond .eq 15, 3) := dk_153 0 15 (dk_at dksX5_sync_0 9 rfl rfl)
theorem dX5_sync_12 : decode cX5_sync 12 = .ok (.iload_n 2, 1) := dk_28 (dk_at dksX5_sync_0 12 rfl rfl)
theorem dX5_sync_13 : decode cX5_sync 13 = .ok (.invokestatic 165, 3) := dk_184 0 165 (dk_at dksX5_sync_0 13 rfl rfl)
theorem dX5_sync_16 : decode cX5_sync 16 = .ok (.ifCond .eq 8, 3) := dk_153 0 8 (dk_at dksX5_sync_0 16 rfl rfl)
theorem dX5_sync_19 : decode cX5_sync 19 = .ok (.iload_n 1, 1) := dk_27 (dk_at dksX5_sync_0 19 rfl rfl)
theorem dX5_sync_20 : decode cX5_sync 20 = .ok (.iload_n 2, 1) := dk_28 (dk_at dksX5_sync_0 20 rfl rfl)
theorem dX5_sync_21 : decode cX5_sync 21 = .ok (.if_icmp .ne 9, 3) := dk_160 0 9 (dk_at dksX5_sync_0 21 rfl rfl)
theorem dX5_sync_24 : decode cX5_sync 24 = .ok (.aload_n 0, 1) := dk_42 (dk_at dksX5_sync_1 0 rfl rfl)
theorem dX5_sync_25 : decode cX5_sync 25 = .ok (.iconst 1, 1) := dk_4 (dk_at dksX5_sync_1 1 rfl rfl)
theorem dX5_sync_26 : decode cX5_sync 26 = .ok (.invokevirtual 172, 3) := dk_182 0 172 (dk_at dksX5_sync_1 2 rfl rfl)
theorem dX5_sync_29 : decode cX5_sync 29 = .ok (.ireturn, 1) := dk_172 (dk_at dksX5_sync_1 5 rfl rfl)
theorem dX5_sync_30 : decode cX5_sync 30 = .ok (.iconst 0, 1) := dk_3 (dk_at dksX5_sync_1 6 rfl rfl)
theorem dX5_sync_31 : decode cX5_sync 31 = .ok (.istore_n 3, 1) := dk_62 (dk_at dksX5_sync_1 7 rfl rfl)
theorem dX5_sync_32 : decode cX5_sync 32 = .ok (.iconst 0, 1) := dk_3 (dk_at dksX5_sync_1 8 rfl rfl)
theorem dX5_sync_33 : decode cX5_sync 33 = .ok (.istore 4, 2) := dk_54 4 (dk_at dksX5_sync_1 9 rfl rfl)
theorem dX5_sync_35 : decode cX5_sync 35 = .ok (.iload 4, 2) := dk_21 4 (dk_at dksX5_sync_1 11 rfl rfl)
theorem dX5_sync_37 : decode cX5_sync 37 = .ok (.aload_n 0, 1) := dk_42 (dk_at dksX5_sync_1 13 rfl rfl)
theorem dX5_sync_38 : decode cX5_sync 38 = .ok (.getfield 108, 3) := dk_180 0 108 (dk_at dksX5_sync_1 14 rfl rfl)
theorem dX5_sync_41 : decode cX5_sync 41 = .ok (.if_icmp .ge 56, 3) := dk_162 0 56 (dk_at dksX5_sync_1 17 rfl rfl)
theorem dX5_sync_44 : decode cX5_sync 44 = .ok (.aload_n 0, 1) := dk_42 (dk_at dksX5_sync_1 20 rfl rfl)
theorem dX5_sync_45 : decode cX5_sync 45 = .ok (.getfield 64, 3) := dk_180 0 64 (dk_at dksX5_sync_1 21 rfl rfl)
theorem dX5_sync_48 : decode cX5_sync 48 = .ok (.iload_n 1, 1) := dk_27 (dk_at dksX5_sync_2 0 rfl rfl)
theorem dX5_sync_49 : decode cX5_sync 49 = .ok (.aaload, 1) := dk_50 (dk_at dksX5_sync_2 1 rfl rfl)
theorem dX5_sync_50 : decode cX5_sync 50 = .ok (.iload 4, 2) := dk_21 4 (dk_at dksX5_sync_2 2 rfl rfl)
theorem dX5_sync_52 : decode cX5_sync 52 = .ok (.baload, 1) := dk_51 (dk_at dksX5_sync_2 4 rfl rfl)
theorem dX5_sync_53 : decode cX5_sync 53 = .ok (.aload_n 0, 1) := dk_42 (dk_at dksX5_sync_2 5 rfl rfl)
theorem dX5_sync_54 : decode cX5_sync 54 = .ok (.getfield 64, 3) := dk_180 0 64 (dk_at dksX5_sync_2 6 rfl rfl)
theorem dX5_sync_57 : decode cX5_sync 57 = .ok (.iload_n 2, 1) := dk_28 (dk_at dksX5_sync_2 9 rfl rfl)
theorem dX5_sync_58 : decode cX5_sync 58 = .ok (.aaload, 1) := dk_50 (dk_at dksX5_sync_2 10 rfl rfl)
theorem dX5_sync_59 : decode cX5_sync 59 = .ok (.iload 4, 2) := dk_21 4 (dk_at dksX5_sync_2 11 rfl rfl)
theorem dX5_sync_61 : decode cX5_sync 61 = .ok (.baload, 1) := dk_51 (dk_at dksX5_sync_2 13 rfl rfl)
theorem dX5_sync_62 : decode cX5_sync 62 = .ok (.if_icmp .ne 6, 3) := dk_160 0 6 (dk_at dksX5_sync_2 14 rfl rfl)
theorem dX5_sync_65 : decode cX5_sync 65 = .ok (.goto 26, 3) := dk_167 0 26 (dk_at dksX5_sync_2 17 rfl rfl)
theorem dX5_sync_68 : decode cX5_sync 68 = .ok (.aload_n 0, 1) := dk_42 (dk_at dksX5_sync_2 20 rfl rfl)
theorem dX5_sync_69 : decode cX5_sync 69 = .ok (.getfield 64, 3) := dk_180 0 64 (dk_at dksX5_sync_2 21 rfl rfl)
theorem dX5_sync_72 : decode cX5_sync 72 = .ok (.iload_n 1, 1) := dk_27 (dk_at dksX5_sync_3 0 rfl rfl)
theorem dX5_sync_73 : decode cX5_sync 73 = .ok (.aaload, 1) := dk_50 (dk_at dksX5_sync_3 1 rfl rfl)
theorem dX5_sync_74 : decode cX5_sync 74 = .ok (.iload 4, 2) := dk_21 4 (dk_at dksX5_sync_3 2 rfl rfl)
theorem dX5_sync_76 : decode cX5_sync 76 = .ok (.iconst 1, 1) := dk_4 (dk_at dksX5_sync_3 4 rfl rfl)
theorem dX5_sync_77 : decode cX5_sync 77 = .ok (.bastore, 1) := dk_84 (dk_at dksX5_sync_3 5 rfl rfl)
theorem dX5_sync_78 : decode cX5_sync 78 = .ok (.aload_n 0, 1) := dk_42 (dk_at dksX5_sync_3 6 rfl rfl)
theorem dX5_sync_79 : decode cX5_sync 79 = .ok (.getfield 64, 3) := dk_180 0 64 (dk_at dksX5_sync_3 7 rfl rfl)
theorem dX5_sync_82 : decode cX5_sync 82 = .ok (.iload_n 2, 1) := dk_28 (dk_at dksX5_sync_3 10 rfl rfl)
theorem dX5_sync_83 : decode cX5_sync 83 = .ok (.aaload, 1) := dk_50 (dk_at dksX5_sync_3 11 rfl rfl)
theorem dX5_sync_84 : decode cX5_sync 84 = .ok (.iload 4, 2) := dk_21 4 (dk_at dksX5_sync_3 12 rfl rfl)
theorem dX5_sync_86 : decode cX5_sync 86 = .ok (.iconst 1, 1) := dk_4 (dk_at dksX5_sync_3 14 rfl rfl)
theorem dX5_sync_87 : decode cX5_sync 87 = .ok (.bastore, 1) := dk_84 (dk_at dksX5_sync_3 15 rfl rfl)
theorem dX5_sync_88 : decode cX5_sync 88 = .ok (.iinc 3 1, 3) := dk_132 3 1 (dk_at dksX5_sync_3 16 rfl rfl)
theorem dX5_sync_91 : decode cX5_sync 91 = .ok (.iinc 4 1, 3) := dk_132 4 1 (dk_at dksX5_sync_3 19 rfl rfl)
theorem dX5_sync_94 : decode cX5_sync 94 = .ok (.goto (-59), 3) := dk_167 255 197 (dk_at dksX5_sync_4 0 rfl rfl)
theorem dX5_sync_97 : decode cX5_sync 97 = .ok (.iload_n 3, 1) := dk_29 (dk_at dksX5_sync_4 3 rfl rfl)
theorem dX5_sync_98 : decode cX5_sync 98 = .ok (.ireturn, 1) := dk_172 (dk_at dksX5_sync_4 4 rfl rfl)
abbrev rm_X5_sync : Room := { frames := 2, cells := 0, slots := 0, locals := 42 }
def w_X5_sync_35 (P : Int32 → AH → Prop) (x0 : Option Nat) (x1 : Int32) (x2 : Int32) (x3 : Int32) (x4 : Int32) (h : AH) : Prop :=
  ∀ Z35 : Int32 → Int32 → AH → Prop, (∀ x3 x4 h, (
      g_i h x0 4 20 fun y38 =>
      ((y38 ≤ x4 →
        P x3 h) ∧
       (¬ y38 ≤ x4 →
        g_q h x0 4 19 fun y45 =>
        l_q h y45 x1 fun y49 =>
        l_i h y49 1 x4 fun y52 =>
        g_q h x0 4 19 fun y54 =>
        l_q h y54 x2 fun y58 =>
        l_i h y58 1 x4 fun y61 =>
        ((y52 = y61 →
          Z35 x3 (x4 + 1) h) ∧
         (¬ y52 = y61 →
          g_q h x0 4 19 fun y69 =>
          l_q h y69 x1 fun y73 =>
          s_i h y73 1 x4 1 fun h77 =>
          g_q h77 x0 4 19 fun y79 =>
          l_q h77 y79 x2 fun y83 =>
          s_i h77 y83 1 x4 1 fun h87 =>
          Z35 (x3 + 1) (x4 + 1) h87)))))
      → Z35 x3 x4 h) → Z35 x3 x4 h
def w_X5_sync (a0 : Option Nat) (a1 : Int32) (a2 : Int32) (h : AH) (P : Int32 → AH → Prop) : Prop :=
  p_v h a0 4 0 (vI 0) fun h2 =>
  w_X5_isUser a1 h2 (fun y6 h6 =>
  ((y6 = 0 →
    is_c h6 a0 [4] (
    w_X5_fails a0 1 h6 (fun y26 h26 =>
    P y26 h26))) ∧
   (¬ y6 = 0 →
    w_X5_isUser a2 h6 (fun y13 h13 =>
    ((y13 = 0 →
      is_c h13 a0 [4] (
      w_X5_fails a0 1 h13 (fun y26 h26 =>
      P y26 h26))) ∧
     (¬ y13 = 0 →
      ((a1 = a2 →
        is_c h13 a0 [4] (
        w_X5_fails a0 1 h13 (fun y26 h26 =>
        P y26 h26))) ∧
       (¬ a1 = a2 →
        w_X5_sync_35 P a0 a1 a2 0 0 h13))))))))
theorem wk_X5_sync_35 {x : CX} (X : Ok x cX5_sync RX5 rm_X5_sync 5) (er : xrt x = (Option.some Jvm.ClassFile.FieldType.int)) (en : xnm x = yX5_sync.name) {P : Int32 → AH → Prop} (hQ : xr_i x P) (x0 : Option Nat) (x1 : Int32) (x2 : Int32) (x3 : Int32) (x4 : Int32) (h : AH) (hw : w_X5_sync_35 P x0 x1 x2 x3 x4 h) : J x h 0 0 35 [(0, vR x0), (1, vI x1), (2, vI x2), (3, vI x3), (4, vI x4)] [] := by
  refine hw (fun x3 x4 h => J x h 0 0 35 [(0, vR x0), (1, vI x1), (2, vI x2), (3, vI x3), (4, vI x4)] []) (fun x3 x4 h hw => ?_)
  refine j_iload X (pc := 35) 4 dX5_sync_35 rfl ?_
  refine j_aload_n X (pc := 37) 0 dX5_sync_37 rfl rfl ?_
  refine j_geti (ci := 4) X (pc := 38) in_X5 rfl (by decide) 20 (by decide) q1892 (Or.inl rfl) dX5_sync_38 hw (fun y38 hw => ?_)
  refine j_icmp_ge X (pc := 41) 97 dX5_sync_41 (by decide) hw (fun hw => ?_) (fun hw => ?_)
  · refine j_iload_n X (pc := 97) 3 dX5_sync_97 rfl rfl ?_
    exact j_iret X (pc := 98) hQ er (Nat.le_of_ble_eq_true rfl) (Nat.le_of_ble_eq_true rfl) dX5_sync_98 hw
  · refine j_aload_n X (pc := 44) 0 dX5_sync_44 rfl rfl ?_
    refine j_getq (ci := 4) X (pc := 45) in_X5 rfl (by decide) 19 (by decide) q1891 (Or.inl rfl) dX5_sync_45 hw (fun y45 hw => ?_)
    refine j_iload_n X (pc := 48) 1 dX5_sync_48 rfl rfl ?_
    refine j_aald X (pc := 49) dX5_sync_49 hw (fun y49 hw => ?_)
    refine j_iload X (pc := 50) 4 dX5_sync_50 rfl ?_
    refine j_zald X (pc := 52) 1 rfl dX5_sync_52 hw (fun y52 hw => ?_)
    refine j_aload_n X (pc := 53) 0 dX5_sync_53 rfl rfl ?_
    refine j_getq (ci := 4) X (pc := 54) in_X5 rfl (by decide) 19 (by decide) q1891 (Or.inl rfl) dX5_sync_54 hw (fun y54 hw => ?_)
    refine j_iload_n X (pc := 57) 2 dX5_sync_57 rfl rfl ?_
    refine j_aald X (pc := 58) dX5_sync_58 hw (fun y58 hw => ?_)
    refine j_iload X (pc := 59) 4 dX5_sync_59 rfl ?_
    refine j_zald X (pc := 61) 1 rfl dX5_sync_61 hw (fun y61 hw => ?_)
    refine j_icmp_ne X (pc := 62) 68 dX5_sync_62 (by decide) hw (fun hw => ?_) (fun hw => ?_)
    · refine j_goto X (pc := 65) 91 dX5_sync_65 (by decide) ?_
      refine j_iinc X (pc := 91) 4 (x4 + 1) [(4, vI (x4 + 1)), (0, vR x0), (1, vI x1), (2, vI x2), (3, vI x3)] dX5_sync_91 rfl rfl (Nat.le_of_ble_eq_true rfl) rfl ?_
      refine j_goto X (pc := 94) 35 dX5_sync_94 (by decide) ?_
      refine j_lv [(0, vR x0), (1, vI x1), (2, vI x2), (3, vI x3), (4, vI (x4 + 1))] [1, 2, 3, 4, 0] rfl ?_
      refine j_cs (u' := 0) (v' := 0) (Nat.le_of_ble_eq_true rfl) (Nat.le_of_ble_eq_true rfl) ?_
      exact hw
    · refine j_aload_n X (pc := 68) 0 dX5_sync_68 rfl rfl ?_
      refine j_getq (ci := 4) X (pc := 69) in_X5 rfl (by decide) 19 (by decide) q1891 (Or.inl rfl) dX5_sync_69 hw (fun y69 hw => ?_)
      refine j_iload_n X (pc := 72) 1 dX5_sync_72 rfl rfl ?_
      refine j_aald X (pc := 73) dX5_sync_73 hw (fun y73 hw => ?_)
      refine j_iload X (pc := 74) 4 dX5_sync_74 rfl ?_
      refine j_iconst X (pc := 76) 1 dX5_sync_76 (by decide) ?_
      refine j_zast X (pc := 77) 1 rfl rfl ⟨rfl, rfl⟩ dX5_sync_77 hw (fun h77 hw => ?_)
      refine j_aload_n X (pc := 78) 0 dX5_sync_78 rfl rfl ?_
      refine j_getq (ci := 4) X (pc := 79) in_X5 rfl (by decide) 19 (by decide) q1891 (Or.inl rfl) dX5_sync_79 hw (fun y79 hw => ?_)
      refine j_iload_n X (pc := 82) 2 dX5_sync_82 rfl rfl ?_
      refine j_aald X (pc := 83) dX5_sync_83 hw (fun y83 hw => ?_)
      refine j_iload X (pc := 84) 4 dX5_sync_84 rfl ?_
      refine j_iconst X (pc := 86) 1 dX5_sync_86 (by decide) ?_
      refine j_zast X (pc := 87) 1 rfl rfl ⟨rfl, rfl⟩ dX5_sync_87 hw (fun h87 hw => ?_)
      refine j_iinc X (pc := 88) 3 (x3 + 1) [(3, vI (x3 + 1)), (0, vR x0), (1, vI x1), (2, vI x2), (4, vI x4)] dX5_sync_88 rfl rfl (Nat.le_of_ble_eq_true rfl) rfl ?_
      refine j_iinc X (pc := 91) 4 (x4 + 1) [(4, vI (x4 + 1)), (3, vI (x3 + 1)), (0, vR x0), (1, vI x1), (2, vI x2)] dX5_sync_91 rfl rfl (Nat.le_of_ble_eq_true rfl) rfl ?_
      refine j_goto X (pc := 94) 35 dX5_sync_94 (by decide) ?_
      refine j_lv [(0, vR x0), (1, vI x1), (2, vI x2), (3, vI (x3 + 1)), (4, vI (x4 + 1))] [2, 3, 4, 1, 0] rfl ?_
      refine j_cs (u' := 0) (v' := 0) (Nat.le_of_ble_eq_true rfl) (Nat.le_of_ble_eq_true rfl) ?_
      exact hw
theorem met_X5_sync (l : Launch) (hlt : l.stackTraces = false) (G : GG) (h : AH) (a0 : Option Nat) (a1 : Int32) (a2 : Int32) (P : Int32 → AH → Prop) (hw : w_X5_sync a0 a1 a2 h P) : ct_i l yX5_sync (ws_ yX5_sync cX5_sync 5 (Option.some Jvm.ClassFile.FieldType.int)) rm_X5_sync G h [vR a0, vI a1, vI a2] P := by
  refine j_starti hlt [(0, vR a0), (1, vI a1), (2, vI a2)] (plainFor_of_name (by decide)) rfl rfl (fun x X eG er en hQ => ?_)
  subst eG
  refine j_aload_n X (pc := 0) 0 dX5_sync_0 rfl rfl ?_
  refine j_iconst X (pc := 1) 0 dX5_sync_1 (by decide) ?_
  refine j_put (ci := 4) X (pc := 2) in_X5 rfl (by decide) 0 (by decide) q1872 (Or.inl rfl) tyX5 tyX5_ok nmX5 rfl rfl (ty := .int) (tyX5_ok 0 (by decide)) rfl rfl dX5_sync_2 hw (fun h2 hw => ?_)
  refine j_iload_n X (pc := 5) 1 dX5_sync_5 rfl rfl ?_
  refine j_calli (j_runS (n8 := 1) (As := [vI a1]) (rest := []) X (pc := 6) (met_X5_isUser (xl x) X.hl (xG x) h2 a1 _ hw) q1978 q1979 q78 q1980 (by decide +kernel) dX5_sync_6 rfl ⟨Nat.le_of_ble_eq_true rfl, Nat.le_of_ble_eq_true rfl⟩ (Nat.le_of_ble_eq_true rfl) ⟨Nat.le_of_ble_eq_true rfl, Nat.le_of_ble_eq_true rfl⟩) (fun y6 h6 hw => ?_)
  refine j_if_eq X (pc := 9) 24 dX5_sync_9 (by decide) hw (fun hw => ?_) (fun hw => ?_)
  · refine j_aload_n X (pc := 24) 0 dX5_sync_24 rfl rfl ?_
    refine j_iconst X (pc := 25) 1 dX5_sync_25 (by decide) ?_
    obtain ⟨b9, c9, f9, hr9, ho9, hc9, hw⟩ := hw
    obtain rfl := List.mem_singleton.mp hc9
    refine j_calli (j_runV (n8 := 1) (As := [vI 1]) (rest := []) X (pc := 26) hr9 (met_X5_fails (xl x) X.hl (xG x) h6 a0 1 _ hw) ho9 (by decide) rfl q1988 q1990 qs33 q78 q1991 (by decide +kernel) dX5_sync_26 rfl ⟨Nat.le_of_ble_eq_true rfl, Nat.le_of_ble_eq_true rfl⟩ (Nat.le_of_ble_eq_true rfl) ⟨Nat.le_of_ble_eq_true rfl, Nat.le_of_ble_eq_true rfl⟩) (fun y26 h26 hw => ?_)
    exact j_iret X (pc := 29) hQ er (Nat.le_of_ble_eq_true rfl) (Nat.le_of_ble_eq_true rfl) dX5_sync_29 hw
  · refine j_iload_n X (pc := 12) 2 dX5_sync_12 rfl rfl ?_
    refine j_calli (j_runS (n8 := 1) (As := [vI a2]) (rest := []) X (pc := 13) (met_X5_isUser (xl x) X.hl (xG x) h6 a2 _ hw) q1978 q1979 q78 q1980 (by decide +kernel) dX5_sync_13 rfl ⟨Nat.le_of_ble_eq_true rfl, Nat.le_of_ble_eq_true rfl⟩ (Nat.le_of_ble_eq_true rfl) ⟨Nat.le_of_ble_eq_true rfl, Nat.le_of_ble_eq_true rfl⟩) (fun y13 h13 hw => ?_)
    refine j_if_eq X (pc := 16) 24 dX5_sync_16 (by decide) hw (fun hw => ?_) (fun hw => ?_)
    · refine j_aload_n X (pc := 24) 0 dX5_sync_24 rfl rfl ?_
      refine j_iconst X (pc := 25) 1 dX5_sync_25 (by decide) ?_
      obtain ⟨b9, c9, f9, hr9, ho9, hc9, hw⟩ := hw
      obtain rfl := List.mem_singleton.mp hc9
      refine j_calli (j_runV (n8 := 1) (As := [vI 1]) (rest := []) X (pc := 26) hr9 (met_X5_fails (xl x) X.hl (xG x) h13 a0 1 _ hw) ho9 (by decide) rfl q1988 q1990 qs33 q78 q1991 (by decide +kernel) dX5_sync_26 rfl ⟨Nat.le_of_ble_eq_true rfl, Nat.le_of_ble_eq_true rfl⟩ (Nat.le_of_ble_eq_true rfl) ⟨Nat.le_of_ble_eq_true rfl, Nat.le_of_ble_eq_true rfl⟩) (fun y26 h26 hw => ?_)
      exact j_iret X (pc := 29) hQ er (Nat.le_of_ble_eq_true rfl) (Nat.le_of_ble_eq_true rfl) dX5_sync_29 hw
    · refine j_iload_n X (pc := 19) 1 dX5_sync_19 rfl rfl ?_
      refine j_iload_n X (pc := 20) 2 dX5_sync_20 rfl rfl ?_
      refine j_icmp_ne X (pc := 21) 30 dX5_sync_21 (by decide) hw (fun hw => ?_) (fun hw => ?_)
      · refine j_aload_n X (pc := 24) 0 dX5_sync_24 rfl rfl ?_
        refine j_iconst X (pc := 25) 1 dX5_sync_25 (by decide) ?_
        obtain ⟨b9, c9, f9, hr9, ho9, hc9, hw⟩ := hw
        obtain rfl := List.mem_singleton.mp hc9
        refine j_calli (j_runV (n8 := 1) (As := [vI 1]) (rest := []) X (pc := 26) hr9 (met_X5_fails (xl x) X.hl (xG x) h13 a0 1 _ hw) ho9 (by decide) rfl q1988 q1990 qs33 q78 q1991 (by decide +kernel) dX5_sync_26 rfl ⟨Nat.le_of_ble_eq_true rfl, Nat.le_of_ble_eq_true rfl⟩ (Nat.le_of_ble_eq_true rfl) ⟨Nat.le_of_ble_eq_true rfl, Nat.le_of_ble_eq_true rfl⟩) (fun y26 h26 hw => ?_)
        exact j_iret X (pc := 29) hQ er (Nat.le_of_ble_eq_true rfl) (Nat.le_of_ble_eq_true rfl) dX5_sync_29 hw
      · refine j_iconst X (pc := 30) 0 dX5_sync_30 (by decide) ?_
        refine j_istore_n X (pc := 31) [(3, vI 0), (0, vR a0), (1, vI a1), (2, vI a2)] dX5_sync_31 rfl (Nat.le_of_ble_eq_true rfl) rfl ?_
        refine j_iconst X (pc := 32) 0 dX5_sync_32 (by decide) ?_
        refine j_istore X (pc := 33) [(4, vI 0), (3, vI 0), (0, vR a0), (1, vI a1), (2, vI a2)] dX5_sync_33 (Nat.le_of_ble_eq_true rfl) rfl ?_
        refine j_lv [(0, vR a0), (1, vI a1), (2, vI a2), (3, vI 0), (4, vI 0)] [2, 3, 4, 1, 0] rfl ?_
        refine j_cs (u' := 0) (v' := 0) (Nat.le_of_ble_eq_true rfl) (Nat.le_of_ble_eq_true rfl) ?_
        exact wk_X5_sync_35 X er en hQ a0 a1 a2 0 0 h13 hw
abbrev cX1_operations : ByteArray := prog_1_method_43_code
def yX1_operations : MethodName := ⟨RX1, "operations", "()I"⟩
def dkwX1_operations_0 : List UInt8 := [42, 180, 0, 62, 182, 0, 126, 172]
abbrev dktX1_operations_0 : List UInt8 := dkwX1_operations_0 ++ []
theorem dksX1_operations_0 : cX1_operations.data.toList.drop 0 = dktX1_operations_0 := by decide +kernel
theorem dX1_operations_0 : decode cX1_operations 0 = .ok (.aload_n 0, 1) := dk_42 (dk_at dksX1_operations_0 0 rfl rfl)
theorem dX1_operations_1 : decode cX1_operations 1 = .ok (.getfield 62, 3) := dk_180 0 62 (dk_at dksX1_operations_0 1 rfl rfl)
theorem dX1_operations_4 : decode cX1_operations 4 = .ok (.invokevirtual 126, 3) := dk_182 0 126 (dk_at dksX1_operations_0 4 rfl rfl)
theorem dX1_operations_7 : decode cX1_operations 7 = .ok (.ireturn, 1) := dk_172 (dk_at dksX1_operations_0 7 rfl rfl)
abbrev rm_X1_operations : Room := { frames := 1, cells := 0, slots := 0, locals := 20 }
def w_X1_operations (a0 : Option Nat) (h : AH) (P : Int32 → AH → Prop) : Prop :=
  g_q h a0 0 2 fun y1 =>
  is_c h y1 [15] (
  w_J2_size y1 h (fun y4 h4 =>
  P y4 h4))
theorem met_X1_operations (l : Launch) (hlt : l.stackTraces = false) (G : GG) (h : AH) (a0 : Option Nat) (P : Int32 → AH → Prop) (hw : w_X1_operations a0 h P) : ct_i l yX1_operations (ws_ yX1_operations cX1_operations 1 (Option.some Jvm.ClassFile.FieldType.int)) rm_X1_operations G h [vR a0] P := by
  refine j_starti hlt [(0, vR a0)] (plainFor_of_name (by decide)) rfl rfl (fun x X eG er en hQ => ?_)
  subst eG
  refine j_aload_n X (pc := 0) 0 dX1_operations_0 rfl rfl ?_
  refine j_getq (ci := 0) X (pc := 1) in_X1 rfl (by decide) 2 (by decide) q243 (Or.inl rfl) dX1_operations_1 hw (fun y1 hw => ?_)
  obtain ⟨b9, c9, f9, hr9, ho9, hc9, hw⟩ := hw
  obtain rfl := List.mem_singleton.mp hc9
  refine j_calli (j_runV (n8 := 0) (As := []) (rest := []) X (pc := 4) hr9 (met_J2_size (xl x) X.hl (xG x) h y1 _ hw) ho9 (by decide) rfl q284 q285 q286 q74 q287 (by decide +kernel) dX1_operations_4 rfl ⟨Nat.le_of_ble_eq_true rfl, Nat.le_of_ble_eq_true rfl⟩ (Nat.le_of_ble_eq_true rfl) ⟨Nat.le_of_ble_eq_true rfl, Nat.le_of_ble_eq_true rfl⟩) (fun y4 h4 hw => ?_)
  exact j_iret X (pc := 7) hQ er (Nat.le_of_ble_eq_true rfl) (Nat.le_of_ble_eq_true rfl) dX1_operations_7 hw
abbrev cX5_operations : ByteArray := prog_19_method_47_code
def yX5_operations : MethodName := ⟨RX5, "operations", "()I"⟩
def dkwX5_operations_0 : List UInt8 := [42, 3, 181, 0, 97, 42, 180, 0, 108, 172]
abbrev dktX5_operations_0 : List UInt8 := dkwX5_operations_0 ++ []
theorem dksX5_operations_0 : cX5_operations.data.toList.drop 0 = dktX5_operations_0 := by decide +kernel
theorem dX5_operations_0 : decode cX5_operations 0 = .ok (.aload_n 0, 1) := dk_42 (dk_at dksX5_operations_0 0 rfl rfl)
theorem dX5_operations_1 : decode cX5_operations 1 = .ok (.iconst 0, 1) := dk_3 (dk_at dksX5_operations_0 1 rfl rfl)
theorem dX5_operations_2 : decode cX5_operations 2 = .ok (.putfield 97, 3) := dk_181 0 97 (dk_at dksX5_operations_0 2 rfl rfl)
theorem dX5_operations_5 : decode cX5_operations 5 = .ok (.aload_n 0, 1) := dk_42 (dk_at dksX5_operations_0 5 rfl rfl)
theorem dX5_operations_6 : decode cX5_operations 6 = .ok (.getfield 108, 3) := dk_180 0 108 (dk_at dksX5_operations_0 6 rfl rfl)
theorem dX5_operations_9 : decode cX5_operations 9 = .ok (.ireturn, 1) := dk_172 (dk_at dksX5_operations_0 9 rfl rfl)
abbrev rm_X5_operations : Room := { frames := 0, cells := 0, slots := 0, locals := 0 }
def w_X5_operations (a0 : Option Nat) (h : AH) (P : Int32 → AH → Prop) : Prop :=
  p_v h a0 4 0 (vI 0) fun h2 =>
  g_i h2 a0 4 20 fun y6 =>
  P y6 h2
theorem met_X5_operations (l : Launch) (hlt : l.stackTraces = false) (G : GG) (h : AH) (a0 : Option Nat) (P : Int32 → AH → Prop) (hw : w_X5_operations a0 h P) : ct_i l yX5_operations (ws_ yX5_operations cX5_operations 1 (Option.some Jvm.ClassFile.FieldType.int)) rm_X5_operations G h [vR a0] P := by
  refine j_starti hlt [(0, vR a0)] (plainFor_of_name (by decide)) rfl rfl (fun x X eG er en hQ => ?_)
  subst eG
  refine j_aload_n X (pc := 0) 0 dX5_operations_0 rfl rfl ?_
  refine j_iconst X (pc := 1) 0 dX5_operations_1 (by decide) ?_
  refine j_put (ci := 4) X (pc := 2) in_X5 rfl (by decide) 0 (by decide) q1872 (Or.inl rfl) tyX5 tyX5_ok nmX5 rfl rfl (ty := .int) (tyX5_ok 0 (by decide)) rfl rfl dX5_operations_2 hw (fun h2 hw => ?_)
  refine j_aload_n X (pc := 5) 0 dX5_operations_5 rfl rfl ?_
  refine j_geti (ci := 4) X (pc := 6) in_X5 rfl (by decide) 20 (by decide) q1892 (Or.inl rfl) dX5_operations_6 hw (fun y6 hw => ?_)
  exact j_iret X (pc := 9) hQ er (Nat.le_of_ble_eq_true rfl) (Nat.le_of_ble_eq_true rfl) dX5_operations_9 hw
abbrev cX1_userOf : ByteArray := prog_1_method_44_code
def yX1_userOf : MethodName := ⟨RX1, "userOf", "(I)I"⟩
def dkwX1_userOf_0 : List UInt8 := [42, 27, 182, 1, 90, 180, 1, 68, 172]
abbrev dktX1_userOf_0 : List UInt8 := dkwX1_userOf_0 ++ []
theorem dksX1_userOf_0 : cX1_userOf.data.toList.drop 0 = dktX1_userOf_0 := by decide +kernel
theorem dX1_userOf_0 : decode cX1_userOf 0 = .ok (.aload_n 0, 1) := dk_42 (dk_at dksX1_userOf_0 0 rfl rfl)
theorem dX1_userOf_1 : decode cX1_userOf 1 = .ok (.iload_n 1, 1) := dk_27 (dk_at dksX1_userOf_0 1 rfl rfl)
theorem dX1_userOf_2 : decode cX1_userOf 2 = .ok (.invokevirtual 346, 3) := dk_182 1 90 (dk_at dksX1_userOf_0 2 rfl rfl)
theorem dX1_userOf_5 : decode cX1_userOf 5 = .ok (.getfield 324, 3) := dk_180 1 68 (dk_at dksX1_userOf_0 5 rfl rfl)
theorem dX1_userOf_8 : decode cX1_userOf 8 = .ok (.ireturn, 1) := dk_172 (dk_at dksX1_userOf_0 8 rfl rfl)
abbrev rm_X1_userOf : Room := { frames := 8, cells := 1, slots := 6, locals := 122 }
def w_X1_userOf (a0 : Option Nat) (a1 : Int32) (h : AH) (P : Int32 → AH → Prop) (PX : String → AH → Prop) : Prop :=
  is_c h a0 [0] (
  w_X1_operation a0 a1 h (fun y2 h2 =>
  g_i h2 y2 9 1 fun y5 =>
  P y5 h2) PX)
theorem met_X1_userOf (l : Launch) (hlt : l.stackTraces = false) (G : GG) (h : AH) (a0 : Option Nat) (a1 : Int32) (P : Int32 → AH → Prop) (PX : String → AH → Prop) (hw : w_X1_userOf a0 a1 h P PX) : cx_i l yX1_userOf (ws_ yX1_userOf cX1_userOf 2 (Option.some Jvm.ClassFile.FieldType.int)) rm_X1_userOf G h [vR a0, vI a1] P PX := by
  refine j_startXi hlt [(0, vR a0), (1, vI a1)] (by decide) rfl rfl (fun x X eG er en hQ hT hex => ?_)
  subst eG
  refine j_aload_n X (pc := 0) 0 dX1_userOf_0 rfl rfl ?_
  refine j_iload_n X (pc := 1) 1 dX1_userOf_1 rfl rfl ?_
  obtain ⟨b9, c9, f9, hr9, ho9, hc9, hw⟩ := hw
  obtain rfl := List.mem_singleton.mp hc9
  refine j_callXq (j_runVX (n8 := 1) (As := [vI a1]) (rest := []) X (pc := 2) hr9 (met_X1_operation (xl x) X.hl (xG x) h a0 a1 _ _ hw) ho9 (by decide) rfl q1364 q1366 qs17 q71 q1367 (by decide +kernel) dX1_userOf_2 rfl ⟨Nat.le_of_ble_eq_true rfl, Nat.le_of_ble_eq_true rfl⟩ (Nat.le_of_ble_eq_true rfl) ⟨Nat.le_of_ble_eq_true rfl, Nat.le_of_ble_eq_true rfl⟩) (fun E h9 hx => j_out X hT hex (Nat.le_of_ble_eq_true rfl) (Nat.le_of_ble_eq_true rfl) hx) (fun y2 h2 hw => ?_)
  refine j_getiN (ci := 9) X (pc := 5) in_X11 rfl (by decide) 1 (by decide) q702 (Or.inl rfl) dX1_userOf_5 hw (fun y5 hw => ?_)
  exact j_iret X (pc := 8) hQ er (Nat.le_of_ble_eq_true rfl) (Nat.le_of_ble_eq_true rfl) dX1_userOf_8 hw
abbrev cX0_userOf : ByteArray := method_18_code
def yX0_userOf : MethodName := ⟨RX0, "userOf", "(LPlugboard;I[J)I"⟩
def dkwX0_userOf_0 : List UInt8 := [44, 3, 42, 27, 182, 0, 69, 133, 80, 167, 0, 6, 78, 4, 172, 3, 172]
abbrev dktX0_userOf_0 : List UInt8 := dkwX0_userOf_0 ++ []
theorem dksX0_userOf_0 : cX0_userOf.data.toList.drop 0 = dktX0_userOf_0 := by decide +kernel
theorem dX0_userOf_0 : decode cX0_userOf 0 = .ok (.aload_n 2, 1) := dk_44 (dk_at dksX0_userOf_0 0 rfl rfl)
theorem dX0_userOf_1 : decode cX0_userOf 1 = .ok (.iconst 0, 1) := dk_3 (dk_at dksX0_userOf_0 1 rfl rfl)
theorem dX0_userOf_2 : decode cX0_userOf 2 = .ok (.aload_n 0, 1) := dk_42 (dk_at dksX0_userOf_0 2 rfl rfl)
theorem dX0_userOf_3 : decode cX0_userOf 3 = .ok (.iload_n 1, 1) := dk_27 (dk_at dksX0_userOf_0 3 rfl rfl)
theorem dX0_userOf_4 : decode cX0_userOf 4 = .ok (.invokevirtual 69, 3) := dk_182 0 69 (dk_at dksX0_userOf_0 4 rfl rfl)
theorem dX0_userOf_7 : decode cX0_userOf 7 = .ok (.i2l, 1) := dk_133 (dk_at dksX0_userOf_0 7 rfl rfl)
theorem dX0_userOf_8 : decode cX0_userOf 8 = .ok (.lastore, 1) := dk_80 (dk_at dksX0_userOf_0 8 rfl rfl)
theorem dX0_userOf_9 : decode cX0_userOf 9 = .ok (.goto 6, 3) := dk_167 0 6 (dk_at dksX0_userOf_0 9 rfl rfl)
theorem dX0_userOf_12 : decode cX0_userOf 12 = .ok (.astore_n 3, 1) := dk_78 (dk_at dksX0_userOf_0 12 rfl rfl)
theorem dX0_userOf_13 : decode cX0_userOf 13 = .ok (.iconst 1, 1) := dk_4 (dk_at dksX0_userOf_0 13 rfl rfl)
theorem dX0_userOf_14 : decode cX0_userOf 14 = .ok (.ireturn, 1) := dk_172 (dk_at dksX0_userOf_0 14 rfl rfl)
theorem dX0_userOf_15 : decode cX0_userOf 15 = .ok (.iconst 0, 1) := dk_3 (dk_at dksX0_userOf_0 15 rfl rfl)
theorem dX0_userOf_16 : decode cX0_userOf 16 = .ok (.ireturn, 1) := dk_172 (dk_at dksX0_userOf_0 16 rfl rfl)
theorem q1378 : (Jvm.Cond.methodLink "PlugboardLaw" (69 : Nat) ({ cls := "Plugboard", name := "userOf", desc := "(I)I" } : Jvm.MethodName)) ∈ lw_all := lw_g (lw_at lw_m6 108 rfl) rfl
theorem q1379 : (Jvm.Cond.instanceMethod ({ cls := "Plugboard", name := "userOf", desc := "(I)I" } : Jvm.MethodName)) ∈ lw_all := lw_g (lw_at lw_m6 109 rfl) rfl
theorem q1380 : (Jvm.Cond.selects "Plugboard" ({ cls := "Plugboard", name := "userOf", desc := "(I)I" } : Jvm.MethodName) ({ cls := "Plugboard", name := "userOf", desc := "(I)I" } : Jvm.MethodName)) ∈ lw_all := lw_g (lw_at lw_m6 110 rfl) rfl
theorem q1381 : (Jvm.Cond.code ({ cls := "Plugboard", name := "userOf", desc := "(I)I" } : Jvm.MethodName) prog_1_method_44_code (2 : Nat) (Option.some Jvm.ClassFile.FieldType.int)) ∈ lw_all := lw_g (lw_at lw_m6 111 rfl) rfl
abbrev rm_X0_userOf : Room := { frames := 9, cells := 1, slots := 6, locals := 143 }
def w_X0_userOf (a0 : Option Nat) (a1 : Int32) (a2 : Option Nat) (h : AH) (P : Int32 → AH → Prop) : Prop :=
  is_c h a0 [0] (
  w_X1_userOf a0 a1 h (fun y4 h4 =>
  s_L h4 a2 0 (Int32.toInt64 y4) fun h8 =>
  P 0 h8)
    (fun E9 h9 => (E9 = "java/util/NoSuchElementException" ∧ ∀ q9 : Nat,
    P 1 h9)))
theorem met_X0_userOf (l : Launch) (hlt : l.stackTraces = false) (G : GG) (h : AH) (a0 : Option Nat) (a1 : Int32) (a2 : Option Nat) (P : Int32 → AH → Prop) (hw : w_X0_userOf a0 a1 a2 h P) : ct_i l yX0_userOf (wsW_ yX0_userOf cX0_userOf 4 (Option.some Jvm.ClassFile.FieldType.int) [((0 : Nat), (9 : Nat), (12 : Nat), (21 : Nat))]) rm_X0_userOf G h [vR a0, vI a1, vR a2] P := by
  refine j_startWi hlt [(0, vR a0), (1, vI a1), (2, vR a2)] (by decide) rfl rfl (fun x X eG er en hQ hex => ?_)
  subst eG
  refine j_aload_n X (pc := 0) 2 dX0_userOf_0 rfl rfl ?_
  refine j_iconst X (pc := 1) 0 dX0_userOf_1 (by decide) ?_
  refine j_aload_n X (pc := 2) 0 dX0_userOf_2 rfl rfl ?_
  refine j_iload_n X (pc := 3) 1 dX0_userOf_3 rfl rfl ?_
  obtain ⟨b9, c9, f9, hr9, ho9, hc9, hw⟩ := hw
  obtain rfl := List.mem_singleton.mp hc9
  refine j_callXi (j_runVX (n8 := 1) (As := [vI a1]) (rest := [vI 0, vR a2]) X (pc := 4) hr9 (met_X1_userOf (xl x) X.hl (xG x) h a0 a1 _ _ hw) ho9 (by decide) rfl q1378 q1379 q1380 q71 q1381 (by decide +kernel) dX0_userOf_4 rfl ⟨Nat.le_of_ble_eq_true rfl, Nat.le_of_ble_eq_true rfl⟩ (Nat.le_of_ble_eq_true rfl) ⟨Nat.le_of_ble_eq_true rfl, Nat.le_of_ble_eq_true rfl⟩) ?_ (fun y4 h4 hw => ?_)
  · intro E9 h9 hx
    obtain ⟨rfl, hw⟩ := hx
    refine j_catch X (pc := 4) "java/util/NoSuchElementException" hex [] [] ⟨0, 9, 12, 21⟩ rfl (by intro y hy; cases hy) (by decide) (by decide) q1068 q537 (fun q9 => ?_)
    have hw := hw q9
    refine j_astore_n X (pc := 12) [(3, vR (some q9)), (0, vR a0), (1, vI a1), (2, vR a2)] dX0_userOf_12 rfl (Nat.le_of_ble_eq_true rfl) rfl ?_
    refine j_iconst X (pc := 13) 1 dX0_userOf_13 (by decide) ?_
    exact j_iret X (pc := 14) hQ er (Nat.le_of_ble_eq_true rfl) (Nat.le_of_ble_eq_true rfl) dX0_userOf_14 hw
  refine j_i2l X (pc := 7) dX0_userOf_7 ?_
  refine j_last X (pc := 8) dX0_userOf_8 hw (fun h8 hw => ?_)
  refine j_goto X (pc := 9) 15 dX0_userOf_9 (by decide) ?_
  refine j_iconst X (pc := 15) 0 dX0_userOf_15 (by decide) ?_
  exact j_iret X (pc := 16) hQ er (Nat.le_of_ble_eq_true rfl) (Nat.le_of_ble_eq_true rfl) dX0_userOf_16 hw
abbrev cX5_userOf : ByteArray := prog_19_method_48_code
def yX5_userOf : MethodName := ⟨RX5, "userOf", "(I)I"⟩
def dkwX5_userOf_1 : List UInt8 := [182, 0, 172, 172]
abbrev dktX5_userOf_1 : List UInt8 := dkwX5_userOf_1 ++ []
def dkwX5_userOf_0 : List UInt8 := [42, 3, 181, 0, 97, 42, 27, 182, 0, 222, 153, 0, 12, 42, 180, 0, 33, 27, 46, 167, 0, 8, 42, 4]
abbrev dktX5_userOf_0 : List UInt8 := dkwX5_userOf_0 ++ dktX5_userOf_1
theorem dksX5_userOf_0 : cX5_userOf.data.toList.drop 0 = dktX5_userOf_0 := by decide +kernel
theorem dksX5_userOf_1 : cX5_userOf.data.toList.drop 24 = dktX5_userOf_1 := dk_seg dksX5_userOf_0 24 rfl rfl
theorem dX5_userOf_0 : decode cX5_userOf 0 = .ok (.aload_n 0, 1) := dk_42 (dk_at dksX5_userOf_0 0 rfl rfl)
theorem dX5_userOf_1 : decode cX5_userOf 1 = .ok (.iconst 0, 1) := dk_3 (dk_at dksX5_userOf_0 1 rfl rfl)
theorem dX5_userOf_2 : decode cX5_userOf 2 = .ok (.putfield 97, 3) := dk_181 0 97 (dk_at dksX5_userOf_0 2 rfl rfl)
theorem dX5_userOf_5 : decode cX5_userOf 5 = .ok (.aload_n 0, 1) := dk_42 (dk_at dksX5_userOf_0 5 rfl rfl)
theorem dX5_userOf_6 : decode cX5_userOf 6 = .ok (.iload_n 1, 1) := dk_27 (dk_at dksX5_userOf_0 6 rfl rfl)
theorem dX5_userOf_7 : decode cX5_userOf 7 = .ok (.invokevirtual 222, 3) := dk_182 0 222 (dk_at dksX5_userOf_0 7 rfl rfl)
theorem dX5_userOf_10 : decode cX5_userOf 10 = .ok (.ifCond .eq 12, 3) := dk_153 0 12 (dk_at dksX5_userOf_0 10 rfl rfl)
theorem dX5_userOf_13 : decode cX5_userOf 13 = .ok (.aload_n 0, 1) := dk_42 (dk_at dksX5_userOf_0 13 rfl rfl)
theorem dX5_userOf_14 : decode cX5_userOf 14 = .ok (.getfield 33, 3) := dk_180 0 33 (dk_at dksX5_userOf_0 14 rfl rfl)
theorem dX5_userOf_17 : decode cX5_userOf 17 = .ok (.iload_n 1, 1) := dk_27 (dk_at dksX5_userOf_0 17 rfl rfl)
theorem dX5_userOf_18 : decode cX5_userOf 18 = .ok (.iaload, 1) := dk_46 (dk_at dksX5_userOf_0 18 rfl rfl)
theorem dX5_userOf_19 : decode cX5_userOf 19 = .ok (.goto 8, 3) := dk_167 0 8 (dk_at dksX5_userOf_0 19 rfl rfl)
theorem dX5_userOf_22 : decode cX5_userOf 22 = .ok (.aload_n 0, 1) := dk_42 (dk_at dksX5_userOf_0 22 rfl rfl)
theorem dX5_userOf_23 : decode cX5_userOf 23 = .ok (.iconst 1, 1) := dk_4 (dk_at dksX5_userOf_0 23 rfl rfl)
theorem dX5_userOf_24 : decode cX5_userOf 24 = .ok (.invokevirtual 172, 3) := dk_182 0 172 (dk_at dksX5_userOf_1 0 rfl rfl)
theorem dX5_userOf_27 : decode cX5_userOf 27 = .ok (.ireturn, 1) := dk_172 (dk_at dksX5_userOf_1 3 rfl rfl)
abbrev rm_X5_userOf : Room := { frames := 2, cells := 0, slots := 0, locals := 43 }
def w_X5_userOf (a0 : Option Nat) (a1 : Int32) (h : AH) (P : Int32 → AH → Prop) : Prop :=
  p_v h a0 4 0 (vI 0) fun h2 =>
  is_c h2 a0 [4] (
  w_X5_isOperation a0 a1 h2 (fun y7 h7 =>
  ((y7 = 0 →
    is_c h7 a0 [4] (
    w_X5_fails a0 1 h7 (fun y24 h24 =>
    P y24 h24))) ∧
   (¬ y7 = 0 →
    g_q h7 a0 4 10 fun y14 =>
    l_i h7 y14 0 a1 fun y18 =>
    P y18 h7))))
theorem met_X5_userOf (l : Launch) (hlt : l.stackTraces = false) (G : GG) (h : AH) (a0 : Option Nat) (a1 : Int32) (P : Int32 → AH → Prop) (hw : w_X5_userOf a0 a1 h P) : ct_i l yX5_userOf (ws_ yX5_userOf cX5_userOf 2 (Option.some Jvm.ClassFile.FieldType.int)) rm_X5_userOf G h [vR a0, vI a1] P := by
  refine j_starti hlt [(0, vR a0), (1, vI a1)] (plainFor_of_name (by decide)) rfl rfl (fun x X eG er en hQ => ?_)
  subst eG
  refine j_aload_n X (pc := 0) 0 dX5_userOf_0 rfl rfl ?_
  refine j_iconst X (pc := 1) 0 dX5_userOf_1 (by decide) ?_
  refine j_put (ci := 4) X (pc := 2) in_X5 rfl (by decide) 0 (by decide) q1872 (Or.inl rfl) tyX5 tyX5_ok nmX5 rfl rfl (ty := .int) (tyX5_ok 0 (by decide)) rfl rfl dX5_userOf_2 hw (fun h2 hw => ?_)
  refine j_aload_n X (pc := 5) 0 dX5_userOf_5 rfl rfl ?_
  refine j_iload_n X (pc := 6) 1 dX5_userOf_6 rfl rfl ?_
  obtain ⟨b9, c9, f9, hr9, ho9, hc9, hw⟩ := hw
  obtain rfl := List.mem_singleton.mp hc9
  refine j_calli (j_runV (n8 := 1) (As := [vI a1]) (rest := []) X (pc := 7) hr9 (met_X5_isOperation (xl x) X.hl (xG x) h2 a0 a1 _ hw) ho9 (by decide) rfl q2138 q2140 qs56 q78 q2141 (by decide +kernel) dX5_userOf_7 rfl ⟨Nat.le_of_ble_eq_true rfl, Nat.le_of_ble_eq_true rfl⟩ (Nat.le_of_ble_eq_true rfl) ⟨Nat.le_of_ble_eq_true rfl, Nat.le_of_ble_eq_true rfl⟩) (fun y7 h7 hw => ?_)
  refine j_if_eq X (pc := 10) 22 dX5_userOf_10 (by decide) hw (fun hw => ?_) (fun hw => ?_)
  · refine j_aload_n X (pc := 22) 0 dX5_userOf_22 rfl rfl ?_
    refine j_iconst X (pc := 23) 1 dX5_userOf_23 (by decide) ?_
    obtain ⟨b9, c9, f9, hr9, ho9, hc9, hw⟩ := hw
    obtain rfl := List.mem_singleton.mp hc9
    refine j_calli (j_runV (n8 := 1) (As := [vI 1]) (rest := []) X (pc := 24) hr9 (met_X5_fails (xl x) X.hl (xG x) h7 a0 1 _ hw) ho9 (by decide) rfl q1988 q1990 qs33 q78 q1991 (by decide +kernel) dX5_userOf_24 rfl ⟨Nat.le_of_ble_eq_true rfl, Nat.le_of_ble_eq_true rfl⟩ (Nat.le_of_ble_eq_true rfl) ⟨Nat.le_of_ble_eq_true rfl, Nat.le_of_ble_eq_true rfl⟩) (fun y24 h24 hw => ?_)
    exact j_iret X (pc := 27) hQ er (Nat.le_of_ble_eq_true rfl) (Nat.le_of_ble_eq_true rfl) dX5_userOf_27 hw
  · refine j_aload_n X (pc := 13) 0 dX5_userOf_13 rfl rfl ?_
    refine j_getq (ci := 4) X (pc := 14) in_X5 rfl (by decide) 10 (by decide) q1882 (Or.inl rfl) dX5_userOf_14 hw (fun y14 hw => ?_)
    refine j_iload_n X (pc := 17) 1 dX5_userOf_17 rfl rfl ?_
    refine j_iald X (pc := 18) 0 rfl dX5_userOf_18 hw (fun y18 hw => ?_)
    refine j_goto X (pc := 19) 27 dX5_userOf_19 (by decide) ?_
    exact j_iret X (pc := 27) hQ er (Nat.le_of_ble_eq_true rfl) (Nat.le_of_ble_eq_true rfl) dX5_userOf_27 hw
abbrev cX1_clockOf : ByteArray := prog_1_method_45_code
def yX1_clockOf : MethodName := ⟨RX1, "clockOf", "(I)I"⟩
def dkwX1_clockOf_0 : List UInt8 := [42, 27, 182, 1, 90, 180, 1, 100, 172]
abbrev dktX1_clockOf_0 : List UInt8 := dkwX1_clockOf_0 ++ []
theorem dksX1_clockOf_0 : cX1_clockOf.data.toList.drop 0 = dktX1_clockOf_0 := by decide +kernel
theorem dX1_clockOf_0 : decode cX1_clockOf 0 = .ok (.aload_n 0, 1) := dk_42 (dk_at dksX1_clockOf_0 0 rfl rfl)
theorem dX1_clockOf_1 : decode cX1_clockOf 1 = .ok (.iload_n 1, 1) := dk_27 (dk_at dksX1_clockOf_0 1 rfl rfl)
theorem dX1_clockOf_2 : decode cX1_clockOf 2 = .ok (.invokevirtual 346, 3) := dk_182 1 90 (dk_at dksX1_clockOf_0 2 rfl rfl)
theorem dX1_clockOf_5 : decode cX1_clockOf 5 = .ok (.getfield 356, 3) := dk_180 1 100 (dk_at dksX1_clockOf_0 5 rfl rfl)
theorem dX1_clockOf_8 : decode cX1_clockOf 8 = .ok (.ireturn, 1) := dk_172 (dk_at dksX1_clockOf_0 8 rfl rfl)
theorem q705 : (Jvm.Cond.fieldLinkNest "Plugboard" (356 : Nat) "Plugboard$Operation" "clock" "I" "Plugboard") ∈ lw_tbl := lw_at lw_m3 155 rfl
abbrev rm_X1_clockOf : Room := { frames := 8, cells := 1, slots := 6, locals := 122 }
def w_X1_clockOf (a0 : Option Nat) (a1 : Int32) (h : AH) (P : Int32 → AH → Prop) (PX : String → AH → Prop) : Prop :=
  is_c h a0 [0] (
  w_X1_operation a0 a1 h (fun y2 h2 =>
  g_i h2 y2 9 2 fun y5 =>
  P y5 h2) PX)
theorem met_X1_clockOf (l : Launch) (hlt : l.stackTraces = false) (G : GG) (h : AH) (a0 : Option Nat) (a1 : Int32) (P : Int32 → AH → Prop) (PX : String → AH → Prop) (hw : w_X1_clockOf a0 a1 h P PX) : cx_i l yX1_clockOf (ws_ yX1_clockOf cX1_clockOf 2 (Option.some Jvm.ClassFile.FieldType.int)) rm_X1_clockOf G h [vR a0, vI a1] P PX := by
  refine j_startXi hlt [(0, vR a0), (1, vI a1)] (by decide) rfl rfl (fun x X eG er en hQ hT hex => ?_)
  subst eG
  refine j_aload_n X (pc := 0) 0 dX1_clockOf_0 rfl rfl ?_
  refine j_iload_n X (pc := 1) 1 dX1_clockOf_1 rfl rfl ?_
  obtain ⟨b9, c9, f9, hr9, ho9, hc9, hw⟩ := hw
  obtain rfl := List.mem_singleton.mp hc9
  refine j_callXq (j_runVX (n8 := 1) (As := [vI a1]) (rest := []) X (pc := 2) hr9 (met_X1_operation (xl x) X.hl (xG x) h a0 a1 _ _ hw) ho9 (by decide) rfl q1364 q1366 qs17 q71 q1367 (by decide +kernel) dX1_clockOf_2 rfl ⟨Nat.le_of_ble_eq_true rfl, Nat.le_of_ble_eq_true rfl⟩ (Nat.le_of_ble_eq_true rfl) ⟨Nat.le_of_ble_eq_true rfl, Nat.le_of_ble_eq_true rfl⟩) (fun E h9 hx => j_out X hT hex (Nat.le_of_ble_eq_true rfl) (Nat.le_of_ble_eq_true rfl) hx) (fun y2 h2 hw => ?_)
  refine j_getiN (ci := 9) X (pc := 5) in_X11 rfl (by decide) 2 (by decide) q705 (Or.inl rfl) dX1_clockOf_5 hw (fun y5 hw => ?_)
  exact j_iret X (pc := 8) hQ er (Nat.le_of_ble_eq_true rfl) (Nat.le_of_ble_eq_true rfl) dX1_clockOf_8 hw
abbrev cX0_clockOf : ByteArray := method_19_code
def yX0_clockOf : MethodName := ⟨RX0, "clockOf", "(LPlugboard;I[J)I"⟩
def dkwX0_clockOf_0 : List UInt8 := [44, 3, 42, 27, 182, 0, 72, 133, 80, 167, 0, 6, 78, 4, 172, 3, 172]
abbrev dktX0_clockOf_0 : List UInt8 := dkwX0_clockOf_0 ++ []
theorem dksX0_clockOf_0 : cX0_clockOf.data.toList.drop 0 = dktX0_clockOf_0 := by decide +kernel
theorem dX0_clockOf_0 : decode cX0_clockOf 0 = .ok (.aload_n 2, 1) := dk_44 (dk_at dksX0_clockOf_0 0 rfl rfl)
theorem dX0_clockOf_1 : decode cX0_clockOf 1 = .ok (.iconst 0, 1) := dk_3 (dk_at dksX0_clockOf_0 1 rfl rfl)
theorem dX0_clockOf_2 : decode cX0_clockOf 2 = .ok (.aload_n 0, 1) := dk_42 (dk_at dksX0_clockOf_0 2 rfl rfl)
theorem dX0_clockOf_3 : decode cX0_clockOf 3 = .ok (.iload_n 1, 1) := dk_27 (dk_at dksX0_clockOf_0 3 rfl rfl)
theorem dX0_clockOf_4 : decode cX0_clockOf 4 = .ok (.invokevirtual 72, 3) := dk_182 0 72 (dk_at dksX0_clockOf_0 4 rfl rfl)
theorem dX0_clockOf_7 : decode cX0_clockOf 7 = .ok (.i2l, 1) := dk_133 (dk_at dksX0_clockOf_0 7 rfl rfl)
theorem dX0_clockOf_8 : decode cX0_clockOf 8 = .ok (.lastore, 1) := dk_80 (dk_at dksX0_clockOf_0 8 rfl rfl)
theorem dX0_clockOf_9 : decode cX0_clockOf 9 = .ok (.goto 6, 3) := dk_167 0 6 (dk_at dksX0_clockOf_0 9 rfl rfl)
theorem dX0_clockOf_12 : decode cX0_clockOf 12 = .ok (.astore_n 3, 1) := dk_78 (dk_at dksX0_clockOf_0 12 rfl rfl)
theorem dX0_clockOf_13 : decode cX0_clockOf 13 = .ok (.iconst 1, 1) := dk_4 (dk_at dksX0_clockOf_0 13 rfl rfl)
theorem dX0_clockOf_14 : decode cX0_clockOf 14 = .ok (.ireturn, 1) := dk_172 (dk_at dksX0_clockOf_0 14 rfl rfl)
theorem dX0_clockOf_15 : decode cX0_clockOf 15 = .ok (.iconst 0, 1) := dk_3 (dk_at dksX0_clockOf_0 15 rfl rfl)
theorem dX0_clockOf_16 : decode cX0_clockOf 16 = .ok (.ireturn, 1) := dk_172 (dk_at dksX0_clockOf_0 16 rfl rfl)
theorem q1385 : (Jvm.Cond.methodLink "PlugboardLaw" (72 : Nat) ({ cls := "Plugboard", name := "clockOf", desc := "(I)I" } : Jvm.MethodName)) ∈ lw_all := lw_g (lw_at lw_m6 115 rfl) rfl
theorem q1386 : (Jvm.Cond.instanceMethod ({ cls := "Plugboard", name := "clockOf", desc := "(I)I" } : Jvm.MethodName)) ∈ lw_all := lw_g (lw_at lw_m6 116 rfl) rfl
theorem q1387 : (Jvm.Cond.selects "Plugboard" ({ cls := "Plugboard", name := "clockOf", desc := "(I)I" } : Jvm.MethodName) ({ cls := "Plugboard", name := "clockOf", desc := "(I)I" } : Jvm.MethodName)) ∈ lw_all := lw_g (lw_at lw_m6 117 rfl) rfl
theorem q1388 : (Jvm.Cond.code ({ cls := "Plugboard", name := "clockOf", desc := "(I)I" } : Jvm.MethodName) prog_1_method_45_code (2 : Nat) (Option.some Jvm.ClassFile.FieldType.int)) ∈ lw_all := lw_g (lw_at lw_m6 118 rfl) rfl
abbrev rm_X0_clockOf : Room := { frames := 9, cells := 1, slots := 6, locals := 143 }
def w_X0_clockOf (a0 : Option Nat) (a1 : Int32) (a2 : Option Nat) (h : AH) (P : Int32 → AH → Prop) : Prop :=
  is_c h a0 [0] (
  w_X1_clockOf a0 a1 h (fun y4 h4 =>
  s_L h4 a2 0 (Int32.toInt64 y4) fun h8 =>
  P 0 h8)
    (fun E9 h9 => (E9 = "java/util/NoSuchElementException" ∧ ∀ q9 : Nat,
    P 1 h9)))
theorem met_X0_clockOf (l : Launch) (hlt : l.stackTraces = false) (G : GG) (h : AH) (a0 : Option Nat) (a1 : Int32) (a2 : Option Nat) (P : Int32 → AH → Prop) (hw : w_X0_clockOf a0 a1 a2 h P) : ct_i l yX0_clockOf (wsW_ yX0_clockOf cX0_clockOf 4 (Option.some Jvm.ClassFile.FieldType.int) [((0 : Nat), (9 : Nat), (12 : Nat), (21 : Nat))]) rm_X0_clockOf G h [vR a0, vI a1, vR a2] P := by
  refine j_startWi hlt [(0, vR a0), (1, vI a1), (2, vR a2)] (by decide) rfl rfl (fun x X eG er en hQ hex => ?_)
  subst eG
  refine j_aload_n X (pc := 0) 2 dX0_clockOf_0 rfl rfl ?_
  refine j_iconst X (pc := 1) 0 dX0_clockOf_1 (by decide) ?_
  refine j_aload_n X (pc := 2) 0 dX0_clockOf_2 rfl rfl ?_
  refine j_iload_n X (pc := 3) 1 dX0_clockOf_3 rfl rfl ?_
  obtain ⟨b9, c9, f9, hr9, ho9, hc9, hw⟩ := hw
  obtain rfl := List.mem_singleton.mp hc9
  refine j_callXi (j_runVX (n8 := 1) (As := [vI a1]) (rest := [vI 0, vR a2]) X (pc := 4) hr9 (met_X1_clockOf (xl x) X.hl (xG x) h a0 a1 _ _ hw) ho9 (by decide) rfl q1385 q1386 q1387 q71 q1388 (by decide +kernel) dX0_clockOf_4 rfl ⟨Nat.le_of_ble_eq_true rfl, Nat.le_of_ble_eq_true rfl⟩ (Nat.le_of_ble_eq_true rfl) ⟨Nat.le_of_ble_eq_true rfl, Nat.le_of_ble_eq_true rfl⟩) ?_ (fun y4 h4 hw => ?_)
  · intro E9 h9 hx
    obtain ⟨rfl, hw⟩ := hx
    refine j_catch X (pc := 4) "java/util/NoSuchElementException" hex [] [] ⟨0, 9, 12, 21⟩ rfl (by intro y hy; cases hy) (by decide) (by decide) q1068 q537 (fun q9 => ?_)
    have hw := hw q9
    refine j_astore_n X (pc := 12) [(3, vR (some q9)), (0, vR a0), (1, vI a1), (2, vR a2)] dX0_clockOf_12 rfl (Nat.le_of_ble_eq_true rfl) rfl ?_
    refine j_iconst X (pc := 13) 1 dX0_clockOf_13 (by decide) ?_
    exact j_iret X (pc := 14) hQ er (Nat.le_of_ble_eq_true rfl) (Nat.le_of_ble_eq_true rfl) dX0_clockOf_14 hw
  refine j_i2l X (pc := 7) dX0_clockOf_7 ?_
  refine j_last X (pc := 8) dX0_clockOf_8 hw (fun h8 hw => ?_)
  refine j_goto X (pc := 9) 15 dX0_clockOf_9 (by decide) ?_
  refine j_iconst X (pc := 15) 0 dX0_clockOf_15 (by decide) ?_
  exact j_iret X (pc := 16) hQ er (Nat.le_of_ble_eq_true rfl) (Nat.le_of_ble_eq_true rfl) dX0_clockOf_16 hw
abbrev cX5_clockOf : ByteArray := prog_19_method_49_code
def yX5_clockOf : MethodName := ⟨RX5, "clockOf", "(I)I"⟩
def dkwX5_clockOf_1 : List UInt8 := [182, 0, 172, 172]
abbrev dktX5_clockOf_1 : List UInt8 := dkwX5_clockOf_1 ++ []
def dkwX5_clockOf_0 : List UInt8 := [42, 3, 181, 0, 97, 42, 27, 182, 0, 222, 153, 0, 12, 42, 180, 0, 36, 27, 46, 167, 0, 8, 42, 4]
abbrev dktX5_clockOf_0 : List UInt8 := dkwX5_clockOf_0 ++ dktX5_clockOf_1
theorem dksX5_clockOf_0 : cX5_clockOf.data.toList.drop 0 = dktX5_clockOf_0 := by decide +kernel
theorem dksX5_clockOf_1 : cX5_clockOf.data.toList.drop 24 = dktX5_clockOf_1 := dk_seg dksX5_clockOf_0 24 rfl rfl
theorem dX5_clockOf_0 : decode cX5_clockOf 0 = .ok (.aload_n 0, 1) := dk_42 (dk_at dksX5_clockOf_0 0 rfl rfl)
theorem dX5_clockOf_1 : decode cX5_clockOf 1 = .ok (.iconst 0, 1) := dk_3 (dk_at dksX5_clockOf_0 1 rfl rfl)
theorem dX5_clockOf_2 : decode cX5_clockOf 2 = .ok (.putfield 97, 3) := dk_181 0 97 (dk_at dksX5_clockOf_0 2 rfl rfl)
theorem dX5_clockOf_5 : decode cX5_clockOf 5 = .ok (.aload_n 0, 1) := dk_42 (dk_at dksX5_clockOf_0 5 rfl rfl)
theorem dX5_clockOf_6 : decode cX5_clockOf 6 = .ok (.iload_n 1, 1) := dk_27 (dk_at dksX5_clockOf_0 6 rfl rfl)
theorem dX5_clockOf_7 : decode cX5_clockOf 7 = .ok (.invokevirtual 222, 3) := dk_182 0 222 (dk_at dksX5_clockOf_0 7 rfl rfl)
theorem dX5_clockOf_10 : decode cX5_clockOf 10 = .ok (.ifCond .eq 12, 3) := dk_153 0 12 (dk_at dksX5_clockOf_0 10 rfl rfl)
theorem dX5_clockOf_13 : decode cX5_clockOf 13 = .ok (.aload_n 0, 1) := dk_42 (dk_at dksX5_clockOf_0 13 rfl rfl)
theorem dX5_clockOf_14 : decode cX5_clockOf 14 = .ok (.getfield 36, 3) := dk_180 0 36 (dk_at dksX5_clockOf_0 14 rfl rfl)
theorem dX5_clockOf_17 : decode cX5_clockOf 17 = .ok (.iload_n 1, 1) := dk_27 (dk_at dksX5_clockOf_0 17 rfl rfl)
theorem dX5_clockOf_18 : decode cX5_clockOf 18 = .ok (.iaload, 1) := dk_46 (dk_at dksX5_clockOf_0 18 rfl rfl)
theorem dX5_clockOf_19 : decode cX5_clockOf 19 = .ok (.goto 8, 3) := dk_167 0 8 (dk_at dksX5_clockOf_0 19 rfl rfl)
theorem dX5_clockOf_22 : decode cX5_clockOf 22 = .ok (.aload_n 0, 1) := dk_42 (dk_at dksX5_clockOf_0 22 rfl rfl)
theorem dX5_clockOf_23 : decode cX5_clockOf 23 = .ok (.iconst 1, 1) := dk_4 (dk_at dksX5_clockOf_0 23 rfl rfl)
theorem dX5_clockOf_24 : decode cX5_clockOf 24 = .ok (.invokevirtual 172, 3) := dk_182 0 172 (dk_at dksX5_clockOf_1 0 rfl rfl)
theorem dX5_clockOf_27 : decode cX5_clockOf 27 = .ok (.ireturn, 1) := dk_172 (dk_at dksX5_clockOf_1 3 rfl rfl)
abbrev rm_X5_clockOf : Room := { frames := 2, cells := 0, slots := 0, locals := 43 }
def w_X5_clockOf (a0 : Option Nat) (a1 : Int32) (h : AH) (P : Int32 → AH → Prop) : Prop :=
  p_v h a0 4 0 (vI 0) fun h2 =>
  is_c h2 a0 [4] (
  w_X5_isOperation a0 a1 h2 (fun y7 h7 =>
  ((y7 = 0 →
    is_c h7 a0 [4] (
    w_X5_fails a0 1 h7 (fun y24 h24 =>
    P y24 h24))) ∧
   (¬ y7 = 0 →
    g_q h7 a0 4 11 fun y14 =>
    l_i h7 y14 0 a1 fun y18 =>
    P y18 h7))))
theorem met_X5_clockOf (l : Launch) (hlt : l.stackTraces = false) (G : GG) (h : AH) (a0 : Option Nat) (a1 : Int32) (P : Int32 → AH → Prop) (hw : w_X5_clockOf a0 a1 h P) : ct_i l yX5_clockOf (ws_ yX5_clockOf cX5_clockOf 2 (Option.some Jvm.ClassFile.FieldType.int)) rm_X5_clockOf G h [vR a0, vI a1] P := by
  refine j_starti hlt [(0, vR a0), (1, vI a1)] (plainFor_of_name (by decide)) rfl rfl (fun x X eG er en hQ => ?_)
  subst eG
  refine j_aload_n X (pc := 0) 0 dX5_clockOf_0 rfl rfl ?_
  refine j_iconst X (pc := 1) 0 dX5_clockOf_1 (by decide) ?_
  refine j_put (ci := 4) X (pc := 2) in_X5 rfl (by decide) 0 (by decide) q1872 (Or.inl rfl) tyX5 tyX5_ok nmX5 rfl rfl (ty := .int) (tyX5_ok 0 (by decide)) rfl rfl dX5_clockOf_2 hw (fun h2 hw => ?_)
  refine j_aload_n X (pc := 5) 0 dX5_clockOf_5 rfl rfl ?_
  refine j_iload_n X (pc := 6) 1 dX5_clockOf_6 rfl rfl ?_
  obtain ⟨b9, c9, f9, hr9, ho9, hc9, hw⟩ := hw
  obtain rfl := List.mem_singleton.mp hc9
  refine j_calli (j_runV (n8 := 1) (As := [vI a1]) (rest := []) X (pc := 7) hr9 (met_X5_isOperation (xl x) X.hl (xG x) h2 a0 a1 _ hw) ho9 (by decide) rfl q2138 q2140 qs56 q78 q2141 (by decide +kernel) dX5_clockOf_7 rfl ⟨Nat.le_of_ble_eq_true rfl, Nat.le_of_ble_eq_true rfl⟩ (Nat.le_of_ble_eq_true rfl) ⟨Nat.le_of_ble_eq_true rfl, Nat.le_of_ble_eq_true rfl⟩) (fun y7 h7 hw => ?_)
  refine j_if_eq X (pc := 10) 22 dX5_clockOf_10 (by decide) hw (fun hw => ?_) (fun hw => ?_)
  · refine j_aload_n X (pc := 22) 0 dX5_clockOf_22 rfl rfl ?_
    refine j_iconst X (pc := 23) 1 dX5_clockOf_23 (by decide) ?_
    obtain ⟨b9, c9, f9, hr9, ho9, hc9, hw⟩ := hw
    obtain rfl := List.mem_singleton.mp hc9
    refine j_calli (j_runV (n8 := 1) (As := [vI 1]) (rest := []) X (pc := 24) hr9 (met_X5_fails (xl x) X.hl (xG x) h7 a0 1 _ hw) ho9 (by decide) rfl q1988 q1990 qs33 q78 q1991 (by decide +kernel) dX5_clockOf_24 rfl ⟨Nat.le_of_ble_eq_true rfl, Nat.le_of_ble_eq_true rfl⟩ (Nat.le_of_ble_eq_true rfl) ⟨Nat.le_of_ble_eq_true rfl, Nat.le_of_ble_eq_true rfl⟩) (fun y24 h24 hw => ?_)
    exact j_iret X (pc := 27) hQ er (Nat.le_of_ble_eq_true rfl) (Nat.le_of_ble_eq_true rfl) dX5_clockOf_27 hw
  · refine j_aload_n X (pc := 13) 0 dX5_clockOf_13 rfl rfl ?_
    refine j_getq (ci := 4) X (pc := 14) in_X5 rfl (by decide) 11 (by decide) q1883 (Or.inl rfl) dX5_clockOf_14 hw (fun y14 hw => ?_)
    refine j_iload_n X (pc := 17) 1 dX5_clockOf_17 rfl rfl ?_
    refine j_iald X (pc := 18) 0 rfl dX5_clockOf_18 hw (fun y18 hw => ?_)
    refine j_goto X (pc := 19) 27 dX5_clockOf_19 (by decide) ?_
    exact j_iret X (pc := 27) hQ er (Nat.le_of_ble_eq_true rfl) (Nat.le_of_ble_eq_true rfl) dX5_clockOf_27 hw
abbrev cX1_knows : ByteArray := prog_1_method_46_code
def yX1_knows : MethodName := ⟨RX1, "knows", "(II)Z"⟩
def dkwX1_knows_0 : List UInt8 := [42, 27, 182, 0, 199, 78, 45, 180, 1, 97, 42, 28, 182, 1, 90, 180, 1, 82, 51, 172]
abbrev dktX1_knows_0 : List UInt8 := dkwX1_knows_0 ++ []
theorem dksX1_knows_0 : cX1_knows.data.toList.drop 0 = dktX1_knows_0 := by decide +kernel
theorem dX1_knows_0 : decode cX1_knows 0 = .ok (.aload_n 0, 1) := dk_42 (dk_at dksX1_knows_0 0 rfl rfl)
theorem dX1_knows_1 : decode cX1_knows 1 = .ok (.iload_n 1, 1) := dk_27 (dk_at dksX1_knows_0 1 rfl rfl)
theorem dX1_knows_2 : decode cX1_knows 2 = .ok (.invokevirtual 199, 3) := dk_182 0 199 (dk_at dksX1_knows_0 2 rfl rfl)
theorem dX1_knows_5 : decode cX1_knows 5 = .ok (.astore_n 3, 1) := dk_78 (dk_at dksX1_knows_0 5 rfl rfl)
theorem dX1_knows_6 : decode cX1_knows 6 = .ok (.aload_n 3, 1) := dk_45 (dk_at dksX1_knows_0 6 rfl rfl)
theorem dX1_knows_7 : decode cX1_knows 7 = .ok (.getfield 353, 3) := dk_180 1 97 (dk_at dksX1_knows_0 7 rfl rfl)
theorem dX1_knows_10 : decode cX1_knows 10 = .ok (.aload_n 0, 1) := dk_42 (dk_at dksX1_knows_0 10 rfl rfl)
theorem dX1_knows_11 : decode cX1_knows 11 = .ok (.iload_n 2, 1) := dk_28 (dk_at dksX1_knows_0 11 rfl rfl)
theorem dX1_knows_12 : decode cX1_knows 12 = .ok (.invokevirtual 346, 3) := dk_182 1 90 (dk_at dksX1_knows_0 12 rfl rfl)
theorem dX1_knows_15 : decode cX1_knows 15 = .ok (.getfield 338, 3) := dk_180 1 82 (dk_at dksX1_knows_0 15 rfl rfl)
theorem dX1_knows_18 : decode cX1_knows 18 = .ok (.baload, 1) := dk_51 (dk_at dksX1_knows_0 18 rfl rfl)
theorem dX1_knows_19 : decode cX1_knows 19 = .ok (.ireturn, 1) := dk_172 (dk_at dksX1_knows_0 19 rfl rfl)
abbrev rm_X1_knows : Room := { frames := 9, cells := 3, slots := 13, locals := 146 }
def w_X1_knows (a0 : Option Nat) (a1 : Int32) (a2 : Int32) (h : AH) (P : Int32 → AH → Prop) (PX : String → AH → Prop) : Prop :=
  is_c h a0 [0] (
  w_X1_board a0 a1 h (fun y2 h2 =>
  g_q h2 y2 2 3 fun y7 =>
  is_c h2 a0 [0] (
  w_X1_operation a0 a2 h2 (fun y12 h12 =>
  g_i h12 y12 9 0 fun y15 =>
  l_i h12 y7 1 y15 fun y18 =>
  nrw .boolean y18 ∧
  P y18 h12) PX)) PX)
theorem met_X1_knows (l : Launch) (hlt : l.stackTraces = false) (G : GG) (h : AH) (a0 : Option Nat) (a1 : Int32) (a2 : Int32) (P : Int32 → AH → Prop) (PX : String → AH → Prop) (hw : w_X1_knows a0 a1 a2 h P PX) : cx_i l yX1_knows (ws_ yX1_knows cX1_knows 4 (Option.some Jvm.ClassFile.FieldType.boolean)) rm_X1_knows G h [vR a0, vI a1, vI a2] P PX := by
  refine j_startXi hlt [(0, vR a0), (1, vI a1), (2, vI a2)] (by decide) rfl rfl (fun x X eG er en hQ hT hex => ?_)
  subst eG
  refine j_aload_n X (pc := 0) 0 dX1_knows_0 rfl rfl ?_
  refine j_iload_n X (pc := 1) 1 dX1_knows_1 rfl rfl ?_
  obtain ⟨b9, c9, f9, hr9, ho9, hc9, hw⟩ := hw
  obtain rfl := List.mem_singleton.mp hc9
  refine j_callXq (j_runVX (n8 := 1) (As := [vI a1]) (rest := []) X (pc := 2) hr9 (met_X1_board (xl x) X.hl (xG x) h a0 a1 _ _ hw) ho9 (by decide) rfl q297 q299 qs0 q71 q300 (by decide +kernel) dX1_knows_2 rfl ⟨Nat.le_of_ble_eq_true rfl, Nat.le_of_ble_eq_true rfl⟩ (Nat.le_of_ble_eq_true rfl) ⟨Nat.le_of_ble_eq_true rfl, Nat.le_of_ble_eq_true rfl⟩) (fun E h9 hx => j_out X hT hex (Nat.le_of_ble_eq_true rfl) (Nat.le_of_ble_eq_true rfl) hx) (fun y2 h2 hw => ?_)
  refine j_astore_n X (pc := 5) [(3, vR y2), (0, vR a0), (1, vI a1), (2, vI a2)] dX1_knows_5 rfl (Nat.le_of_ble_eq_true rfl) rfl ?_
  refine j_aload_n X (pc := 6) 0 dX1_knows_6 rfl rfl ?_
  refine j_getqN (ci := 2) X (pc := 7) in_X3 rfl (by decide) 3 (by decide) q215 (Or.inl rfl) dX1_knows_7 hw (fun y7 hw => ?_)
  refine j_aload_n X (pc := 10) 1 dX1_knows_10 rfl rfl ?_
  refine j_iload_n X (pc := 11) 3 dX1_knows_11 rfl rfl ?_
  obtain ⟨b9, c9, f9, hr9, ho9, hc9, hw⟩ := hw
  obtain rfl := List.mem_singleton.mp hc9
  refine j_callXq (j_runVX (n8 := 1) (As := [vI a2]) (rest := [vR y7]) X (pc := 12) hr9 (met_X1_operation (xl x) X.hl (xG x) h2 a0 a2 _ _ hw) ho9 (by decide) rfl q1364 q1366 qs17 q71 q1367 (by decide +kernel) dX1_knows_12 rfl ⟨Nat.le_of_ble_eq_true rfl, Nat.le_of_ble_eq_true rfl⟩ (Nat.le_of_ble_eq_true rfl) ⟨Nat.le_of_ble_eq_true rfl, Nat.le_of_ble_eq_true rfl⟩) (fun E h9 hx => j_out X hT hex (Nat.le_of_ble_eq_true rfl) (Nat.le_of_ble_eq_true rfl) hx) (fun y12 h12 hw => ?_)
  refine j_getiN (ci := 9) X (pc := 15) in_X11 rfl (by decide) 0 (by decide) q700 (Or.inl rfl) dX1_knows_15 hw (fun y15 hw => ?_)
  refine j_zald X (pc := 18) 1 rfl dX1_knows_18 hw (fun y18 hw => ?_)
  exact j_zret X (pc := 19) (ty := .boolean) hQ er hw.1.1 (Nat.le_of_ble_eq_true rfl) (Nat.le_of_ble_eq_true rfl) dX1_knows_19 hw.2
abbrev cX0_knows : ByteArray := method_20_code
def yX0_knows : MethodName := ⟨RX0, "knows", "(LPlugboard;II[J)I"⟩
def dkwX0_knows_1 : List UInt8 := [58, 4, 5, 172, 3, 172]
abbrev dktX0_knows_1 : List UInt8 := dkwX0_knows_1 ++ []
def dkwX0_knows_0 : List UInt8 := [45, 3, 42, 27, 28, 182, 0, 75, 153, 0, 7, 10, 167, 0, 4, 9, 80, 167, 0, 11, 58, 4, 4, 172]
abbrev dktX0_knows_0 : List UInt8 := dkwX0_knows_0 ++ dktX0_knows_1
theorem dksX0_knows_0 : cX0_knows.data.toList.drop 0 = dktX0_knows_0 := by decide +kernel
theorem dksX0_knows_1 : cX0_knows.data.toList.drop 24 = dktX0_knows_1 := dk_seg dksX0_knows_0 24 rfl rfl
theorem dX0_knows_0 : decode cX0_knows 0 = .ok (.aload_n 3, 1) := dk_45 (dk_at dksX0_knows_0 0 rfl rfl)
theorem dX0_knows_1 : decode cX0_knows 1 = .ok (.iconst 0, 1) := dk_3 (dk_at dksX0_knows_0 1 rfl rfl)
theorem dX0_knows_2 : decode cX0_knows 2 = .ok (.aload_n 0, 1) := dk_42 (dk_at dksX0_knows_0 2 rfl rfl)
theorem dX0_knows_3 : decode cX0_knows 3 = .ok (.iload_n 1, 1) := dk_27 (dk_at dksX0_knows_0 3 rfl rfl)
theorem dX0_knows_4 : decode cX0_knows 4 = .ok (.iload_n 2, 1) := dk_28 (dk_at dksX0_knows_0 4 rfl rfl)
theorem dX0_knows_5 : decode cX0_knows 5 = .ok (.invokevirtual 75, 3) := dk_182 0 75 (dk_at dksX0_knows_0 5 rfl rfl)
theorem dX0_knows_8 : decode cX0_knows 8 = .ok (.ifCond .eq 7, 3) := dk_153 0 7 (dk_at dksX0_knows_0 8 rfl rfl)
theorem dX0_knows_11 : decode cX0_knows 11 = .ok (.lconst 1, 1) := dk_10 (dk_at dksX0_knows_0 11 rfl rfl)
theorem dX0_knows_12 : decode cX0_knows 12 = .ok (.goto 4, 3) := dk_167 0 4 (dk_at dksX0_knows_0 12 rfl rfl)
theorem dX0_knows_15 : decode cX0_knows 15 = .ok (.lconst 0, 1) := dk_9 (dk_at dksX0_knows_0 15 rfl rfl)
theorem dX0_knows_16 : decode cX0_knows 16 = .ok (.lastore, 1) := dk_80 (dk_at dksX0_knows_0 16 rfl rfl)
theorem dX0_knows_17 : decode cX0_knows 17 = .ok (.goto 11, 3) := dk_167 0 11 (dk_at dksX0_knows_0 17 rfl rfl)
theorem dX0_knows_20 : decode cX0_knows 20 = .ok (.astore 4, 2) := dk_58 4 (dk_at dksX0_knows_0 20 rfl rfl)
theorem dX0_knows_22 : decode cX0_knows 22 = .ok (.iconst 1, 1) := dk_4 (dk_at dksX0_knows_0 22 rfl rfl)
theorem dX0_knows_23 : decode cX0_knows 23 = .ok (.ireturn, 1) := dk_172 (dk_at dksX0_knows_0 23 rfl rfl)
theorem dX0_knows_24 : decode cX0_knows 24 = .ok (.astore 4, 2) := dk_58 4 (dk_at dksX0_knows_1 0 rfl rfl)
theorem dX0_knows_26 : decode cX0_knows 26 = .ok (.iconst 2, 1) := dk_5 (dk_at dksX0_knows_1 2 rfl rfl)
theorem dX0_knows_27 : decode cX0_knows 27 = .ok (.ireturn, 1) := dk_172 (dk_at dksX0_knows_1 3 rfl rfl)
theorem dX0_knows_28 : decode cX0_knows 28 = .ok (.iconst 0, 1) := dk_3 (dk_at dksX0_knows_1 4 rfl rfl)
theorem dX0_knows_29 : decode cX0_knows 29 = .ok (.ireturn, 1) := dk_172 (dk_at dksX0_knows_1 5 rfl rfl)
theorem q1392 : (Jvm.Cond.methodLink "PlugboardLaw" (75 : Nat) ({ cls := "Plugboard", name := "knows", desc := "(II)Z" } : Jvm.MethodName)) ∈ lw_all := lw_g (lw_at lw_m6 122 rfl) rfl
theorem q1393 : (Jvm.Cond.instanceMethod ({ cls := "Plugboard", name := "knows", desc := "(II)Z" } : Jvm.MethodName)) ∈ lw_all := lw_g (lw_at lw_m6 123 rfl) rfl
theorem q1394 : (Jvm.Cond.selects "Plugboard" ({ cls := "Plugboard", name := "knows", desc := "(II)Z" } : Jvm.MethodName) ({ cls := "Plugboard", name := "knows", desc := "(II)Z" } : Jvm.MethodName)) ∈ lw_all := lw_g (lw_at lw_m6 124 rfl) rfl
theorem q1395 : (Jvm.Cond.code ({ cls := "Plugboard", name := "knows", desc := "(II)Z" } : Jvm.MethodName) prog_1_method_46_code (4 : Nat) (Option.some Jvm.ClassFile.FieldType.boolean)) ∈ lw_all := lw_g (lw_at lw_m6 125 rfl) rfl
abbrev rm_X0_knows : Room := { frames := 10, cells := 3, slots := 13, locals := 169 }
def w_X0_knows (a0 : Option Nat) (a1 : Int32) (a2 : Int32) (a3 : Option Nat) (h : AH) (P : Int32 → AH → Prop) : Prop :=
  is_c h a0 [0] (
  w_X1_knows a0 a1 a2 h (fun y5 h5 =>
  ((y5 = 0 →
    s_L h5 a3 0 0 fun h16 =>
    P 0 h16) ∧
   (¬ y5 = 0 →
    s_L h5 a3 0 1 fun h16 =>
    P 0 h16)))
    (fun E9 h9 => (E9 = "java/lang/IllegalArgumentException" ∧ ∀ q9 : Nat,
    P 1 h9) ∨
    (E9 = "java/util/NoSuchElementException" ∧ ∀ q9 : Nat,
    P 2 h9)))
theorem met_X0_knows (l : Launch) (hlt : l.stackTraces = false) (G : GG) (h : AH) (a0 : Option Nat) (a1 : Int32) (a2 : Int32) (a3 : Option Nat) (P : Int32 → AH → Prop) (hw : w_X0_knows a0 a1 a2 a3 h P) : ct_i l yX0_knows (wsW_ yX0_knows cX0_knows 5 (Option.some Jvm.ClassFile.FieldType.int) [((0 : Nat), (17 : Nat), (20 : Nat), (13 : Nat)), ((0 : Nat), (17 : Nat), (24 : Nat), (21 : Nat))]) rm_X0_knows G h [vR a0, vI a1, vI a2, vR a3] P := by
  refine j_startWi hlt [(0, vR a0), (1, vI a1), (2, vI a2), (3, vR a3)] (by decide) rfl rfl (fun x X eG er en hQ hex => ?_)
  subst eG
  refine j_aload_n X (pc := 0) 3 dX0_knows_0 rfl rfl ?_
  refine j_iconst X (pc := 1) 0 dX0_knows_1 (by decide) ?_
  refine j_aload_n X (pc := 2) 0 dX0_knows_2 rfl rfl ?_
  refine j_iload_n X (pc := 3) 1 dX0_knows_3 rfl rfl ?_
  refine j_iload_n X (pc := 4) 2 dX0_knows_4 rfl rfl ?_
  obtain ⟨b9, c9, f9, hr9, ho9, hc9, hw⟩ := hw
  obtain rfl := List.mem_singleton.mp hc9
  refine j_callXi (j_runVX (n8 := 2) (As := [vI a1, vI a2]) (rest := [vI 0, vR a3]) X (pc := 5) hr9 (met_X1_knows (xl x) X.hl (xG x) h a0 a1 a2 _ _ hw) ho9 (by decide) rfl q1392 q1393 q1394 q71 q1395 (by decide +kernel) dX0_knows_5 rfl ⟨Nat.le_of_ble_eq_true rfl, Nat.le_of_ble_eq_true rfl⟩ (Nat.le_of_ble_eq_true rfl) ⟨Nat.le_of_ble_eq_true rfl, Nat.le_of_ble_eq_true rfl⟩) ?_ (fun y5 h5 hw => ?_)
  · intro E9 h9 hx
    rcases hx with ⟨rfl, hw⟩ | ⟨rfl, hw⟩
    · refine j_catch X (pc := 5) "java/lang/IllegalArgumentException" hex [] [⟨0, 17, 24, 21⟩] ⟨0, 17, 20, 13⟩ rfl (by intro y hy; cases hy) (by decide) (by decide) q291 q312 (fun q9 => ?_)
      have hw := hw q9
      refine j_astore X (pc := 20) [(4, vR (some q9)), (0, vR a0), (1, vI a1), (2, vI a2), (3, vR a3)] dX0_knows_20 (Nat.le_of_ble_eq_true rfl) rfl ?_
      refine j_iconst X (pc := 22) 1 dX0_knows_22 (by decide) ?_
      exact j_iret X (pc := 23) hQ er (Nat.le_of_ble_eq_true rfl) (Nat.le_of_ble_eq_true rfl) dX0_knows_23 hw
    · refine j_catch X (pc := 5) "java/util/NoSuchElementException" hex [⟨0, 17, 20, 13⟩] [] ⟨0, 17, 24, 21⟩ rfl (by intro y hy; simp only [List.mem_cons, List.not_mem_nil, or_false] at hy; subst hy; exact Or.inr ⟨by decide, "java/lang/IllegalArgumentException", q291, by decide +kernel⟩) (by decide) (by decide) q1068 q537 (fun q9 => ?_)
      have hw := hw q9
      refine j_astore X (pc := 24) [(4, vR (some q9)), (0, vR a0), (1, vI a1), (2, vI a2), (3, vR a3)] dX0_knows_24 (Nat.le_of_ble_eq_true rfl) rfl ?_
      refine j_iconst X (pc := 26) 2 dX0_knows_26 (by decide) ?_
      exact j_iret X (pc := 27) hQ er (Nat.le_of_ble_eq_true rfl) (Nat.le_of_ble_eq_true rfl) dX0_knows_27 hw
  refine j_if_eq X (pc := 8) 15 dX0_knows_8 (by decide) hw (fun hw => ?_) (fun hw => ?_)
  · refine j_lconst X (pc := 15) 0 dX0_knows_15 (by decide) ?_
    refine j_last X (pc := 16) dX0_knows_16 hw (fun h16 hw => ?_)
    refine j_goto X (pc := 17) 28 dX0_knows_17 (by decide) ?_
    refine j_iconst X (pc := 28) 0 dX0_knows_28 (by decide) ?_
    exact j_iret X (pc := 29) hQ er (Nat.le_of_ble_eq_true rfl) (Nat.le_of_ble_eq_true rfl) dX0_knows_29 hw
  · refine j_lconst X (pc := 11) 1 dX0_knows_11 (by decide) ?_
    refine j_goto X (pc := 12) 16 dX0_knows_12 (by decide) ?_
    refine j_last X (pc := 16) dX0_knows_16 hw (fun h16 hw => ?_)
    refine j_goto X (pc := 17) 28 dX0_knows_17 (by decide) ?_
    refine j_iconst X (pc := 28) 0 dX0_knows_28 (by decide) ?_
    exact j_iret X (pc := 29) hQ er (Nat.le_of_ble_eq_true rfl) (Nat.le_of_ble_eq_true rfl) dX0_knows_29 hw
abbrev cX5_knows : ByteArray := prog_19_method_50_code
def yX5_knows : MethodName := ⟨RX5, "knows", "(II)Z"⟩
def dkwX5_knows_1 : List UInt8 := [153, 0, 14, 42, 180, 0, 64, 27, 50, 28, 51, 167, 0, 8, 42, 5, 182, 0, 219, 172]
abbrev dktX5_knows_1 : List UInt8 := dkwX5_knows_1 ++ []
def dkwX5_knows_0 : List UInt8 := [42, 3, 181, 0, 97, 27, 184, 0, 165, 154, 0, 9, 42, 4, 182, 0, 219, 172, 42, 28, 182, 0, 222]
abbrev dktX5_knows_0 : List UInt8 := dkwX5_knows_0 ++ dktX5_knows_1
theorem dksX5_knows_0 : cX5_knows.data.toList.drop 0 = dktX5_knows_0 := by decide +kernel
theorem dksX5_knows_1 : cX5_knows.data.toList.drop 23 = dktX5_knows_1 := dk_seg dksX5_knows_0 23 rfl rfl
theorem dX5_knows_0 : decode cX5_knows 0 = .ok (.aload_n 0, 1) := dk_42 (dk_at dksX5_knows_0 0 rfl rfl)
theorem dX5_knows_1 : decode cX5_knows 1 = .ok (.iconst 0, 1) := dk_3 (dk_at dksX5_knows_0 1 rfl rfl)
theorem dX5_knows_2 : decode cX5_knows 2 = .ok (.putfield 97, 3) := dk_181 0 97 (dk_at dksX5_knows_0 2 rfl rfl)
theorem dX5_knows_5 : decode cX5_knows 5 = .ok (.iload_n 1, 1) := dk_27 (dk_at dksX5_knows_0 5 rfl rfl)
theorem dX5_knows_6 : decode cX5_knows 6 = .ok (.invokestatic 165, 3) := dk_184 0 165 (dk_at dksX5_knows_0 6 rfl rfl)
theorem dX5_knows_9 : decode cX5_knows 9 = .ok (.ifCond .ne 9, 3) := dk_154 0 9 (dk_at dksX5_knows_0 9 rfl rfl)
theorem dX5_knows_12 : decode cX5_knows 12 = .ok (.aload_n 0, 1) := dk_42 (dk_at dksX5_knows_0 12 rfl rfl)
theorem dX5_knows_13 : decode cX5_knows 13 = .ok (.iconst 1, 1) := dk_4 (dk_at dksX5_knows_0 13 rfl rfl)
theorem dX5_knows_14 : decode cX5_knows 14 = .ok (.invokevirtual 219, 3) := dk_182 0 219 (dk_at dksX5_knows_0 14 rfl rfl)
theorem dX5_knows_17 : decode cX5_knows 17 = .ok (.ireturn, 1) := dk_172 (dk_at dksX5_knows_0 17 rfl rfl)
theorem dX5_knows_18 : decode cX5_knows 18 = .ok (.aload_n 0, 1) := dk_42 (dk_at dksX5_knows_0 18 rfl rfl)
theorem dX5_knows_19 : decode cX5_knows 19 = .ok (.iload_n 2, 1) := dk_28 (dk_at dksX5_knows_0 19 rfl rfl)
theorem dX5_knows_20 : decode cX5_knows 20 = .ok (.invokevirtual 222, 3) := dk_182 0 222 (dk_at dksX5_knows_0 20 rfl rfl)
theorem dX5_knows_23 : decode cX5_knows 23 = .ok (.ifCond .eq 14, 3) := dk_153 0 14 (dk_at dksX5_knows_1 0 rfl rfl)
theorem dX5_knows_26 : decode cX5_knows 26 = .ok (.aload_n 0, 1) := dk_42 (dk_at dksX5_knows_1 3 rfl rfl)
theorem dX5_knows_27 : decode cX5_knows 27 = .ok (.getfield 64, 3) := dk_180 0 64 (dk_at dksX5_knows_1 4 rfl rfl)
theorem dX5_knows_30 : decode cX5_knows 30 = .ok (.iload_n 1, 1) := dk_27 (dk_at dksX5_knows_1 7 rfl rfl)
theorem dX5_knows_31 : decode cX5_knows 31 = .ok (.aaload, 1) := dk_50 (dk_at dksX5_knows_1 8 rfl rfl)
theorem dX5_knows_32 : decode cX5_knows 32 = .ok (.iload_n 2, 1) := dk_28 (dk_at dksX5_knows_1 9 rfl rfl)
theorem dX5_knows_33 : decode cX5_knows 33 = .ok (.baload, 1) := dk_51 (dk_at dksX5_knows_1 10 rfl rfl)
theorem dX5_knows_34 : decode cX5_knows 34 = .ok (.goto 8, 3) := dk_167 0 8 (dk_at dksX5_knows_1 11 rfl rfl)
theorem dX5_knows_37 : decode cX5_knows 37 = .ok (.aload_n 0, 1) := dk_42 (dk_at dksX5_knows_1 14 rfl rfl)
theorem dX5_knows_38 : decode cX5_knows 38 = .ok (.iconst 2, 1) := dk_5 (dk_at dksX5_knows_1 15 rfl rfl)
theorem dX5_knows_39 : decode cX5_knows 39 = .ok (.invokevirtual 219, 3) := dk_182 0 219 (dk_at dksX5_knows_1 16 rfl rfl)
theorem dX5_knows_42 : decode cX5_knows 42 = .ok (.ireturn, 1) := dk_172 (dk_at dksX5_knows_1 19 rfl rfl)
abbrev rm_X5_knows : Room := { frames := 2, cells := 0, slots := 0, locals := 43 }
def w_X5_knows (a0 : Option Nat) (a1 : Int32) (a2 : Int32) (h : AH) (P : Int32 → AH → Prop) : Prop :=
  p_v h a0 4 0 (vI 0) fun h2 =>
  w_X5_isUser a1 h2 (fun y6 h6 =>
  ((y6 = 0 →
    is_c h6 a0 [4] (
    w_X5_isWrong a0 1 h6 (fun y14 h14 =>
    nrw .boolean y14 ∧
    P y14 h14))) ∧
   (¬ y6 = 0 →
    is_c h6 a0 [4] (
    w_X5_isOperation a0 a2 h6 (fun y20 h20 =>
    ((y20 = 0 →
      is_c h20 a0 [4] (
      w_X5_isWrong a0 2 h20 (fun y39 h39 =>
      nrw .boolean y39 ∧
      P y39 h39))) ∧
     (¬ y20 = 0 →
      g_q h20 a0 4 19 fun y27 =>
      l_q h20 y27 a1 fun y31 =>
      l_i h20 y31 1 a2 fun y33 =>
      nrw .boolean y33 ∧
      P y33 h20)))))))
theorem met_X5_knows (l : Launch) (hlt : l.stackTraces = false) (G : GG) (h : AH) (a0 : Option Nat) (a1 : Int32) (a2 : Int32) (P : Int32 → AH → Prop) (hw : w_X5_knows a0 a1 a2 h P) : ct_i l yX5_knows (ws_ yX5_knows cX5_knows 3 (Option.some Jvm.ClassFile.FieldType.boolean)) rm_X5_knows G h [vR a0, vI a1, vI a2] P := by
  refine j_starti hlt [(0, vR a0), (1, vI a1), (2, vI a2)] (plainFor_of_name (by decide)) rfl rfl (fun x X eG er en hQ => ?_)
  subst eG
  refine j_aload_n X (pc := 0) 0 dX5_knows_0 rfl rfl ?_
  refine j_iconst X (pc := 1) 0 dX5_knows_1 (by decide) ?_
  refine j_put (ci := 4) X (pc := 2) in_X5 rfl (by decide) 0 (by decide) q1872 (Or.inl rfl) tyX5 tyX5_ok nmX5 rfl rfl (ty := .int) (tyX5_ok 0 (by decide)) rfl rfl dX5_knows_2 hw (fun h2 hw => ?_)
  refine j_iload_n X (pc := 5) 1 dX5_knows_5 rfl rfl ?_
  refine j_calli (j_runS (n8 := 1) (As := [vI a1]) (rest := []) X (pc := 6) (met_X5_isUser (xl x) X.hl (xG x) h2 a1 _ hw) q1978 q1979 q78 q1980 (by decide +kernel) dX5_knows_6 rfl ⟨Nat.le_of_ble_eq_true rfl, Nat.le_of_ble_eq_true rfl⟩ (Nat.le_of_ble_eq_true rfl) ⟨Nat.le_of_ble_eq_true rfl, Nat.le_of_ble_eq_true rfl⟩) (fun y6 h6 hw => ?_)
  refine j_if_ne X (pc := 9) 18 dX5_knows_9 (by decide) hw (fun hw => ?_) (fun hw => ?_)
  · refine j_aload_n X (pc := 12) 0 dX5_knows_12 rfl rfl ?_
    refine j_iconst X (pc := 13) 1 dX5_knows_13 (by decide) ?_
    obtain ⟨b9, c9, f9, hr9, ho9, hc9, hw⟩ := hw
    obtain rfl := List.mem_singleton.mp hc9
    refine j_calli (j_runV (n8 := 1) (As := [vI 1]) (rest := []) X (pc := 14) hr9 (met_X5_isWrong (xl x) X.hl (xG x) h6 a0 1 _ hw) ho9 (by decide) rfl q2126 q2128 qs55 q78 q2129 (by decide +kernel) dX5_knows_14 rfl ⟨Nat.le_of_ble_eq_true rfl, Nat.le_of_ble_eq_true rfl⟩ (Nat.le_of_ble_eq_true rfl) ⟨Nat.le_of_ble_eq_true rfl, Nat.le_of_ble_eq_true rfl⟩) (fun y14 h14 hw => ?_)
    exact j_zret X (pc := 17) (ty := .boolean) hQ er hw.1.1 (Nat.le_of_ble_eq_true rfl) (Nat.le_of_ble_eq_true rfl) dX5_knows_17 hw.2
  · refine j_aload_n X (pc := 18) 0 dX5_knows_18 rfl rfl ?_
    refine j_iload_n X (pc := 19) 2 dX5_knows_19 rfl rfl ?_
    obtain ⟨b9, c9, f9, hr9, ho9, hc9, hw⟩ := hw
    obtain rfl := List.mem_singleton.mp hc9
    refine j_calli (j_runV (n8 := 1) (As := [vI a2]) (rest := []) X (pc := 20) hr9 (met_X5_isOperation (xl x) X.hl (xG x) h6 a0 a2 _ hw) ho9 (by decide) rfl q2138 q2140 qs56 q78 q2141 (by decide +kernel) dX5_knows_20 rfl ⟨Nat.le_of_ble_eq_true rfl, Nat.le_of_ble_eq_true rfl⟩ (Nat.le_of_ble_eq_true rfl) ⟨Nat.le_of_ble_eq_true rfl, Nat.le_of_ble_eq_true rfl⟩) (fun y20 h20 hw => ?_)
    refine j_if_eq X (pc := 23) 37 dX5_knows_23 (by decide) hw (fun hw => ?_) (fun hw => ?_)
    · refine j_aload_n X (pc := 37) 0 dX5_knows_37 rfl rfl ?_
      refine j_iconst X (pc := 38) 2 dX5_knows_38 (by decide) ?_
      obtain ⟨b9, c9, f9, hr9, ho9, hc9, hw⟩ := hw
      obtain rfl := List.mem_singleton.mp hc9
      refine j_calli (j_runV (n8 := 1) (As := [vI 2]) (rest := []) X (pc := 39) hr9 (met_X5_isWrong (xl x) X.hl (xG x) h20 a0 2 _ hw) ho9 (by decide) rfl q2126 q2128 qs55 q78 q2129 (by decide +kernel) dX5_knows_39 rfl ⟨Nat.le_of_ble_eq_true rfl, Nat.le_of_ble_eq_true rfl⟩ (Nat.le_of_ble_eq_true rfl) ⟨Nat.le_of_ble_eq_true rfl, Nat.le_of_ble_eq_true rfl⟩) (fun y39 h39 hw => ?_)
      exact j_zret X (pc := 42) (ty := .boolean) hQ er hw.1.1 (Nat.le_of_ble_eq_true rfl) (Nat.le_of_ble_eq_true rfl) dX5_knows_42 hw.2
    · refine j_aload_n X (pc := 26) 0 dX5_knows_26 rfl rfl ?_
      refine j_getq (ci := 4) X (pc := 27) in_X5 rfl (by decide) 19 (by decide) q1891 (Or.inl rfl) dX5_knows_27 hw (fun y27 hw => ?_)
      refine j_iload_n X (pc := 30) 1 dX5_knows_30 rfl rfl ?_
      refine j_aald X (pc := 31) dX5_knows_31 hw (fun y31 hw => ?_)
      refine j_iload_n X (pc := 32) 2 dX5_knows_32 rfl rfl ?_
      refine j_zald X (pc := 33) 1 rfl dX5_knows_33 hw (fun y33 hw => ?_)
      refine j_goto X (pc := 34) 42 dX5_knows_34 (by decide) ?_
      exact j_zret X (pc := 42) (ty := .boolean) hQ er hw.1.1 (Nat.le_of_ble_eq_true rfl) (Nat.le_of_ble_eq_true rfl) dX5_knows_42 hw.2
abbrev cX1_shapes : ByteArray := prog_1_method_47_code
def yX1_shapes : MethodName := ⟨RX1, "shapes", "(I)I"⟩
def dkwX1_shapes_0 : List UInt8 := [42, 27, 182, 0, 199, 182, 0, 210, 172]
abbrev dktX1_shapes_0 : List UInt8 := dkwX1_shapes_0 ++ []
theorem dksX1_shapes_0 : cX1_shapes.data.toList.drop 0 = dktX1_shapes_0 := by decide +kernel
theorem dX1_shapes_0 : decode cX1_shapes 0 = .ok (.aload_n 0, 1) := dk_42 (dk_at dksX1_shapes_0 0 rfl rfl)
theorem dX1_shapes_1 : decode cX1_shapes 1 = .ok (.iload_n 1, 1) := dk_27 (dk_at dksX1_shapes_0 1 rfl rfl)
theorem dX1_shapes_2 : decode cX1_shapes 2 = .ok (.invokevirtual 199, 3) := dk_182 0 199 (dk_at dksX1_shapes_0 2 rfl rfl)
theorem dX1_shapes_5 : decode cX1_shapes 5 = .ok (.invokevirtual 210, 3) := dk_182 0 210 (dk_at dksX1_shapes_0 5 rfl rfl)
theorem dX1_shapes_8 : decode cX1_shapes 8 = .ok (.ireturn, 1) := dk_172 (dk_at dksX1_shapes_0 8 rfl rfl)
abbrev rm_X1_shapes : Room := { frames := 9, cells := 2, slots := 7, locals := 146 }
def w_X1_shapes (a0 : Option Nat) (a1 : Int32) (h : AH) (P : Int32 → AH → Prop) (PX : String → AH → Prop) : Prop :=
  is_c h a0 [0] (
  w_X1_board a0 a1 h (fun y2 h2 =>
  is_c h2 y2 [2] (
  w_X3_countSeen y2 h2 (fun y5 h5 =>
  P y5 h5))) PX)
theorem met_X1_shapes (l : Launch) (hlt : l.stackTraces = false) (G : GG) (h : AH) (a0 : Option Nat) (a1 : Int32) (P : Int32 → AH → Prop) (PX : String → AH → Prop) (hw : w_X1_shapes a0 a1 h P PX) : cx_i l yX1_shapes (ws_ yX1_shapes cX1_shapes 2 (Option.some Jvm.ClassFile.FieldType.int)) rm_X1_shapes G h [vR a0, vI a1] P PX := by
  refine j_startXi hlt [(0, vR a0), (1, vI a1)] (by decide) rfl rfl (fun x X eG er en hQ hT hex => ?_)
  subst eG
  refine j_aload_n X (pc := 0) 0 dX1_shapes_0 rfl rfl ?_
  refine j_iload_n X (pc := 1) 1 dX1_shapes_1 rfl rfl ?_
  obtain ⟨b9, c9, f9, hr9, ho9, hc9, hw⟩ := hw
  obtain rfl := List.mem_singleton.mp hc9
  refine j_callXq (j_runVX (n8 := 1) (As := [vI a1]) (rest := []) X (pc := 2) hr9 (met_X1_board (xl x) X.hl (xG x) h a0 a1 _ _ hw) ho9 (by decide) rfl q297 q299 qs0 q71 q300 (by decide +kernel) dX1_shapes_2 rfl ⟨Nat.le_of_ble_eq_true rfl, Nat.le_of_ble_eq_true rfl⟩ (Nat.le_of_ble_eq_true rfl) ⟨Nat.le_of_ble_eq_true rfl, Nat.le_of_ble_eq_true rfl⟩) (fun E h9 hx => j_out X hT hex (Nat.le_of_ble_eq_true rfl) (Nat.le_of_ble_eq_true rfl) hx) (fun y2 h2 hw => ?_)
  obtain ⟨b9, c9, f9, hr9, ho9, hc9, hw⟩ := hw
  obtain rfl := List.mem_singleton.mp hc9
  refine j_calli (j_runV (n8 := 0) (As := []) (rest := []) X (pc := 5) hr9 (met_X3_countSeen (xl x) X.hl (xG x) h2 y2 _ hw) ho9 (by decide) rfl q404 q405 q406 q76 q407 (by decide +kernel) dX1_shapes_5 rfl ⟨Nat.le_of_ble_eq_true rfl, Nat.le_of_ble_eq_true rfl⟩ (Nat.le_of_ble_eq_true rfl) ⟨Nat.le_of_ble_eq_true rfl, Nat.le_of_ble_eq_true rfl⟩) (fun y5 h5 hw => ?_)
  exact j_iret X (pc := 8) hQ er (Nat.le_of_ble_eq_true rfl) (Nat.le_of_ble_eq_true rfl) dX1_shapes_8 hw
abbrev cX0_shapes : ByteArray := method_21_code
def yX0_shapes : MethodName := ⟨RX0, "shapes", "(LPlugboard;I[J)I"⟩
def dkwX0_shapes_0 : List UInt8 := [44, 3, 42, 27, 182, 0, 79, 133, 80, 167, 0, 6, 78, 4, 172, 3, 172]
abbrev dktX0_shapes_0 : List UInt8 := dkwX0_shapes_0 ++ []
theorem dksX0_shapes_0 : cX0_shapes.data.toList.drop 0 = dktX0_shapes_0 := by decide +kernel
theorem dX0_shapes_0 : decode cX0_shapes 0 = .ok (.aload_n 2, 1) := dk_44 (dk_at dksX0_shapes_0 0 rfl rfl)
theorem dX0_shapes_1 : decode cX0_shapes 1 = .ok (.iconst 0, 1) := dk_3 (dk_at dksX0_shapes_0 1 rfl rfl)
theorem dX0_shapes_2 : decode cX0_shapes 2 = .ok (.aload_n 0, 1) := dk_42 (dk_at dksX0_shapes_0 2 rfl rfl)
theorem dX0_shapes_3 : decode cX0_shapes 3 = .ok (.iload_n 1, 1) := dk_27 (dk_at dksX0_shapes_0 3 rfl rfl)
theorem dX0_shapes_4 : decode cX0_shapes 4 = .ok (.invokevirtual 79, 3) := dk_182 0 79 (dk_at dksX0_shapes_0 4 rfl rfl)
theorem dX0_shapes_7 : decode cX0_shapes 7 = .ok (.i2l, 1) := dk_133 (dk_at dksX0_shapes_0 7 rfl rfl)
theorem dX0_shapes_8 : decode cX0_shapes 8 = .ok (.lastore, 1) := dk_80 (dk_at dksX0_shapes_0 8 rfl rfl)
theorem dX0_shapes_9 : decode cX0_shapes 9 = .ok (.goto 6, 3) := dk_167 0 6 (dk_at dksX0_shapes_0 9 rfl rfl)
theorem dX0_shapes_12 : decode cX0_shapes 12 = .ok (.astore_n 3, 1) := dk_78 (dk_at dksX0_shapes_0 12 rfl rfl)
theorem dX0_shapes_13 : decode cX0_shapes 13 = .ok (.iconst 1, 1) := dk_4 (dk_at dksX0_shapes_0 13 rfl rfl)
theorem dX0_shapes_14 : decode cX0_shapes 14 = .ok (.ireturn, 1) := dk_172 (dk_at dksX0_shapes_0 14 rfl rfl)
theorem dX0_shapes_15 : decode cX0_shapes 15 = .ok (.iconst 0, 1) := dk_3 (dk_at dksX0_shapes_0 15 rfl rfl)
theorem dX0_shapes_16 : decode cX0_shapes 16 = .ok (.ireturn, 1) := dk_172 (dk_at dksX0_shapes_0 16 rfl rfl)
theorem q1399 : (Jvm.Cond.methodLink "PlugboardLaw" (79 : Nat) ({ cls := "Plugboard", name := "shapes", desc := "(I)I" } : Jvm.MethodName)) ∈ lw_all := lw_g (lw_at lw_m6 129 rfl) rfl
theorem q1400 : (Jvm.Cond.instanceMethod ({ cls := "Plugboard", name := "shapes", desc := "(I)I" } : Jvm.MethodName)) ∈ lw_all := lw_g (lw_at lw_m6 130 rfl) rfl
theorem q1401 : (Jvm.Cond.selects "Plugboard" ({ cls := "Plugboard", name := "shapes", desc := "(I)I" } : Jvm.MethodName) ({ cls := "Plugboard", name := "shapes", desc := "(I)I" } : Jvm.MethodName)) ∈ lw_all := lw_g (lw_at lw_m6 131 rfl) rfl
theorem q1402 : (Jvm.Cond.code ({ cls := "Plugboard", name := "shapes", desc := "(I)I" } : Jvm.MethodName) prog_1_method_47_code (2 : Nat) (Option.some Jvm.ClassFile.FieldType.int)) ∈ lw_all := lw_g (lw_at lw_m6 132 rfl) rfl
abbrev rm_X0_shapes : Room := { frames := 10, cells := 2, slots := 7, locals := 167 }
def w_X0_shapes (a0 : Option Nat) (a1 : Int32) (a2 : Option Nat) (h : AH) (P : Int32 → AH → Prop) : Prop :=
  is_c h a0 [0] (
  w_X1_shapes a0 a1 h (fun y4 h4 =>
  s_L h4 a2 0 (Int32.toInt64 y4) fun h8 =>
  P 0 h8)
    (fun E9 h9 => (E9 = "java/lang/IllegalArgumentException" ∧ ∀ q9 : Nat,
    P 1 h9)))
theorem met_X0_shapes (l : Launch) (hlt : l.stackTraces = false) (G : GG) (h : AH) (a0 : Option Nat) (a1 : Int32) (a2 : Option Nat) (P : Int32 → AH → Prop) (hw : w_X0_shapes a0 a1 a2 h P) : ct_i l yX0_shapes (wsW_ yX0_shapes cX0_shapes 4 (Option.some Jvm.ClassFile.FieldType.int) [((0 : Nat), (9 : Nat), (12 : Nat), (13 : Nat))]) rm_X0_shapes G h [vR a0, vI a1, vR a2] P := by
  refine j_startWi hlt [(0, vR a0), (1, vI a1), (2, vR a2)] (by decide) rfl rfl (fun x X eG er en hQ hex => ?_)
  subst eG
  refine j_aload_n X (pc := 0) 2 dX0_shapes_0 rfl rfl ?_
  refine j_iconst X (pc := 1) 0 dX0_shapes_1 (by decide) ?_
  refine j_aload_n X (pc := 2) 0 dX0_shapes_2 rfl rfl ?_
  refine j_iload_n X (pc := 3) 1 dX0_shapes_3 rfl rfl ?_
  obtain ⟨b9, c9, f9, hr9, ho9, hc9, hw⟩ := hw
  obtain rfl := List.mem_singleton.mp hc9
  refine j_callXi (j_runVX (n8 := 1) (As := [vI a1]) (rest := [vI 0, vR a2]) X (pc := 4) hr9 (met_X1_shapes (xl x) X.hl (xG x) h a0 a1 _ _ hw) ho9 (by decide) rfl q1399 q1400 q1401 q71 q1402 (by decide +kernel) dX0_shapes_4 rfl ⟨Nat.le_of_ble_eq_true rfl, Nat.le_of_ble_eq_true rfl⟩ (Nat.le_of_ble_eq_true rfl) ⟨Nat.le_of_ble_eq_true rfl, Nat.le_of_ble_eq_true rfl⟩) ?_ (fun y4 h4 hw => ?_)
  · intro E9 h9 hx
    obtain ⟨rfl, hw⟩ := hx
    refine j_catch X (pc := 4) "java/lang/IllegalArgumentException" hex [] [] ⟨0, 9, 12, 13⟩ rfl (by intro y hy; cases hy) (by decide) (by decide) q291 q312 (fun q9 => ?_)
    have hw := hw q9
    refine j_astore_n X (pc := 12) [(3, vR (some q9)), (0, vR a0), (1, vI a1), (2, vR a2)] dX0_shapes_12 rfl (Nat.le_of_ble_eq_true rfl) rfl ?_
    refine j_iconst X (pc := 13) 1 dX0_shapes_13 (by decide) ?_
    exact j_iret X (pc := 14) hQ er (Nat.le_of_ble_eq_true rfl) (Nat.le_of_ble_eq_true rfl) dX0_shapes_14 hw
  refine j_i2l X (pc := 7) dX0_shapes_7 ?_
  refine j_last X (pc := 8) dX0_shapes_8 hw (fun h8 hw => ?_)
  refine j_goto X (pc := 9) 15 dX0_shapes_9 (by decide) ?_
  refine j_iconst X (pc := 15) 0 dX0_shapes_15 (by decide) ?_
  exact j_iret X (pc := 16) hQ er (Nat.le_of_ble_eq_true rfl) (Nat.le_of_ble_eq_true rfl) dX0_shapes_16 hw
abbrev cX5_isNobody : ByteArray := prog_19_method_51_code
def yX5_isNobody : MethodName := ⟨RX5, "isNobody", "(I)Z"⟩
def dkwX5_isNobody_1 : List UInt8 := [27, 182, 0, 161, 42, 180, 0, 97, 158, 0, 7, 4, 167, 0, 4, 3, 172]
abbrev dktX5_isNobody_1 : List UInt8 := dkwX5_isNobody_1 ++ []
def dkwX5_isNobody_0 : List UInt8 := [42, 27, 184, 0, 165, 153, 0, 7, 3, 167, 0, 4, 4, 181, 0, 97, 42, 180, 0, 97, 154, 0, 8, 42]
abbrev dktX5_isNobody_0 : List UInt8 := dkwX5_isNobody_0 ++ dktX5_isNobody_1
theorem dksX5_isNobody_0 : cX5_isNobody.data.toList.drop 0 = dktX5_isNobody_0 := by decide +kernel
theorem dksX5_isNobody_1 : cX5_isNobody.data.toList.drop 24 = dktX5_isNobody_1 := dk_seg dksX5_isNobody_0 24 rfl rfl
theorem dX5_isNobody_0 : decode cX5_isNobody 0 = .ok (.aload_n 0, 1) := dk_42 (dk_at dksX5_isNobody_0 0 rfl rfl)
theorem dX5_isNobody_1 : decode cX5_isNobody 1 = .ok (.iload_n 1, 1) := dk_27 (dk_at dksX5_isNobody_0 1 rfl rfl)
theorem dX5_isNobody_2 : decode cX5_isNobody 2 = .ok (.invokestatic 165, 3) := dk_184 0 165 (dk_at dksX5_isNobody_0 2 rfl rfl)
theorem dX5_isNobody_5 : decode cX5_isNobody 5 = .ok (.ifCond .eq 7, 3) := dk_153 0 7 (dk_at dksX5_isNobody_0 5 rfl rfl)
theorem dX5_isNobody_8 : decode cX5_isNobody 8 = .ok (.iconst 0, 1) := dk_3 (dk_at dksX5_isNobody_0 8 rfl rfl)
theorem dX5_isNobody_9 : decode cX5_isNobody 9 = .ok (.goto 4, 3) := dk_167 0 4 (dk_at dksX5_isNobody_0 9 rfl rfl)
theorem dX5_isNobody_12 : decode cX5_isNobody 12 = .ok (.iconst 1, 1) := dk_4 (dk_at dksX5_isNobody_0 12 rfl rfl)
theorem dX5_isNobody_13 : decode cX5_isNobody 13 = .ok (.putfield 97, 3) := dk_181 0 97 (dk_at dksX5_isNobody_0 13 rfl rfl)
theorem dX5_isNobody_16 : decode cX5_isNobody 16 = .ok (.aload_n 0, 1) := dk_42 (dk_at dksX5_isNobody_0 16 rfl rfl)
theorem dX5_isNobody_17 : decode cX5_isNobody 17 = .ok (.getfield 97, 3) := dk_180 0 97 (dk_at dksX5_isNobody_0 17 rfl rfl)
theorem dX5_isNobody_20 : decode cX5_isNobody 20 = .ok (.ifCond .ne 8, 3) := dk_154 0 8 (dk_at dksX5_isNobody_0 20 rfl rfl)
theorem dX5_isNobody_23 : decode cX5_isNobody 23 = .ok (.aload_n 0, 1) := dk_42 (dk_at dksX5_isNobody_0 23 rfl rfl)
theorem dX5_isNobody_24 : decode cX5_isNobody 24 = .ok (.iload_n 1, 1) := dk_27 (dk_at dksX5_isNobody_1 0 rfl rfl)
theorem dX5_isNobody_25 : decode cX5_isNobody 25 = .ok (.invokevirtual 161, 3) := dk_182 0 161 (dk_at dksX5_isNobody_1 1 rfl rfl)
theorem dX5_isNobody_28 : decode cX5_isNobody 28 = .ok (.aload_n 0, 1) := dk_42 (dk_at dksX5_isNobody_1 4 rfl rfl)
theorem dX5_isNobody_29 : decode cX5_isNobody 29 = .ok (.getfield 97, 3) := dk_180 0 97 (dk_at dksX5_isNobody_1 5 rfl rfl)
theorem dX5_isNobody_32 : decode cX5_isNobody 32 = .ok (.ifCond .le 7, 3) := dk_158 0 7 (dk_at dksX5_isNobody_1 8 rfl rfl)
theorem dX5_isNobody_35 : decode cX5_isNobody 35 = .ok (.iconst 1, 1) := dk_4 (dk_at dksX5_isNobody_1 11 rfl rfl)
theorem dX5_isNobody_36 : decode cX5_isNobody 36 = .ok (.goto 4, 3) := dk_167 0 4 (dk_at dksX5_isNobody_1 12 rfl rfl)
theorem dX5_isNobody_39 : decode cX5_isNobody 39 = .ok (.iconst 0, 1) := dk_3 (dk_at dksX5_isNobody_1 15 rfl rfl)
theorem dX5_isNobody_40 : decode cX5_isNobody 40 = .ok (.ireturn, 1) := dk_172 (dk_at dksX5_isNobody_1 16 rfl rfl)
abbrev rm_X5_isNobody : Room := { frames := 3, cells := 0, slots := 0, locals := 66 }
def w_X5_isNobody_28 (P : Int32 → AH → Prop) (x0 : Option Nat) (h : AH) : Prop :=
  g_i h x0 4 0 fun y29 =>
  ((y29 ≤ 0 →
    P 0 h) ∧
   (¬ y29 ≤ 0 →
    P 1 h))
def w_X5_isNobody_13 (P : Int32 → AH → Prop) (x0 : Option Nat) (x1 : Int32) (t0 : Int32) (t1 : Option Nat) (h : AH) : Prop :=
  p_v h t1 4 0 (vI t0) fun h13 =>
  g_i h13 x0 4 0 fun y17 =>
  ((y17 = 0 →
    is_c h13 x0 [4] (
    w_X5_builds x0 x1 h13 (fun h25 =>
    w_X5_isNobody_28 P x0 h25))) ∧
   (¬ y17 = 0 →
    w_X5_isNobody_28 P x0 h13))
def w_X5_isNobody (a0 : Option Nat) (a1 : Int32) (h : AH) (P : Int32 → AH → Prop) : Prop :=
  w_X5_isUser a1 h (fun y2 h2 =>
  ((y2 = 0 →
    w_X5_isNobody_13 P a0 a1 1 a0 h2) ∧
   (¬ y2 = 0 →
    w_X5_isNobody_13 P a0 a1 0 a0 h2)))
theorem wk_X5_isNobody_28 {x : CX} (X : Ok x cX5_isNobody RX5 rm_X5_isNobody 2) (er : xrt x = (Option.some Jvm.ClassFile.FieldType.boolean)) (en : xnm x = yX5_isNobody.name) {P : Int32 → AH → Prop} (hQ : xr_i x P) (x0 : Option Nat) (h : AH) (hw : w_X5_isNobody_28 P x0 h) : J x h 0 0 28 [(0, vR x0)] [] := by
  refine j_aload_n X (pc := 28) 0 dX5_isNobody_28 rfl rfl ?_
  refine j_geti (ci := 4) X (pc := 29) in_X5 rfl (by decide) 0 (by decide) q1872 (Or.inl rfl) dX5_isNobody_29 hw (fun y29 hw => ?_)
  refine j_if_le X (pc := 32) 39 dX5_isNobody_32 (by decide) hw (fun hw => ?_) (fun hw => ?_)
  · refine j_iconst X (pc := 39) 0 dX5_isNobody_39 (by decide) ?_
    exact j_zret X (pc := 40) (ty := .boolean) hQ er rfl (Nat.le_of_ble_eq_true rfl) (Nat.le_of_ble_eq_true rfl) dX5_isNobody_40 hw
  · refine j_iconst X (pc := 35) 1 dX5_isNobody_35 (by decide) ?_
    refine j_goto X (pc := 36) 40 dX5_isNobody_36 (by decide) ?_
    exact j_zret X (pc := 40) (ty := .boolean) hQ er rfl (Nat.le_of_ble_eq_true rfl) (Nat.le_of_ble_eq_true rfl) dX5_isNobody_40 hw
theorem wk_X5_isNobody_13 {x : CX} (X : Ok x cX5_isNobody RX5 rm_X5_isNobody 2) (er : xrt x = (Option.some Jvm.ClassFile.FieldType.boolean)) (en : xnm x = yX5_isNobody.name) {P : Int32 → AH → Prop} (hQ : xr_i x P) (x0 : Option Nat) (x1 : Int32) (t0 : Int32) (t1 : Option Nat) (h : AH) (hw : w_X5_isNobody_13 P x0 x1 t0 t1 h) : J x h 0 0 13 [(0, vR x0), (1, vI x1)] [vI t0, vR t1] := by
  refine j_put (ci := 4) X (pc := 13) in_X5 rfl (by decide) 0 (by decide) q1872 (Or.inl rfl) tyX5 tyX5_ok nmX5 rfl rfl (ty := .int) (tyX5_ok 0 (by decide)) rfl rfl dX5_isNobody_13 hw (fun h13 hw => ?_)
  refine j_aload_n X (pc := 16) 0 dX5_isNobody_16 rfl rfl ?_
  refine j_geti (ci := 4) X (pc := 17) in_X5 rfl (by decide) 0 (by decide) q1872 (Or.inl rfl) dX5_isNobody_17 hw (fun y17 hw => ?_)
  refine j_if_ne X (pc := 20) 28 dX5_isNobody_20 (by decide) hw (fun hw => ?_) (fun hw => ?_)
  · refine j_aload_n X (pc := 23) 0 dX5_isNobody_23 rfl rfl ?_
    refine j_iload_n X (pc := 24) 1 dX5_isNobody_24 rfl rfl ?_
    obtain ⟨b9, c9, f9, hr9, ho9, hc9, hw⟩ := hw
    obtain rfl := List.mem_singleton.mp hc9
    refine j_callv (j_runV (n8 := 1) (As := [vI x1]) (rest := []) X (pc := 25) hr9 (met_X5_builds (xl x) X.hl (xG x) h13 x0 x1 _ hw) ho9 (by decide) rfl q1992 q1994 qs34 q78 q1995 (by decide +kernel) dX5_isNobody_25 rfl ⟨Nat.le_of_ble_eq_true rfl, Nat.le_of_ble_eq_true rfl⟩ (Nat.le_of_ble_eq_true rfl) ⟨Nat.le_of_ble_eq_true rfl, Nat.le_of_ble_eq_true rfl⟩) (fun h25 hw => ?_)
    refine j_lv [(0, vR x0)] [0] rfl ?_
    refine j_cs (u' := 0) (v' := 0) (Nat.le_of_ble_eq_true rfl) (Nat.le_of_ble_eq_true rfl) ?_
    exact wk_X5_isNobody_28 X er en hQ x0 h25 hw
  · refine j_lv [(0, vR x0)] [0] rfl ?_
    refine j_cs (u' := 0) (v' := 0) (Nat.le_of_ble_eq_true rfl) (Nat.le_of_ble_eq_true rfl) ?_
    exact wk_X5_isNobody_28 X er en hQ x0 h13 hw
theorem met_X5_isNobody (l : Launch) (hlt : l.stackTraces = false) (G : GG) (h : AH) (a0 : Option Nat) (a1 : Int32) (P : Int32 → AH → Prop) (hw : w_X5_isNobody a0 a1 h P) : ct_i l yX5_isNobody (ws_ yX5_isNobody cX5_isNobody 2 (Option.some Jvm.ClassFile.FieldType.boolean)) rm_X5_isNobody G h [vR a0, vI a1] P := by
  refine j_starti hlt [(0, vR a0), (1, vI a1)] (plainFor_of_name (by decide)) rfl rfl (fun x X eG er en hQ => ?_)
  subst eG
  refine j_aload_n X (pc := 0) 0 dX5_isNobody_0 rfl rfl ?_
  refine j_iload_n X (pc := 1) 1 dX5_isNobody_1 rfl rfl ?_
  refine j_calli (j_runS (n8 := 1) (As := [vI a1]) (rest := [vR a0]) X (pc := 2) (met_X5_isUser (xl x) X.hl (xG x) h a1 _ hw) q1978 q1979 q78 q1980 (by decide +kernel) dX5_isNobody_2 rfl ⟨Nat.le_of_ble_eq_true rfl, Nat.le_of_ble_eq_true rfl⟩ (Nat.le_of_ble_eq_true rfl) ⟨Nat.le_of_ble_eq_true rfl, Nat.le_of_ble_eq_true rfl⟩) (fun y2 h2 hw => ?_)
  refine j_if_eq X (pc := 5) 12 dX5_isNobody_5 (by decide) hw (fun hw => ?_) (fun hw => ?_)
  · refine j_iconst X (pc := 12) 1 dX5_isNobody_12 (by decide) ?_
    refine j_cs (u' := 0) (v' := 0) (Nat.le_of_ble_eq_true rfl) (Nat.le_of_ble_eq_true rfl) ?_
    exact wk_X5_isNobody_13 X er en hQ a0 a1 1 a0 h2 hw
  · refine j_iconst X (pc := 8) 0 dX5_isNobody_8 (by decide) ?_
    refine j_goto X (pc := 9) 13 dX5_isNobody_9 (by decide) ?_
    refine j_cs (u' := 0) (v' := 0) (Nat.le_of_ble_eq_true rfl) (Nat.le_of_ble_eq_true rfl) ?_
    exact wk_X5_isNobody_13 X er en hQ a0 a1 0 a0 h2 hw
abbrev cX5_shapes : ByteArray := prog_19_method_53_code
def yX5_shapes : MethodName := ⟨RX5, "shapes", "(I)I"⟩
def dkwX5_shapes_0 : List UInt8 := [42, 27, 182, 0, 228, 153, 0, 7, 3, 167, 0, 7, 42, 182, 0, 209, 172]
abbrev dktX5_shapes_0 : List UInt8 := dkwX5_shapes_0 ++ []
theorem dksX5_shapes_0 : cX5_shapes.data.toList.drop 0 = dktX5_shapes_0 := by decide +kernel
theorem dX5_shapes_0 : decode cX5_shapes 0 = .ok (.aload_n 0, 1) := dk_42 (dk_at dksX5_shapes_0 0 rfl rfl)
theorem dX5_shapes_1 : decode cX5_shapes 1 = .ok (.iload_n 1, 1) := dk_27 (dk_at dksX5_shapes_0 1 rfl rfl)
theorem dX5_shapes_2 : decode cX5_shapes 2 = .ok (.invokevirtual 228, 3) := dk_182 0 228 (dk_at dksX5_shapes_0 2 rfl rfl)
theorem dX5_shapes_5 : decode cX5_shapes 5 = .ok (.ifCond .eq 7, 3) := dk_153 0 7 (dk_at dksX5_shapes_0 5 rfl rfl)
theorem dX5_shapes_8 : decode cX5_shapes 8 = .ok (.iconst 0, 1) := dk_3 (dk_at dksX5_shapes_0 8 rfl rfl)
theorem dX5_shapes_9 : decode cX5_shapes 9 = .ok (.goto 7, 3) := dk_167 0 7 (dk_at dksX5_shapes_0 9 rfl rfl)
theorem dX5_shapes_12 : decode cX5_shapes 12 = .ok (.aload_n 0, 1) := dk_42 (dk_at dksX5_shapes_0 12 rfl rfl)
theorem dX5_shapes_13 : decode cX5_shapes 13 = .ok (.invokevirtual 209, 3) := dk_182 0 209 (dk_at dksX5_shapes_0 13 rfl rfl)
theorem dX5_shapes_16 : decode cX5_shapes 16 = .ok (.ireturn, 1) := dk_172 (dk_at dksX5_shapes_0 16 rfl rfl)
theorem q2170 : (Jvm.Cond.methodLink "PlugboardModel" (228 : Nat) ({ cls := "PlugboardModel", name := "isNobody", desc := "(I)Z" } : Jvm.MethodName)) ∈ lw_all := lw_g (lw_at lw_m9 180 rfl) rfl
theorem q2172 : (Jvm.Cond.instanceMethod ({ cls := "PlugboardModel", name := "isNobody", desc := "(I)Z" } : Jvm.MethodName)) ∈ lw_all := lw_g (lw_at lw_m9 182 rfl) rfl
theorem q2173 : (Jvm.Cond.code ({ cls := "PlugboardModel", name := "isNobody", desc := "(I)Z" } : Jvm.MethodName) prog_19_method_51_code (2 : Nat) (Option.some Jvm.ClassFile.FieldType.boolean)) ∈ lw_all := lw_g (lw_at lw_m9 183 rfl) rfl
abbrev rm_X5_shapes : Room := { frames := 4, cells := 0, slots := 0, locals := 87 }
def w_X5_shapes (a0 : Option Nat) (a1 : Int32) (h : AH) (P : Int32 → AH → Prop) : Prop :=
  is_c h a0 [4] (
  w_X5_isNobody a0 a1 h (fun y2 h2 =>
  ((y2 = 0 →
    is_c h2 a0 [4] (
    w_X5_seenMany a0 h2 (fun y13 h13 =>
    P y13 h13))) ∧
   (¬ y2 = 0 →
    P 0 h2))))
theorem met_X5_shapes (l : Launch) (hlt : l.stackTraces = false) (G : GG) (h : AH) (a0 : Option Nat) (a1 : Int32) (P : Int32 → AH → Prop) (hw : w_X5_shapes a0 a1 h P) : ct_i l yX5_shapes (ws_ yX5_shapes cX5_shapes 2 (Option.some Jvm.ClassFile.FieldType.int)) rm_X5_shapes G h [vR a0, vI a1] P := by
  refine j_starti hlt [(0, vR a0), (1, vI a1)] (plainFor_of_name (by decide)) rfl rfl (fun x X eG er en hQ => ?_)
  subst eG
  refine j_aload_n X (pc := 0) 0 dX5_shapes_0 rfl rfl ?_
  refine j_iload_n X (pc := 1) 1 dX5_shapes_1 rfl rfl ?_
  obtain ⟨b9, c9, f9, hr9, ho9, hc9, hw⟩ := hw
  obtain rfl := List.mem_singleton.mp hc9
  refine j_calli (j_runV (n8 := 1) (As := [vI a1]) (rest := []) X (pc := 2) hr9 (met_X5_isNobody (xl x) X.hl (xG x) h a0 a1 _ hw) ho9 (by decide) rfl q2170 q2172 qs58 q78 q2173 (by decide +kernel) dX5_shapes_2 rfl ⟨Nat.le_of_ble_eq_true rfl, Nat.le_of_ble_eq_true rfl⟩ (Nat.le_of_ble_eq_true rfl) ⟨Nat.le_of_ble_eq_true rfl, Nat.le_of_ble_eq_true rfl⟩) (fun y2 h2 hw => ?_)
  refine j_if_eq X (pc := 5) 12 dX5_shapes_5 (by decide) hw (fun hw => ?_) (fun hw => ?_)
  · refine j_aload_n X (pc := 12) 0 dX5_shapes_12 rfl rfl ?_
    obtain ⟨b9, c9, f9, hr9, ho9, hc9, hw⟩ := hw
    obtain rfl := List.mem_singleton.mp hc9
    refine j_calli (j_runV (n8 := 0) (As := []) (rest := []) X (pc := 13) hr9 (met_X5_seenMany (xl x) X.hl (xG x) h2 a0 _ hw) ho9 (by decide) rfl q2087 q2089 qs52 q78 q2090 (by decide +kernel) dX5_shapes_13 rfl ⟨Nat.le_of_ble_eq_true rfl, Nat.le_of_ble_eq_true rfl⟩ (Nat.le_of_ble_eq_true rfl) ⟨Nat.le_of_ble_eq_true rfl, Nat.le_of_ble_eq_true rfl⟩) (fun y13 h13 hw => ?_)
    exact j_iret X (pc := 16) hQ er (Nat.le_of_ble_eq_true rfl) (Nat.le_of_ble_eq_true rfl) dX5_shapes_16 hw
  · refine j_iconst X (pc := 8) 0 dX5_shapes_8 (by decide) ?_
    refine j_goto X (pc := 9) 16 dX5_shapes_9 (by decide) ?_
    exact j_iret X (pc := 16) hQ er (Nat.le_of_ble_eq_true rfl) (Nat.le_of_ble_eq_true rfl) dX5_shapes_16 hw
abbrev cX1_sees : ByteArray := prog_1_method_48_code
def yX1_sees : MethodName := ⟨RX1, "sees", "(II)Z"⟩
def dkwX1_sees_0 : List UInt8 := [42, 27, 182, 0, 199, 28, 182, 0, 113, 172]
abbrev dktX1_sees_0 : List UInt8 := dkwX1_sees_0 ++ []
theorem dksX1_sees_0 : cX1_sees.data.toList.drop 0 = dktX1_sees_0 := by decide +kernel
theorem dX1_sees_0 : decode cX1_sees 0 = .ok (.aload_n 0, 1) := dk_42 (dk_at dksX1_sees_0 0 rfl rfl)
theorem dX1_sees_1 : decode cX1_sees 1 = .ok (.iload_n 1, 1) := dk_27 (dk_at dksX1_sees_0 1 rfl rfl)
theorem dX1_sees_2 : decode cX1_sees 2 = .ok (.invokevirtual 199, 3) := dk_182 0 199 (dk_at dksX1_sees_0 2 rfl rfl)
theorem dX1_sees_5 : decode cX1_sees 5 = .ok (.iload_n 2, 1) := dk_28 (dk_at dksX1_sees_0 5 rfl rfl)
theorem dX1_sees_6 : decode cX1_sees 6 = .ok (.invokevirtual 113, 3) := dk_182 0 113 (dk_at dksX1_sees_0 6 rfl rfl)
theorem dX1_sees_9 : decode cX1_sees 9 = .ok (.ireturn, 1) := dk_172 (dk_at dksX1_sees_0 9 rfl rfl)
abbrev rm_X1_sees : Room := { frames := 9, cells := 2, slots := 7, locals := 146 }
def w_X1_sees (a0 : Option Nat) (a1 : Int32) (a2 : Int32) (h : AH) (P : Int32 → AH → Prop) (PX : String → AH → Prop) : Prop :=
  is_c h a0 [0] (
  w_X1_board a0 a1 h (fun y2 h2 =>
  is_c h2 y2 [2] (
  w_X3_sees y2 a2 h2 (fun y6 h6 =>
  nrw .boolean y6 ∧
  P y6 h6))) PX)
theorem met_X1_sees (l : Launch) (hlt : l.stackTraces = false) (G : GG) (h : AH) (a0 : Option Nat) (a1 : Int32) (a2 : Int32) (P : Int32 → AH → Prop) (PX : String → AH → Prop) (hw : w_X1_sees a0 a1 a2 h P PX) : cx_i l yX1_sees (ws_ yX1_sees cX1_sees 3 (Option.some Jvm.ClassFile.FieldType.boolean)) rm_X1_sees G h [vR a0, vI a1, vI a2] P PX := by
  refine j_startXi hlt [(0, vR a0), (1, vI a1), (2, vI a2)] (by decide) rfl rfl (fun x X eG er en hQ hT hex => ?_)
  subst eG
  refine j_aload_n X (pc := 0) 0 dX1_sees_0 rfl rfl ?_
  refine j_iload_n X (pc := 1) 1 dX1_sees_1 rfl rfl ?_
  obtain ⟨b9, c9, f9, hr9, ho9, hc9, hw⟩ := hw
  obtain rfl := List.mem_singleton.mp hc9
  refine j_callXq (j_runVX (n8 := 1) (As := [vI a1]) (rest := []) X (pc := 2) hr9 (met_X1_board (xl x) X.hl (xG x) h a0 a1 _ _ hw) ho9 (by decide) rfl q297 q299 qs0 q71 q300 (by decide +kernel) dX1_sees_2 rfl ⟨Nat.le_of_ble_eq_true rfl, Nat.le_of_ble_eq_true rfl⟩ (Nat.le_of_ble_eq_true rfl) ⟨Nat.le_of_ble_eq_true rfl, Nat.le_of_ble_eq_true rfl⟩) (fun E h9 hx => j_out X hT hex (Nat.le_of_ble_eq_true rfl) (Nat.le_of_ble_eq_true rfl) hx) (fun y2 h2 hw => ?_)
  refine j_iload_n X (pc := 5) 2 dX1_sees_5 rfl rfl ?_
  obtain ⟨b9, c9, f9, hr9, ho9, hc9, hw⟩ := hw
  obtain rfl := List.mem_singleton.mp hc9
  refine j_calli (j_runV (n8 := 1) (As := [vI a2]) (rest := []) X (pc := 6) hr9 (met_X3_sees (xl x) X.hl (xG x) h2 y2 a2 _ hw) ho9 (by decide) rfl q1079 q410 q411 q76 q412 (by decide +kernel) dX1_sees_6 rfl ⟨Nat.le_of_ble_eq_true rfl, Nat.le_of_ble_eq_true rfl⟩ (Nat.le_of_ble_eq_true rfl) ⟨Nat.le_of_ble_eq_true rfl, Nat.le_of_ble_eq_true rfl⟩) (fun y6 h6 hw => ?_)
  exact j_zret X (pc := 9) (ty := .boolean) hQ er hw.1.1 (Nat.le_of_ble_eq_true rfl) (Nat.le_of_ble_eq_true rfl) dX1_sees_9 hw.2
abbrev cX0_sees : ByteArray := method_22_code
def yX0_sees : MethodName := ⟨RX0, "sees", "(LPlugboard;II[J)I"⟩
def dkwX0_sees_1 : List UInt8 := [3, 172]
abbrev dktX0_sees_1 : List UInt8 := dkwX0_sees_1 ++ []
def dkwX0_sees_0 : List UInt8 := [45, 3, 42, 27, 28, 182, 0, 82, 153, 0, 7, 10, 167, 0, 4, 9, 80, 167, 0, 7, 58, 4, 4, 172]
abbrev dktX0_sees_0 : List UInt8 := dkwX0_sees_0 ++ dktX0_sees_1
theorem dksX0_sees_0 : cX0_sees.data.toList.drop 0 = dktX0_sees_0 := by decide +kernel
theorem dksX0_sees_1 : cX0_sees.data.toList.drop 24 = dktX0_sees_1 := dk_seg dksX0_sees_0 24 rfl rfl
theorem dX0_sees_0 : decode cX0_sees 0 = .ok (.aload_n 3, 1) := dk_45 (dk_at dksX0_sees_0 0 rfl rfl)
theorem dX0_sees_1 : decode cX0_sees 1 = .ok (.iconst 0, 1) := dk_3 (dk_at dksX0_sees_0 1 rfl rfl)
theorem dX0_sees_2 : decode cX0_sees 2 = .ok (.aload_n 0, 1) := dk_42 (dk_at dksX0_sees_0 2 rfl rfl)
theorem dX0_sees_3 : decode cX0_sees 3 = .ok (.iload_n 1, 1) := dk_27 (dk_at dksX0_sees_0 3 rfl rfl)
theorem dX0_sees_4 : decode cX0_sees 4 = .ok (.iload_n 2, 1) := dk_28 (dk_at dksX0_sees_0 4 rfl rfl)
theorem dX0_sees_5 : decode cX0_sees 5 = .ok (.invokevirtual 82, 3) := dk_182 0 82 (dk_at dksX0_sees_0 5 rfl rfl)
theorem dX0_sees_8 : decode cX0_sees 8 = .ok (.ifCond .eq 7, 3) := dk_153 0 7 (dk_at dksX0_sees_0 8 rfl rfl)
theorem dX0_sees_11 : decode cX0_sees 11 = .ok (.lconst 1, 1) := dk_10 (dk_at dksX0_sees_0 11 rfl rfl)
theorem dX0_sees_12 : decode cX0_sees 12 = .ok (.goto 4, 3) := dk_167 0 4 (dk_at dksX0_sees_0 12 rfl rfl)
theorem dX0_sees_15 : decode cX0_sees 15 = .ok (.lconst 0, 1) := dk_9 (dk_at dksX0_sees_0 15 rfl rfl)
theorem dX0_sees_16 : decode cX0_sees 16 = .ok (.lastore, 1) := dk_80 (dk_at dksX0_sees_0 16 rfl rfl)
theorem dX0_sees_17 : decode cX0_sees 17 = .ok (.goto 7, 3) := dk_167 0 7 (dk_at dksX0_sees_0 17 rfl rfl)
theorem dX0_sees_20 : decode cX0_sees 20 = .ok (.astore 4, 2) := dk_58 4 (dk_at dksX0_sees_0 20 rfl rfl)
theorem dX0_sees_22 : decode cX0_sees 22 = .ok (.iconst 1, 1) := dk_4 (dk_at dksX0_sees_0 22 rfl rfl)
theorem dX0_sees_23 : decode cX0_sees 23 = .ok (.ireturn, 1) := dk_172 (dk_at dksX0_sees_0 23 rfl rfl)
theorem dX0_sees_24 : decode cX0_sees 24 = .ok (.iconst 0, 1) := dk_3 (dk_at dksX0_sees_1 0 rfl rfl)
theorem dX0_sees_25 : decode cX0_sees 25 = .ok (.ireturn, 1) := dk_172 (dk_at dksX0_sees_1 1 rfl rfl)
theorem q1406 : (Jvm.Cond.methodLink "PlugboardLaw" (82 : Nat) ({ cls := "Plugboard", name := "sees", desc := "(II)Z" } : Jvm.MethodName)) ∈ lw_all := lw_g (lw_at lw_m6 136 rfl) rfl
theorem q1407 : (Jvm.Cond.instanceMethod ({ cls := "Plugboard", name := "sees", desc := "(II)Z" } : Jvm.MethodName)) ∈ lw_all := lw_g (lw_at lw_m6 137 rfl) rfl
theorem q1408 : (Jvm.Cond.selects "Plugboard" ({ cls := "Plugboard", name := "sees", desc := "(II)Z" } : Jvm.MethodName) ({ cls := "Plugboard", name := "sees", desc := "(II)Z" } : Jvm.MethodName)) ∈ lw_all := lw_g (lw_at lw_m6 138 rfl) rfl
theorem q1409 : (Jvm.Cond.code ({ cls := "Plugboard", name := "sees", desc := "(II)Z" } : Jvm.MethodName) prog_1_method_48_code (3 : Nat) (Option.some Jvm.ClassFile.FieldType.boolean)) ∈ lw_all := lw_g (lw_at lw_m6 139 rfl) rfl
abbrev rm_X0_sees : Room := { frames := 10, cells := 2, slots := 7, locals := 168 }
def w_X0_sees (a0 : Option Nat) (a1 : Int32) (a2 : Int32) (a3 : Option Nat) (h : AH) (P : Int32 → AH → Prop) : Prop :=
  is_c h a0 [0] (
  w_X1_sees a0 a1 a2 h (fun y5 h5 =>
  ((y5 = 0 →
    s_L h5 a3 0 0 fun h16 =>
    P 0 h16) ∧
   (¬ y5 = 0 →
    s_L h5 a3 0 1 fun h16 =>
    P 0 h16)))
    (fun E9 h9 => (E9 = "java/lang/IllegalArgumentException" ∧ ∀ q9 : Nat,
    P 1 h9)))
theorem met_X0_sees (l : Launch) (hlt : l.stackTraces = false) (G : GG) (h : AH) (a0 : Option Nat) (a1 : Int32) (a2 : Int32) (a3 : Option Nat) (P : Int32 → AH → Prop) (hw : w_X0_sees a0 a1 a2 a3 h P) : ct_i l yX0_sees (wsW_ yX0_sees cX0_sees 5 (Option.some Jvm.ClassFile.FieldType.int) [((0 : Nat), (17 : Nat), (20 : Nat), (13 : Nat))]) rm_X0_sees G h [vR a0, vI a1, vI a2, vR a3] P := by
  refine j_startWi hlt [(0, vR a0), (1, vI a1), (2, vI a2), (3, vR a3)] (by decide) rfl rfl (fun x X eG er en hQ hex => ?_)
  subst eG
  refine j_aload_n X (pc := 0) 3 dX0_sees_0 rfl rfl ?_
  refine j_iconst X (pc := 1) 0 dX0_sees_1 (by decide) ?_
  refine j_aload_n X (pc := 2) 0 dX0_sees_2 rfl rfl ?_
  refine j_iload_n X (pc := 3) 1 dX0_sees_3 rfl rfl ?_
  refine j_iload_n X (pc := 4) 2 dX0_sees_4 rfl rfl ?_
  obtain ⟨b9, c9, f9, hr9, ho9, hc9, hw⟩ := hw
  obtain rfl := List.mem_singleton.mp hc9
  refine j_callXi (j_runVX (n8 := 2) (As := [vI a1, vI a2]) (rest := [vI 0, vR a3]) X (pc := 5) hr9 (met_X1_sees (xl x) X.hl (xG x) h a0 a1 a2 _ _ hw) ho9 (by decide) rfl q1406 q1407 q1408 q71 q1409 (by decide +kernel) dX0_sees_5 rfl ⟨Nat.le_of_ble_eq_true rfl, Nat.le_of_ble_eq_true rfl⟩ (Nat.le_of_ble_eq_true rfl) ⟨Nat.le_of_ble_eq_true rfl, Nat.le_of_ble_eq_true rfl⟩) ?_ (fun y5 h5 hw => ?_)
  · intro E9 h9 hx
    obtain ⟨rfl, hw⟩ := hx
    refine j_catch X (pc := 5) "java/lang/IllegalArgumentException" hex [] [] ⟨0, 17, 20, 13⟩ rfl (by intro y hy; cases hy) (by decide) (by decide) q291 q312 (fun q9 => ?_)
    have hw := hw q9
    refine j_astore X (pc := 20) [(4, vR (some q9)), (0, vR a0), (1, vI a1), (2, vI a2), (3, vR a3)] dX0_sees_20 (Nat.le_of_ble_eq_true rfl) rfl ?_
    refine j_iconst X (pc := 22) 1 dX0_sees_22 (by decide) ?_
    exact j_iret X (pc := 23) hQ er (Nat.le_of_ble_eq_true rfl) (Nat.le_of_ble_eq_true rfl) dX0_sees_23 hw
  refine j_if_eq X (pc := 8) 15 dX0_sees_8 (by decide) hw (fun hw => ?_) (fun hw => ?_)
  · refine j_lconst X (pc := 15) 0 dX0_sees_15 (by decide) ?_
    refine j_last X (pc := 16) dX0_sees_16 hw (fun h16 hw => ?_)
    refine j_goto X (pc := 17) 24 dX0_sees_17 (by decide) ?_
    refine j_iconst X (pc := 24) 0 dX0_sees_24 (by decide) ?_
    exact j_iret X (pc := 25) hQ er (Nat.le_of_ble_eq_true rfl) (Nat.le_of_ble_eq_true rfl) dX0_sees_25 hw
  · refine j_lconst X (pc := 11) 1 dX0_sees_11 (by decide) ?_
    refine j_goto X (pc := 12) 16 dX0_sees_12 (by decide) ?_
    refine j_last X (pc := 16) dX0_sees_16 hw (fun h16 hw => ?_)
    refine j_goto X (pc := 17) 24 dX0_sees_17 (by decide) ?_
    refine j_iconst X (pc := 24) 0 dX0_sees_24 (by decide) ?_
    exact j_iret X (pc := 25) hQ er (Nat.le_of_ble_eq_true rfl) (Nat.le_of_ble_eq_true rfl) dX0_sees_25 hw
abbrev cX5_sees : ByteArray := prog_19_method_54_code
def yX5_sees : MethodName := ⟨RX5, "sees", "(II)Z"⟩
def dkwX5_sees_0 : List UInt8 := [42, 27, 182, 0, 228, 154, 0, 15, 42, 28, 182, 0, 125, 153, 0, 7, 4, 167, 0, 4, 3, 172]
abbrev dktX5_sees_0 : List UInt8 := dkwX5_sees_0 ++ []
theorem dksX5_sees_0 : cX5_sees.data.toList.drop 0 = dktX5_sees_0 := by decide +kernel
theorem dX5_sees_0 : decode cX5_sees 0 = .ok (.aload_n 0, 1) := dk_42 (dk_at dksX5_sees_0 0 rfl rfl)
theorem dX5_sees_1 : decode cX5_sees 1 = .ok (.iload_n 1, 1) := dk_27 (dk_at dksX5_sees_0 1 rfl rfl)
theorem dX5_sees_2 : decode cX5_sees 2 = .ok (.invokevirtual 228, 3) := dk_182 0 228 (dk_at dksX5_sees_0 2 rfl rfl)
theorem dX5_sees_5 : decode cX5_sees 5 = .ok (.ifCond .ne 15, 3) := dk_154 0 15 (dk_at dksX5_sees_0 5 rfl rfl)
theorem dX5_sees_8 : decode cX5_sees 8 = .ok (.aload_n 0, 1) := dk_42 (dk_at dksX5_sees_0 8 rfl rfl)
theorem dX5_sees_9 : decode cX5_sees 9 = .ok (.iload_n 2, 1) := dk_28 (dk_at dksX5_sees_0 9 rfl rfl)
theorem dX5_sees_10 : decode cX5_sees 10 = .ok (.invokevirtual 125, 3) := dk_182 0 125 (dk_at dksX5_sees_0 10 rfl rfl)
theorem dX5_sees_13 : decode cX5_sees 13 = .ok (.ifCond .eq 7, 3) := dk_153 0 7 (dk_at dksX5_sees_0 13 rfl rfl)
theorem dX5_sees_16 : decode cX5_sees 16 = .ok (.iconst 1, 1) := dk_4 (dk_at dksX5_sees_0 16 rfl rfl)
theorem dX5_sees_17 : decode cX5_sees 17 = .ok (.goto 4, 3) := dk_167 0 4 (dk_at dksX5_sees_0 17 rfl rfl)
theorem dX5_sees_20 : decode cX5_sees 20 = .ok (.iconst 0, 1) := dk_3 (dk_at dksX5_sees_0 20 rfl rfl)
theorem dX5_sees_21 : decode cX5_sees 21 = .ok (.ireturn, 1) := dk_172 (dk_at dksX5_sees_0 21 rfl rfl)
abbrev rm_X5_sees : Room := { frames := 4, cells := 0, slots := 0, locals := 87 }
def w_X5_sees (a0 : Option Nat) (a1 : Int32) (a2 : Int32) (h : AH) (P : Int32 → AH → Prop) : Prop :=
  is_c h a0 [4] (
  w_X5_isNobody a0 a1 h (fun y2 h2 =>
  ((y2 = 0 →
    is_c h2 a0 [4] (
    w_X5_isSeen a0 a2 h2 (fun y10 h10 =>
    ((y10 = 0 →
      P 0 h10) ∧
     (¬ y10 = 0 →
      P 1 h10))))) ∧
   (¬ y2 = 0 →
    P 0 h2))))
theorem met_X5_sees (l : Launch) (hlt : l.stackTraces = false) (G : GG) (h : AH) (a0 : Option Nat) (a1 : Int32) (a2 : Int32) (P : Int32 → AH → Prop) (hw : w_X5_sees a0 a1 a2 h P) : ct_i l yX5_sees (ws_ yX5_sees cX5_sees 3 (Option.some Jvm.ClassFile.FieldType.boolean)) rm_X5_sees G h [vR a0, vI a1, vI a2] P := by
  refine j_starti hlt [(0, vR a0), (1, vI a1), (2, vI a2)] (plainFor_of_name (by decide)) rfl rfl (fun x X eG er en hQ => ?_)
  subst eG
  refine j_aload_n X (pc := 0) 0 dX5_sees_0 rfl rfl ?_
  refine j_iload_n X (pc := 1) 1 dX5_sees_1 rfl rfl ?_
  obtain ⟨b9, c9, f9, hr9, ho9, hc9, hw⟩ := hw
  obtain rfl := List.mem_singleton.mp hc9
  refine j_calli (j_runV (n8 := 1) (As := [vI a1]) (rest := []) X (pc := 2) hr9 (met_X5_isNobody (xl x) X.hl (xG x) h a0 a1 _ hw) ho9 (by decide) rfl q2170 q2172 qs58 q78 q2173 (by decide +kernel) dX5_sees_2 rfl ⟨Nat.le_of_ble_eq_true rfl, Nat.le_of_ble_eq_true rfl⟩ (Nat.le_of_ble_eq_true rfl) ⟨Nat.le_of_ble_eq_true rfl, Nat.le_of_ble_eq_true rfl⟩) (fun y2 h2 hw => ?_)
  refine j_if_ne X (pc := 5) 20 dX5_sees_5 (by decide) hw (fun hw => ?_) (fun hw => ?_)
  · refine j_aload_n X (pc := 8) 0 dX5_sees_8 rfl rfl ?_
    refine j_iload_n X (pc := 9) 2 dX5_sees_9 rfl rfl ?_
    obtain ⟨b9, c9, f9, hr9, ho9, hc9, hw⟩ := hw
    obtain rfl := List.mem_singleton.mp hc9
    refine j_calli (j_runV (n8 := 1) (As := [vI a2]) (rest := []) X (pc := 10) hr9 (met_X5_isSeen (xl x) X.hl (xG x) h2 a0 a2 _ hw) ho9 (by decide) rfl q2012 q2014 qs39 q78 q2015 (by decide +kernel) dX5_sees_10 rfl ⟨Nat.le_of_ble_eq_true rfl, Nat.le_of_ble_eq_true rfl⟩ (Nat.le_of_ble_eq_true rfl) ⟨Nat.le_of_ble_eq_true rfl, Nat.le_of_ble_eq_true rfl⟩) (fun y10 h10 hw => ?_)
    refine j_if_eq X (pc := 13) 20 dX5_sees_13 (by decide) hw (fun hw => ?_) (fun hw => ?_)
    · refine j_iconst X (pc := 20) 0 dX5_sees_20 (by decide) ?_
      exact j_zret X (pc := 21) (ty := .boolean) hQ er rfl (Nat.le_of_ble_eq_true rfl) (Nat.le_of_ble_eq_true rfl) dX5_sees_21 hw
    · refine j_iconst X (pc := 16) 1 dX5_sees_16 (by decide) ?_
      refine j_goto X (pc := 17) 21 dX5_sees_17 (by decide) ?_
      exact j_zret X (pc := 21) (ty := .boolean) hQ er rfl (Nat.le_of_ble_eq_true rfl) (Nat.le_of_ble_eq_true rfl) dX5_sees_21 hw
  · refine j_iconst X (pc := 20) 0 dX5_sees_20 (by decide) ?_
    exact j_zret X (pc := 21) (ty := .boolean) hQ er rfl (Nat.le_of_ble_eq_true rfl) (Nat.le_of_ble_eq_true rfl) dX5_sees_21 hw
abbrev cX1_columnOf : ByteArray := prog_1_method_49_code
def yX1_columnOf : MethodName := ⟨RX1, "columnOf", "(II)I"⟩
def dkwX1_columnOf_0 : List UInt8 := [42, 27, 182, 0, 199, 78, 45, 42, 45, 28, 182, 0, 241, 182, 0, 249, 172]
abbrev dktX1_columnOf_0 : List UInt8 := dkwX1_columnOf_0 ++ []
theorem dksX1_columnOf_0 : cX1_columnOf.data.toList.drop 0 = dktX1_columnOf_0 := by decide +kernel
theorem dX1_columnOf_0 : decode cX1_columnOf 0 = .ok (.aload_n 0, 1) := dk_42 (dk_at dksX1_columnOf_0 0 rfl rfl)
theorem dX1_columnOf_1 : decode cX1_columnOf 1 = .ok (.iload_n 1, 1) := dk_27 (dk_at dksX1_columnOf_0 1 rfl rfl)
theorem dX1_columnOf_2 : decode cX1_columnOf 2 = .ok (.invokevirtual 199, 3) := dk_182 0 199 (dk_at dksX1_columnOf_0 2 rfl rfl)
theorem dX1_columnOf_5 : decode cX1_columnOf 5 = .ok (.astore_n 3, 1) := dk_78 (dk_at dksX1_columnOf_0 5 rfl rfl)
theorem dX1_columnOf_6 : decode cX1_columnOf 6 = .ok (.aload_n 3, 1) := dk_45 (dk_at dksX1_columnOf_0 6 rfl rfl)
theorem dX1_columnOf_7 : decode cX1_columnOf 7 = .ok (.aload_n 0, 1) := dk_42 (dk_at dksX1_columnOf_0 7 rfl rfl)
theorem dX1_columnOf_8 : decode cX1_columnOf 8 = .ok (.aload_n 3, 1) := dk_45 (dk_at dksX1_columnOf_0 8 rfl rfl)
theorem dX1_columnOf_9 : decode cX1_columnOf 9 = .ok (.iload_n 2, 1) := dk_28 (dk_at dksX1_columnOf_0 9 rfl rfl)
theorem dX1_columnOf_10 : decode cX1_columnOf 10 = .ok (.invokevirtual 241, 3) := dk_182 0 241 (dk_at dksX1_columnOf_0 10 rfl rfl)
theorem dX1_columnOf_13 : decode cX1_columnOf 13 = .ok (.invokevirtual 249, 3) := dk_182 0 249 (dk_at dksX1_columnOf_0 13 rfl rfl)
theorem dX1_columnOf_16 : decode cX1_columnOf 16 = .ok (.ireturn, 1) := dk_172 (dk_at dksX1_columnOf_0 16 rfl rfl)
abbrev rm_X1_columnOf : Room := { frames := 9, cells := 3, slots := 13, locals := 146 }
def w_X1_columnOf (a0 : Option Nat) (a1 : Int32) (a2 : Int32) (h : AH) (P : Int32 → AH → Prop) (PX : String → AH → Prop) : Prop :=
  is_c h a0 [0] (
  w_X1_board a0 a1 h (fun y2 h2 =>
  is_c h2 a0 [0] (
  w_X1_shape a0 y2 a2 h2 (fun y10 h10 =>
  is_c h10 y2 [2] (
  w_X3_columnOf y2 y10 h10 (fun y13 h13 =>
  P y13 h13))) PX)) PX)
theorem met_X1_columnOf (l : Launch) (hlt : l.stackTraces = false) (G : GG) (h : AH) (a0 : Option Nat) (a1 : Int32) (a2 : Int32) (P : Int32 → AH → Prop) (PX : String → AH → Prop) (hw : w_X1_columnOf a0 a1 a2 h P PX) : cx_i l yX1_columnOf (ws_ yX1_columnOf cX1_columnOf 4 (Option.some Jvm.ClassFile.FieldType.int)) rm_X1_columnOf G h [vR a0, vI a1, vI a2] P PX := by
  refine j_startXi hlt [(0, vR a0), (1, vI a1), (2, vI a2)] (by decide) rfl rfl (fun x X eG er en hQ hT hex => ?_)
  subst eG
  refine j_aload_n X (pc := 0) 0 dX1_columnOf_0 rfl rfl ?_
  refine j_iload_n X (pc := 1) 1 dX1_columnOf_1 rfl rfl ?_
  obtain ⟨b9, c9, f9, hr9, ho9, hc9, hw⟩ := hw
  obtain rfl := List.mem_singleton.mp hc9
  refine j_callXq (j_runVX (n8 := 1) (As := [vI a1]) (rest := []) X (pc := 2) hr9 (met_X1_board (xl x) X.hl (xG x) h a0 a1 _ _ hw) ho9 (by decide) rfl q297 q299 qs0 q71 q300 (by decide +kernel) dX1_columnOf_2 rfl ⟨Nat.le_of_ble_eq_true rfl, Nat.le_of_ble_eq_true rfl⟩ (Nat.le_of_ble_eq_true rfl) ⟨Nat.le_of_ble_eq_true rfl, Nat.le_of_ble_eq_true rfl⟩) (fun E h9 hx => j_out X hT hex (Nat.le_of_ble_eq_true rfl) (Nat.le_of_ble_eq_true rfl) hx) (fun y2 h2 hw => ?_)
  refine j_astore_n X (pc := 5) [(3, vR y2), (0, vR a0), (1, vI a1), (2, vI a2)] dX1_columnOf_5 rfl (Nat.le_of_ble_eq_true rfl) rfl ?_
  refine j_aload_n X (pc := 6) 0 dX1_columnOf_6 rfl rfl ?_
  refine j_aload_n X (pc := 7) 1 dX1_columnOf_7 rfl rfl ?_
  refine j_aload_n X (pc := 8) 0 dX1_columnOf_8 rfl rfl ?_
  refine j_iload_n X (pc := 9) 3 dX1_columnOf_9 rfl rfl ?_
  obtain ⟨b9, c9, f9, hr9, ho9, hc9, hw⟩ := hw
  obtain rfl := List.mem_singleton.mp hc9
  refine j_callXq (j_runVX (n8 := 2) (As := [vR y2, vI a2]) (rest := [vR y2]) X (pc := 10) hr9 (met_X1_shape (xl x) X.hl (xG x) h2 a0 y2 a2 _ _ hw) ho9 (by decide) rfl q1075 q1077 qs9 q71 q1078 (by decide +kernel) dX1_columnOf_10 rfl ⟨Nat.le_of_ble_eq_true rfl, Nat.le_of_ble_eq_true rfl⟩ (Nat.le_of_ble_eq_true rfl) ⟨Nat.le_of_ble_eq_true rfl, Nat.le_of_ble_eq_true rfl⟩) (fun E h9 hx => j_out X hT hex (Nat.le_of_ble_eq_true rfl) (Nat.le_of_ble_eq_true rfl) hx) (fun y10 h10 hw => ?_)
  obtain ⟨b9, c9, f9, hr9, ho9, hc9, hw⟩ := hw
  obtain rfl := List.mem_singleton.mp hc9
  refine j_calli (j_runV (n8 := 1) (As := [vR y10]) (rest := []) X (pc := 13) hr9 (met_X3_columnOf (xl x) X.hl (xG x) h10 y2 y10 _ hw) ho9 (by decide) rfl q1115 q1116 q1117 q76 q1118 (by decide +kernel) dX1_columnOf_13 rfl ⟨Nat.le_of_ble_eq_true rfl, Nat.le_of_ble_eq_true rfl⟩ (Nat.le_of_ble_eq_true rfl) ⟨Nat.le_of_ble_eq_true rfl, Nat.le_of_ble_eq_true rfl⟩) (fun y13 h13 hw => ?_)
  exact j_iret X (pc := 16) hQ er (Nat.le_of_ble_eq_true rfl) (Nat.le_of_ble_eq_true rfl) dX1_columnOf_16 hw
