/-! walks (printed): Plugboard, PlugboardLaw, PlugboardModel -/
set_option maxRecDepth 100000
abbrev cX1_votesOf : ByteArray := prog_1_method_34_code
def yX1_votesOf : MethodName := ⟨RX1, "votesOf", "(LPlugboard$Board;I)I"⟩
def dkwX1_votesOf_1 : List UInt8 := [96, 61, 132, 3, 1, 167, 255, 231, 28, 172]
abbrev dktX1_votesOf_1 : List UInt8 := dkwX1_votesOf_1 ++ []
def dkwX1_votesOf_0 : List UInt8 := [3, 61, 3, 62, 29, 16, 12, 162, 0, 25, 28, 42, 180, 0, 136, 180, 0, 139, 27, 29, 184, 1, 56, 46]
abbrev dktX1_votesOf_0 : List UInt8 := dkwX1_votesOf_0 ++ dktX1_votesOf_1
theorem dksX1_votesOf_0 : cX1_votesOf.data.toList.drop 0 = dktX1_votesOf_0 := by decide +kernel
theorem dksX1_votesOf_1 : cX1_votesOf.data.toList.drop 24 = dktX1_votesOf_1 := dk_seg dksX1_votesOf_0 24 rfl rfl
theorem dX1_votesOf_0 : decode cX1_votesOf 0 = .ok (.iconst 0, 1) := dk_3 (dk_at dksX1_votesOf_0 0 rfl rfl)
theorem dX1_votesOf_1 : decode cX1_votesOf 1 = .ok (.istore_n 2, 1) := dk_61 (dk_at dksX1_votesOf_0 1 rfl rfl)
theorem dX1_votesOf_2 : decode cX1_votesOf 2 = .ok (.iconst 0, 1) := dk_3 (dk_at dksX1_votesOf_0 2 rfl rfl)
theorem dX1_votesOf_3 : decode cX1_votesOf 3 = .ok (.istore_n 3, 1) := dk_62 (dk_at dksX1_votesOf_0 3 rfl rfl)
theorem dX1_votesOf_4 : decode cX1_votesOf 4 = .ok (.iload_n 3, 1) := dk_29 (dk_at dksX1_votesOf_0 4 rfl rfl)
theorem dX1_votesOf_5 : decode cX1_votesOf 5 = .ok (.bipush 12, 2) := dk_16 12 (dk_at dksX1_votesOf_0 5 rfl rfl)
theorem dX1_votesOf_7 : decode cX1_votesOf 7 = .ok (.if_icmp .ge 25, 3) := dk_162 0 25 (dk_at dksX1_votesOf_0 7 rfl rfl)
theorem dX1_votesOf_10 : decode cX1_votesOf 10 = .ok (.iload_n 2, 1) := dk_28 (dk_at dksX1_votesOf_0 10 rfl rfl)
theorem dX1_votesOf_11 : decode cX1_votesOf 11 = .ok (.aload_n 0, 1) := dk_42 (dk_at dksX1_votesOf_0 11 rfl rfl)
theorem dX1_votesOf_12 : decode cX1_votesOf 12 = .ok (.getfield 136, 3) := dk_180 0 136 (dk_at dksX1_votesOf_0 12 rfl rfl)
theorem dX1_votesOf_15 : decode cX1_votesOf 15 = .ok (.getfield 139, 3) := dk_180 0 139 (dk_at dksX1_votesOf_0 15 rfl rfl)
theorem dX1_votesOf_18 : decode cX1_votesOf 18 = .ok (.iload_n 1, 1) := dk_27 (dk_at dksX1_votesOf_0 18 rfl rfl)
theorem dX1_votesOf_19 : decode cX1_votesOf 19 = .ok (.iload_n 3, 1) := dk_29 (dk_at dksX1_votesOf_0 19 rfl rfl)
theorem dX1_votesOf_20 : decode cX1_votesOf 20 = .ok (.invokestatic 312, 3) := dk_184 1 56 (dk_at dksX1_votesOf_0 20 rfl rfl)
theorem dX1_votesOf_23 : decode cX1_votesOf 23 = .ok (.iaload, 1) := dk_46 (dk_at dksX1_votesOf_0 23 rfl rfl)
theorem dX1_votesOf_24 : decode cX1_votesOf 24 = .ok (.iadd, 1) := dk_96 (dk_at dksX1_votesOf_1 0 rfl rfl)
theorem dX1_votesOf_25 : decode cX1_votesOf 25 = .ok (.istore_n 2, 1) := dk_61 (dk_at dksX1_votesOf_1 1 rfl rfl)
theorem dX1_votesOf_26 : decode cX1_votesOf 26 = .ok (.iinc 3 1, 3) := dk_132 3 1 (dk_at dksX1_votesOf_1 2 rfl rfl)
theorem dX1_votesOf_29 : decode cX1_votesOf 29 = .ok (.goto (-25), 3) := dk_167 255 231 (dk_at dksX1_votesOf_1 5 rfl rfl)
theorem dX1_votesOf_32 : decode cX1_votesOf 32 = .ok (.iload_n 2, 1) := dk_28 (dk_at dksX1_votesOf_1 8 rfl rfl)
theorem dX1_votesOf_33 : decode cX1_votesOf 33 = .ok (.ireturn, 1) := dk_172 (dk_at dksX1_votesOf_1 9 rfl rfl)
theorem q1329 : (Jvm.Cond.methodLink "Plugboard" (312 : Nat) ({ cls := "Plugboard", name := "votesField", desc := "(II)I" } : Jvm.MethodName)) ∈ lw_all := lw_g (lw_at lw_m6 59 rfl) rfl
theorem q1330 : (Jvm.Cond.static ({ cls := "Plugboard", name := "votesField", desc := "(II)I" } : Jvm.MethodName)) ∈ lw_all := lw_g (lw_at lw_m6 60 rfl) rfl
theorem q1331 : (Jvm.Cond.code ({ cls := "Plugboard", name := "votesField", desc := "(II)I" } : Jvm.MethodName) prog_1_method_33_code (2 : Nat) (Option.some Jvm.ClassFile.FieldType.int)) ∈ lw_all := lw_g (lw_at lw_m6 61 rfl) rfl
abbrev rm_X1_votesOf : Room := { frames := 1, cells := 0, slots := 0, locals := 21 }
def w_X1_votesOf_4 (P : Int32 → AH → Prop) (x0 : Option Nat) (x1 : Int32) (x2 : Int32) (x3 : Int32) (h : AH) : Prop :=
  ∀ Z4 : Int32 → Int32 → AH → Prop, (∀ x2 x3 h, (
      ((12 ≤ x3 →
        P x2 h) ∧
       (¬ 12 ≤ x3 →
        g_q h x0 2 1 fun y12 =>
        g_q h y12 1 0 fun y15 =>
        w_X1_votesField x1 x3 h (fun y20 h20 =>
        l_i h20 y15 0 y20 fun y23 =>
        Z4 (x2 + y23) (x3 + 1) h20))))
      → Z4 x2 x3 h) → Z4 x2 x3 h
def w_X1_votesOf (a0 : Option Nat) (a1 : Int32) (h : AH) (P : Int32 → AH → Prop) : Prop :=
  w_X1_votesOf_4 P a0 a1 0 0 h
theorem wk_X1_votesOf_4 {x : CX} (X : Ok x cX1_votesOf RX1 rm_X1_votesOf 4) (er : xrt x = (Option.some Jvm.ClassFile.FieldType.int)) (en : xnm x = yX1_votesOf.name) {P : Int32 → AH → Prop} (hQ : xr_i x P) (x0 : Option Nat) (x1 : Int32) (x2 : Int32) (x3 : Int32) (h : AH) (hw : w_X1_votesOf_4 P x0 x1 x2 x3 h) : J x h 0 0 4 [(0, vR x0), (1, vI x1), (2, vI x2), (3, vI x3)] [] := by
  refine hw (fun x2 x3 h => J x h 0 0 4 [(0, vR x0), (1, vI x1), (2, vI x2), (3, vI x3)] []) (fun x2 x3 h hw => ?_)
  refine j_iload_n X (pc := 4) 3 dX1_votesOf_4 rfl rfl ?_
  refine j_bipush X (pc := 5) 12 dX1_votesOf_5 (by decide) ?_
  refine j_icmp_ge X (pc := 7) 32 dX1_votesOf_7 (by decide) hw (fun hw => ?_) (fun hw => ?_)
  · refine j_iload_n X (pc := 32) 2 dX1_votesOf_32 rfl rfl ?_
    exact j_iret X (pc := 33) hQ er (Nat.le_of_ble_eq_true rfl) (Nat.le_of_ble_eq_true rfl) dX1_votesOf_33 hw
  · refine j_iload_n X (pc := 10) 2 dX1_votesOf_10 rfl rfl ?_
    refine j_aload_n X (pc := 11) 0 dX1_votesOf_11 rfl rfl ?_
    refine j_getqN (ci := 2) X (pc := 12) in_X3 rfl (by decide) 1 (by decide) q210 (Or.inl rfl) dX1_votesOf_12 hw (fun y12 hw => ?_)
    refine j_getqN (ci := 1) X (pc := 15) in_X2 rfl (by decide) 0 (by decide) q168 (Or.inl rfl) dX1_votesOf_15 hw (fun y15 hw => ?_)
    refine j_iload_n X (pc := 18) 1 dX1_votesOf_18 rfl rfl ?_
    refine j_iload_n X (pc := 19) 3 dX1_votesOf_19 rfl rfl ?_
    refine j_calli (j_runS (n8 := 2) (As := [vI x1, vI x3]) (rest := [vR y15, vI x2]) X (pc := 20) (met_X1_votesField (xl x) X.hl (xG x) h x1 x3 _ hw) q1329 q1330 q71 q1331 (by decide +kernel) dX1_votesOf_20 rfl ⟨Nat.le_of_ble_eq_true rfl, Nat.le_of_ble_eq_true rfl⟩ (Nat.le_of_ble_eq_true rfl) ⟨Nat.le_of_ble_eq_true rfl, Nat.le_of_ble_eq_true rfl⟩) (fun y20 h20 hw => ?_)
    refine j_iald X (pc := 23) 0 rfl dX1_votesOf_23 hw (fun y23 hw => ?_)
    refine j_iadd X (pc := 24) dX1_votesOf_24 ?_
    refine j_istore_n X (pc := 25) [(2, vI (x2 + y23)), (0, vR x0), (1, vI x1), (3, vI x3)] dX1_votesOf_25 rfl (Nat.le_of_ble_eq_true rfl) rfl ?_
    refine j_iinc X (pc := 26) 3 (x3 + 1) [(3, vI (x3 + 1)), (2, vI (x2 + y23)), (0, vR x0), (1, vI x1)] dX1_votesOf_26 rfl rfl (Nat.le_of_ble_eq_true rfl) rfl ?_
    refine j_goto X (pc := 29) 4 dX1_votesOf_29 (by decide) ?_
    refine j_lv [(0, vR x0), (1, vI x1), (2, vI (x2 + y23)), (3, vI (x3 + 1))] [2, 3, 1, 0] rfl ?_
    refine j_cs (u' := 0) (v' := 0) (Nat.le_of_ble_eq_true rfl) (Nat.le_of_ble_eq_true rfl) ?_
    exact hw
theorem met_X1_votesOf (l : Launch) (hlt : l.stackTraces = false) (G : GG) (h : AH) (a0 : Option Nat) (a1 : Int32) (P : Int32 → AH → Prop) (hw : w_X1_votesOf a0 a1 h P) : ct_i l yX1_votesOf (ws_ yX1_votesOf cX1_votesOf 4 (Option.some Jvm.ClassFile.FieldType.int)) rm_X1_votesOf G h [vR a0, vI a1] P := by
  refine j_starti hlt [(0, vR a0), (1, vI a1)] (plainFor_of_name (by decide)) rfl rfl (fun x X eG er en hQ => ?_)
  subst eG
  refine j_iconst X (pc := 0) 0 dX1_votesOf_0 (by decide) ?_
  refine j_istore_n X (pc := 1) [(2, vI 0), (0, vR a0), (1, vI a1)] dX1_votesOf_1 rfl (Nat.le_of_ble_eq_true rfl) rfl ?_
  refine j_iconst X (pc := 2) 0 dX1_votesOf_2 (by decide) ?_
  refine j_istore_n X (pc := 3) [(3, vI 0), (2, vI 0), (0, vR a0), (1, vI a1)] dX1_votesOf_3 rfl (Nat.le_of_ble_eq_true rfl) rfl ?_
  refine j_lv [(0, vR a0), (1, vI a1), (2, vI 0), (3, vI 0)] [2, 3, 1, 0] rfl ?_
  refine j_cs (u' := 0) (v' := 0) (Nat.le_of_ble_eq_true rfl) (Nat.le_of_ble_eq_true rfl) ?_
  exact wk_X1_votesOf_4 X er en hQ a0 a1 0 0 h hw
abbrev cX1_vote : ByteArray := prog_1_method_36_code
def yX1_vote : MethodName := ⟨RX1, "vote", "(III)I"⟩
def dkwX1_vote_4 : List UInt8 := [29, 182, 1, 11, 21, 7, 172]
abbrev dktX1_vote_4 : List UInt8 := dkwX1_vote_4 ++ []
def dkwX1_vote_3 : List UInt8 := [100, 29, 96, 8, 163, 0, 7, 4, 167, 0, 4, 3, 184, 0, 232, 42, 182, 0, 207, 42, 25, 4, 21, 6]
abbrev dktX1_vote_3 : List UInt8 := dkwX1_vote_3 ++ dktX1_vote_4
def dkwX1_vote_2 : List UInt8 := [180, 0, 139, 21, 6, 46, 54, 7, 25, 4, 184, 1, 60, 154, 0, 22, 25, 4, 27, 184, 1, 64, 21, 7]
abbrev dktX1_vote_2 : List UInt8 := dkwX1_vote_2 ++ dktX1_vote_3
def dkwX1_vote_1 : List UInt8 := [25, 4, 28, 182, 0, 241, 58, 5, 27, 25, 5, 180, 1, 8, 184, 1, 56, 54, 6, 25, 4, 180, 0, 136]
abbrev dktX1_vote_1 : List UInt8 := dkwX1_vote_1 ++ dktX1_vote_2
def dkwX1_vote_0 : List UInt8 := [42, 27, 182, 0, 199, 58, 4, 4, 188, 4, 89, 3, 29, 3, 6, 184, 0, 21, 84, 184, 0, 25, 42]
abbrev dktX1_vote_0 : List UInt8 := dkwX1_vote_0 ++ dktX1_vote_1
theorem dksX1_vote_0 : cX1_vote.data.toList.drop 0 = dktX1_vote_0 := by decide +kernel
theorem dksX1_vote_1 : cX1_vote.data.toList.drop 23 = dktX1_vote_1 := dk_seg dksX1_vote_0 23 rfl rfl
theorem dksX1_vote_2 : cX1_vote.data.toList.drop 47 = dktX1_vote_2 := dk_seg dksX1_vote_1 24 rfl rfl
theorem dksX1_vote_3 : cX1_vote.data.toList.drop 71 = dktX1_vote_3 := dk_seg dksX1_vote_2 24 rfl rfl
theorem dksX1_vote_4 : cX1_vote.data.toList.drop 95 = dktX1_vote_4 := dk_seg dksX1_vote_3 24 rfl rfl
theorem dX1_vote_0 : decode cX1_vote 0 = .ok (.aload_n 0, 1) := dk_42 (dk_at dksX1_vote_0 0 rfl rfl)
theorem dX1_vote_1 : decode cX1_vote 1 = .ok (.iload_n 1, 1) := dk_27 (dk_at dksX1_vote_0 1 rfl rfl)
theorem dX1_vote_2 : decode cX1_vote 2 = .ok (.invokevirtual 199, 3) := dk_182 0 199 (dk_at dksX1_vote_0 2 rfl rfl)
theorem dX1_vote_5 : decode cX1_vote 5 = .ok (.astore 4, 2) := dk_58 4 (dk_at dksX1_vote_0 5 rfl rfl)
theorem dX1_vote_7 : decode cX1_vote 7 = .ok (.iconst 1, 1) := dk_4 (dk_at dksX1_vote_0 7 rfl rfl)
theorem dX1_vote_8 : decode cX1_vote 8 = .ok (.newarray .boolean, 2) := dk_188_4 (dk_at dksX1_vote_0 8 rfl rfl)
theorem dX1_vote_10 : decode cX1_vote 10 = .ok (.dup, 1) := dk_89 (dk_at dksX1_vote_0 10 rfl rfl)
theorem dX1_vote_11 : decode cX1_vote 11 = .ok (.iconst 0, 1) := dk_3 (dk_at dksX1_vote_0 11 rfl rfl)
theorem dX1_vote_12 : decode cX1_vote 12 = .ok (.iload_n 3, 1) := dk_29 (dk_at dksX1_vote_0 12 rfl rfl)
theorem dX1_vote_13 : decode cX1_vote 13 = .ok (.iconst 0, 1) := dk_3 (dk_at dksX1_vote_0 13 rfl rfl)
theorem dX1_vote_14 : decode cX1_vote 14 = .ok (.iconst 3, 1) := dk_6 (dk_at dksX1_vote_0 14 rfl rfl)
theorem dX1_vote_15 : decode cX1_vote 15 = .ok (.invokestatic 21, 3) := dk_184 0 21 (dk_at dksX1_vote_0 15 rfl rfl)
theorem dX1_vote_18 : decode cX1_vote 18 = .ok (.bastore, 1) := dk_84 (dk_at dksX1_vote_0 18 rfl rfl)
theorem dX1_vote_19 : decode cX1_vote 19 = .ok (.invokestatic 25, 3) := dk_184 0 25 (dk_at dksX1_vote_0 19 rfl rfl)
theorem dX1_vote_22 : decode cX1_vote 22 = .ok (.aload_n 0, 1) := dk_42 (dk_at dksX1_vote_0 22 rfl rfl)
theorem dX1_vote_23 : decode cX1_vote 23 = .ok (.aload 4, 2) := dk_25 4 (dk_at dksX1_vote_1 0 rfl rfl)
theorem dX1_vote_25 : decode cX1_vote 25 = .ok (.iload_n 2, 1) := dk_28 (dk_at dksX1_vote_1 2 rfl rfl)
theorem dX1_vote_26 : decode cX1_vote 26 = .ok (.invokevirtual 241, 3) := dk_182 0 241 (dk_at dksX1_vote_1 3 rfl rfl)
theorem dX1_vote_29 : decode cX1_vote 29 = .ok (.astore 5, 2) := dk_58 5 (dk_at dksX1_vote_1 6 rfl rfl)
theorem dX1_vote_31 : decode cX1_vote 31 = .ok (.iload_n 1, 1) := dk_27 (dk_at dksX1_vote_1 8 rfl rfl)
theorem dX1_vote_32 : decode cX1_vote 32 = .ok (.aload 5, 2) := dk_25 5 (dk_at dksX1_vote_1 9 rfl rfl)
theorem dX1_vote_34 : decode cX1_vote 34 = .ok (.getfield 264, 3) := dk_180 1 8 (dk_at dksX1_vote_1 11 rfl rfl)
theorem dX1_vote_37 : decode cX1_vote 37 = .ok (.invokestatic 312, 3) := dk_184 1 56 (dk_at dksX1_vote_1 14 rfl rfl)
theorem dX1_vote_40 : decode cX1_vote 40 = .ok (.istore 6, 2) := dk_54 6 (dk_at dksX1_vote_1 17 rfl rfl)
theorem dX1_vote_42 : decode cX1_vote 42 = .ok (.aload 4, 2) := dk_25 4 (dk_at dksX1_vote_1 19 rfl rfl)
theorem dX1_vote_44 : decode cX1_vote 44 = .ok (.getfield 136, 3) := dk_180 0 136 (dk_at dksX1_vote_1 21 rfl rfl)
theorem dX1_vote_47 : decode cX1_vote 47 = .ok (.getfield 139, 3) := dk_180 0 139 (dk_at dksX1_vote_2 0 rfl rfl)
theorem dX1_vote_50 : decode cX1_vote 50 = .ok (.iload 6, 2) := dk_21 6 (dk_at dksX1_vote_2 3 rfl rfl)
theorem dX1_vote_52 : decode cX1_vote 52 = .ok (.iaload, 1) := dk_46 (dk_at dksX1_vote_2 5 rfl rfl)
theorem dX1_vote_53 : decode cX1_vote 53 = .ok (.istore 7, 2) := dk_54 7 (dk_at dksX1_vote_2 6 rfl rfl)
theorem dX1_vote_55 : decode cX1_vote 55 = .ok (.aload 4, 2) := dk_25 4 (dk_at dksX1_vote_2 8 rfl rfl)
theorem dX1_vote_57 : decode cX1_vote 57 = .ok (.invokestatic 316, 3) := dk_184 1 60 (dk_at dksX1_vote_2 10 rfl rfl)
theorem dX1_vote_60 : decode cX1_vote 60 = .ok (.ifCond .ne 22, 3) := dk_154 0 22 (dk_at dksX1_vote_2 13 rfl rfl)
theorem dX1_vote_63 : decode cX1_vote 63 = .ok (.aload 4, 2) := dk_25 4 (dk_at dksX1_vote_2 16 rfl rfl)
theorem dX1_vote_65 : decode cX1_vote 65 = .ok (.iload_n 1, 1) := dk_27 (dk_at dksX1_vote_2 18 rfl rfl)
theorem dX1_vote_66 : decode cX1_vote 66 = .ok (.invokestatic 320, 3) := dk_184 1 64 (dk_at dksX1_vote_2 19 rfl rfl)
theorem dX1_vote_69 : decode cX1_vote 69 = .ok (.iload 7, 2) := dk_21 7 (dk_at dksX1_vote_2 22 rfl rfl)
theorem dX1_vote_71 : decode cX1_vote 71 = .ok (.isub, 1) := dk_100 (dk_at dksX1_vote_3 0 rfl rfl)
theorem dX1_vote_72 : decode cX1_vote 72 = .ok (.iload_n 3, 1) := dk_29 (dk_at dksX1_vote_3 1 rfl rfl)
theorem dX1_vote_73 : decode cX1_vote 73 = .ok (.iadd, 1) := dk_96 (dk_at dksX1_vote_3 2 rfl rfl)
theorem dX1_vote_74 : decode cX1_vote 74 = .ok (.iconst 5, 1) := dk_8 (dk_at dksX1_vote_3 3 rfl rfl)
theorem dX1_vote_75 : decode cX1_vote 75 = .ok (.if_icmp .gt 7, 3) := dk_163 0 7 (dk_at dksX1_vote_3 4 rfl rfl)
theorem dX1_vote_78 : decode cX1_vote 78 = .ok (.iconst 1, 1) := dk_4 (dk_at dksX1_vote_3 7 rfl rfl)
theorem dX1_vote_79 : decode cX1_vote 79 = .ok (.goto 4, 3) := dk_167 0 4 (dk_at dksX1_vote_3 8 rfl rfl)
theorem dX1_vote_82 : decode cX1_vote 82 = .ok (.iconst 0, 1) := dk_3 (dk_at dksX1_vote_3 11 rfl rfl)
theorem dX1_vote_83 : decode cX1_vote 83 = .ok (.invokestatic 232, 3) := dk_184 0 232 (dk_at dksX1_vote_3 12 rfl rfl)
theorem dX1_vote_86 : decode cX1_vote 86 = .ok (.aload_n 0, 1) := dk_42 (dk_at dksX1_vote_3 15 rfl rfl)
theorem dX1_vote_87 : decode cX1_vote 87 = .ok (.invokevirtual 207, 3) := dk_182 0 207 (dk_at dksX1_vote_3 16 rfl rfl)
theorem dX1_vote_90 : decode cX1_vote 90 = .ok (.aload_n 0, 1) := dk_42 (dk_at dksX1_vote_3 19 rfl rfl)
theorem dX1_vote_91 : decode cX1_vote 91 = .ok (.aload 4, 2) := dk_25 4 (dk_at dksX1_vote_3 20 rfl rfl)
theorem dX1_vote_93 : decode cX1_vote 93 = .ok (.iload 6, 2) := dk_21 6 (dk_at dksX1_vote_3 22 rfl rfl)
theorem dX1_vote_95 : decode cX1_vote 95 = .ok (.iload_n 3, 1) := dk_29 (dk_at dksX1_vote_4 0 rfl rfl)
theorem dX1_vote_96 : decode cX1_vote 96 = .ok (.invokevirtual 267, 3) := dk_182 1 11 (dk_at dksX1_vote_4 1 rfl rfl)
theorem dX1_vote_99 : decode cX1_vote 99 = .ok (.iload 7, 2) := dk_21 7 (dk_at dksX1_vote_4 4 rfl rfl)
theorem dX1_vote_101 : decode cX1_vote 101 = .ok (.ireturn, 1) := dk_172 (dk_at dksX1_vote_4 6 rfl rfl)
theorem q1332 : (Jvm.Cond.methodLink "Plugboard" (316 : Nat) ({ cls := "Plugboard", name := "areShown", desc := "(LPlugboard$Board;)Z" } : Jvm.MethodName)) ∈ lw_all := lw_g (lw_at lw_m6 62 rfl) rfl
theorem q1333 : (Jvm.Cond.static ({ cls := "Plugboard", name := "areShown", desc := "(LPlugboard$Board;)Z" } : Jvm.MethodName)) ∈ lw_all := lw_g (lw_at lw_m6 63 rfl) rfl
theorem q1334 : (Jvm.Cond.code ({ cls := "Plugboard", name := "areShown", desc := "(LPlugboard$Board;)Z" } : Jvm.MethodName) prog_1_method_35_code (1 : Nat) (Option.some Jvm.ClassFile.FieldType.boolean)) ∈ lw_all := lw_g (lw_at lw_m6 64 rfl) rfl
theorem q1335 : (Jvm.Cond.methodLink "Plugboard" (320 : Nat) ({ cls := "Plugboard", name := "votesOf", desc := "(LPlugboard$Board;I)I" } : Jvm.MethodName)) ∈ lw_all := lw_g (lw_at lw_m6 65 rfl) rfl
theorem q1336 : (Jvm.Cond.static ({ cls := "Plugboard", name := "votesOf", desc := "(LPlugboard$Board;I)I" } : Jvm.MethodName)) ∈ lw_all := lw_g (lw_at lw_m6 66 rfl) rfl
theorem q1337 : (Jvm.Cond.code ({ cls := "Plugboard", name := "votesOf", desc := "(LPlugboard$Board;I)I" } : Jvm.MethodName) prog_1_method_34_code (4 : Nat) (Option.some Jvm.ClassFile.FieldType.int)) ∈ lw_all := lw_g (lw_at lw_m6 67 rfl) rfl
abbrev rm_X1_vote : Room := { frames := 11, cells := 17, slots := 225, locals := 270 }
def w_X1_vote_83 (P : Int32 → AH → Prop) (PX : String → AH → Prop) (x0 : Option Nat) (x3 : Int32) (x4 : Option Nat) (x6 : Int32) (x7 : Int32) (t0 : Int32) (h : AH) : Prop :=
  w_X1_requireSupported t0 h (fun h83 =>
  is_c h83 x0 [0] (
  w_X1_requireRoom x0 h83 (fun h87 =>
  is_c h87 x0 [0] (
  w_X1_write x0 x4 x6 x3 h87 (fun h96 =>
  P x7 h96))) PX)) PX
def w_X1_vote (a0 : Option Nat) (a1 : Int32) (a2 : Int32) (a3 : Int32) (h : AH) (P : Int32 → AH → Prop) (PX : String → AH → Prop) : Prop :=
  is_c h a0 [0] (
  w_X1_board a0 a1 h (fun y2 h2 =>
  mk_i h2 1 1 1 fun q8 h8 =>
  w_X1_isBetween a3 0 3 h8 (fun y15 h15 =>
  nrw .boolean y15 ∧
  s_i h15 (some q8) 1 0 y15 fun h18 =>
  w_X1_require (some q8) h18 (fun h19 =>
  is_c h19 a0 [0] (
  w_X1_shape a0 y2 a2 h19 (fun y26 h26 =>
  g_iS h26 y26 0 fun y34 =>
  w_X1_votesField a1 y34 h26 (fun y37 h37 =>
  g_q h37 y2 2 1 fun y44 =>
  g_q h37 y44 1 0 fun y47 =>
  l_i h37 y47 0 y37 fun y52 =>
  w_X1_areShown y2 h37 (fun y57 h57 =>
  ((y57 = 0 →
    w_X1_votesOf y2 a1 h57 (fun y66 h66 =>
    ((5 < ((y66 - y52) + a3) →
      w_X1_vote_83 P PX a0 a3 y2 y37 y52 0 h66) ∧
     (¬ 5 < ((y66 - y52) + a3) →
      w_X1_vote_83 P PX a0 a3 y2 y37 y52 1 h66)))) ∧
   (¬ y57 = 0 →
    w_X1_vote_83 P PX a0 a3 y2 y37 y52 0 h57))))) PX)) PX)) PX)
theorem wk_X1_vote_83 {x : CX} (X : Ok x cX1_vote RX1 rm_X1_vote 8) (er : xrt x = (Option.some Jvm.ClassFile.FieldType.int)) (en : xnm x = yX1_vote.name) {P : Int32 → AH → Prop} {PX : String → AH → Prop} (hQ : xr_i x P) (hT : xt_ x PX) (hex : ∀ z ∈ x.2.2.2.2.2.2.2.2.2.1.exceptionTable.toList, False) (x0 : Option Nat) (x3 : Int32) (x4 : Option Nat) (x6 : Int32) (x7 : Int32) (t0 : Int32) (h : AH) (hw : w_X1_vote_83 P PX x0 x3 x4 x6 x7 t0 h) : J x h 5 20 83 [(0, vR x0), (3, vI x3), (4, vR x4), (6, vI x6), (7, vI x7)] [vI t0] := by
  refine j_callXv (j_runSX (n8 := 1) (As := [vI t0]) (rest := []) X (pc := 83) (met_X1_requireSupported (xl x) X.hl (xG x) h t0 _ _ hw) q1097 q1098 q71 q1099 (by decide +kernel) dX1_vote_83 rfl ⟨Nat.le_of_ble_eq_true rfl, Nat.le_of_ble_eq_true rfl⟩ (Nat.le_of_ble_eq_true rfl) ⟨Nat.le_of_ble_eq_true rfl, Nat.le_of_ble_eq_true rfl⟩) (fun E h9 hx => j_out X hT hex (Nat.le_of_ble_eq_true rfl) (Nat.le_of_ble_eq_true rfl) hx) (fun h83 hw => ?_)
  refine j_aload_n X (pc := 86) 0 dX1_vote_86 rfl rfl ?_
  obtain ⟨b9, c9, f9, hr9, ho9, hc9, hw⟩ := hw
  obtain rfl := List.mem_singleton.mp hc9
  refine j_callXv (j_runVX (n8 := 0) (As := []) (rest := []) X (pc := 87) hr9 (met_X1_requireRoom (xl x) X.hl (xG x) h83 x0 _ _ hw) ho9 (by decide) rfl q400 q402 qs2 q71 q403 (by decide +kernel) dX1_vote_87 rfl ⟨Nat.le_of_ble_eq_true rfl, Nat.le_of_ble_eq_true rfl⟩ (Nat.le_of_ble_eq_true rfl) ⟨Nat.le_of_ble_eq_true rfl, Nat.le_of_ble_eq_true rfl⟩) (fun E h9 hx => j_out X hT hex (Nat.le_of_ble_eq_true rfl) (Nat.le_of_ble_eq_true rfl) hx) (fun h87 hw => ?_)
  refine j_aload_n X (pc := 90) 0 dX1_vote_90 rfl rfl ?_
  refine j_aload X (pc := 91) 2 dX1_vote_91 rfl ?_
  refine j_iload X (pc := 93) 3 dX1_vote_93 rfl ?_
  refine j_iload_n X (pc := 95) 1 dX1_vote_95 rfl rfl ?_
  obtain ⟨b9, c9, f9, hr9, ho9, hc9, hw⟩ := hw
  obtain rfl := List.mem_singleton.mp hc9
  refine j_callv (j_runV (n8 := 3) (As := [vR x4, vI x6, vI x3]) (rest := []) X (pc := 96) hr9 (met_X1_write (xl x) X.hl (xG x) h87 x0 x4 x6 x3 _ hw) ho9 (by decide) rfl q1189 q1191 qs12 q71 q1192 (by decide +kernel) dX1_vote_96 rfl ⟨Nat.le_of_ble_eq_true rfl, Nat.le_of_ble_eq_true rfl⟩ (Nat.le_of_ble_eq_true rfl) ⟨Nat.le_of_ble_eq_true rfl, Nat.le_of_ble_eq_true rfl⟩) (fun h96 hw => ?_)
  refine j_iload X (pc := 99) 4 dX1_vote_99 rfl ?_
  exact j_iret X (pc := 101) hQ er (Nat.le_of_ble_eq_true rfl) (Nat.le_of_ble_eq_true rfl) dX1_vote_101 hw
theorem met_X1_vote (l : Launch) (hlt : l.stackTraces = false) (G : GG) (h : AH) (a0 : Option Nat) (a1 : Int32) (a2 : Int32) (a3 : Int32) (P : Int32 → AH → Prop) (PX : String → AH → Prop) (hw : w_X1_vote a0 a1 a2 a3 h P PX) : cx_i l yX1_vote (ws_ yX1_vote cX1_vote 8 (Option.some Jvm.ClassFile.FieldType.int)) rm_X1_vote G h [vR a0, vI a1, vI a2, vI a3] P PX := by
  refine j_startXi hlt [(0, vR a0), (1, vI a1), (2, vI a2), (3, vI a3)] (by decide) rfl rfl (fun x X eG er en hQ hT hex => ?_)
  subst eG
  refine j_aload_n X (pc := 0) 0 dX1_vote_0 rfl rfl ?_
  refine j_iload_n X (pc := 1) 1 dX1_vote_1 rfl rfl ?_
  obtain ⟨b9, c9, f9, hr9, ho9, hc9, hw⟩ := hw
  obtain rfl := List.mem_singleton.mp hc9
  refine j_callXq (j_runVX (n8 := 1) (As := [vI a1]) (rest := []) X (pc := 2) hr9 (met_X1_board (xl x) X.hl (xG x) h a0 a1 _ _ hw) ho9 (by decide) rfl q297 q299 qs0 q71 q300 (by decide +kernel) dX1_vote_2 rfl ⟨Nat.le_of_ble_eq_true rfl, Nat.le_of_ble_eq_true rfl⟩ (Nat.le_of_ble_eq_true rfl) ⟨Nat.le_of_ble_eq_true rfl, Nat.le_of_ble_eq_true rfl⟩) (fun E h9 hx => j_out X hT hex (Nat.le_of_ble_eq_true rfl) (Nat.le_of_ble_eq_true rfl) hx) (fun y2 h2 hw => ?_)
  refine j_astore X (pc := 5) [(4, vR y2), (0, vR a0), (1, vI a1), (2, vI a2), (3, vI a3)] dX1_vote_5 (Nat.le_of_ble_eq_true rfl) rfl ?_
  refine j_iconst X (pc := 7) 1 dX1_vote_7 (by decide) ?_
  refine j_newZ X (pc := 8) 1 dX1_vote_8 q233 (by decide) (Nat.le_of_ble_eq_true rfl) (Nat.le_of_ble_eq_true rfl) hw (fun q8 h8 hw => ?_)
  refine j_dup X (pc := 10) dX1_vote_10 rfl ?_
  refine j_iconst X (pc := 11) 0 dX1_vote_11 (by decide) ?_
  refine j_iload_n X (pc := 12) 4 dX1_vote_12 rfl rfl ?_
  refine j_iconst X (pc := 13) 0 dX1_vote_13 (by decide) ?_
  refine j_iconst X (pc := 14) 3 dX1_vote_14 (by decide) ?_
  refine j_calli (j_runS (n8 := 3) (As := [vI a3, vI 0, vI 3]) (rest := [vI 0, vR (some q8), vR (some q8)]) X (pc := 15) (met_X1_isBetween (xl x) X.hl (xG x) h8 a3 0 3 _ hw) q304 q305 q71 q306 (by decide +kernel) dX1_vote_15 rfl ⟨Nat.le_of_ble_eq_true rfl, Nat.le_of_ble_eq_true rfl⟩ (Nat.le_of_ble_eq_true rfl) ⟨Nat.le_of_ble_eq_true rfl, Nat.le_of_ble_eq_true rfl⟩) (fun y15 h15 hw => ?_)
  have hnr := hw.1
  have hw := hw.2
  refine j_zast X (pc := 18) 1 rfl rfl hnr dX1_vote_18 hw (fun h18 hw => ?_)
  refine j_callXv (j_runSX (n8 := 1) (As := [vR (some q8)]) (rest := []) X (pc := 19) (met_X1_require (xl x) X.hl (xG x) h18 (some q8) _ _ hw) q307 q308 q71 q309 (by decide +kernel) dX1_vote_19 rfl ⟨Nat.le_of_ble_eq_true rfl, Nat.le_of_ble_eq_true rfl⟩ (Nat.le_of_ble_eq_true rfl) ⟨Nat.le_of_ble_eq_true rfl, Nat.le_of_ble_eq_true rfl⟩) (fun E h9 hx => j_out X hT hex (Nat.le_of_ble_eq_true rfl) (Nat.le_of_ble_eq_true rfl) hx) (fun h19 hw => ?_)
  refine j_aload_n X (pc := 22) 1 dX1_vote_22 rfl rfl ?_
  refine j_aload X (pc := 23) 0 dX1_vote_23 rfl ?_
  refine j_iload_n X (pc := 25) 3 dX1_vote_25 rfl rfl ?_
  obtain ⟨b9, c9, f9, hr9, ho9, hc9, hw⟩ := hw
  obtain rfl := List.mem_singleton.mp hc9
  refine j_callXq (j_runVX (n8 := 2) (As := [vR y2, vI a2]) (rest := []) X (pc := 26) hr9 (met_X1_shape (xl x) X.hl (xG x) h19 a0 y2 a2 _ _ hw) ho9 (by decide) rfl q1075 q1077 qs9 q71 q1078 (by decide +kernel) dX1_vote_26 rfl ⟨Nat.le_of_ble_eq_true rfl, Nat.le_of_ble_eq_true rfl⟩ (Nat.le_of_ble_eq_true rfl) ⟨Nat.le_of_ble_eq_true rfl, Nat.le_of_ble_eq_true rfl⟩) (fun E h9 hx => j_out X hT hex (Nat.le_of_ble_eq_true rfl) (Nat.le_of_ble_eq_true rfl) hx) (fun y26 h26 hw => ?_)
  refine j_astore X (pc := 29) [(5, vR y26), (4, vR y2), (0, vR a0), (1, vI a1), (2, vI a2), (3, vI a3)] dX1_vote_29 (Nat.le_of_ble_eq_true rfl) rfl ?_
  refine j_iload_n X (pc := 31) 3 dX1_vote_31 rfl rfl ?_
  refine j_aload X (pc := 32) 0 dX1_vote_32 rfl ?_
  refine j_getiSN X (pc := 34) 0 (by decide) q578 dX1_vote_34 hw (fun y34 hw => ?_)
  refine j_calli (j_runS (n8 := 2) (As := [vI a1, vI y34]) (rest := []) X (pc := 37) (met_X1_votesField (xl x) X.hl (xG x) h26 a1 y34 _ hw) q1329 q1330 q71 q1331 (by decide +kernel) dX1_vote_37 rfl ⟨Nat.le_of_ble_eq_true rfl, Nat.le_of_ble_eq_true rfl⟩ (Nat.le_of_ble_eq_true rfl) ⟨Nat.le_of_ble_eq_true rfl, Nat.le_of_ble_eq_true rfl⟩) (fun y37 h37 hw => ?_)
  refine j_istore X (pc := 40) [(6, vI y37), (5, vR y26), (4, vR y2), (0, vR a0), (1, vI a1), (2, vI a2), (3, vI a3)] dX1_vote_40 (Nat.le_of_ble_eq_true rfl) rfl ?_
  refine j_aload X (pc := 42) 2 dX1_vote_42 rfl ?_
  refine j_getqN (ci := 2) X (pc := 44) in_X3 rfl (by decide) 1 (by decide) q210 (Or.inl rfl) dX1_vote_44 hw (fun y44 hw => ?_)
  refine j_getqN (ci := 1) X (pc := 47) in_X2 rfl (by decide) 0 (by decide) q168 (Or.inl rfl) dX1_vote_47 hw (fun y47 hw => ?_)
  refine j_iload X (pc := 50) 0 dX1_vote_50 rfl ?_
  refine j_iald X (pc := 52) 0 rfl dX1_vote_52 hw (fun y52 hw => ?_)
  refine j_istore X (pc := 53) [(7, vI y52), (6, vI y37), (5, vR y26), (4, vR y2), (0, vR a0), (1, vI a1), (2, vI a2), (3, vI a3)] dX1_vote_53 (Nat.le_of_ble_eq_true rfl) rfl ?_
  refine j_aload X (pc := 55) 3 dX1_vote_55 rfl ?_
  refine j_calli (j_runS (n8 := 1) (As := [vR y2]) (rest := []) X (pc := 57) (met_X1_areShown (xl x) X.hl (xG x) h37 y2 _ hw) q1332 q1333 q71 q1334 (by decide +kernel) dX1_vote_57 rfl ⟨Nat.le_of_ble_eq_true rfl, Nat.le_of_ble_eq_true rfl⟩ (Nat.le_of_ble_eq_true rfl) ⟨Nat.le_of_ble_eq_true rfl, Nat.le_of_ble_eq_true rfl⟩) (fun y57 h57 hw => ?_)
  refine j_if_ne X (pc := 60) 82 dX1_vote_60 (by decide) hw (fun hw => ?_) (fun hw => ?_)
  · refine j_aload X (pc := 63) 3 dX1_vote_63 rfl ?_
    refine j_iload_n X (pc := 65) 5 dX1_vote_65 rfl rfl ?_
    refine j_calli (j_runS (n8 := 2) (As := [vR y2, vI a1]) (rest := []) X (pc := 66) (met_X1_votesOf (xl x) X.hl (xG x) h57 y2 a1 _ hw) q1335 q1336 q71 q1337 (by decide +kernel) dX1_vote_66 rfl ⟨Nat.le_of_ble_eq_true rfl, Nat.le_of_ble_eq_true rfl⟩ (Nat.le_of_ble_eq_true rfl) ⟨Nat.le_of_ble_eq_true rfl, Nat.le_of_ble_eq_true rfl⟩) (fun y66 h66 hw => ?_)
    refine j_iload X (pc := 69) 0 dX1_vote_69 rfl ?_
    refine j_isub X (pc := 71) dX1_vote_71 ?_
    refine j_iload_n X (pc := 72) 7 dX1_vote_72 rfl rfl ?_
    refine j_iadd X (pc := 73) dX1_vote_73 ?_
    refine j_iconst X (pc := 74) 5 dX1_vote_74 (by decide) ?_
    refine j_icmp_gt X (pc := 75) 82 dX1_vote_75 (by decide) hw (fun hw => ?_) (fun hw => ?_)
    · refine j_iconst X (pc := 82) 0 dX1_vote_82 (by decide) ?_
      refine j_lv [(0, vR a0), (3, vI a3), (4, vR y2), (6, vI y37), (7, vI y52)] [4, 7, 3, 1, 0] rfl ?_
      refine j_cs (u' := 5) (v' := 20) (Nat.le_of_ble_eq_true rfl) (Nat.le_of_ble_eq_true rfl) ?_
      exact wk_X1_vote_83 X er en hQ hT hex a0 a3 y2 y37 y52 0 h66 hw
    · refine j_iconst X (pc := 78) 1 dX1_vote_78 (by decide) ?_
      refine j_goto X (pc := 79) 83 dX1_vote_79 (by decide) ?_
      refine j_lv [(0, vR a0), (3, vI a3), (4, vR y2), (6, vI y37), (7, vI y52)] [4, 7, 3, 1, 0] rfl ?_
      refine j_cs (u' := 5) (v' := 20) (Nat.le_of_ble_eq_true rfl) (Nat.le_of_ble_eq_true rfl) ?_
      exact wk_X1_vote_83 X er en hQ hT hex a0 a3 y2 y37 y52 1 h66 hw
  · refine j_iconst X (pc := 82) 0 dX1_vote_82 (by decide) ?_
    refine j_lv [(0, vR a0), (3, vI a3), (4, vR y2), (6, vI y37), (7, vI y52)] [4, 7, 3, 1, 0] rfl ?_
    refine j_cs (u' := 5) (v' := 20) (Nat.le_of_ble_eq_true rfl) (Nat.le_of_ble_eq_true rfl) ?_
    exact wk_X1_vote_83 X er en hQ hT hex a0 a3 y2 y37 y52 0 h57 hw
abbrev cX0_vote : ByteArray := method_13_code
def yX0_vote : MethodName := ⟨RX0, "vote", "(LPlugboard;III[J)I"⟩
def dkwX0_vote_1 : List UInt8 := [58, 5, 6, 172, 58, 5, 7, 172, 3, 172]
abbrev dktX0_vote_1 : List UInt8 := dkwX0_vote_1 ++ []
def dkwX0_vote_0 : List UInt8 := [25, 4, 3, 42, 27, 28, 29, 182, 0, 52, 133, 80, 167, 0, 19, 58, 5, 4, 172, 58, 5, 5, 172]
abbrev dktX0_vote_0 : List UInt8 := dkwX0_vote_0 ++ dktX0_vote_1
theorem dksX0_vote_0 : cX0_vote.data.toList.drop 0 = dktX0_vote_0 := by decide +kernel
theorem dksX0_vote_1 : cX0_vote.data.toList.drop 23 = dktX0_vote_1 := dk_seg dksX0_vote_0 23 rfl rfl
theorem dX0_vote_0 : decode cX0_vote 0 = .ok (.aload 4, 2) := dk_25 4 (dk_at dksX0_vote_0 0 rfl rfl)
theorem dX0_vote_2 : decode cX0_vote 2 = .ok (.iconst 0, 1) := dk_3 (dk_at dksX0_vote_0 2 rfl rfl)
theorem dX0_vote_3 : decode cX0_vote 3 = .ok (.aload_n 0, 1) := dk_42 (dk_at dksX0_vote_0 3 rfl rfl)
theorem dX0_vote_4 : decode cX0_vote 4 = .ok (.iload_n 1, 1) := dk_27 (dk_at dksX0_vote_0 4 rfl rfl)
theorem dX0_vote_5 : decode cX0_vote 5 = .ok (.iload_n 2, 1) := dk_28 (dk_at dksX0_vote_0 5 rfl rfl)
theorem dX0_vote_6 : decode cX0_vote 6 = .ok (.iload_n 3, 1) := dk_29 (dk_at dksX0_vote_0 6 rfl rfl)
theorem dX0_vote_7 : decode cX0_vote 7 = .ok (.invokevirtual 52, 3) := dk_182 0 52 (dk_at dksX0_vote_0 7 rfl rfl)
theorem dX0_vote_10 : decode cX0_vote 10 = .ok (.i2l, 1) := dk_133 (dk_at dksX0_vote_0 10 rfl rfl)
theorem dX0_vote_11 : decode cX0_vote 11 = .ok (.lastore, 1) := dk_80 (dk_at dksX0_vote_0 11 rfl rfl)
theorem dX0_vote_12 : decode cX0_vote 12 = .ok (.goto 19, 3) := dk_167 0 19 (dk_at dksX0_vote_0 12 rfl rfl)
theorem dX0_vote_15 : decode cX0_vote 15 = .ok (.astore 5, 2) := dk_58 5 (dk_at dksX0_vote_0 15 rfl rfl)
theorem dX0_vote_17 : decode cX0_vote 17 = .ok (.iconst 1, 1) := dk_4 (dk_at dksX0_vote_0 17 rfl rfl)
theorem dX0_vote_18 : decode cX0_vote 18 = .ok (.ireturn, 1) := dk_172 (dk_at dksX0_vote_0 18 rfl rfl)
theorem dX0_vote_19 : decode cX0_vote 19 = .ok (.astore 5, 2) := dk_58 5 (dk_at dksX0_vote_0 19 rfl rfl)
theorem dX0_vote_21 : decode cX0_vote 21 = .ok (.iconst 2, 1) := dk_5 (dk_at dksX0_vote_0 21 rfl rfl)
theorem dX0_vote_22 : decode cX0_vote 22 = .ok (.ireturn, 1) := dk_172 (dk_at dksX0_vote_0 22 rfl rfl)
theorem dX0_vote_23 : decode cX0_vote 23 = .ok (.astore 5, 2) := dk_58 5 (dk_at dksX0_vote_1 0 rfl rfl)
theorem dX0_vote_25 : decode cX0_vote 25 = .ok (.iconst 3, 1) := dk_6 (dk_at dksX0_vote_1 2 rfl rfl)
theorem dX0_vote_26 : decode cX0_vote 26 = .ok (.ireturn, 1) := dk_172 (dk_at dksX0_vote_1 3 rfl rfl)
theorem dX0_vote_27 : decode cX0_vote 27 = .ok (.astore 5, 2) := dk_58 5 (dk_at dksX0_vote_1 4 rfl rfl)
theorem dX0_vote_29 : decode cX0_vote 29 = .ok (.iconst 4, 1) := dk_7 (dk_at dksX0_vote_1 6 rfl rfl)
theorem dX0_vote_30 : decode cX0_vote 30 = .ok (.ireturn, 1) := dk_172 (dk_at dksX0_vote_1 7 rfl rfl)
theorem dX0_vote_31 : decode cX0_vote 31 = .ok (.iconst 0, 1) := dk_3 (dk_at dksX0_vote_1 8 rfl rfl)
theorem dX0_vote_32 : decode cX0_vote 32 = .ok (.ireturn, 1) := dk_172 (dk_at dksX0_vote_1 9 rfl rfl)
theorem q1325 : (Jvm.Cond.methodLink "PlugboardLaw" (52 : Nat) ({ cls := "Plugboard", name := "vote", desc := "(III)I" } : Jvm.MethodName)) ∈ lw_all := lw_g (lw_at lw_m6 55 rfl) rfl
theorem q1326 : (Jvm.Cond.instanceMethod ({ cls := "Plugboard", name := "vote", desc := "(III)I" } : Jvm.MethodName)) ∈ lw_all := lw_g (lw_at lw_m6 56 rfl) rfl
theorem q1327 : (Jvm.Cond.selects "Plugboard" ({ cls := "Plugboard", name := "vote", desc := "(III)I" } : Jvm.MethodName) ({ cls := "Plugboard", name := "vote", desc := "(III)I" } : Jvm.MethodName)) ∈ lw_all := lw_g (lw_at lw_m6 57 rfl) rfl
theorem q1328 : (Jvm.Cond.code ({ cls := "Plugboard", name := "vote", desc := "(III)I" } : Jvm.MethodName) prog_1_method_36_code (8 : Nat) (Option.some Jvm.ClassFile.FieldType.int)) ∈ lw_all := lw_g (lw_at lw_m6 58 rfl) rfl
abbrev rm_X0_vote : Room := { frames := 12, cells := 17, slots := 225, locals := 297 }
def w_X0_vote (a0 : Option Nat) (a1 : Int32) (a2 : Int32) (a3 : Int32) (a4 : Option Nat) (h : AH) (P : Int32 → AH → Prop) : Prop :=
  is_c h a0 [0] (
  w_X1_vote a0 a1 a2 a3 h (fun y7 h7 =>
  s_L h7 a4 0 (Int32.toInt64 y7) fun h11 =>
  P 0 h11)
    (fun E9 h9 => (E9 = "java/lang/IllegalArgumentException" ∧ ∀ q9 : Nat,
    P 1 h9) ∨
    (E9 = "java/util/NoSuchElementException" ∧ ∀ q9 : Nat,
    P 2 h9) ∨
    (E9 = "java/lang/UnsupportedOperationException" ∧ ∀ q9 : Nat,
    P 3 h9) ∨
    (E9 = "java/lang/IllegalStateException" ∧ ∀ q9 : Nat,
    P 4 h9)))
theorem met_X0_vote (l : Launch) (hlt : l.stackTraces = false) (G : GG) (h : AH) (a0 : Option Nat) (a1 : Int32) (a2 : Int32) (a3 : Int32) (a4 : Option Nat) (P : Int32 → AH → Prop) (hw : w_X0_vote a0 a1 a2 a3 a4 h P) : ct_i l yX0_vote (wsW_ yX0_vote cX0_vote 6 (Option.some Jvm.ClassFile.FieldType.int) [((0 : Nat), (12 : Nat), (15 : Nat), (13 : Nat)), ((0 : Nat), (12 : Nat), (19 : Nat), (21 : Nat)), ((0 : Nat), (12 : Nat), (23 : Nat), (23 : Nat)), ((0 : Nat), (12 : Nat), (27 : Nat), (15 : Nat))]) rm_X0_vote G h [vR a0, vI a1, vI a2, vI a3, vR a4] P := by
  refine j_startWi hlt [(0, vR a0), (1, vI a1), (2, vI a2), (3, vI a3), (4, vR a4)] (by decide) rfl rfl (fun x X eG er en hQ hex => ?_)
  subst eG
  refine j_aload X (pc := 0) 4 dX0_vote_0 rfl ?_
  refine j_iconst X (pc := 2) 0 dX0_vote_2 (by decide) ?_
  refine j_aload_n X (pc := 3) 0 dX0_vote_3 rfl rfl ?_
  refine j_iload_n X (pc := 4) 1 dX0_vote_4 rfl rfl ?_
  refine j_iload_n X (pc := 5) 2 dX0_vote_5 rfl rfl ?_
  refine j_iload_n X (pc := 6) 3 dX0_vote_6 rfl rfl ?_
  obtain ⟨b9, c9, f9, hr9, ho9, hc9, hw⟩ := hw
  obtain rfl := List.mem_singleton.mp hc9
  refine j_callXi (j_runVX (n8 := 3) (As := [vI a1, vI a2, vI a3]) (rest := [vI 0, vR a4]) X (pc := 7) hr9 (met_X1_vote (xl x) X.hl (xG x) h a0 a1 a2 a3 _ _ hw) ho9 (by decide) rfl q1325 q1326 q1327 q71 q1328 (by decide +kernel) dX0_vote_7 rfl ⟨Nat.le_of_ble_eq_true rfl, Nat.le_of_ble_eq_true rfl⟩ (Nat.le_of_ble_eq_true rfl) ⟨Nat.le_of_ble_eq_true rfl, Nat.le_of_ble_eq_true rfl⟩) ?_ (fun y7 h7 hw => ?_)
  · intro E9 h9 hx
    rcases hx with ⟨rfl, hw⟩ | ⟨rfl, hw⟩ | ⟨rfl, hw⟩ | ⟨rfl, hw⟩
    · refine j_catch X (pc := 7) "java/lang/IllegalArgumentException" hex [] [⟨0, 12, 19, 21⟩, ⟨0, 12, 23, 23⟩, ⟨0, 12, 27, 15⟩] ⟨0, 12, 15, 13⟩ rfl (by intro y hy; cases hy) (by decide) (by decide) q291 q312 (fun q9 => ?_)
      have hw := hw q9
      refine j_astore X (pc := 15) [(5, vR (some q9)), (0, vR a0), (1, vI a1), (2, vI a2), (3, vI a3), (4, vR a4)] dX0_vote_15 (Nat.le_of_ble_eq_true rfl) rfl ?_
      refine j_iconst X (pc := 17) 1 dX0_vote_17 (by decide) ?_
      exact j_iret X (pc := 18) hQ er (Nat.le_of_ble_eq_true rfl) (Nat.le_of_ble_eq_true rfl) dX0_vote_18 hw
    · refine j_catch X (pc := 7) "java/util/NoSuchElementException" hex [⟨0, 12, 15, 13⟩] [⟨0, 12, 23, 23⟩, ⟨0, 12, 27, 15⟩] ⟨0, 12, 19, 21⟩ rfl (by intro y hy; simp only [List.mem_cons, List.not_mem_nil, or_false] at hy; subst hy; exact Or.inr ⟨by decide, "java/lang/IllegalArgumentException", q291, by decide +kernel⟩) (by decide) (by decide) q1068 q537 (fun q9 => ?_)
      have hw := hw q9
      refine j_astore X (pc := 19) [(5, vR (some q9)), (0, vR a0), (1, vI a1), (2, vI a2), (3, vI a3), (4, vR a4)] dX0_vote_19 (Nat.le_of_ble_eq_true rfl) rfl ?_
      refine j_iconst X (pc := 21) 2 dX0_vote_21 (by decide) ?_
      exact j_iret X (pc := 22) hQ er (Nat.le_of_ble_eq_true rfl) (Nat.le_of_ble_eq_true rfl) dX0_vote_22 hw
    · refine j_catch X (pc := 7) "java/lang/UnsupportedOperationException" hex [⟨0, 12, 15, 13⟩, ⟨0, 12, 19, 21⟩] [⟨0, 12, 27, 15⟩] ⟨0, 12, 23, 23⟩ rfl (by intro y hy; simp only [List.mem_cons, List.not_mem_nil, or_false] at hy; rcases hy with rfl | rfl <;> first | exact Or.inr ⟨by decide, "java/lang/IllegalArgumentException", q291, by decide +kernel⟩ | exact Or.inr ⟨by decide, "java/util/NoSuchElementException", q1068, by decide +kernel⟩) (by decide) (by decide) q1069 q1102 (fun q9 => ?_)
      have hw := hw q9
      refine j_astore X (pc := 23) [(5, vR (some q9)), (0, vR a0), (1, vI a1), (2, vI a2), (3, vI a3), (4, vR a4)] dX0_vote_23 (Nat.le_of_ble_eq_true rfl) rfl ?_
      refine j_iconst X (pc := 25) 3 dX0_vote_25 (by decide) ?_
      exact j_iret X (pc := 26) hQ er (Nat.le_of_ble_eq_true rfl) (Nat.le_of_ble_eq_true rfl) dX0_vote_26 hw
    · refine j_catch X (pc := 7) "java/lang/IllegalStateException" hex [⟨0, 12, 15, 13⟩, ⟨0, 12, 19, 21⟩, ⟨0, 12, 23, 23⟩] [] ⟨0, 12, 27, 15⟩ rfl (by intro y hy; simp only [List.mem_cons, List.not_mem_nil, or_false] at hy; rcases hy with rfl | rfl | rfl <;> first | exact Or.inr ⟨by decide, "java/lang/IllegalArgumentException", q291, by decide +kernel⟩ | exact Or.inr ⟨by decide, "java/util/NoSuchElementException", q1068, by decide +kernel⟩ | exact Or.inr ⟨by decide, "java/lang/UnsupportedOperationException", q1069, by decide +kernel⟩) (by decide) (by decide) q292 q387 (fun q9 => ?_)
      have hw := hw q9
      refine j_astore X (pc := 27) [(5, vR (some q9)), (0, vR a0), (1, vI a1), (2, vI a2), (3, vI a3), (4, vR a4)] dX0_vote_27 (Nat.le_of_ble_eq_true rfl) rfl ?_
      refine j_iconst X (pc := 29) 4 dX0_vote_29 (by decide) ?_
      exact j_iret X (pc := 30) hQ er (Nat.le_of_ble_eq_true rfl) (Nat.le_of_ble_eq_true rfl) dX0_vote_30 hw
  refine j_i2l X (pc := 10) dX0_vote_10 ?_
  refine j_last X (pc := 11) dX0_vote_11 hw (fun h11 hw => ?_)
  refine j_goto X (pc := 12) 31 dX0_vote_12 (by decide) ?_
  refine j_iconst X (pc := 31) 0 dX0_vote_31 (by decide) ?_
  exact j_iret X (pc := 32) hQ er (Nat.le_of_ble_eq_true rfl) (Nat.le_of_ble_eq_true rfl) dX0_vote_32 hw
abbrev cX5_vote : ByteArray := prog_19_method_40_code
def yX5_vote : MethodName := ⟨RX5, "vote", "(III)I"⟩
def dkwX5_vote_7 : List UInt8 := [182, 0, 186, 21, 6, 172]
abbrev dktX5_vote_7 : List UInt8 := dkwX5_vote_7 ++ []
def dkwX5_vote_6 : List UInt8 := [180, 0, 67, 21, 4, 28, 96, 46, 54, 6, 42, 21, 4, 28, 96, 29, 182, 0, 179, 42, 27, 4]
abbrev dktX5_vote_6 : List UInt8 := dkwX5_vote_6 ++ dktX5_vote_7
def dkwX5_vote_5 : List UInt8 := [6, 182, 0, 172, 172, 42, 180, 0, 108, 17, 0, 250, 160, 0, 9, 42, 7, 182, 0, 172, 172, 42]
abbrev dktX5_vote_5 : List UInt8 := dkwX5_vote_5 ++ dktX5_vote_6
def dkwX5_vote_4 : List UInt8 := [132, 6, 1, 167, 255, 231, 42, 180, 0, 67, 16, 92, 46, 4, 159, 0, 9, 21, 5, 8, 164, 0, 9, 42]
abbrev dktX5_vote_4 : List UInt8 := dkwX5_vote_4 ++ dktX5_vote_5
def dkwX5_vote_3 : List UInt8 := [54, 6, 21, 6, 16, 12, 162, 0, 24, 21, 5, 42, 180, 0, 67, 21, 4, 21, 6, 96, 46, 96, 54, 5]
abbrev dktX5_vote_3 : List UInt8 := dkwX5_vote_3 ++ dktX5_vote_4
def dkwX5_vote_2 : List UInt8 := [16, 56, 16, 12, 27, 104, 96, 54, 4, 29, 42, 180, 0, 67, 21, 4, 28, 96, 46, 100, 54, 5, 3]
abbrev dktX5_vote_2 : List UInt8 := dkwX5_vote_2 ++ dktX5_vote_3
def dkwX5_vote_1 : List UInt8 := [182, 0, 172, 172, 42, 27, 182, 0, 161, 42, 28, 182, 0, 125, 154, 0, 9, 42, 5, 182, 0, 172, 172]
abbrev dktX5_vote_1 : List UInt8 := dkwX5_vote_1 ++ dktX5_vote_2
def dkwX5_vote_0 : List UInt8 := [42, 3, 181, 0, 97, 27, 184, 0, 165, 153, 0, 12, 29, 3, 6, 184, 0, 101, 154, 0, 9, 42, 4]
abbrev dktX5_vote_0 : List UInt8 := dkwX5_vote_0 ++ dktX5_vote_1
theorem dksX5_vote_0 : cX5_vote.data.toList.drop 0 = dktX5_vote_0 := by decide +kernel
theorem dksX5_vote_1 : cX5_vote.data.toList.drop 23 = dktX5_vote_1 := dk_seg dksX5_vote_0 23 rfl rfl
theorem dksX5_vote_2 : cX5_vote.data.toList.drop 46 = dktX5_vote_2 := dk_seg dksX5_vote_1 23 rfl rfl
theorem dksX5_vote_3 : cX5_vote.data.toList.drop 69 = dktX5_vote_3 := dk_seg dksX5_vote_2 23 rfl rfl
theorem dksX5_vote_4 : cX5_vote.data.toList.drop 93 = dktX5_vote_4 := dk_seg dksX5_vote_3 24 rfl rfl
theorem dksX5_vote_5 : cX5_vote.data.toList.drop 117 = dktX5_vote_5 := dk_seg dksX5_vote_4 24 rfl rfl
theorem dksX5_vote_6 : cX5_vote.data.toList.drop 139 = dktX5_vote_6 := dk_seg dksX5_vote_5 22 rfl rfl
theorem dksX5_vote_7 : cX5_vote.data.toList.drop 161 = dktX5_vote_7 := dk_seg dksX5_vote_6 22 rfl rfl
theorem dX5_vote_0 : decode cX5_vote 0 = .ok (.aload_n 0, 1) := dk_42 (dk_at dksX5_vote_0 0 rfl rfl)
theorem dX5_vote_1 : decode cX5_vote 1 = .ok (.iconst 0, 1) := dk_3 (dk_at dksX5_vote_0 1 rfl rfl)
theorem dX5_vote_2 : decode cX5_vote 2 = .ok (.putfield 97, 3) := dk_181 0 97 (dk_at dksX5_vote_0 2 rfl rfl)
theorem dX5_vote_5 : decode cX5_vote 5 = .ok (.iload_n 1, 1) := dk_27 (dk_at dksX5_vote_0 5 rfl rfl)
theorem dX5_vote_6 : decode cX5_vote 6 = .ok (.invokestatic 165, 3) := dk_184 0 165 (dk_at dksX5_vote_0 6 rfl rfl)
theorem dX5_vote_9 : decode cX5_vote 9 = .ok (.ifCond .eq 12, 3) := dk_153 0 12 (dk_at dksX5_vote_0 9 rfl rfl)
theorem dX5_vote_12 : decode cX5_vote 12 = .ok (.iload_n 3, 1) := dk_29 (dk_at dksX5_vote_0 12 rfl rfl)
theorem dX5_vote_13 : decode cX5_vote 13 = .ok (.iconst 0, 1) := dk_3 (dk_at dksX5_vote_0 13 rfl rfl)
theorem dX5_vote_14 : decode cX5_vote 14 = .ok (.iconst 3, 1) := dk_6 (dk_at dksX5_vote_0 14 rfl rfl)
theorem dX5_vote_15 : decode cX5_vote 15 = .ok (.invokestatic 101, 3) := dk_184 0 101 (dk_at dksX5_vote_0 15 rfl rfl)
theorem dX5_vote_18 : decode cX5_vote 18 = .ok (.ifCond .ne 9, 3) := dk_154 0 9 (dk_at dksX5_vote_0 18 rfl rfl)
theorem dX5_vote_21 : decode cX5_vote 21 = .ok (.aload_n 0, 1) := dk_42 (dk_at dksX5_vote_0 21 rfl rfl)
theorem dX5_vote_22 : decode cX5_vote 22 = .ok (.iconst 1, 1) := dk_4 (dk_at dksX5_vote_0 22 rfl rfl)
theorem dX5_vote_23 : decode cX5_vote 23 = .ok (.invokevirtual 172, 3) := dk_182 0 172 (dk_at dksX5_vote_1 0 rfl rfl)
theorem dX5_vote_26 : decode cX5_vote 26 = .ok (.ireturn, 1) := dk_172 (dk_at dksX5_vote_1 3 rfl rfl)
theorem dX5_vote_27 : decode cX5_vote 27 = .ok (.aload_n 0, 1) := dk_42 (dk_at dksX5_vote_1 4 rfl rfl)
theorem dX5_vote_28 : decode cX5_vote 28 = .ok (.iload_n 1, 1) := dk_27 (dk_at dksX5_vote_1 5 rfl rfl)
theorem dX5_vote_29 : decode cX5_vote 29 = .ok (.invokevirtual 161, 3) := dk_182 0 161 (dk_at dksX5_vote_1 6 rfl rfl)
theorem dX5_vote_32 : decode cX5_vote 32 = .ok (.aload_n 0, 1) := dk_42 (dk_at dksX5_vote_1 9 rfl rfl)
theorem dX5_vote_33 : decode cX5_vote 33 = .ok (.iload_n 2, 1) := dk_28 (dk_at dksX5_vote_1 10 rfl rfl)
theorem dX5_vote_34 : decode cX5_vote 34 = .ok (.invokevirtual 125, 3) := dk_182 0 125 (dk_at dksX5_vote_1 11 rfl rfl)
theorem dX5_vote_37 : decode cX5_vote 37 = .ok (.ifCond .ne 9, 3) := dk_154 0 9 (dk_at dksX5_vote_1 14 rfl rfl)
theorem dX5_vote_40 : decode cX5_vote 40 = .ok (.aload_n 0, 1) := dk_42 (dk_at dksX5_vote_1 17 rfl rfl)
theorem dX5_vote_41 : decode cX5_vote 41 = .ok (.iconst 2, 1) := dk_5 (dk_at dksX5_vote_1 18 rfl rfl)
theorem dX5_vote_42 : decode cX5_vote 42 = .ok (.invokevirtual 172, 3) := dk_182 0 172 (dk_at dksX5_vote_1 19 rfl rfl)
theorem dX5_vote_45 : decode cX5_vote 45 = .ok (.ireturn, 1) := dk_172 (dk_at dksX5_vote_1 22 rfl rfl)
theorem dX5_vote_46 : decode cX5_vote 46 = .ok (.bipush 56, 2) := dk_16 56 (dk_at dksX5_vote_2 0 rfl rfl)
theorem dX5_vote_48 : decode cX5_vote 48 = .ok (.bipush 12, 2) := dk_16 12 (dk_at dksX5_vote_2 2 rfl rfl)
theorem dX5_vote_50 : decode cX5_vote 50 = .ok (.iload_n 1, 1) := dk_27 (dk_at dksX5_vote_2 4 rfl rfl)
theorem dX5_vote_51 : decode cX5_vote 51 = .ok (.imul, 1) := dk_104 (dk_at dksX5_vote_2 5 rfl rfl)
theorem dX5_vote_52 : decode cX5_vote 52 = .ok (.iadd, 1) := dk_96 (dk_at dksX5_vote_2 6 rfl rfl)
theorem dX5_vote_53 : decode cX5_vote 53 = .ok (.istore 4, 2) := dk_54 4 (dk_at dksX5_vote_2 7 rfl rfl)
theorem dX5_vote_55 : decode cX5_vote 55 = .ok (.iload_n 3, 1) := dk_29 (dk_at dksX5_vote_2 9 rfl rfl)
theorem dX5_vote_56 : decode cX5_vote 56 = .ok (.aload_n 0, 1) := dk_42 (dk_at dksX5_vote_2 10 rfl rfl)
theorem dX5_vote_57 : decode cX5_vote 57 = .ok (.getfield 67, 3) := dk_180 0 67 (dk_at dksX5_vote_2 11 rfl rfl)
theorem dX5_vote_60 : decode cX5_vote 60 = .ok (.iload 4, 2) := dk_21 4 (dk_at dksX5_vote_2 14 rfl rfl)
theorem dX5_vote_62 : decode cX5_vote 62 = .ok (.iload_n 2, 1) := dk_28 (dk_at dksX5_vote_2 16 rfl rfl)
theorem dX5_vote_63 : decode cX5_vote 63 = .ok (.iadd, 1) := dk_96 (dk_at dksX5_vote_2 17 rfl rfl)
theorem dX5_vote_64 : decode cX5_vote 64 = .ok (.iaload, 1) := dk_46 (dk_at dksX5_vote_2 18 rfl rfl)
theorem dX5_vote_65 : decode cX5_vote 65 = .ok (.isub, 1) := dk_100 (dk_at dksX5_vote_2 19 rfl rfl)
theorem dX5_vote_66 : decode cX5_vote 66 = .ok (.istore 5, 2) := dk_54 5 (dk_at dksX5_vote_2 20 rfl rfl)
theorem dX5_vote_68 : decode cX5_vote 68 = .ok (.iconst 0, 1) := dk_3 (dk_at dksX5_vote_2 22 rfl rfl)
theorem dX5_vote_69 : decode cX5_vote 69 = .ok (.istore 6, 2) := dk_54 6 (dk_at dksX5_vote_3 0 rfl rfl)
theorem dX5_vote_71 : decode cX5_vote 71 = .ok (.iload 6, 2) := dk_21 6 (dk_at dksX5_vote_3 2 rfl rfl)
theorem dX5_vote_73 : decode cX5_vote 73 = .ok (.bipush 12, 2) := dk_16 12 (dk_at dksX5_vote_3 4 rfl rfl)
theorem dX5_vote_75 : decode cX5_vote 75 = .ok (.if_icmp .ge 24, 3) := dk_162 0 24 (dk_at dksX5_vote_3 6 rfl rfl)
theorem dX5_vote_78 : decode cX5_vote 78 = .ok (.iload 5, 2) := dk_21 5 (dk_at dksX5_vote_3 9 rfl rfl)
theorem dX5_vote_80 : decode cX5_vote 80 = .ok (.aload_n 0, 1) := dk_42 (dk_at dksX5_vote_3 11 rfl rfl)
theorem dX5_vote_81 : decode cX5_vote 81 = .ok (.getfield 67, 3) := dk_180 0 67 (dk_at dksX5_vote_3 12 rfl rfl)
theorem dX5_vote_84 : decode cX5_vote 84 = .ok (.iload 4, 2) := dk_21 4 (dk_at dksX5_vote_3 15 rfl rfl)
theorem dX5_vote_86 : decode cX5_vote 86 = .ok (.iload 6, 2) := dk_21 6 (dk_at dksX5_vote_3 17 rfl rfl)
theorem dX5_vote_88 : decode cX5_vote 88 = .ok (.iadd, 1) := dk_96 (dk_at dksX5_vote_3 19 rfl rfl)
theorem dX5_vote_89 : decode cX5_vote 89 = .ok (.iaload, 1) := dk_46 (dk_at dksX5_vote_3 20 rfl rfl)
theorem dX5_vote_90 : decode cX5_vote 90 = .ok (.iadd, 1) := dk_96 (dk_at dksX5_vote_3 21 rfl rfl)
theorem dX5_vote_91 : decode cX5_vote 91 = .ok (.istore 5, 2) := dk_54 5 (dk_at dksX5_vote_3 22 rfl rfl)
theorem dX5_vote_93 : decode cX5_vote 93 = .ok (.iinc 6 1, 3) := dk_132 6 1 (dk_at dksX5_vote_4 0 rfl rfl)
theorem dX5_vote_96 : decode cX5_vote 96 = .ok (.goto (-25), 3) := dk_167 255 231 (dk_at dksX5_vote_4 3 rfl rfl)
theorem dX5_vote_99 : decode cX5_vote 99 = .ok (.aload_n 0, 1) := dk_42 (dk_at dksX5_vote_4 6 rfl rfl)
theorem dX5_vote_100 : decode cX5_vote 100 = .ok (.getfield 67, 3) := dk_180 0 67 (dk_at dksX5_vote_4 7 rfl rfl)
theorem dX5_vote_103 : decode cX5_vote 103 = .ok (.bipush 92, 2) := dk_16 92 (dk_at dksX5_vote_4 10 rfl rfl)
theorem dX5_vote_105 : decode cX5_vote 105 = .ok (.iaload, 1) := dk_46 (dk_at dksX5_vote_4 12 rfl rfl)
theorem dX5_vote_106 : decode cX5_vote 106 = .ok (.iconst 1, 1) := dk_4 (dk_at dksX5_vote_4 13 rfl rfl)
theorem dX5_vote_107 : decode cX5_vote 107 = .ok (.if_icmp .eq 9, 3) := dk_159 0 9 (dk_at dksX5_vote_4 14 rfl rfl)
theorem dX5_vote_110 : decode cX5_vote 110 = .ok (.iload 5, 2) := dk_21 5 (dk_at dksX5_vote_4 17 rfl rfl)
theorem dX5_vote_112 : decode cX5_vote 112 = .ok (.iconst 5, 1) := dk_8 (dk_at dksX5_vote_4 19 rfl rfl)
theorem dX5_vote_113 : decode cX5_vote 113 = .ok (.if_icmp .le 9, 3) := dk_164 0 9 (dk_at dksX5_vote_4 20 rfl rfl)
theorem dX5_vote_116 : decode cX5_vote 116 = .ok (.aload_n 0, 1) := dk_42 (dk_at dksX5_vote_4 23 rfl rfl)
theorem dX5_vote_117 : decode cX5_vote 117 = .ok (.iconst 3, 1) := dk_6 (dk_at dksX5_vote_5 0 rfl rfl)
theorem dX5_vote_118 : decode cX5_vote 118 = .ok (.invokevirtual 172, 3) := dk_182 0 172 (dk_at dksX5_vote_5 1 rfl rfl)
theorem dX5_vote_121 : decode cX5_vote 121 = .ok (.ireturn, 1) := dk_172 (dk_at dksX5_vote_5 4 rfl rfl)
theorem dX5_vote_122 : decode cX5_vote 122 = .ok (.aload_n 0, 1) := dk_42 (dk_at dksX5_vote_5 5 rfl rfl)
theorem dX5_vote_123 : decode cX5_vote 123 = .ok (.getfield 108, 3) := dk_180 0 108 (dk_at dksX5_vote_5 6 rfl rfl)
theorem dX5_vote_126 : decode cX5_vote 126 = .ok (.sipush 250, 3) := dk_17 0 250 (dk_at dksX5_vote_5 9 rfl rfl)
theorem dX5_vote_129 : decode cX5_vote 129 = .ok (.if_icmp .ne 9, 3) := dk_160 0 9 (dk_at dksX5_vote_5 12 rfl rfl)
theorem dX5_vote_132 : decode cX5_vote 132 = .ok (.aload_n 0, 1) := dk_42 (dk_at dksX5_vote_5 15 rfl rfl)
theorem dX5_vote_133 : decode cX5_vote 133 = .ok (.iconst 4, 1) := dk_7 (dk_at dksX5_vote_5 16 rfl rfl)
theorem dX5_vote_134 : decode cX5_vote 134 = .ok (.invokevirtual 172, 3) := dk_182 0 172 (dk_at dksX5_vote_5 17 rfl rfl)
theorem dX5_vote_137 : decode cX5_vote 137 = .ok (.ireturn, 1) := dk_172 (dk_at dksX5_vote_5 20 rfl rfl)
theorem dX5_vote_138 : decode cX5_vote 138 = .ok (.aload_n 0, 1) := dk_42 (dk_at dksX5_vote_5 21 rfl rfl)
theorem dX5_vote_139 : decode cX5_vote 139 = .ok (.getfield 67, 3) := dk_180 0 67 (dk_at dksX5_vote_6 0 rfl rfl)
theorem dX5_vote_142 : decode cX5_vote 142 = .ok (.iload 4, 2) := dk_21 4 (dk_at dksX5_vote_6 3 rfl rfl)
theorem dX5_vote_144 : decode cX5_vote 144 = .ok (.iload_n 2, 1) := dk_28 (dk_at dksX5_vote_6 5 rfl rfl)
theorem dX5_vote_145 : decode cX5_vote 145 = .ok (.iadd, 1) := dk_96 (dk_at dksX5_vote_6 6 rfl rfl)
theorem dX5_vote_146 : decode cX5_vote 146 = .ok (.iaload, 1) := dk_46 (dk_at dksX5_vote_6 7 rfl rfl)
theorem dX5_vote_147 : decode cX5_vote 147 = .ok (.istore 6, 2) := dk_54 6 (dk_at dksX5_vote_6 8 rfl rfl)
theorem dX5_vote_149 : decode cX5_vote 149 = .ok (.aload_n 0, 1) := dk_42 (dk_at dksX5_vote_6 10 rfl rfl)
theorem dX5_vote_150 : decode cX5_vote 150 = .ok (.iload 4, 2) := dk_21 4 (dk_at dksX5_vote_6 11 rfl rfl)
theorem dX5_vote_152 : decode cX5_vote 152 = .ok (.iload_n 2, 1) := dk_28 (dk_at dksX5_vote_6 13 rfl rfl)
theorem dX5_vote_153 : decode cX5_vote 153 = .ok (.iadd, 1) := dk_96 (dk_at dksX5_vote_6 14 rfl rfl)
theorem dX5_vote_154 : decode cX5_vote 154 = .ok (.iload_n 3, 1) := dk_29 (dk_at dksX5_vote_6 15 rfl rfl)
theorem dX5_vote_155 : decode cX5_vote 155 = .ok (.invokevirtual 179, 3) := dk_182 0 179 (dk_at dksX5_vote_6 16 rfl rfl)
theorem dX5_vote_158 : decode cX5_vote 158 = .ok (.aload_n 0, 1) := dk_42 (dk_at dksX5_vote_6 19 rfl rfl)
theorem dX5_vote_159 : decode cX5_vote 159 = .ok (.iload_n 1, 1) := dk_27 (dk_at dksX5_vote_6 20 rfl rfl)
theorem dX5_vote_160 : decode cX5_vote 160 = .ok (.iconst 1, 1) := dk_4 (dk_at dksX5_vote_6 21 rfl rfl)
theorem dX5_vote_161 : decode cX5_vote 161 = .ok (.invokevirtual 186, 3) := dk_182 0 186 (dk_at dksX5_vote_7 0 rfl rfl)
theorem dX5_vote_164 : decode cX5_vote 164 = .ok (.iload 6, 2) := dk_21 6 (dk_at dksX5_vote_7 3 rfl rfl)
theorem dX5_vote_166 : decode cX5_vote 166 = .ok (.ireturn, 1) := dk_172 (dk_at dksX5_vote_7 5 rfl rfl)
abbrev rm_X5_vote : Room := { frames := 4, cells := 0, slots := 0, locals := 90 }
def w_X5_vote_71 (P : Int32 → AH → Prop) (x0 : Option Nat) (x1 : Int32) (x2 : Int32) (x3 : Int32) (x4 : Int32) (x5 : Int32) (x6 : Int32) (h : AH) : Prop :=
  ∀ Z71 : Int32 → Int32 → Prop, (∀ x5 x6, (
      ((12 ≤ x6 →
        g_q h x0 4 21 fun y100 =>
        l_i h y100 0 92 fun y105 =>
        ((y105 = 1 →
          is_c h x0 [4] (
          w_X5_fails x0 3 h (fun y118 h118 =>
          P y118 h118))) ∧
         (¬ y105 = 1 →
          ((x5 ≤ 5 →
            g_i h x0 4 20 fun y123 =>
            ((y123 = 250 →
              is_c h x0 [4] (
              w_X5_fails x0 4 h (fun y134 h134 =>
              P y134 h134))) ∧
             (¬ y123 = 250 →
              g_q h x0 4 21 fun y139 =>
              l_i h y139 0 (x4 + x2) fun y146 =>
              is_c h x0 [4] (
              w_X5_plans x0 (x4 + x2) x3 h (fun h155 =>
              is_c h155 x0 [4] (
              w_X5_makes x0 x1 1 h155 (fun h161 =>
              P y146 h161))))))) ∧
           (¬ x5 ≤ 5 →
            is_c h x0 [4] (
            w_X5_fails x0 3 h (fun y118 h118 =>
            P y118 h118))))))) ∧
       (¬ 12 ≤ x6 →
        g_q h x0 4 21 fun y81 =>
        l_i h y81 0 (x4 + x6) fun y89 =>
        Z71 (x5 + y89) (x6 + 1))))
      → Z71 x5 x6) → Z71 x5 x6
def w_X5_vote (a0 : Option Nat) (a1 : Int32) (a2 : Int32) (a3 : Int32) (h : AH) (P : Int32 → AH → Prop) : Prop :=
  p_v h a0 4 0 (vI 0) fun h2 =>
  w_X5_isUser a1 h2 (fun y6 h6 =>
  ((y6 = 0 →
    is_c h6 a0 [4] (
    w_X5_fails a0 1 h6 (fun y23 h23 =>
    P y23 h23))) ∧
   (¬ y6 = 0 →
    w_X5_isBetween a3 0 3 h6 (fun y15 h15 =>
    ((y15 = 0 →
      is_c h15 a0 [4] (
      w_X5_fails a0 1 h15 (fun y23 h23 =>
      P y23 h23))) ∧
     (¬ y15 = 0 →
      is_c h15 a0 [4] (
      w_X5_builds a0 a1 h15 (fun h29 =>
      is_c h29 a0 [4] (
      w_X5_isSeen a0 a2 h29 (fun y34 h34 =>
      ((y34 = 0 →
        is_c h34 a0 [4] (
        w_X5_fails a0 2 h34 (fun y42 h42 =>
        P y42 h42))) ∧
       (¬ y34 = 0 →
        g_q h34 a0 4 21 fun y57 =>
        l_i h34 y57 0 ((56 + (12 * a1)) + a2) fun y64 =>
        w_X5_vote_71 P a0 a1 a2 a3 (56 + (12 * a1)) (a3 - y64) 0 h34))))))))))))
theorem wk_X5_vote_71 {x : CX} (X : Ok x cX5_vote RX5 rm_X5_vote 7) (er : xrt x = (Option.some Jvm.ClassFile.FieldType.int)) (en : xnm x = yX5_vote.name) {P : Int32 → AH → Prop} (hQ : xr_i x P) (x0 : Option Nat) (x1 : Int32) (x2 : Int32) (x3 : Int32) (x4 : Int32) (x5 : Int32) (x6 : Int32) (h : AH) (hw : w_X5_vote_71 P x0 x1 x2 x3 x4 x5 x6 h) : J x h 0 0 71 [(0, vR x0), (1, vI x1), (2, vI x2), (3, vI x3), (4, vI x4), (5, vI x5), (6, vI x6)] [] := by
  refine hw (fun x5 x6 => J x h 0 0 71 [(0, vR x0), (1, vI x1), (2, vI x2), (3, vI x3), (4, vI x4), (5, vI x5), (6, vI x6)] []) (fun x5 x6 hw => ?_)
  refine j_iload X (pc := 71) 6 dX5_vote_71 rfl ?_
  refine j_bipush X (pc := 73) 12 dX5_vote_73 (by decide) ?_
  refine j_icmp_ge X (pc := 75) 99 dX5_vote_75 (by decide) hw (fun hw => ?_) (fun hw => ?_)
  · refine j_aload_n X (pc := 99) 0 dX5_vote_99 rfl rfl ?_
    refine j_getq (ci := 4) X (pc := 100) in_X5 rfl (by decide) 21 (by decide) q1893 (Or.inl rfl) dX5_vote_100 hw (fun y100 hw => ?_)
    refine j_bipush X (pc := 103) 92 dX5_vote_103 (by decide) ?_
    refine j_iald X (pc := 105) 0 rfl dX5_vote_105 hw (fun y105 hw => ?_)
    refine j_iconst X (pc := 106) 1 dX5_vote_106 (by decide) ?_
    refine j_icmp_eq X (pc := 107) 116 dX5_vote_107 (by decide) hw (fun hw => ?_) (fun hw => ?_)
    · refine j_aload_n X (pc := 116) 0 dX5_vote_116 rfl rfl ?_
      refine j_iconst X (pc := 117) 3 dX5_vote_117 (by decide) ?_
      obtain ⟨b9, c9, f9, hr9, ho9, hc9, hw⟩ := hw
      obtain rfl := List.mem_singleton.mp hc9
      refine j_calli (j_runV (n8 := 1) (As := [vI 3]) (rest := []) X (pc := 118) hr9 (met_X5_fails (xl x) X.hl (xG x) h x0 3 _ hw) ho9 (by decide) rfl q1988 q1990 qs33 q78 q1991 (by decide +kernel) dX5_vote_118 rfl ⟨Nat.le_of_ble_eq_true rfl, Nat.le_of_ble_eq_true rfl⟩ (Nat.le_of_ble_eq_true rfl) ⟨Nat.le_of_ble_eq_true rfl, Nat.le_of_ble_eq_true rfl⟩) (fun y118 h118 hw => ?_)
      exact j_iret X (pc := 121) hQ er (Nat.le_of_ble_eq_true rfl) (Nat.le_of_ble_eq_true rfl) dX5_vote_121 hw
    · refine j_iload X (pc := 110) 5 dX5_vote_110 rfl ?_
      refine j_iconst X (pc := 112) 5 dX5_vote_112 (by decide) ?_
      refine j_icmp_le X (pc := 113) 122 dX5_vote_113 (by decide) hw (fun hw => ?_) (fun hw => ?_)
      · refine j_aload_n X (pc := 122) 0 dX5_vote_122 rfl rfl ?_
        refine j_geti (ci := 4) X (pc := 123) in_X5 rfl (by decide) 20 (by decide) q1892 (Or.inl rfl) dX5_vote_123 hw (fun y123 hw => ?_)
        refine j_sipush X (pc := 126) 250 dX5_vote_126 (by decide) ?_
        refine j_icmp_ne X (pc := 129) 138 dX5_vote_129 (by decide) hw (fun hw => ?_) (fun hw => ?_)
        · refine j_aload_n X (pc := 132) 0 dX5_vote_132 rfl rfl ?_
          refine j_iconst X (pc := 133) 4 dX5_vote_133 (by decide) ?_
          obtain ⟨b9, c9, f9, hr9, ho9, hc9, hw⟩ := hw
          obtain rfl := List.mem_singleton.mp hc9
          refine j_calli (j_runV (n8 := 1) (As := [vI 4]) (rest := []) X (pc := 134) hr9 (met_X5_fails (xl x) X.hl (xG x) h x0 4 _ hw) ho9 (by decide) rfl q1988 q1990 qs33 q78 q1991 (by decide +kernel) dX5_vote_134 rfl ⟨Nat.le_of_ble_eq_true rfl, Nat.le_of_ble_eq_true rfl⟩ (Nat.le_of_ble_eq_true rfl) ⟨Nat.le_of_ble_eq_true rfl, Nat.le_of_ble_eq_true rfl⟩) (fun y134 h134 hw => ?_)
          exact j_iret X (pc := 137) hQ er (Nat.le_of_ble_eq_true rfl) (Nat.le_of_ble_eq_true rfl) dX5_vote_137 hw
        · refine j_aload_n X (pc := 138) 0 dX5_vote_138 rfl rfl ?_
          refine j_getq (ci := 4) X (pc := 139) in_X5 rfl (by decide) 21 (by decide) q1893 (Or.inl rfl) dX5_vote_139 hw (fun y139 hw => ?_)
          refine j_iload X (pc := 142) 4 dX5_vote_142 rfl ?_
          refine j_iload_n X (pc := 144) 2 dX5_vote_144 rfl rfl ?_
          refine j_iadd X (pc := 145) dX5_vote_145 ?_
          refine j_iald X (pc := 146) 0 rfl dX5_vote_146 hw (fun y146 hw => ?_)
          refine j_istore X (pc := 147) [(6, vI y146), (0, vR x0), (1, vI x1), (2, vI x2), (3, vI x3), (4, vI x4), (5, vI x5)] dX5_vote_147 (Nat.le_of_ble_eq_true rfl) rfl ?_
          refine j_aload_n X (pc := 149) 1 dX5_vote_149 rfl rfl ?_
          refine j_iload X (pc := 150) 5 dX5_vote_150 rfl ?_
          refine j_iload_n X (pc := 152) 3 dX5_vote_152 rfl rfl ?_
          refine j_iadd X (pc := 153) dX5_vote_153 ?_
          refine j_iload_n X (pc := 154) 4 dX5_vote_154 rfl rfl ?_
          obtain ⟨b9, c9, f9, hr9, ho9, hc9, hw⟩ := hw
          obtain rfl := List.mem_singleton.mp hc9
          refine j_callv (j_runV (n8 := 2) (As := [vI (x4 + x2), vI x3]) (rest := []) X (pc := 155) hr9 (met_X5_plans (xl x) X.hl (xG x) h x0 (x4 + x2) x3 _ hw) ho9 (by decide) rfl q2021 q2023 qs41 q78 q2024 (by decide +kernel) dX5_vote_155 rfl ⟨Nat.le_of_ble_eq_true rfl, Nat.le_of_ble_eq_true rfl⟩ (Nat.le_of_ble_eq_true rfl) ⟨Nat.le_of_ble_eq_true rfl, Nat.le_of_ble_eq_true rfl⟩) (fun h155 hw => ?_)
          refine j_aload_n X (pc := 158) 1 dX5_vote_158 rfl rfl ?_
          refine j_iload_n X (pc := 159) 2 dX5_vote_159 rfl rfl ?_
          refine j_iconst X (pc := 160) 1 dX5_vote_160 (by decide) ?_
          obtain ⟨b9, c9, f9, hr9, ho9, hc9, hw⟩ := hw
          obtain rfl := List.mem_singleton.mp hc9
          refine j_callv (j_runV (n8 := 2) (As := [vI x1, vI 1]) (rest := []) X (pc := 161) hr9 (met_X5_makes (xl x) X.hl (xG x) h155 x0 x1 1 _ hw) ho9 (by decide) rfl q2030 q2032 qs43 q78 q2033 (by decide +kernel) dX5_vote_161 rfl ⟨Nat.le_of_ble_eq_true rfl, Nat.le_of_ble_eq_true rfl⟩ (Nat.le_of_ble_eq_true rfl) ⟨Nat.le_of_ble_eq_true rfl, Nat.le_of_ble_eq_true rfl⟩) (fun h161 hw => ?_)
          refine j_iload X (pc := 164) 0 dX5_vote_164 rfl ?_
          exact j_iret X (pc := 166) hQ er (Nat.le_of_ble_eq_true rfl) (Nat.le_of_ble_eq_true rfl) dX5_vote_166 hw
      · refine j_aload_n X (pc := 116) 0 dX5_vote_116 rfl rfl ?_
        refine j_iconst X (pc := 117) 3 dX5_vote_117 (by decide) ?_
        obtain ⟨b9, c9, f9, hr9, ho9, hc9, hw⟩ := hw
        obtain rfl := List.mem_singleton.mp hc9
        refine j_calli (j_runV (n8 := 1) (As := [vI 3]) (rest := []) X (pc := 118) hr9 (met_X5_fails (xl x) X.hl (xG x) h x0 3 _ hw) ho9 (by decide) rfl q1988 q1990 qs33 q78 q1991 (by decide +kernel) dX5_vote_118 rfl ⟨Nat.le_of_ble_eq_true rfl, Nat.le_of_ble_eq_true rfl⟩ (Nat.le_of_ble_eq_true rfl) ⟨Nat.le_of_ble_eq_true rfl, Nat.le_of_ble_eq_true rfl⟩) (fun y118 h118 hw => ?_)
        exact j_iret X (pc := 121) hQ er (Nat.le_of_ble_eq_true rfl) (Nat.le_of_ble_eq_true rfl) dX5_vote_121 hw
  · refine j_iload X (pc := 78) 5 dX5_vote_78 rfl ?_
    refine j_aload_n X (pc := 80) 0 dX5_vote_80 rfl rfl ?_
    refine j_getq (ci := 4) X (pc := 81) in_X5 rfl (by decide) 21 (by decide) q1893 (Or.inl rfl) dX5_vote_81 hw (fun y81 hw => ?_)
    refine j_iload X (pc := 84) 4 dX5_vote_84 rfl ?_
    refine j_iload X (pc := 86) 6 dX5_vote_86 rfl ?_
    refine j_iadd X (pc := 88) dX5_vote_88 ?_
    refine j_iald X (pc := 89) 0 rfl dX5_vote_89 hw (fun y89 hw => ?_)
    refine j_iadd X (pc := 90) dX5_vote_90 ?_
    refine j_istore X (pc := 91) [(5, vI (x5 + y89)), (0, vR x0), (1, vI x1), (2, vI x2), (3, vI x3), (4, vI x4), (6, vI x6)] dX5_vote_91 (Nat.le_of_ble_eq_true rfl) rfl ?_
    refine j_iinc X (pc := 93) 6 (x6 + 1) [(6, vI (x6 + 1)), (5, vI (x5 + y89)), (0, vR x0), (1, vI x1), (2, vI x2), (3, vI x3), (4, vI x4)] dX5_vote_93 rfl rfl (Nat.le_of_ble_eq_true rfl) rfl ?_
    refine j_goto X (pc := 96) 71 dX5_vote_96 (by decide) ?_
    refine j_lv [(0, vR x0), (1, vI x1), (2, vI x2), (3, vI x3), (4, vI x4), (5, vI (x5 + y89)), (6, vI (x6 + 1))] [2, 3, 4, 5, 6, 1, 0] rfl ?_
    refine j_cs (u' := 0) (v' := 0) (Nat.le_of_ble_eq_true rfl) (Nat.le_of_ble_eq_true rfl) ?_
    exact hw
theorem met_X5_vote (l : Launch) (hlt : l.stackTraces = false) (G : GG) (h : AH) (a0 : Option Nat) (a1 : Int32) (a2 : Int32) (a3 : Int32) (P : Int32 → AH → Prop) (hw : w_X5_vote a0 a1 a2 a3 h P) : ct_i l yX5_vote (ws_ yX5_vote cX5_vote 7 (Option.some Jvm.ClassFile.FieldType.int)) rm_X5_vote G h [vR a0, vI a1, vI a2, vI a3] P := by
  refine j_starti hlt [(0, vR a0), (1, vI a1), (2, vI a2), (3, vI a3)] (plainFor_of_name (by decide)) rfl rfl (fun x X eG er en hQ => ?_)
  subst eG
  refine j_aload_n X (pc := 0) 0 dX5_vote_0 rfl rfl ?_
  refine j_iconst X (pc := 1) 0 dX5_vote_1 (by decide) ?_
  refine j_put (ci := 4) X (pc := 2) in_X5 rfl (by decide) 0 (by decide) q1872 (Or.inl rfl) tyX5 tyX5_ok nmX5 rfl rfl (ty := .int) (tyX5_ok 0 (by decide)) rfl rfl dX5_vote_2 hw (fun h2 hw => ?_)
  refine j_iload_n X (pc := 5) 1 dX5_vote_5 rfl rfl ?_
  refine j_calli (j_runS (n8 := 1) (As := [vI a1]) (rest := []) X (pc := 6) (met_X5_isUser (xl x) X.hl (xG x) h2 a1 _ hw) q1978 q1979 q78 q1980 (by decide +kernel) dX5_vote_6 rfl ⟨Nat.le_of_ble_eq_true rfl, Nat.le_of_ble_eq_true rfl⟩ (Nat.le_of_ble_eq_true rfl) ⟨Nat.le_of_ble_eq_true rfl, Nat.le_of_ble_eq_true rfl⟩) (fun y6 h6 hw => ?_)
  refine j_if_eq X (pc := 9) 21 dX5_vote_9 (by decide) hw (fun hw => ?_) (fun hw => ?_)
  · refine j_aload_n X (pc := 21) 0 dX5_vote_21 rfl rfl ?_
    refine j_iconst X (pc := 22) 1 dX5_vote_22 (by decide) ?_
    obtain ⟨b9, c9, f9, hr9, ho9, hc9, hw⟩ := hw
    obtain rfl := List.mem_singleton.mp hc9
    refine j_calli (j_runV (n8 := 1) (As := [vI 1]) (rest := []) X (pc := 23) hr9 (met_X5_fails (xl x) X.hl (xG x) h6 a0 1 _ hw) ho9 (by decide) rfl q1988 q1990 qs33 q78 q1991 (by decide +kernel) dX5_vote_23 rfl ⟨Nat.le_of_ble_eq_true rfl, Nat.le_of_ble_eq_true rfl⟩ (Nat.le_of_ble_eq_true rfl) ⟨Nat.le_of_ble_eq_true rfl, Nat.le_of_ble_eq_true rfl⟩) (fun y23 h23 hw => ?_)
    exact j_iret X (pc := 26) hQ er (Nat.le_of_ble_eq_true rfl) (Nat.le_of_ble_eq_true rfl) dX5_vote_26 hw
  · refine j_iload_n X (pc := 12) 3 dX5_vote_12 rfl rfl ?_
    refine j_iconst X (pc := 13) 0 dX5_vote_13 (by decide) ?_
    refine j_iconst X (pc := 14) 3 dX5_vote_14 (by decide) ?_
    refine j_calli (j_runS (n8 := 3) (As := [vI a3, vI 0, vI 3]) (rest := []) X (pc := 15) (met_X5_isBetween (xl x) X.hl (xG x) h6 a3 0 3 _ hw) q1981 q1982 q78 q1983 (by decide +kernel) dX5_vote_15 rfl ⟨Nat.le_of_ble_eq_true rfl, Nat.le_of_ble_eq_true rfl⟩ (Nat.le_of_ble_eq_true rfl) ⟨Nat.le_of_ble_eq_true rfl, Nat.le_of_ble_eq_true rfl⟩) (fun y15 h15 hw => ?_)
    refine j_if_ne X (pc := 18) 27 dX5_vote_18 (by decide) hw (fun hw => ?_) (fun hw => ?_)
    · refine j_aload_n X (pc := 21) 0 dX5_vote_21 rfl rfl ?_
      refine j_iconst X (pc := 22) 1 dX5_vote_22 (by decide) ?_
      obtain ⟨b9, c9, f9, hr9, ho9, hc9, hw⟩ := hw
      obtain rfl := List.mem_singleton.mp hc9
      refine j_calli (j_runV (n8 := 1) (As := [vI 1]) (rest := []) X (pc := 23) hr9 (met_X5_fails (xl x) X.hl (xG x) h15 a0 1 _ hw) ho9 (by decide) rfl q1988 q1990 qs33 q78 q1991 (by decide +kernel) dX5_vote_23 rfl ⟨Nat.le_of_ble_eq_true rfl, Nat.le_of_ble_eq_true rfl⟩ (Nat.le_of_ble_eq_true rfl) ⟨Nat.le_of_ble_eq_true rfl, Nat.le_of_ble_eq_true rfl⟩) (fun y23 h23 hw => ?_)
      exact j_iret X (pc := 26) hQ er (Nat.le_of_ble_eq_true rfl) (Nat.le_of_ble_eq_true rfl) dX5_vote_26 hw
    · refine j_aload_n X (pc := 27) 0 dX5_vote_27 rfl rfl ?_
      refine j_iload_n X (pc := 28) 1 dX5_vote_28 rfl rfl ?_
      obtain ⟨b9, c9, f9, hr9, ho9, hc9, hw⟩ := hw
      obtain rfl := List.mem_singleton.mp hc9
      refine j_callv (j_runV (n8 := 1) (As := [vI a1]) (rest := []) X (pc := 29) hr9 (met_X5_builds (xl x) X.hl (xG x) h15 a0 a1 _ hw) ho9 (by decide) rfl q1992 q1994 qs34 q78 q1995 (by decide +kernel) dX5_vote_29 rfl ⟨Nat.le_of_ble_eq_true rfl, Nat.le_of_ble_eq_true rfl⟩ (Nat.le_of_ble_eq_true rfl) ⟨Nat.le_of_ble_eq_true rfl, Nat.le_of_ble_eq_true rfl⟩) (fun h29 hw => ?_)
      refine j_aload_n X (pc := 32) 0 dX5_vote_32 rfl rfl ?_
      refine j_iload_n X (pc := 33) 2 dX5_vote_33 rfl rfl ?_
      obtain ⟨b9, c9, f9, hr9, ho9, hc9, hw⟩ := hw
      obtain rfl := List.mem_singleton.mp hc9
      refine j_calli (j_runV (n8 := 1) (As := [vI a2]) (rest := []) X (pc := 34) hr9 (met_X5_isSeen (xl x) X.hl (xG x) h29 a0 a2 _ hw) ho9 (by decide) rfl q2012 q2014 qs39 q78 q2015 (by decide +kernel) dX5_vote_34 rfl ⟨Nat.le_of_ble_eq_true rfl, Nat.le_of_ble_eq_true rfl⟩ (Nat.le_of_ble_eq_true rfl) ⟨Nat.le_of_ble_eq_true rfl, Nat.le_of_ble_eq_true rfl⟩) (fun y34 h34 hw => ?_)
      refine j_if_ne X (pc := 37) 46 dX5_vote_37 (by decide) hw (fun hw => ?_) (fun hw => ?_)
      · refine j_aload_n X (pc := 40) 0 dX5_vote_40 rfl rfl ?_
        refine j_iconst X (pc := 41) 2 dX5_vote_41 (by decide) ?_
        obtain ⟨b9, c9, f9, hr9, ho9, hc9, hw⟩ := hw
        obtain rfl := List.mem_singleton.mp hc9
        refine j_calli (j_runV (n8 := 1) (As := [vI 2]) (rest := []) X (pc := 42) hr9 (met_X5_fails (xl x) X.hl (xG x) h34 a0 2 _ hw) ho9 (by decide) rfl q1988 q1990 qs33 q78 q1991 (by decide +kernel) dX5_vote_42 rfl ⟨Nat.le_of_ble_eq_true rfl, Nat.le_of_ble_eq_true rfl⟩ (Nat.le_of_ble_eq_true rfl) ⟨Nat.le_of_ble_eq_true rfl, Nat.le_of_ble_eq_true rfl⟩) (fun y42 h42 hw => ?_)
        exact j_iret X (pc := 45) hQ er (Nat.le_of_ble_eq_true rfl) (Nat.le_of_ble_eq_true rfl) dX5_vote_45 hw
      · refine j_bipush X (pc := 46) 56 dX5_vote_46 (by decide) ?_
        refine j_bipush X (pc := 48) 12 dX5_vote_48 (by decide) ?_
        refine j_iload_n X (pc := 50) 1 dX5_vote_50 rfl rfl ?_
        refine j_imul X (pc := 51) dX5_vote_51 ?_
        refine j_iadd X (pc := 52) dX5_vote_52 ?_
        refine j_istore X (pc := 53) [(4, vI (56 + (12 * a1))), (0, vR a0), (1, vI a1), (2, vI a2), (3, vI a3)] dX5_vote_53 (Nat.le_of_ble_eq_true rfl) rfl ?_
        refine j_iload_n X (pc := 55) 4 dX5_vote_55 rfl rfl ?_
        refine j_aload_n X (pc := 56) 1 dX5_vote_56 rfl rfl ?_
        refine j_getq (ci := 4) X (pc := 57) in_X5 rfl (by decide) 21 (by decide) q1893 (Or.inl rfl) dX5_vote_57 hw (fun y57 hw => ?_)
        refine j_iload X (pc := 60) 0 dX5_vote_60 rfl ?_
        refine j_iload_n X (pc := 62) 3 dX5_vote_62 rfl rfl ?_
        refine j_iadd X (pc := 63) dX5_vote_63 ?_
        refine j_iald X (pc := 64) 0 rfl dX5_vote_64 hw (fun y64 hw => ?_)
        refine j_isub X (pc := 65) dX5_vote_65 ?_
        refine j_istore X (pc := 66) [(5, vI (a3 - y64)), (4, vI (56 + (12 * a1))), (0, vR a0), (1, vI a1), (2, vI a2), (3, vI a3)] dX5_vote_66 (Nat.le_of_ble_eq_true rfl) rfl ?_
        refine j_iconst X (pc := 68) 0 dX5_vote_68 (by decide) ?_
        refine j_istore X (pc := 69) [(6, vI 0), (5, vI (a3 - y64)), (4, vI (56 + (12 * a1))), (0, vR a0), (1, vI a1), (2, vI a2), (3, vI a3)] dX5_vote_69 (Nat.le_of_ble_eq_true rfl) rfl ?_
        refine j_lv [(0, vR a0), (1, vI a1), (2, vI a2), (3, vI a3), (4, vI (56 + (12 * a1))), (5, vI (a3 - y64)), (6, vI 0)] [3, 4, 5, 6, 2, 1, 0] rfl ?_
        refine j_cs (u' := 0) (v' := 0) (Nat.le_of_ble_eq_true rfl) (Nat.le_of_ble_eq_true rfl) ?_
        exact wk_X5_vote_71 X er en hQ a0 a1 a2 a3 (56 + (12 * a1)) (a3 - y64) 0 h34 hw
abbrev cX1_show : ByteArray := prog_1_method_37_code
def yX1_show : MethodName := ⟨RX1, "show", "(IZ)Z"⟩
def dkwX1_show_1 : List UInt8 := [4, 167, 0, 4, 3, 182, 1, 11, 21, 4, 172]
abbrev dktX1_show_1 : List UInt8 := dkwX1_show_1 ++ []
def dkwX1_show_0 : List UInt8 := [42, 27, 182, 0, 199, 78, 42, 182, 0, 207, 45, 184, 1, 60, 54, 4, 42, 45, 16, 92, 28, 153, 0, 7]
abbrev dktX1_show_0 : List UInt8 := dkwX1_show_0 ++ dktX1_show_1
theorem dksX1_show_0 : cX1_show.data.toList.drop 0 = dktX1_show_0 := by decide +kernel
theorem dksX1_show_1 : cX1_show.data.toList.drop 24 = dktX1_show_1 := dk_seg dksX1_show_0 24 rfl rfl
theorem dX1_show_0 : decode cX1_show 0 = .ok (.aload_n 0, 1) := dk_42 (dk_at dksX1_show_0 0 rfl rfl)
theorem dX1_show_1 : decode cX1_show 1 = .ok (.iload_n 1, 1) := dk_27 (dk_at dksX1_show_0 1 rfl rfl)
theorem dX1_show_2 : decode cX1_show 2 = .ok (.invokevirtual 199, 3) := dk_182 0 199 (dk_at dksX1_show_0 2 rfl rfl)
theorem dX1_show_5 : decode cX1_show 5 = .ok (.astore_n 3, 1) := dk_78 (dk_at dksX1_show_0 5 rfl rfl)
theorem dX1_show_6 : decode cX1_show 6 = .ok (.aload_n 0, 1) := dk_42 (dk_at dksX1_show_0 6 rfl rfl)
theorem dX1_show_7 : decode cX1_show 7 = .ok (.invokevirtual 207, 3) := dk_182 0 207 (dk_at dksX1_show_0 7 rfl rfl)
theorem dX1_show_10 : decode cX1_show 10 = .ok (.aload_n 3, 1) := dk_45 (dk_at dksX1_show_0 10 rfl rfl)
theorem dX1_show_11 : decode cX1_show 11 = .ok (.invokestatic 316, 3) := dk_184 1 60 (dk_at dksX1_show_0 11 rfl rfl)
theorem dX1_show_14 : decode cX1_show 14 = .ok (.istore 4, 2) := dk_54 4 (dk_at dksX1_show_0 14 rfl rfl)
theorem dX1_show_16 : decode cX1_show 16 = .ok (.aload_n 0, 1) := dk_42 (dk_at dksX1_show_0 16 rfl rfl)
theorem dX1_show_17 : decode cX1_show 17 = .ok (.aload_n 3, 1) := dk_45 (dk_at dksX1_show_0 17 rfl rfl)
theorem dX1_show_18 : decode cX1_show 18 = .ok (.bipush 92, 2) := dk_16 92 (dk_at dksX1_show_0 18 rfl rfl)
theorem dX1_show_20 : decode cX1_show 20 = .ok (.iload_n 2, 1) := dk_28 (dk_at dksX1_show_0 20 rfl rfl)
theorem dX1_show_21 : decode cX1_show 21 = .ok (.ifCond .eq 7, 3) := dk_153 0 7 (dk_at dksX1_show_0 21 rfl rfl)
theorem dX1_show_24 : decode cX1_show 24 = .ok (.iconst 1, 1) := dk_4 (dk_at dksX1_show_1 0 rfl rfl)
theorem dX1_show_25 : decode cX1_show 25 = .ok (.goto 4, 3) := dk_167 0 4 (dk_at dksX1_show_1 1 rfl rfl)
theorem dX1_show_28 : decode cX1_show 28 = .ok (.iconst 0, 1) := dk_3 (dk_at dksX1_show_1 4 rfl rfl)
theorem dX1_show_29 : decode cX1_show 29 = .ok (.invokevirtual 267, 3) := dk_182 1 11 (dk_at dksX1_show_1 5 rfl rfl)
theorem dX1_show_32 : decode cX1_show 32 = .ok (.iload 4, 2) := dk_21 4 (dk_at dksX1_show_1 8 rfl rfl)
theorem dX1_show_34 : decode cX1_show 34 = .ok (.ireturn, 1) := dk_172 (dk_at dksX1_show_1 10 rfl rfl)
abbrev rm_X1_show : Room := { frames := 11, cells := 13, slots := 206, locals := 270 }
def w_X1_show (a0 : Option Nat) (a1 : Int32) (a2 : Int32) (h : AH) (P : Int32 → AH → Prop) (PX : String → AH → Prop) : Prop :=
  is_c h a0 [0] (
  w_X1_board a0 a1 h (fun y2 h2 =>
  is_c h2 a0 [0] (
  w_X1_requireRoom a0 h2 (fun h7 =>
  w_X1_areShown y2 h7 (fun y11 h11 =>
  ((a2 = 0 →
    is_c h11 a0 [0] (
    w_X1_write a0 y2 92 0 h11 (fun h29 =>
    nrw .boolean y11 ∧
    P y11 h29))) ∧
   (¬ a2 = 0 →
    is_c h11 a0 [0] (
    w_X1_write a0 y2 92 1 h11 (fun h29 =>
    nrw .boolean y11 ∧
    P y11 h29)))))) PX)) PX)
theorem met_X1_show (l : Launch) (hlt : l.stackTraces = false) (G : GG) (h : AH) (a0 : Option Nat) (a1 : Int32) (a2 : Int32) (P : Int32 → AH → Prop) (PX : String → AH → Prop) (hw : w_X1_show a0 a1 a2 h P PX) : cx_i l yX1_show (ws_ yX1_show cX1_show 5 (Option.some Jvm.ClassFile.FieldType.boolean)) rm_X1_show G h [vR a0, vI a1, vI a2] P PX := by
  refine j_startXi hlt [(0, vR a0), (1, vI a1), (2, vI a2)] (by decide) rfl rfl (fun x X eG er en hQ hT hex => ?_)
  subst eG
  refine j_aload_n X (pc := 0) 0 dX1_show_0 rfl rfl ?_
  refine j_iload_n X (pc := 1) 1 dX1_show_1 rfl rfl ?_
  obtain ⟨b9, c9, f9, hr9, ho9, hc9, hw⟩ := hw
  obtain rfl := List.mem_singleton.mp hc9
  refine j_callXq (j_runVX (n8 := 1) (As := [vI a1]) (rest := []) X (pc := 2) hr9 (met_X1_board (xl x) X.hl (xG x) h a0 a1 _ _ hw) ho9 (by decide) rfl q297 q299 qs0 q71 q300 (by decide +kernel) dX1_show_2 rfl ⟨Nat.le_of_ble_eq_true rfl, Nat.le_of_ble_eq_true rfl⟩ (Nat.le_of_ble_eq_true rfl) ⟨Nat.le_of_ble_eq_true rfl, Nat.le_of_ble_eq_true rfl⟩) (fun E h9 hx => j_out X hT hex (Nat.le_of_ble_eq_true rfl) (Nat.le_of_ble_eq_true rfl) hx) (fun y2 h2 hw => ?_)
  refine j_astore_n X (pc := 5) [(3, vR y2), (0, vR a0), (1, vI a1), (2, vI a2)] dX1_show_5 rfl (Nat.le_of_ble_eq_true rfl) rfl ?_
  refine j_aload_n X (pc := 6) 1 dX1_show_6 rfl rfl ?_
  obtain ⟨b9, c9, f9, hr9, ho9, hc9, hw⟩ := hw
  obtain rfl := List.mem_singleton.mp hc9
  refine j_callXv (j_runVX (n8 := 0) (As := []) (rest := []) X (pc := 7) hr9 (met_X1_requireRoom (xl x) X.hl (xG x) h2 a0 _ _ hw) ho9 (by decide) rfl q400 q402 qs2 q71 q403 (by decide +kernel) dX1_show_7 rfl ⟨Nat.le_of_ble_eq_true rfl, Nat.le_of_ble_eq_true rfl⟩ (Nat.le_of_ble_eq_true rfl) ⟨Nat.le_of_ble_eq_true rfl, Nat.le_of_ble_eq_true rfl⟩) (fun E h9 hx => j_out X hT hex (Nat.le_of_ble_eq_true rfl) (Nat.le_of_ble_eq_true rfl) hx) (fun h7 hw => ?_)
  refine j_aload_n X (pc := 10) 0 dX1_show_10 rfl rfl ?_
  refine j_calli (j_runS (n8 := 1) (As := [vR y2]) (rest := []) X (pc := 11) (met_X1_areShown (xl x) X.hl (xG x) h7 y2 _ hw) q1332 q1333 q71 q1334 (by decide +kernel) dX1_show_11 rfl ⟨Nat.le_of_ble_eq_true rfl, Nat.le_of_ble_eq_true rfl⟩ (Nat.le_of_ble_eq_true rfl) ⟨Nat.le_of_ble_eq_true rfl, Nat.le_of_ble_eq_true rfl⟩) (fun y11 h11 hw => ?_)
  refine j_istore X (pc := 14) [(4, vI y11), (3, vR y2), (0, vR a0), (1, vI a1), (2, vI a2)] dX1_show_14 (Nat.le_of_ble_eq_true rfl) rfl ?_
  refine j_aload_n X (pc := 16) 2 dX1_show_16 rfl rfl ?_
  refine j_aload_n X (pc := 17) 1 dX1_show_17 rfl rfl ?_
  refine j_bipush X (pc := 18) 92 dX1_show_18 (by decide) ?_
  refine j_iload_n X (pc := 20) 4 dX1_show_20 rfl rfl ?_
  refine j_if_eq X (pc := 21) 28 dX1_show_21 (by decide) hw (fun hw => ?_) (fun hw => ?_)
  · refine j_iconst X (pc := 28) 0 dX1_show_28 (by decide) ?_
    obtain ⟨b9, c9, f9, hr9, ho9, hc9, hw⟩ := hw
    obtain rfl := List.mem_singleton.mp hc9
    refine j_callv (j_runV (n8 := 3) (As := [vR y2, vI 92, vI 0]) (rest := []) X (pc := 29) hr9 (met_X1_write (xl x) X.hl (xG x) h11 a0 y2 92 0 _ hw) ho9 (by decide) rfl q1189 q1191 qs12 q71 q1192 (by decide +kernel) dX1_show_29 rfl ⟨Nat.le_of_ble_eq_true rfl, Nat.le_of_ble_eq_true rfl⟩ (Nat.le_of_ble_eq_true rfl) ⟨Nat.le_of_ble_eq_true rfl, Nat.le_of_ble_eq_true rfl⟩) (fun h29 hw => ?_)
    refine j_iload X (pc := 32) 0 dX1_show_32 rfl ?_
    exact j_zret X (pc := 34) (ty := .boolean) hQ er hw.1.1 (Nat.le_of_ble_eq_true rfl) (Nat.le_of_ble_eq_true rfl) dX1_show_34 hw.2
  · refine j_iconst X (pc := 24) 1 dX1_show_24 (by decide) ?_
    refine j_goto X (pc := 25) 29 dX1_show_25 (by decide) ?_
    obtain ⟨b9, c9, f9, hr9, ho9, hc9, hw⟩ := hw
    obtain rfl := List.mem_singleton.mp hc9
    refine j_callv (j_runV (n8 := 3) (As := [vR y2, vI 92, vI 1]) (rest := []) X (pc := 29) hr9 (met_X1_write (xl x) X.hl (xG x) h11 a0 y2 92 1 _ hw) ho9 (by decide) rfl q1189 q1191 qs12 q71 q1192 (by decide +kernel) dX1_show_29 rfl ⟨Nat.le_of_ble_eq_true rfl, Nat.le_of_ble_eq_true rfl⟩ (Nat.le_of_ble_eq_true rfl) ⟨Nat.le_of_ble_eq_true rfl, Nat.le_of_ble_eq_true rfl⟩) (fun h29 hw => ?_)
    refine j_iload X (pc := 32) 0 dX1_show_32 rfl ?_
    exact j_zret X (pc := 34) (ty := .boolean) hQ er hw.1.1 (Nat.le_of_ble_eq_true rfl) (Nat.le_of_ble_eq_true rfl) dX1_show_34 hw.2
abbrev cX0_show : ByteArray := method_14_code
def yX0_show : MethodName := ⟨RX0, "show", "(LPlugboard;IZ[J)I"⟩
def dkwX0_show_1 : List UInt8 := [58, 4, 5, 172, 3, 172]
abbrev dktX0_show_1 : List UInt8 := dkwX0_show_1 ++ []
def dkwX0_show_0 : List UInt8 := [45, 3, 42, 27, 28, 182, 0, 55, 153, 0, 7, 10, 167, 0, 4, 9, 80, 167, 0, 11, 58, 4, 4, 172]
abbrev dktX0_show_0 : List UInt8 := dkwX0_show_0 ++ dktX0_show_1
theorem dksX0_show_0 : cX0_show.data.toList.drop 0 = dktX0_show_0 := by decide +kernel
theorem dksX0_show_1 : cX0_show.data.toList.drop 24 = dktX0_show_1 := dk_seg dksX0_show_0 24 rfl rfl
theorem dX0_show_0 : decode cX0_show 0 = .ok (.aload_n 3, 1) := dk_45 (dk_at dksX0_show_0 0 rfl rfl)
theorem dX0_show_1 : decode cX0_show 1 = .ok (.iconst 0, 1) := dk_3 (dk_at dksX0_show_0 1 rfl rfl)
theorem dX0_show_2 : decode cX0_show 2 = .ok (.aload_n 0, 1) := dk_42 (dk_at dksX0_show_0 2 rfl rfl)
theorem dX0_show_3 : decode cX0_show 3 = .ok (.iload_n 1, 1) := dk_27 (dk_at dksX0_show_0 3 rfl rfl)
theorem dX0_show_4 : decode cX0_show 4 = .ok (.iload_n 2, 1) := dk_28 (dk_at dksX0_show_0 4 rfl rfl)
theorem dX0_show_5 : decode cX0_show 5 = .ok (.invokevirtual 55, 3) := dk_182 0 55 (dk_at dksX0_show_0 5 rfl rfl)
theorem dX0_show_8 : decode cX0_show 8 = .ok (.ifCond .eq 7, 3) := dk_153 0 7 (dk_at dksX0_show_0 8 rfl rfl)
theorem dX0_show_11 : decode cX0_show 11 = .ok (.lconst 1, 1) := dk_10 (dk_at dksX0_show_0 11 rfl rfl)
theorem dX0_show_12 : decode cX0_show 12 = .ok (.goto 4, 3) := dk_167 0 4 (dk_at dksX0_show_0 12 rfl rfl)
theorem dX0_show_15 : decode cX0_show 15 = .ok (.lconst 0, 1) := dk_9 (dk_at dksX0_show_0 15 rfl rfl)
theorem dX0_show_16 : decode cX0_show 16 = .ok (.lastore, 1) := dk_80 (dk_at dksX0_show_0 16 rfl rfl)
theorem dX0_show_17 : decode cX0_show 17 = .ok (.goto 11, 3) := dk_167 0 11 (dk_at dksX0_show_0 17 rfl rfl)
theorem dX0_show_20 : decode cX0_show 20 = .ok (.astore 4, 2) := dk_58 4 (dk_at dksX0_show_0 20 rfl rfl)
theorem dX0_show_22 : decode cX0_show 22 = .ok (.iconst 1, 1) := dk_4 (dk_at dksX0_show_0 22 rfl rfl)
theorem dX0_show_23 : decode cX0_show 23 = .ok (.ireturn, 1) := dk_172 (dk_at dksX0_show_0 23 rfl rfl)
theorem dX0_show_24 : decode cX0_show 24 = .ok (.astore 4, 2) := dk_58 4 (dk_at dksX0_show_1 0 rfl rfl)
theorem dX0_show_26 : decode cX0_show 26 = .ok (.iconst 2, 1) := dk_5 (dk_at dksX0_show_1 2 rfl rfl)
theorem dX0_show_27 : decode cX0_show 27 = .ok (.ireturn, 1) := dk_172 (dk_at dksX0_show_1 3 rfl rfl)
theorem dX0_show_28 : decode cX0_show 28 = .ok (.iconst 0, 1) := dk_3 (dk_at dksX0_show_1 4 rfl rfl)
theorem dX0_show_29 : decode cX0_show 29 = .ok (.ireturn, 1) := dk_172 (dk_at dksX0_show_1 5 rfl rfl)
theorem q1341 : (Jvm.Cond.methodLink "PlugboardLaw" (55 : Nat) ({ cls := "Plugboard", name := "show", desc := "(IZ)Z" } : Jvm.MethodName)) ∈ lw_all := lw_g (lw_at lw_m6 71 rfl) rfl
theorem q1342 : (Jvm.Cond.instanceMethod ({ cls := "Plugboard", name := "show", desc := "(IZ)Z" } : Jvm.MethodName)) ∈ lw_all := lw_g (lw_at lw_m6 72 rfl) rfl
theorem q1343 : (Jvm.Cond.selects "Plugboard" ({ cls := "Plugboard", name := "show", desc := "(IZ)Z" } : Jvm.MethodName) ({ cls := "Plugboard", name := "show", desc := "(IZ)Z" } : Jvm.MethodName)) ∈ lw_all := lw_g (lw_at lw_m6 73 rfl) rfl
theorem q1344 : (Jvm.Cond.code ({ cls := "Plugboard", name := "show", desc := "(IZ)Z" } : Jvm.MethodName) prog_1_method_37_code (5 : Nat) (Option.some Jvm.ClassFile.FieldType.boolean)) ∈ lw_all := lw_g (lw_at lw_m6 74 rfl) rfl
abbrev rm_X0_show : Room := { frames := 12, cells := 13, slots := 206, locals := 294 }
def w_X0_show (a0 : Option Nat) (a1 : Int32) (a2 : Int32) (a3 : Option Nat) (h : AH) (P : Int32 → AH → Prop) : Prop :=
  is_c h a0 [0] (
  w_X1_show a0 a1 a2 h (fun y5 h5 =>
  ((y5 = 0 →
    s_L h5 a3 0 0 fun h16 =>
    P 0 h16) ∧
   (¬ y5 = 0 →
    s_L h5 a3 0 1 fun h16 =>
    P 0 h16)))
    (fun E9 h9 => (E9 = "java/lang/IllegalArgumentException" ∧ ∀ q9 : Nat,
    P 1 h9) ∨
    (E9 = "java/lang/IllegalStateException" ∧ ∀ q9 : Nat,
    P 2 h9)))
theorem met_X0_show (l : Launch) (hlt : l.stackTraces = false) (G : GG) (h : AH) (a0 : Option Nat) (a1 : Int32) (a2 : Int32) (a3 : Option Nat) (P : Int32 → AH → Prop) (hw : w_X0_show a0 a1 a2 a3 h P) : ct_i l yX0_show (wsW_ yX0_show cX0_show 5 (Option.some Jvm.ClassFile.FieldType.int) [((0 : Nat), (17 : Nat), (20 : Nat), (13 : Nat)), ((0 : Nat), (17 : Nat), (24 : Nat), (15 : Nat))]) rm_X0_show G h [vR a0, vI a1, vI a2, vR a3] P := by
  refine j_startWi hlt [(0, vR a0), (1, vI a1), (2, vI a2), (3, vR a3)] (by decide) rfl rfl (fun x X eG er en hQ hex => ?_)
  subst eG
  refine j_aload_n X (pc := 0) 3 dX0_show_0 rfl rfl ?_
  refine j_iconst X (pc := 1) 0 dX0_show_1 (by decide) ?_
  refine j_aload_n X (pc := 2) 0 dX0_show_2 rfl rfl ?_
  refine j_iload_n X (pc := 3) 1 dX0_show_3 rfl rfl ?_
  refine j_iload_n X (pc := 4) 2 dX0_show_4 rfl rfl ?_
  obtain ⟨b9, c9, f9, hr9, ho9, hc9, hw⟩ := hw
  obtain rfl := List.mem_singleton.mp hc9
  refine j_callXi (j_runVX (n8 := 2) (As := [vI a1, vI a2]) (rest := [vI 0, vR a3]) X (pc := 5) hr9 (met_X1_show (xl x) X.hl (xG x) h a0 a1 a2 _ _ hw) ho9 (by decide) rfl q1341 q1342 q1343 q71 q1344 (by decide +kernel) dX0_show_5 rfl ⟨Nat.le_of_ble_eq_true rfl, Nat.le_of_ble_eq_true rfl⟩ (Nat.le_of_ble_eq_true rfl) ⟨Nat.le_of_ble_eq_true rfl, Nat.le_of_ble_eq_true rfl⟩) ?_ (fun y5 h5 hw => ?_)
  · intro E9 h9 hx
    rcases hx with ⟨rfl, hw⟩ | ⟨rfl, hw⟩
    · refine j_catch X (pc := 5) "java/lang/IllegalArgumentException" hex [] [⟨0, 17, 24, 15⟩] ⟨0, 17, 20, 13⟩ rfl (by intro y hy; cases hy) (by decide) (by decide) q291 q312 (fun q9 => ?_)
      have hw := hw q9
      refine j_astore X (pc := 20) [(4, vR (some q9)), (0, vR a0), (1, vI a1), (2, vI a2), (3, vR a3)] dX0_show_20 (Nat.le_of_ble_eq_true rfl) rfl ?_
      refine j_iconst X (pc := 22) 1 dX0_show_22 (by decide) ?_
      exact j_iret X (pc := 23) hQ er (Nat.le_of_ble_eq_true rfl) (Nat.le_of_ble_eq_true rfl) dX0_show_23 hw
    · refine j_catch X (pc := 5) "java/lang/IllegalStateException" hex [⟨0, 17, 20, 13⟩] [] ⟨0, 17, 24, 15⟩ rfl (by intro y hy; simp only [List.mem_cons, List.not_mem_nil, or_false] at hy; subst hy; exact Or.inr ⟨by decide, "java/lang/IllegalArgumentException", q291, by decide +kernel⟩) (by decide) (by decide) q292 q387 (fun q9 => ?_)
      have hw := hw q9
      refine j_astore X (pc := 24) [(4, vR (some q9)), (0, vR a0), (1, vI a1), (2, vI a2), (3, vR a3)] dX0_show_24 (Nat.le_of_ble_eq_true rfl) rfl ?_
      refine j_iconst X (pc := 26) 2 dX0_show_26 (by decide) ?_
      exact j_iret X (pc := 27) hQ er (Nat.le_of_ble_eq_true rfl) (Nat.le_of_ble_eq_true rfl) dX0_show_27 hw
  refine j_if_eq X (pc := 8) 15 dX0_show_8 (by decide) hw (fun hw => ?_) (fun hw => ?_)
  · refine j_lconst X (pc := 15) 0 dX0_show_15 (by decide) ?_
    refine j_last X (pc := 16) dX0_show_16 hw (fun h16 hw => ?_)
    refine j_goto X (pc := 17) 28 dX0_show_17 (by decide) ?_
    refine j_iconst X (pc := 28) 0 dX0_show_28 (by decide) ?_
    exact j_iret X (pc := 29) hQ er (Nat.le_of_ble_eq_true rfl) (Nat.le_of_ble_eq_true rfl) dX0_show_29 hw
  · refine j_lconst X (pc := 11) 1 dX0_show_11 (by decide) ?_
    refine j_goto X (pc := 12) 16 dX0_show_12 (by decide) ?_
    refine j_last X (pc := 16) dX0_show_16 hw (fun h16 hw => ?_)
    refine j_goto X (pc := 17) 28 dX0_show_17 (by decide) ?_
    refine j_iconst X (pc := 28) 0 dX0_show_28 (by decide) ?_
    exact j_iret X (pc := 29) hQ er (Nat.le_of_ble_eq_true rfl) (Nat.le_of_ble_eq_true rfl) dX0_show_29 hw
abbrev cX5_isWrong : ByteArray := prog_19_method_4_code
def yX5_isWrong : MethodName := ⟨RX5, "isWrong", "(I)Z"⟩
def dkwX5_isWrong_0 : List UInt8 := [42, 27, 181, 0, 97, 3, 172]
abbrev dktX5_isWrong_0 : List UInt8 := dkwX5_isWrong_0 ++ []
theorem dksX5_isWrong_0 : cX5_isWrong.data.toList.drop 0 = dktX5_isWrong_0 := by decide +kernel
theorem dX5_isWrong_0 : decode cX5_isWrong 0 = .ok (.aload_n 0, 1) := dk_42 (dk_at dksX5_isWrong_0 0 rfl rfl)
theorem dX5_isWrong_1 : decode cX5_isWrong 1 = .ok (.iload_n 1, 1) := dk_27 (dk_at dksX5_isWrong_0 1 rfl rfl)
theorem dX5_isWrong_2 : decode cX5_isWrong 2 = .ok (.putfield 97, 3) := dk_181 0 97 (dk_at dksX5_isWrong_0 2 rfl rfl)
theorem dX5_isWrong_5 : decode cX5_isWrong 5 = .ok (.iconst 0, 1) := dk_3 (dk_at dksX5_isWrong_0 5 rfl rfl)
theorem dX5_isWrong_6 : decode cX5_isWrong 6 = .ok (.ireturn, 1) := dk_172 (dk_at dksX5_isWrong_0 6 rfl rfl)
abbrev rm_X5_isWrong : Room := { frames := 0, cells := 0, slots := 0, locals := 0 }
def w_X5_isWrong (a0 : Option Nat) (a1 : Int32) (h : AH) (P : Int32 → AH → Prop) : Prop :=
  p_v h a0 4 0 (vI a1) fun h2 =>
  P 0 h2
theorem met_X5_isWrong (l : Launch) (hlt : l.stackTraces = false) (G : GG) (h : AH) (a0 : Option Nat) (a1 : Int32) (P : Int32 → AH → Prop) (hw : w_X5_isWrong a0 a1 h P) : ct_i l yX5_isWrong (ws_ yX5_isWrong cX5_isWrong 2 (Option.some Jvm.ClassFile.FieldType.boolean)) rm_X5_isWrong G h [vR a0, vI a1] P := by
  refine j_starti hlt [(0, vR a0), (1, vI a1)] (plainFor_of_name (by decide)) rfl rfl (fun x X eG er en hQ => ?_)
  subst eG
  refine j_aload_n X (pc := 0) 0 dX5_isWrong_0 rfl rfl ?_
  refine j_iload_n X (pc := 1) 1 dX5_isWrong_1 rfl rfl ?_
  refine j_put (ci := 4) X (pc := 2) in_X5 rfl (by decide) 0 (by decide) q1872 (Or.inl rfl) tyX5 tyX5_ok nmX5 rfl rfl (ty := .int) (tyX5_ok 0 (by decide)) rfl rfl dX5_isWrong_2 hw (fun h2 hw => ?_)
  refine j_iconst X (pc := 5) 0 dX5_isWrong_5 (by decide) ?_
  exact j_zret X (pc := 6) (ty := .boolean) hQ er rfl (Nat.le_of_ble_eq_true rfl) (Nat.le_of_ble_eq_true rfl) dX5_isWrong_6 hw
abbrev cX5_show : ByteArray := prog_19_method_41_code
def yX5_show : MethodName := ⟨RX5, "show", "(IZ)Z"⟩
def dkwX5_show_3 : List UInt8 := [182, 0, 179, 42, 27, 4, 182, 0, 186, 29, 172]
abbrev dktX5_show_3 : List UInt8 := dkwX5_show_3 ++ []
def dkwX5_show_2 : List UInt8 := [4, 160, 0, 7, 4, 167, 0, 4, 3, 62, 42, 16, 92, 28, 153, 0, 7, 4, 167, 0, 4, 3]
abbrev dktX5_show_2 : List UInt8 := dkwX5_show_2 ++ dktX5_show_3
def dkwX5_show_1 : List UInt8 := [17, 0, 250, 160, 0, 9, 42, 5, 182, 0, 219, 172, 42, 27, 182, 0, 161, 42, 180, 0, 67, 16, 92, 46]
abbrev dktX5_show_1 : List UInt8 := dkwX5_show_1 ++ dktX5_show_2
def dkwX5_show_0 : List UInt8 := [42, 3, 181, 0, 97, 27, 184, 0, 165, 154, 0, 9, 42, 4, 182, 0, 219, 172, 42, 180, 0, 108]
abbrev dktX5_show_0 : List UInt8 := dkwX5_show_0 ++ dktX5_show_1
theorem dksX5_show_0 : cX5_show.data.toList.drop 0 = dktX5_show_0 := by decide +kernel
theorem dksX5_show_1 : cX5_show.data.toList.drop 22 = dktX5_show_1 := dk_seg dksX5_show_0 22 rfl rfl
theorem dksX5_show_2 : cX5_show.data.toList.drop 46 = dktX5_show_2 := dk_seg dksX5_show_1 24 rfl rfl
theorem dksX5_show_3 : cX5_show.data.toList.drop 68 = dktX5_show_3 := dk_seg dksX5_show_2 22 rfl rfl
theorem dX5_show_0 : decode cX5_show 0 = .ok (.aload_n 0, 1) := dk_42 (dk_at dksX5_show_0 0 rfl rfl)
theorem dX5_show_1 : decode cX5_show 1 = .ok (.iconst 0, 1) := dk_3 (dk_at dksX5_show_0 1 rfl rfl)
theorem dX5_show_2 : decode cX5_show 2 = .ok (.putfield 97, 3) := dk_181 0 97 (dk_at dksX5_show_0 2 rfl rfl)
theorem dX5_show_5 : decode cX5_show 5 = .ok (.iload_n 1, 1) := dk_27 (dk_at dksX5_show_0 5 rfl rfl)
theorem dX5_show_6 : decode cX5_show 6 = .ok (.invokestatic 165, 3) := dk_184 0 165 (dk_at dksX5_show_0 6 rfl rfl)
theorem dX5_show_9 : decode cX5_show 9 = .ok (.ifCond .ne 9, 3) := dk_154 0 9 (dk_at dksX5_show_0 9 rfl rfl)
theorem dX5_show_12 : decode cX5_show 12 = .ok (.aload_n 0, 1) := dk_42 (dk_at dksX5_show_0 12 rfl rfl)
theorem dX5_show_13 : decode cX5_show 13 = .ok (.iconst 1, 1) := dk_4 (dk_at dksX5_show_0 13 rfl rfl)
theorem dX5_show_14 : decode cX5_show 14 = .ok (.invokevirtual 219, 3) := dk_182 0 219 (dk_at dksX5_show_0 14 rfl rfl)
theorem dX5_show_17 : decode cX5_show 17 = .ok (.ireturn, 1) := dk_172 (dk_at dksX5_show_0 17 rfl rfl)
theorem dX5_show_18 : decode cX5_show 18 = .ok (.aload_n 0, 1) := dk_42 (dk_at dksX5_show_0 18 rfl rfl)
theorem dX5_show_19 : decode cX5_show 19 = .ok (.getfield 108, 3) := dk_180 0 108 (dk_at dksX5_show_0 19 rfl rfl)
theorem dX5_show_22 : decode cX5_show 22 = .ok (.sipush 250, 3) := dk_17 0 250 (dk_at dksX5_show_1 0 rfl rfl)
theorem dX5_show_25 : decode cX5_show 25 = .ok (.if_icmp .ne 9, 3) := dk_160 0 9 (dk_at dksX5_show_1 3 rfl rfl)
theorem dX5_show_28 : decode cX5_show 28 = .ok (.aload_n 0, 1) := dk_42 (dk_at dksX5_show_1 6 rfl rfl)
theorem dX5_show_29 : decode cX5_show 29 = .ok (.iconst 2, 1) := dk_5 (dk_at dksX5_show_1 7 rfl rfl)
theorem dX5_show_30 : decode cX5_show 30 = .ok (.invokevirtual 219, 3) := dk_182 0 219 (dk_at dksX5_show_1 8 rfl rfl)
theorem dX5_show_33 : decode cX5_show 33 = .ok (.ireturn, 1) := dk_172 (dk_at dksX5_show_1 11 rfl rfl)
theorem dX5_show_34 : decode cX5_show 34 = .ok (.aload_n 0, 1) := dk_42 (dk_at dksX5_show_1 12 rfl rfl)
theorem dX5_show_35 : decode cX5_show 35 = .ok (.iload_n 1, 1) := dk_27 (dk_at dksX5_show_1 13 rfl rfl)
theorem dX5_show_36 : decode cX5_show 36 = .ok (.invokevirtual 161, 3) := dk_182 0 161 (dk_at dksX5_show_1 14 rfl rfl)
theorem dX5_show_39 : decode cX5_show 39 = .ok (.aload_n 0, 1) := dk_42 (dk_at dksX5_show_1 17 rfl rfl)
theorem dX5_show_40 : decode cX5_show 40 = .ok (.getfield 67, 3) := dk_180 0 67 (dk_at dksX5_show_1 18 rfl rfl)
theorem dX5_show_43 : decode cX5_show 43 = .ok (.bipush 92, 2) := dk_16 92 (dk_at dksX5_show_1 21 rfl rfl)
theorem dX5_show_45 : decode cX5_show 45 = .ok (.iaload, 1) := dk_46 (dk_at dksX5_show_1 23 rfl rfl)
theorem dX5_show_46 : decode cX5_show 46 = .ok (.iconst 1, 1) := dk_4 (dk_at dksX5_show_2 0 rfl rfl)
theorem dX5_show_47 : decode cX5_show 47 = .ok (.if_icmp .ne 7, 3) := dk_160 0 7 (dk_at dksX5_show_2 1 rfl rfl)
theorem dX5_show_50 : decode cX5_show 50 = .ok (.iconst 1, 1) := dk_4 (dk_at dksX5_show_2 4 rfl rfl)
theorem dX5_show_51 : decode cX5_show 51 = .ok (.goto 4, 3) := dk_167 0 4 (dk_at dksX5_show_2 5 rfl rfl)
theorem dX5_show_54 : decode cX5_show 54 = .ok (.iconst 0, 1) := dk_3 (dk_at dksX5_show_2 8 rfl rfl)
theorem dX5_show_55 : decode cX5_show 55 = .ok (.istore_n 3, 1) := dk_62 (dk_at dksX5_show_2 9 rfl rfl)
theorem dX5_show_56 : decode cX5_show 56 = .ok (.aload_n 0, 1) := dk_42 (dk_at dksX5_show_2 10 rfl rfl)
theorem dX5_show_57 : decode cX5_show 57 = .ok (.bipush 92, 2) := dk_16 92 (dk_at dksX5_show_2 11 rfl rfl)
theorem dX5_show_59 : decode cX5_show 59 = .ok (.iload_n 2, 1) := dk_28 (dk_at dksX5_show_2 13 rfl rfl)
theorem dX5_show_60 : decode cX5_show 60 = .ok (.ifCond .eq 7, 3) := dk_153 0 7 (dk_at dksX5_show_2 14 rfl rfl)
theorem dX5_show_63 : decode cX5_show 63 = .ok (.iconst 1, 1) := dk_4 (dk_at dksX5_show_2 17 rfl rfl)
theorem dX5_show_64 : decode cX5_show 64 = .ok (.goto 4, 3) := dk_167 0 4 (dk_at dksX5_show_2 18 rfl rfl)
theorem dX5_show_67 : decode cX5_show 67 = .ok (.iconst 0, 1) := dk_3 (dk_at dksX5_show_2 21 rfl rfl)
theorem dX5_show_68 : decode cX5_show 68 = .ok (.invokevirtual 179, 3) := dk_182 0 179 (dk_at dksX5_show_3 0 rfl rfl)
theorem dX5_show_71 : decode cX5_show 71 = .ok (.aload_n 0, 1) := dk_42 (dk_at dksX5_show_3 3 rfl rfl)
theorem dX5_show_72 : decode cX5_show 72 = .ok (.iload_n 1, 1) := dk_27 (dk_at dksX5_show_3 4 rfl rfl)
theorem dX5_show_73 : decode cX5_show 73 = .ok (.iconst 1, 1) := dk_4 (dk_at dksX5_show_3 5 rfl rfl)
theorem dX5_show_74 : decode cX5_show 74 = .ok (.invokevirtual 186, 3) := dk_182 0 186 (dk_at dksX5_show_3 6 rfl rfl)
theorem dX5_show_77 : decode cX5_show 77 = .ok (.iload_n 3, 1) := dk_29 (dk_at dksX5_show_3 9 rfl rfl)
theorem dX5_show_78 : decode cX5_show 78 = .ok (.ireturn, 1) := dk_172 (dk_at dksX5_show_3 10 rfl rfl)
theorem q2126 : (Jvm.Cond.methodLink "PlugboardModel" (219 : Nat) ({ cls := "PlugboardModel", name := "isWrong", desc := "(I)Z" } : Jvm.MethodName)) ∈ lw_all := lw_g (lw_at lw_m9 136 rfl) rfl
theorem q2128 : (Jvm.Cond.instanceMethod ({ cls := "PlugboardModel", name := "isWrong", desc := "(I)Z" } : Jvm.MethodName)) ∈ lw_all := lw_g (lw_at lw_m9 138 rfl) rfl
theorem q2129 : (Jvm.Cond.code ({ cls := "PlugboardModel", name := "isWrong", desc := "(I)Z" } : Jvm.MethodName) prog_19_method_4_code (2 : Nat) (Option.some Jvm.ClassFile.FieldType.boolean)) ∈ lw_all := lw_g (lw_at lw_m9 139 rfl) rfl
abbrev rm_X5_show : Room := { frames := 4, cells := 0, slots := 0, locals := 90 }
def w_X5_show_55 (P : Int32 → AH → Prop) (x0 : Option Nat) (x1 : Int32) (x2 : Int32) (t0 : Int32) (h : AH) : Prop :=
  ((x2 = 0 →
    is_c h x0 [4] (
    w_X5_plans x0 92 0 h (fun h68 =>
    is_c h68 x0 [4] (
    w_X5_makes x0 x1 1 h68 (fun h74 =>
    nrw .boolean t0 ∧
    P t0 h74))))) ∧
   (¬ x2 = 0 →
    is_c h x0 [4] (
    w_X5_plans x0 92 1 h (fun h68 =>
    is_c h68 x0 [4] (
    w_X5_makes x0 x1 1 h68 (fun h74 =>
    nrw .boolean t0 ∧
    P t0 h74))))))
def w_X5_show (a0 : Option Nat) (a1 : Int32) (a2 : Int32) (h : AH) (P : Int32 → AH → Prop) : Prop :=
  p_v h a0 4 0 (vI 0) fun h2 =>
  w_X5_isUser a1 h2 (fun y6 h6 =>
  ((y6 = 0 →
    is_c h6 a0 [4] (
    w_X5_isWrong a0 1 h6 (fun y14 h14 =>
    nrw .boolean y14 ∧
    P y14 h14))) ∧
   (¬ y6 = 0 →
    g_i h6 a0 4 20 fun y19 =>
    ((y19 = 250 →
      is_c h6 a0 [4] (
      w_X5_isWrong a0 2 h6 (fun y30 h30 =>
      nrw .boolean y30 ∧
      P y30 h30))) ∧
     (¬ y19 = 250 →
      is_c h6 a0 [4] (
      w_X5_builds a0 a1 h6 (fun h36 =>
      g_q h36 a0 4 21 fun y40 =>
      l_i h36 y40 0 92 fun y45 =>
      ((y45 = 1 →
        w_X5_show_55 P a0 a1 a2 1 h36) ∧
       (¬ y45 = 1 →
        w_X5_show_55 P a0 a1 a2 0 h36)))))))))
theorem wk_X5_show_55 {x : CX} (X : Ok x cX5_show RX5 rm_X5_show 4) (er : xrt x = (Option.some Jvm.ClassFile.FieldType.boolean)) (en : xnm x = yX5_show.name) {P : Int32 → AH → Prop} (hQ : xr_i x P) (x0 : Option Nat) (x1 : Int32) (x2 : Int32) (t0 : Int32) (h : AH) (hw : w_X5_show_55 P x0 x1 x2 t0 h) : J x h 0 0 55 [(0, vR x0), (1, vI x1), (2, vI x2)] [vI t0] := by
  refine j_istore_n X (pc := 55) [(3, vI t0), (0, vR x0), (1, vI x1), (2, vI x2)] dX5_show_55 rfl (Nat.le_of_ble_eq_true rfl) rfl ?_
  refine j_aload_n X (pc := 56) 1 dX5_show_56 rfl rfl ?_
  refine j_bipush X (pc := 57) 92 dX5_show_57 (by decide) ?_
  refine j_iload_n X (pc := 59) 3 dX5_show_59 rfl rfl ?_
  refine j_if_eq X (pc := 60) 67 dX5_show_60 (by decide) hw (fun hw => ?_) (fun hw => ?_)
  · refine j_iconst X (pc := 67) 0 dX5_show_67 (by decide) ?_
    obtain ⟨b9, c9, f9, hr9, ho9, hc9, hw⟩ := hw
    obtain rfl := List.mem_singleton.mp hc9
    refine j_callv (j_runV (n8 := 2) (As := [vI 92, vI 0]) (rest := []) X (pc := 68) hr9 (met_X5_plans (xl x) X.hl (xG x) h x0 92 0 _ hw) ho9 (by decide) rfl q2021 q2023 qs41 q78 q2024 (by decide +kernel) dX5_show_68 rfl ⟨Nat.le_of_ble_eq_true rfl, Nat.le_of_ble_eq_true rfl⟩ (Nat.le_of_ble_eq_true rfl) ⟨Nat.le_of_ble_eq_true rfl, Nat.le_of_ble_eq_true rfl⟩) (fun h68 hw => ?_)
    refine j_aload_n X (pc := 71) 1 dX5_show_71 rfl rfl ?_
    refine j_iload_n X (pc := 72) 2 dX5_show_72 rfl rfl ?_
    refine j_iconst X (pc := 73) 1 dX5_show_73 (by decide) ?_
    obtain ⟨b9, c9, f9, hr9, ho9, hc9, hw⟩ := hw
    obtain rfl := List.mem_singleton.mp hc9
    refine j_callv (j_runV (n8 := 2) (As := [vI x1, vI 1]) (rest := []) X (pc := 74) hr9 (met_X5_makes (xl x) X.hl (xG x) h68 x0 x1 1 _ hw) ho9 (by decide) rfl q2030 q2032 qs43 q78 q2033 (by decide +kernel) dX5_show_74 rfl ⟨Nat.le_of_ble_eq_true rfl, Nat.le_of_ble_eq_true rfl⟩ (Nat.le_of_ble_eq_true rfl) ⟨Nat.le_of_ble_eq_true rfl, Nat.le_of_ble_eq_true rfl⟩) (fun h74 hw => ?_)
    refine j_iload_n X (pc := 77) 0 dX5_show_77 rfl rfl ?_
    exact j_zret X (pc := 78) (ty := .boolean) hQ er hw.1.1 (Nat.le_of_ble_eq_true rfl) (Nat.le_of_ble_eq_true rfl) dX5_show_78 hw.2
  · refine j_iconst X (pc := 63) 1 dX5_show_63 (by decide) ?_
    refine j_goto X (pc := 64) 68 dX5_show_64 (by decide) ?_
    obtain ⟨b9, c9, f9, hr9, ho9, hc9, hw⟩ := hw
    obtain rfl := List.mem_singleton.mp hc9
    refine j_callv (j_runV (n8 := 2) (As := [vI 92, vI 1]) (rest := []) X (pc := 68) hr9 (met_X5_plans (xl x) X.hl (xG x) h x0 92 1 _ hw) ho9 (by decide) rfl q2021 q2023 qs41 q78 q2024 (by decide +kernel) dX5_show_68 rfl ⟨Nat.le_of_ble_eq_true rfl, Nat.le_of_ble_eq_true rfl⟩ (Nat.le_of_ble_eq_true rfl) ⟨Nat.le_of_ble_eq_true rfl, Nat.le_of_ble_eq_true rfl⟩) (fun h68 hw => ?_)
    refine j_aload_n X (pc := 71) 1 dX5_show_71 rfl rfl ?_
    refine j_iload_n X (pc := 72) 2 dX5_show_72 rfl rfl ?_
    refine j_iconst X (pc := 73) 1 dX5_show_73 (by decide) ?_
    obtain ⟨b9, c9, f9, hr9, ho9, hc9, hw⟩ := hw
    obtain rfl := List.mem_singleton.mp hc9
    refine j_callv (j_runV (n8 := 2) (As := [vI x1, vI 1]) (rest := []) X (pc := 74) hr9 (met_X5_makes (xl x) X.hl (xG x) h68 x0 x1 1 _ hw) ho9 (by decide) rfl q2030 q2032 qs43 q78 q2033 (by decide +kernel) dX5_show_74 rfl ⟨Nat.le_of_ble_eq_true rfl, Nat.le_of_ble_eq_true rfl⟩ (Nat.le_of_ble_eq_true rfl) ⟨Nat.le_of_ble_eq_true rfl, Nat.le_of_ble_eq_true rfl⟩) (fun h74 hw => ?_)
    refine j_iload_n X (pc := 77) 0 dX5_show_77 rfl rfl ?_
    exact j_zret X (pc := 78) (ty := .boolean) hQ er hw.1.1 (Nat.le_of_ble_eq_true rfl) (Nat.le_of_ble_eq_true rfl) dX5_show_78 hw.2
theorem met_X5_show (l : Launch) (hlt : l.stackTraces = false) (G : GG) (h : AH) (a0 : Option Nat) (a1 : Int32) (a2 : Int32) (P : Int32 → AH → Prop) (hw : w_X5_show a0 a1 a2 h P) : ct_i l yX5_show (ws_ yX5_show cX5_show 4 (Option.some Jvm.ClassFile.FieldType.boolean)) rm_X5_show G h [vR a0, vI a1, vI a2] P := by
  refine j_starti hlt [(0, vR a0), (1, vI a1), (2, vI a2)] (plainFor_of_name (by decide)) rfl rfl (fun x X eG er en hQ => ?_)
  subst eG
  refine j_aload_n X (pc := 0) 0 dX5_show_0 rfl rfl ?_
  refine j_iconst X (pc := 1) 0 dX5_show_1 (by decide) ?_
  refine j_put (ci := 4) X (pc := 2) in_X5 rfl (by decide) 0 (by decide) q1872 (Or.inl rfl) tyX5 tyX5_ok nmX5 rfl rfl (ty := .int) (tyX5_ok 0 (by decide)) rfl rfl dX5_show_2 hw (fun h2 hw => ?_)
  refine j_iload_n X (pc := 5) 1 dX5_show_5 rfl rfl ?_
  refine j_calli (j_runS (n8 := 1) (As := [vI a1]) (rest := []) X (pc := 6) (met_X5_isUser (xl x) X.hl (xG x) h2 a1 _ hw) q1978 q1979 q78 q1980 (by decide +kernel) dX5_show_6 rfl ⟨Nat.le_of_ble_eq_true rfl, Nat.le_of_ble_eq_true rfl⟩ (Nat.le_of_ble_eq_true rfl) ⟨Nat.le_of_ble_eq_true rfl, Nat.le_of_ble_eq_true rfl⟩) (fun y6 h6 hw => ?_)
  refine j_if_ne X (pc := 9) 18 dX5_show_9 (by decide) hw (fun hw => ?_) (fun hw => ?_)
  · refine j_aload_n X (pc := 12) 0 dX5_show_12 rfl rfl ?_
    refine j_iconst X (pc := 13) 1 dX5_show_13 (by decide) ?_
    obtain ⟨b9, c9, f9, hr9, ho9, hc9, hw⟩ := hw
    obtain rfl := List.mem_singleton.mp hc9
    refine j_calli (j_runV (n8 := 1) (As := [vI 1]) (rest := []) X (pc := 14) hr9 (met_X5_isWrong (xl x) X.hl (xG x) h6 a0 1 _ hw) ho9 (by decide) rfl q2126 q2128 qs55 q78 q2129 (by decide +kernel) dX5_show_14 rfl ⟨Nat.le_of_ble_eq_true rfl, Nat.le_of_ble_eq_true rfl⟩ (Nat.le_of_ble_eq_true rfl) ⟨Nat.le_of_ble_eq_true rfl, Nat.le_of_ble_eq_true rfl⟩) (fun y14 h14 hw => ?_)
    exact j_zret X (pc := 17) (ty := .boolean) hQ er hw.1.1 (Nat.le_of_ble_eq_true rfl) (Nat.le_of_ble_eq_true rfl) dX5_show_17 hw.2
  · refine j_aload_n X (pc := 18) 0 dX5_show_18 rfl rfl ?_
    refine j_geti (ci := 4) X (pc := 19) in_X5 rfl (by decide) 20 (by decide) q1892 (Or.inl rfl) dX5_show_19 hw (fun y19 hw => ?_)
    refine j_sipush X (pc := 22) 250 dX5_show_22 (by decide) ?_
    refine j_icmp_ne X (pc := 25) 34 dX5_show_25 (by decide) hw (fun hw => ?_) (fun hw => ?_)
    · refine j_aload_n X (pc := 28) 0 dX5_show_28 rfl rfl ?_
      refine j_iconst X (pc := 29) 2 dX5_show_29 (by decide) ?_
      obtain ⟨b9, c9, f9, hr9, ho9, hc9, hw⟩ := hw
      obtain rfl := List.mem_singleton.mp hc9
      refine j_calli (j_runV (n8 := 1) (As := [vI 2]) (rest := []) X (pc := 30) hr9 (met_X5_isWrong (xl x) X.hl (xG x) h6 a0 2 _ hw) ho9 (by decide) rfl q2126 q2128 qs55 q78 q2129 (by decide +kernel) dX5_show_30 rfl ⟨Nat.le_of_ble_eq_true rfl, Nat.le_of_ble_eq_true rfl⟩ (Nat.le_of_ble_eq_true rfl) ⟨Nat.le_of_ble_eq_true rfl, Nat.le_of_ble_eq_true rfl⟩) (fun y30 h30 hw => ?_)
      exact j_zret X (pc := 33) (ty := .boolean) hQ er hw.1.1 (Nat.le_of_ble_eq_true rfl) (Nat.le_of_ble_eq_true rfl) dX5_show_33 hw.2
    · refine j_aload_n X (pc := 34) 0 dX5_show_34 rfl rfl ?_
      refine j_iload_n X (pc := 35) 1 dX5_show_35 rfl rfl ?_
      obtain ⟨b9, c9, f9, hr9, ho9, hc9, hw⟩ := hw
      obtain rfl := List.mem_singleton.mp hc9
      refine j_callv (j_runV (n8 := 1) (As := [vI a1]) (rest := []) X (pc := 36) hr9 (met_X5_builds (xl x) X.hl (xG x) h6 a0 a1 _ hw) ho9 (by decide) rfl q1992 q1994 qs34 q78 q1995 (by decide +kernel) dX5_show_36 rfl ⟨Nat.le_of_ble_eq_true rfl, Nat.le_of_ble_eq_true rfl⟩ (Nat.le_of_ble_eq_true rfl) ⟨Nat.le_of_ble_eq_true rfl, Nat.le_of_ble_eq_true rfl⟩) (fun h36 hw => ?_)
      refine j_aload_n X (pc := 39) 0 dX5_show_39 rfl rfl ?_
      refine j_getq (ci := 4) X (pc := 40) in_X5 rfl (by decide) 21 (by decide) q1893 (Or.inl rfl) dX5_show_40 hw (fun y40 hw => ?_)
      refine j_bipush X (pc := 43) 92 dX5_show_43 (by decide) ?_
      refine j_iald X (pc := 45) 0 rfl dX5_show_45 hw (fun y45 hw => ?_)
      refine j_iconst X (pc := 46) 1 dX5_show_46 (by decide) ?_
      refine j_icmp_ne X (pc := 47) 54 dX5_show_47 (by decide) hw (fun hw => ?_) (fun hw => ?_)
      · refine j_iconst X (pc := 50) 1 dX5_show_50 (by decide) ?_
        refine j_goto X (pc := 51) 55 dX5_show_51 (by decide) ?_
        refine j_cs (u' := 0) (v' := 0) (Nat.le_of_ble_eq_true rfl) (Nat.le_of_ble_eq_true rfl) ?_
        exact wk_X5_show_55 X er en hQ a0 a1 a2 1 h36 hw
      · refine j_iconst X (pc := 54) 0 dX5_show_54 (by decide) ?_
        refine j_cs (u' := 0) (v' := 0) (Nat.le_of_ble_eq_true rfl) (Nat.le_of_ble_eq_true rfl) ?_
        exact wk_X5_show_55 X er en hQ a0 a1 a2 0 h36 hw
abbrev cX1_lastStep : ByteArray := prog_1_method_38_code
def yX1_lastStep : MethodName := ⟨RX1, "lastStep", "(I)LPlugboard$Operation;"⟩
def dkwX1_lastStep_2 : List UInt8 := [154, 0, 5, 45, 176, 132, 2, 255, 167, 255, 213, 187, 0, 15, 89, 183, 0, 17, 191]
abbrev dktX1_lastStep_2 : List UInt8 := dkwX1_lastStep_2 ++ []
def dkwX1_lastStep_1 : List UInt8 := [192, 0, 145, 78, 45, 180, 1, 68, 27, 160, 0, 19, 45, 180, 1, 69, 153, 0, 12, 45, 180, 1, 73]
abbrev dktX1_lastStep_1 : List UInt8 := dkwX1_lastStep_1 ++ dktX1_lastStep_2
def dkwX1_lastStep_0 : List UInt8 := [42, 180, 0, 62, 182, 0, 126, 4, 100, 61, 28, 155, 0, 45, 42, 180, 0, 62, 28, 182, 0, 121]
abbrev dktX1_lastStep_0 : List UInt8 := dkwX1_lastStep_0 ++ dktX1_lastStep_1
theorem dksX1_lastStep_0 : cX1_lastStep.data.toList.drop 0 = dktX1_lastStep_0 := by decide +kernel
theorem dksX1_lastStep_1 : cX1_lastStep.data.toList.drop 22 = dktX1_lastStep_1 := dk_seg dksX1_lastStep_0 22 rfl rfl
theorem dksX1_lastStep_2 : cX1_lastStep.data.toList.drop 45 = dktX1_lastStep_2 := dk_seg dksX1_lastStep_1 23 rfl rfl
theorem dX1_lastStep_0 : decode cX1_lastStep 0 = .ok (.aload_n 0, 1) := dk_42 (dk_at dksX1_lastStep_0 0 rfl rfl)
theorem dX1_lastStep_1 : decode cX1_lastStep 1 = .ok (.getfield 62, 3) := dk_180 0 62 (dk_at dksX1_lastStep_0 1 rfl rfl)
theorem dX1_lastStep_4 : decode cX1_lastStep 4 = .ok (.invokevirtual 126, 3) := dk_182 0 126 (dk_at dksX1_lastStep_0 4 rfl rfl)
theorem dX1_lastStep_7 : decode cX1_lastStep 7 = .ok (.iconst 1, 1) := dk_4 (dk_at dksX1_lastStep_0 7 rfl rfl)
theorem dX1_lastStep_8 : decode cX1_lastStep 8 = .ok (.isub, 1) := dk_100 (dk_at dksX1_lastStep_0 8 rfl rfl)
theorem dX1_lastStep_9 : decode cX1_lastStep 9 = .ok (.istore_n 2, 1) := dk_61 (dk_at dksX1_lastStep_0 9 rfl rfl)
theorem dX1_lastStep_10 : decode cX1_lastStep 10 = .ok (.iload_n 2, 1) := dk_28 (dk_at dksX1_lastStep_0 10 rfl rfl)
theorem dX1_lastStep_11 : decode cX1_lastStep 11 = .ok (.ifCond .lt 45, 3) := dk_155 0 45 (dk_at dksX1_lastStep_0 11 rfl rfl)
theorem dX1_lastStep_14 : decode cX1_lastStep 14 = .ok (.aload_n 0, 1) := dk_42 (dk_at dksX1_lastStep_0 14 rfl rfl)
theorem dX1_lastStep_15 : decode cX1_lastStep 15 = .ok (.getfield 62, 3) := dk_180 0 62 (dk_at dksX1_lastStep_0 15 rfl rfl)
theorem dX1_lastStep_18 : decode cX1_lastStep 18 = .ok (.iload_n 2, 1) := dk_28 (dk_at dksX1_lastStep_0 18 rfl rfl)
theorem dX1_lastStep_19 : decode cX1_lastStep 19 = .ok (.invokevirtual 121, 3) := dk_182 0 121 (dk_at dksX1_lastStep_0 19 rfl rfl)
theorem dX1_lastStep_22 : decode cX1_lastStep 22 = .ok (.checkcast 145, 3) := dk_192 0 145 (dk_at dksX1_lastStep_1 0 rfl rfl)
theorem dX1_lastStep_25 : decode cX1_lastStep 25 = .ok (.astore_n 3, 1) := dk_78 (dk_at dksX1_lastStep_1 3 rfl rfl)
theorem dX1_lastStep_26 : decode cX1_lastStep 26 = .ok (.aload_n 3, 1) := dk_45 (dk_at dksX1_lastStep_1 4 rfl rfl)
theorem dX1_lastStep_27 : decode cX1_lastStep 27 = .ok (.getfield 324, 3) := dk_180 1 68 (dk_at dksX1_lastStep_1 5 rfl rfl)
theorem dX1_lastStep_30 : decode cX1_lastStep 30 = .ok (.iload_n 1, 1) := dk_27 (dk_at dksX1_lastStep_1 8 rfl rfl)
theorem dX1_lastStep_31 : decode cX1_lastStep 31 = .ok (.if_icmp .ne 19, 3) := dk_160 0 19 (dk_at dksX1_lastStep_1 9 rfl rfl)
theorem dX1_lastStep_34 : decode cX1_lastStep 34 = .ok (.aload_n 3, 1) := dk_45 (dk_at dksX1_lastStep_1 12 rfl rfl)
theorem dX1_lastStep_35 : decode cX1_lastStep 35 = .ok (.getfield 325, 3) := dk_180 1 69 (dk_at dksX1_lastStep_1 13 rfl rfl)
theorem dX1_lastStep_38 : decode cX1_lastStep 38 = .ok (.ifCond .eq 12, 3) := dk_153 0 12 (dk_at dksX1_lastStep_1 16 rfl rfl)
theorem dX1_lastStep_41 : decode cX1_lastStep 41 = .ok (.aload_n 3, 1) := dk_45 (dk_at dksX1_lastStep_1 19 rfl rfl)
theorem dX1_lastStep_42 : decode cX1_lastStep 42 = .ok (.getfield 329, 3) := dk_180 1 73 (dk_at dksX1_lastStep_1 20 rfl rfl)
theorem dX1_lastStep_45 : decode cX1_lastStep 45 = .ok (.ifCond .ne 5, 3) := dk_154 0 5 (dk_at dksX1_lastStep_2 0 rfl rfl)
theorem dX1_lastStep_48 : decode cX1_lastStep 48 = .ok (.aload_n 3, 1) := dk_45 (dk_at dksX1_lastStep_2 3 rfl rfl)
theorem dX1_lastStep_49 : decode cX1_lastStep 49 = .ok (.areturn, 1) := dk_176 (dk_at dksX1_lastStep_2 4 rfl rfl)
theorem dX1_lastStep_50 : decode cX1_lastStep 50 = .ok (.iinc 2 (-1), 3) := dk_132 2 255 (dk_at dksX1_lastStep_2 5 rfl rfl)
theorem dX1_lastStep_53 : decode cX1_lastStep 53 = .ok (.goto (-43), 3) := dk_167 255 213 (dk_at dksX1_lastStep_2 8 rfl rfl)
theorem dX1_lastStep_56 : decode cX1_lastStep 56 = .ok (.new 15, 3) := dk_187 0 15 (dk_at dksX1_lastStep_2 11 rfl rfl)
theorem dX1_lastStep_59 : decode cX1_lastStep 59 = .ok (.dup, 1) := dk_89 (dk_at dksX1_lastStep_2 14 rfl rfl)
theorem dX1_lastStep_60 : decode cX1_lastStep 60 = .ok (.invokespecial 17, 3) := dk_183 0 17 (dk_at dksX1_lastStep_2 15 rfl rfl)
theorem dX1_lastStep_63 : decode cX1_lastStep 63 = .ok (.athrow, 1) := dk_191 (dk_at dksX1_lastStep_2 18 rfl rfl)
theorem q702 : (Jvm.Cond.fieldLinkNest "Plugboard" (324 : Nat) "Plugboard$Operation" "user" "I" "Plugboard") ∈ lw_tbl := lw_at lw_m3 152 rfl
theorem q718 : (Jvm.Cond.fieldLinkNest "Plugboard" (325 : Nat) "Plugboard$Operation" "isStep" "Z" "Plugboard") ∈ lw_tbl := lw_at lw_m3 168 rfl
theorem q719 : (Jvm.Cond.fieldLinkNest "Plugboard" (329 : Nat) "Plugboard$Operation" "isTakenBack" "Z" "Plugboard") ∈ lw_tbl := lw_at lw_m3 169 rfl
abbrev rm_X1_lastStep : Room := { frames := 6, cells := 1, slots := 6, locals := 81 }
def w_X1_lastStep_10 (P : Option Nat → AH → Prop) (PX : String → AH → Prop) (x0 : Option Nat) (x1 : Int32) (x2 : Int32) (h : AH) : Prop :=
  ∀ Z10 : Int32 → AH → Prop, (∀ x2 h, (
      ((x2 < 0 →
        PX "java/util/NoSuchElementException" h) ∧
       (¬ x2 < 0 →
        g_q h x0 0 2 fun y15 =>
        is_c h y15 [15] (
        w_J2_get y15 x2 h (fun y19 h19 =>
        is_c h19 y19 [9] (
        g_i h19 y19 9 1 fun y27 =>
        ((y27 = x1 →
          g_i h19 y19 9 8 fun y35 =>
          ((y35 = 0 →
            Z10 (x2 + (-1)) h19) ∧
           (¬ y35 = 0 →
            g_i h19 y19 9 9 fun y42 =>
            ((y42 = 0 →
              P y19 h19) ∧
             (¬ y42 = 0 →
              Z10 (x2 + (-1)) h19))))) ∧
         (¬ y27 = x1 →
          Z10 (x2 + (-1)) h19))))))))
      → Z10 x2 h) → Z10 x2 h
theorem at_X1_lastStep_56 : ∀ w ∈ vx_at0 RX1 17 "java/util/NoSuchElementException" ["java/lang/RuntimeException", "java/lang/Exception"], w ∈ lw_tbl := ah_in _ [79, 332, 341, 350, 353, 355, 333, 334, 125, 126, 335, 340, 351, 368, 322, 369, 324, 370, 326, 336, 338, 328, 545, 546, 547, 360, 313, 360, 361, 362, 363, 315, 363, 364, 365, 333, 317, 1084, 536, 537, 538, 349, 539, 540, 541, 542, 366, 330, 543] (by decide +kernel)
def w_X1_lastStep (a0 : Option Nat) (a1 : Int32) (h : AH) (P : Option Nat → AH → Prop) (PX : String → AH → Prop) : Prop :=
  g_q h a0 0 2 fun y1 =>
  is_c h y1 [15] (
  w_J2_size y1 h (fun y4 h4 =>
  w_X1_lastStep_10 P PX a0 a1 (y4 - 1) h4))
theorem wk_X1_lastStep_10 {x : CX} (X : Ok x cX1_lastStep RX1 rm_X1_lastStep 4) (er : xrt x = (Option.some (Jvm.ClassFile.FieldType.object "Plugboard$Operation"))) (en : xnm x = yX1_lastStep.name) {P : Option Nat → AH → Prop} {PX : String → AH → Prop} (hQ : xr_q x P) (hT : xt_ x PX) (hex : ∀ z ∈ x.2.2.2.2.2.2.2.2.2.1.exceptionTable.toList, False) (x0 : Option Nat) (x1 : Int32) (x2 : Int32) (h : AH) (hw : w_X1_lastStep_10 P PX x0 x1 x2 h) : J x h 0 0 10 [(0, vR x0), (1, vI x1), (2, vI x2)] [] := by
  refine hw (fun x2 h => J x h 0 0 10 [(0, vR x0), (1, vI x1), (2, vI x2)] []) (fun x2 h hw => ?_)
  refine j_iload_n X (pc := 10) 2 dX1_lastStep_10 rfl rfl ?_
  refine j_if_lt X (pc := 11) 56 dX1_lastStep_11 (by decide) hw (fun hw => ?_) (fun hw => ?_)
  · exact j_throw X (pc := 56) (names := ["java/lang/RuntimeException", "java/lang/Exception"]) hT hex (by decide +kernel) (by decide +kernel) q1083 q89 at_X1_lastStep_56 (by decide +kernel) dX1_lastStep_56 dX1_lastStep_59 dX1_lastStep_60 dX1_lastStep_63 ⟨Nat.le_of_ble_eq_true rfl, Nat.le_of_ble_eq_true rfl⟩ (Nat.le_of_ble_eq_true rfl) (Nat.le_of_ble_eq_true rfl) hw
  · refine j_aload_n X (pc := 14) 0 dX1_lastStep_14 rfl rfl ?_
    refine j_getq (ci := 0) X (pc := 15) in_X1 rfl (by decide) 2 (by decide) q243 (Or.inl rfl) dX1_lastStep_15 hw (fun y15 hw => ?_)
    refine j_iload_n X (pc := 18) 2 dX1_lastStep_18 rfl rfl ?_
    obtain ⟨b9, c9, f9, hr9, ho9, hc9, hw⟩ := hw
    obtain rfl := List.mem_singleton.mp hc9
    refine j_callq (j_runV (n8 := 1) (As := [vI x2]) (rest := []) X (pc := 19) hr9 (met_J2_get (xl x) X.hl (xG x) h y15 x2 _ hw) ho9 (by decide) rfl q1074 q512 q513 q74 q514 (by decide +kernel) dX1_lastStep_19 rfl ⟨Nat.le_of_ble_eq_true rfl, Nat.le_of_ble_eq_true rfl⟩ (Nat.le_of_ble_eq_true rfl) ⟨Nat.le_of_ble_eq_true rfl, Nat.le_of_ble_eq_true rfl⟩) (fun y19 h19 hw => ?_)
    refine j_chk X (pc := 22) (L := [9]) q692 (by intro ci hci; obtain rfl := List.mem_singleton.mp hci; exact ⟨by decide, _, _, _, rfl, Or.inl rfl⟩) dX1_lastStep_22 hw (fun hw => ?_)
    refine j_astore_n X (pc := 25) [(3, vR y19), (0, vR x0), (1, vI x1), (2, vI x2)] dX1_lastStep_25 rfl (Nat.le_of_ble_eq_true rfl) rfl ?_
    refine j_aload_n X (pc := 26) 0 dX1_lastStep_26 rfl rfl ?_
    refine j_getiN (ci := 9) X (pc := 27) in_X11 rfl (by decide) 1 (by decide) q702 (Or.inl rfl) dX1_lastStep_27 hw (fun y27 hw => ?_)
    refine j_iload_n X (pc := 30) 2 dX1_lastStep_30 rfl rfl ?_
    refine j_icmp_ne X (pc := 31) 50 dX1_lastStep_31 (by decide) hw (fun hw => ?_) (fun hw => ?_)
    · refine j_aload_n X (pc := 34) 0 dX1_lastStep_34 rfl rfl ?_
      refine j_getiN (ci := 9) X (pc := 35) in_X11 rfl (by decide) 8 (by decide) q718 (Or.inl rfl) dX1_lastStep_35 hw (fun y35 hw => ?_)
      refine j_if_eq X (pc := 38) 50 dX1_lastStep_38 (by decide) hw (fun hw => ?_) (fun hw => ?_)
      · refine j_iinc X (pc := 50) 3 (x2 + (-1)) [(2, vI (x2 + (-1))), (3, vR y19), (0, vR x0), (1, vI x1)] dX1_lastStep_50 rfl rfl (Nat.le_of_ble_eq_true rfl) rfl ?_
        refine j_goto X (pc := 53) 10 dX1_lastStep_53 (by decide) ?_
        refine j_lv [(0, vR x0), (1, vI x1), (2, vI (x2 + (-1)))] [2, 3, 0] rfl ?_
        refine j_cs (u' := 0) (v' := 0) (Nat.le_of_ble_eq_true rfl) (Nat.le_of_ble_eq_true rfl) ?_
        exact hw
      · refine j_aload_n X (pc := 41) 0 dX1_lastStep_41 rfl rfl ?_
        refine j_getiN (ci := 9) X (pc := 42) in_X11 rfl (by decide) 9 (by decide) q719 (Or.inl rfl) dX1_lastStep_42 hw (fun y42 hw => ?_)
        refine j_if_ne X (pc := 45) 50 dX1_lastStep_45 (by decide) hw (fun hw => ?_) (fun hw => ?_)
        · refine j_aload_n X (pc := 48) 0 dX1_lastStep_48 rfl rfl ?_
          exact j_aret X (pc := 49) (ty := (.object "Plugboard$Operation")) hQ er (Or.inl ⟨_, rfl⟩) (Nat.le_of_ble_eq_true rfl) (Nat.le_of_ble_eq_true rfl) dX1_lastStep_49 hw
        · refine j_iinc X (pc := 50) 3 (x2 + (-1)) [(2, vI (x2 + (-1))), (3, vR y19), (0, vR x0), (1, vI x1)] dX1_lastStep_50 rfl rfl (Nat.le_of_ble_eq_true rfl) rfl ?_
          refine j_goto X (pc := 53) 10 dX1_lastStep_53 (by decide) ?_
          refine j_lv [(0, vR x0), (1, vI x1), (2, vI (x2 + (-1)))] [2, 3, 0] rfl ?_
          refine j_cs (u' := 0) (v' := 0) (Nat.le_of_ble_eq_true rfl) (Nat.le_of_ble_eq_true rfl) ?_
          exact hw
    · refine j_iinc X (pc := 50) 3 (x2 + (-1)) [(2, vI (x2 + (-1))), (3, vR y19), (0, vR x0), (1, vI x1)] dX1_lastStep_50 rfl rfl (Nat.le_of_ble_eq_true rfl) rfl ?_
      refine j_goto X (pc := 53) 10 dX1_lastStep_53 (by decide) ?_
      refine j_lv [(0, vR x0), (1, vI x1), (2, vI (x2 + (-1)))] [2, 3, 0] rfl ?_
      refine j_cs (u' := 0) (v' := 0) (Nat.le_of_ble_eq_true rfl) (Nat.le_of_ble_eq_true rfl) ?_
      exact hw
theorem met_X1_lastStep (l : Launch) (hlt : l.stackTraces = false) (G : GG) (h : AH) (a0 : Option Nat) (a1 : Int32) (P : Option Nat → AH → Prop) (PX : String → AH → Prop) (hw : w_X1_lastStep a0 a1 h P PX) : cx_q l yX1_lastStep (ws_ yX1_lastStep cX1_lastStep 4 (Option.some (Jvm.ClassFile.FieldType.object "Plugboard$Operation"))) rm_X1_lastStep G h [vR a0, vI a1] P PX := by
  refine j_startXq hlt [(0, vR a0), (1, vI a1)] (by decide) rfl rfl (fun x X eG er en hQ hT hex => ?_)
  subst eG
  refine j_aload_n X (pc := 0) 0 dX1_lastStep_0 rfl rfl ?_
  refine j_getq (ci := 0) X (pc := 1) in_X1 rfl (by decide) 2 (by decide) q243 (Or.inl rfl) dX1_lastStep_1 hw (fun y1 hw => ?_)
  obtain ⟨b9, c9, f9, hr9, ho9, hc9, hw⟩ := hw
  obtain rfl := List.mem_singleton.mp hc9
  refine j_calli (j_runV (n8 := 0) (As := []) (rest := []) X (pc := 4) hr9 (met_J2_size (xl x) X.hl (xG x) h y1 _ hw) ho9 (by decide) rfl q284 q285 q286 q74 q287 (by decide +kernel) dX1_lastStep_4 rfl ⟨Nat.le_of_ble_eq_true rfl, Nat.le_of_ble_eq_true rfl⟩ (Nat.le_of_ble_eq_true rfl) ⟨Nat.le_of_ble_eq_true rfl, Nat.le_of_ble_eq_true rfl⟩) (fun y4 h4 hw => ?_)
  refine j_iconst X (pc := 7) 1 dX1_lastStep_7 (by decide) ?_
  refine j_isub X (pc := 8) dX1_lastStep_8 ?_
  refine j_istore_n X (pc := 9) [(2, vI (y4 - 1)), (0, vR a0), (1, vI a1)] dX1_lastStep_9 rfl (Nat.le_of_ble_eq_true rfl) rfl ?_
  refine j_lv [(0, vR a0), (1, vI a1), (2, vI (y4 - 1))] [1, 2, 0] rfl ?_
  refine j_cs (u' := 0) (v' := 0) (Nat.le_of_ble_eq_true rfl) (Nat.le_of_ble_eq_true rfl) ?_
  exact wk_X1_lastStep_10 X er en hQ hT hex a0 a1 (y4 - 1) h4 hw
