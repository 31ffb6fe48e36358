/-! walks (printed): Plugboard, PlugboardModel -/
set_option maxRecDepth 100000
abbrev cX5_stepDown : ByteArray := prog_19_method_72_code
def yX5_stepDown : MethodName := ⟨RX5, "stepDown", "(I)I"⟩
def dkwX5_stepDown_0 : List UInt8 := [26, 5, 160, 0, 7, 4, 167, 0, 13, 26, 6, 160, 0, 7, 2, 167, 0, 4, 3, 172]
abbrev dktX5_stepDown_0 : List UInt8 := dkwX5_stepDown_0 ++ []
theorem dksX5_stepDown_0 : cX5_stepDown.data.toList.drop 0 = dktX5_stepDown_0 := by decide +kernel
theorem dX5_stepDown_0 : decode cX5_stepDown 0 = .ok (.iload_n 0, 1) := dk_26 (dk_at dksX5_stepDown_0 0 rfl rfl)
theorem dX5_stepDown_1 : decode cX5_stepDown 1 = .ok (.iconst 2, 1) := dk_5 (dk_at dksX5_stepDown_0 1 rfl rfl)
theorem dX5_stepDown_2 : decode cX5_stepDown 2 = .ok (.if_icmp .ne 7, 3) := dk_160 0 7 (dk_at dksX5_stepDown_0 2 rfl rfl)
theorem dX5_stepDown_5 : decode cX5_stepDown 5 = .ok (.iconst 1, 1) := dk_4 (dk_at dksX5_stepDown_0 5 rfl rfl)
theorem dX5_stepDown_6 : decode cX5_stepDown 6 = .ok (.goto 13, 3) := dk_167 0 13 (dk_at dksX5_stepDown_0 6 rfl rfl)
theorem dX5_stepDown_9 : decode cX5_stepDown 9 = .ok (.iload_n 0, 1) := dk_26 (dk_at dksX5_stepDown_0 9 rfl rfl)
theorem dX5_stepDown_10 : decode cX5_stepDown 10 = .ok (.iconst 3, 1) := dk_6 (dk_at dksX5_stepDown_0 10 rfl rfl)
theorem dX5_stepDown_11 : decode cX5_stepDown 11 = .ok (.if_icmp .ne 7, 3) := dk_160 0 7 (dk_at dksX5_stepDown_0 11 rfl rfl)
theorem dX5_stepDown_14 : decode cX5_stepDown 14 = .ok (.iconst (-1), 1) := dk_2 (dk_at dksX5_stepDown_0 14 rfl rfl)
theorem dX5_stepDown_15 : decode cX5_stepDown 15 = .ok (.goto 4, 3) := dk_167 0 4 (dk_at dksX5_stepDown_0 15 rfl rfl)
theorem dX5_stepDown_18 : decode cX5_stepDown 18 = .ok (.iconst 0, 1) := dk_3 (dk_at dksX5_stepDown_0 18 rfl rfl)
theorem dX5_stepDown_19 : decode cX5_stepDown 19 = .ok (.ireturn, 1) := dk_172 (dk_at dksX5_stepDown_0 19 rfl rfl)
abbrev rm_X5_stepDown : Room := { frames := 0, cells := 0, slots := 0, locals := 0 }
def w_X5_stepDown (a0 : Int32) (h : AH) (P : Int32 → AH → Prop) : Prop :=
  ((a0 = 2 →
    P 1 h) ∧
   (¬ a0 = 2 →
    ((a0 = 3 →
      P (-1) h) ∧
     (¬ a0 = 3 →
      P 0 h))))
theorem met_X5_stepDown (l : Launch) (hlt : l.stackTraces = false) (G : GG) (h : AH) (a0 : Int32) (P : Int32 → AH → Prop) (hw : w_X5_stepDown a0 h P) : ct_i l yX5_stepDown (ws_ yX5_stepDown cX5_stepDown 1 (Option.some Jvm.ClassFile.FieldType.int)) rm_X5_stepDown G h [vI a0] P := by
  refine j_starti hlt [(0, vI a0)] (plainFor_of_name (by decide)) rfl rfl (fun x X eG er en hQ => ?_)
  subst eG
  refine j_iload_n X (pc := 0) 0 dX5_stepDown_0 rfl rfl ?_
  refine j_iconst X (pc := 1) 2 dX5_stepDown_1 (by decide) ?_
  refine j_icmp_ne X (pc := 2) 9 dX5_stepDown_2 (by decide) hw (fun hw => ?_) (fun hw => ?_)
  · refine j_iconst X (pc := 5) 1 dX5_stepDown_5 (by decide) ?_
    refine j_goto X (pc := 6) 19 dX5_stepDown_6 (by decide) ?_
    exact j_iret X (pc := 19) hQ er (Nat.le_of_ble_eq_true rfl) (Nat.le_of_ble_eq_true rfl) dX5_stepDown_19 hw
  · refine j_iload_n X (pc := 9) 0 dX5_stepDown_9 rfl rfl ?_
    refine j_iconst X (pc := 10) 3 dX5_stepDown_10 (by decide) ?_
    refine j_icmp_ne X (pc := 11) 18 dX5_stepDown_11 (by decide) hw (fun hw => ?_) (fun hw => ?_)
    · refine j_iconst X (pc := 14) (-1) dX5_stepDown_14 (by decide) ?_
      refine j_goto X (pc := 15) 19 dX5_stepDown_15 (by decide) ?_
      exact j_iret X (pc := 19) hQ er (Nat.le_of_ble_eq_true rfl) (Nat.le_of_ble_eq_true rfl) dX5_stepDown_19 hw
    · refine j_iconst X (pc := 18) 0 dX5_stepDown_18 (by decide) ?_
      exact j_iret X (pc := 19) hQ er (Nat.le_of_ble_eq_true rfl) (Nat.le_of_ble_eq_true rfl) dX5_stepDown_19 hw
abbrev cX5_route : ByteArray := prog_19_method_73_code
def yX5_route : MethodName := ⟨RX5, "route", "(I)I"⟩
def dkwX5_route_19 : List UInt8 := [184, 1, 2, 54, 8, 132, 9, 1, 167, 255, 222, 21, 8, 172]
abbrev dktX5_route_19 : List UInt8 := dkwX5_route_19 ++ []
def dkwX5_route_18 : List UInt8 := [162, 0, 34, 21, 8, 42, 180, 0, 85, 7, 16, 24, 21, 5, 104, 21, 4, 96, 104, 21, 9, 96, 46]
abbrev dktX5_route_18 : List UInt8 := dkwX5_route_18 ++ dktX5_route_19
def dkwX5_route_17 : List UInt8 := [84, 132, 7, 1, 132, 11, 1, 167, 255, 104, 167, 255, 43, 18, 251, 54, 8, 3, 54, 9, 21, 9, 7]
abbrev dktX5_route_17 : List UInt8 := dkwX5_route_17 ++ dktX5_route_18
def dkwX5_route_16 : List UInt8 := [180, 0, 88, 21, 6, 21, 7, 96, 42, 180, 0, 88, 190, 112, 21, 14, 79, 42, 180, 0, 94, 21, 14, 4]
abbrev dktX5_route_16 : List UInt8 := dkwX5_route_16 ++ dktX5_route_17
def dkwX5_route_15 : List UInt8 := [42, 180, 0, 85, 21, 14, 21, 15, 79, 42, 180, 0, 94, 21, 14, 51, 153, 0, 6, 167, 0, 32, 42]
abbrev dktX5_route_15 : List UInt8 := dkwX5_route_15 ++ dktX5_route_16
def dkwX5_route_14 : List UInt8 := [167, 0, 6, 17, 3, 232, 96, 54, 15, 21, 15, 42, 180, 0, 85, 21, 14, 46, 161, 0, 6, 167, 0, 54]
abbrev dktX5_route_14 : List UInt8 := dkwX5_route_14 ++ dktX5_route_15
def dkwX5_route_13 : List UInt8 := [21, 11, 96, 54, 14, 42, 180, 0, 85, 21, 8, 46, 4, 96, 21, 11, 21, 8, 7, 112, 160, 0, 7, 3]
abbrev dktX5_route_13 : List UInt8 := dkwX5_route_13 ++ dktX5_route_14
def dkwX5_route_12 : List UInt8 := [21, 12, 21, 13, 182, 0, 248, 154, 0, 6, 167, 0, 112, 7, 16, 24, 21, 13, 104, 21, 12, 96, 104]
abbrev dktX5_route_12 : List UInt8 := dkwX5_route_12 ++ dktX5_route_13
def dkwX5_route_11 : List UInt8 := [162, 0, 152, 21, 9, 21, 11, 184, 0, 252, 96, 54, 12, 21, 10, 21, 11, 184, 0, 255, 96, 54, 13, 42]
abbrev dktX5_route_11 : List UInt8 := dkwX5_route_11 ++ dktX5_route_12
def dkwX5_route_10 : List UInt8 := [21, 8, 7, 108, 16, 24, 112, 54, 9, 21, 8, 7, 108, 16, 24, 108, 54, 10, 3, 54, 11, 21, 11, 7]
abbrev dktX5_route_10 : List UInt8 := dkwX5_route_10 ++ dktX5_route_11
def dkwX5_route_9 : List UInt8 := [21, 6, 4, 96, 42, 180, 0, 88, 190, 112, 54, 6, 132, 7, 255, 42, 180, 0, 94, 21, 8, 3, 84]
abbrev dktX5_route_9 : List UInt8 := dkwX5_route_9 ++ dktX5_route_10
def dkwX5_route_8 : List UInt8 := [84, 132, 7, 1, 132, 8, 1, 167, 255, 206, 21, 7, 158, 0, 214, 42, 180, 0, 88, 21, 6, 46, 54, 8]
abbrev dktX5_route_8 : List UInt8 := dkwX5_route_8 ++ dktX5_route_9
def dkwX5_route_7 : List UInt8 := [42, 180, 0, 85, 21, 9, 4, 79, 42, 180, 0, 88, 21, 7, 21, 9, 79, 42, 180, 0, 94, 21, 9, 4]
abbrev dktX5_route_7 : List UInt8 := dkwX5_route_7 ++ dktX5_route_8
def dkwX5_route_6 : List UInt8 := [54, 7, 3, 54, 8, 21, 8, 7, 162, 0, 50, 7, 16, 24, 29, 104, 28, 96, 104, 21, 8, 96, 54, 9]
abbrev dktX5_route_6 : List UInt8 := dkwX5_route_6 ++ dktX5_route_7
def dkwX5_route_5 : List UInt8 := [21, 6, 18, 251, 79, 42, 180, 0, 94, 21, 6, 3, 84, 132, 6, 1, 167, 255, 226, 3, 54, 6, 3]
abbrev dktX5_route_5 : List UInt8 := dkwX5_route_5 ++ dktX5_route_6
def dkwX5_route_4 : List UInt8 := [154, 0, 6, 18, 251, 172, 3, 54, 6, 21, 6, 42, 180, 0, 85, 190, 162, 0, 26, 42, 180, 0, 85]
abbrev dktX5_route_4 : List UInt8 := dkwX5_route_4 ++ dktX5_route_5
def dkwX5_route_3 : List UInt8 := [182, 0, 245, 54, 5, 42, 28, 29, 182, 0, 248, 153, 0, 14, 42, 21, 4, 21, 5, 182, 0, 248]
abbrev dktX5_route_3 : List UInt8 := dkwX5_route_3 ++ dktX5_route_4
def dkwX5_route_2 : List UInt8 := [180, 0, 30, 27, 52, 182, 0, 241, 54, 4, 42, 42, 180, 0, 19, 27, 46, 42, 180, 0, 30, 27, 52]
abbrev dktX5_route_2 : List UInt8 := dkwX5_route_2 ++ dktX5_route_3
def dkwX5_route_1 : List UInt8 := [180, 0, 16, 27, 46, 42, 180, 0, 26, 27, 52, 182, 0, 245, 62, 42, 42, 180, 0, 19, 27, 46, 42]
abbrev dktX5_route_1 : List UInt8 := dkwX5_route_1 ++ dktX5_route_2
def dkwX5_route_0 : List UInt8 := [42, 182, 0, 238, 42, 42, 180, 0, 16, 27, 46, 42, 180, 0, 26, 27, 52, 182, 0, 241, 61, 42, 42]
abbrev dktX5_route_0 : List UInt8 := dkwX5_route_0 ++ dktX5_route_1
theorem dksX5_route_0 : cX5_route.data.toList.drop 0 = dktX5_route_0 := by decide +kernel
theorem dksX5_route_1 : cX5_route.data.toList.drop 23 = dktX5_route_1 := dk_seg dksX5_route_0 23 rfl rfl
theorem dksX5_route_2 : cX5_route.data.toList.drop 46 = dktX5_route_2 := dk_seg dksX5_route_1 23 rfl rfl
theorem dksX5_route_3 : cX5_route.data.toList.drop 69 = dktX5_route_3 := dk_seg dksX5_route_2 23 rfl rfl
theorem dksX5_route_4 : cX5_route.data.toList.drop 91 = dktX5_route_4 := dk_seg dksX5_route_3 22 rfl rfl
theorem dksX5_route_5 : cX5_route.data.toList.drop 114 = dktX5_route_5 := dk_seg dksX5_route_4 23 rfl rfl
theorem dksX5_route_6 : cX5_route.data.toList.drop 137 = dktX5_route_6 := dk_seg dksX5_route_5 23 rfl rfl
theorem dksX5_route_7 : cX5_route.data.toList.drop 161 = dktX5_route_7 := dk_seg dksX5_route_6 24 rfl rfl
theorem dksX5_route_8 : cX5_route.data.toList.drop 185 = dktX5_route_8 := dk_seg dksX5_route_7 24 rfl rfl
theorem dksX5_route_9 : cX5_route.data.toList.drop 209 = dktX5_route_9 := dk_seg dksX5_route_8 24 rfl rfl
theorem dksX5_route_10 : cX5_route.data.toList.drop 232 = dktX5_route_10 := dk_seg dksX5_route_9 23 rfl rfl
theorem dksX5_route_11 : cX5_route.data.toList.drop 256 = dktX5_route_11 := dk_seg dksX5_route_10 24 rfl rfl
theorem dksX5_route_12 : cX5_route.data.toList.drop 280 = dktX5_route_12 := dk_seg dksX5_route_11 24 rfl rfl
theorem dksX5_route_13 : cX5_route.data.toList.drop 303 = dktX5_route_13 := dk_seg dksX5_route_12 23 rfl rfl
theorem dksX5_route_14 : cX5_route.data.toList.drop 327 = dktX5_route_14 := dk_seg dksX5_route_13 24 rfl rfl
theorem dksX5_route_15 : cX5_route.data.toList.drop 351 = dktX5_route_15 := dk_seg dksX5_route_14 24 rfl rfl
theorem dksX5_route_16 : cX5_route.data.toList.drop 374 = dktX5_route_16 := dk_seg dksX5_route_15 23 rfl rfl
theorem dksX5_route_17 : cX5_route.data.toList.drop 398 = dktX5_route_17 := dk_seg dksX5_route_16 24 rfl rfl
theorem dksX5_route_18 : cX5_route.data.toList.drop 421 = dktX5_route_18 := dk_seg dksX5_route_17 23 rfl rfl
theorem dksX5_route_19 : cX5_route.data.toList.drop 444 = dktX5_route_19 := dk_seg dksX5_route_18 23 rfl rfl
theorem dX5_route_0 : decode cX5_route 0 = .ok (.aload_n 0, 1) := dk_42 (dk_at dksX5_route_0 0 rfl rfl)
theorem dX5_route_1 : decode cX5_route 1 = .ok (.invokevirtual 238, 3) := dk_182 0 238 (dk_at dksX5_route_0 1 rfl rfl)
theorem dX5_route_4 : decode cX5_route 4 = .ok (.aload_n 0, 1) := dk_42 (dk_at dksX5_route_0 4 rfl rfl)
theorem dX5_route_5 : decode cX5_route 5 = .ok (.aload_n 0, 1) := dk_42 (dk_at dksX5_route_0 5 rfl rfl)
theorem dX5_route_6 : decode cX5_route 6 = .ok (.getfield 16, 3) := dk_180 0 16 (dk_at dksX5_route_0 6 rfl rfl)
theorem dX5_route_9 : decode cX5_route 9 = .ok (.iload_n 1, 1) := dk_27 (dk_at dksX5_route_0 9 rfl rfl)
theorem dX5_route_10 : decode cX5_route 10 = .ok (.iaload, 1) := dk_46 (dk_at dksX5_route_0 10 rfl rfl)
theorem dX5_route_11 : decode cX5_route 11 = .ok (.aload_n 0, 1) := dk_42 (dk_at dksX5_route_0 11 rfl rfl)
theorem dX5_route_12 : decode cX5_route 12 = .ok (.getfield 26, 3) := dk_180 0 26 (dk_at dksX5_route_0 12 rfl rfl)
theorem dX5_route_15 : decode cX5_route 15 = .ok (.iload_n 1, 1) := dk_27 (dk_at dksX5_route_0 15 rfl rfl)
theorem dX5_route_16 : decode cX5_route 16 = .ok (.caload, 1) := dk_52 (dk_at dksX5_route_0 16 rfl rfl)
theorem dX5_route_17 : decode cX5_route 17 = .ok (.invokevirtual 241, 3) := dk_182 0 241 (dk_at dksX5_route_0 17 rfl rfl)
theorem dX5_route_20 : decode cX5_route 20 = .ok (.istore_n 2, 1) := dk_61 (dk_at dksX5_route_0 20 rfl rfl)
theorem dX5_route_21 : decode cX5_route 21 = .ok (.aload_n 0, 1) := dk_42 (dk_at dksX5_route_0 21 rfl rfl)
theorem dX5_route_22 : decode cX5_route 22 = .ok (.aload_n 0, 1) := dk_42 (dk_at dksX5_route_0 22 rfl rfl)
theorem dX5_route_23 : decode cX5_route 23 = .ok (.getfield 16, 3) := dk_180 0 16 (dk_at dksX5_route_1 0 rfl rfl)
theorem dX5_route_26 : decode cX5_route 26 = .ok (.iload_n 1, 1) := dk_27 (dk_at dksX5_route_1 3 rfl rfl)
theorem dX5_route_27 : decode cX5_route 27 = .ok (.iaload, 1) := dk_46 (dk_at dksX5_route_1 4 rfl rfl)
theorem dX5_route_28 : decode cX5_route 28 = .ok (.aload_n 0, 1) := dk_42 (dk_at dksX5_route_1 5 rfl rfl)
theorem dX5_route_29 : decode cX5_route 29 = .ok (.getfield 26, 3) := dk_180 0 26 (dk_at dksX5_route_1 6 rfl rfl)
theorem dX5_route_32 : decode cX5_route 32 = .ok (.iload_n 1, 1) := dk_27 (dk_at dksX5_route_1 9 rfl rfl)
theorem dX5_route_33 : decode cX5_route 33 = .ok (.caload, 1) := dk_52 (dk_at dksX5_route_1 10 rfl rfl)
theorem dX5_route_34 : decode cX5_route 34 = .ok (.invokevirtual 245, 3) := dk_182 0 245 (dk_at dksX5_route_1 11 rfl rfl)
theorem dX5_route_37 : decode cX5_route 37 = .ok (.istore_n 3, 1) := dk_62 (dk_at dksX5_route_1 14 rfl rfl)
theorem dX5_route_38 : decode cX5_route 38 = .ok (.aload_n 0, 1) := dk_42 (dk_at dksX5_route_1 15 rfl rfl)
theorem dX5_route_39 : decode cX5_route 39 = .ok (.aload_n 0, 1) := dk_42 (dk_at dksX5_route_1 16 rfl rfl)
theorem dX5_route_40 : decode cX5_route 40 = .ok (.getfield 19, 3) := dk_180 0 19 (dk_at dksX5_route_1 17 rfl rfl)
theorem dX5_route_43 : decode cX5_route 43 = .ok (.iload_n 1, 1) := dk_27 (dk_at dksX5_route_1 20 rfl rfl)
theorem dX5_route_44 : decode cX5_route 44 = .ok (.iaload, 1) := dk_46 (dk_at dksX5_route_1 21 rfl rfl)
theorem dX5_route_45 : decode cX5_route 45 = .ok (.aload_n 0, 1) := dk_42 (dk_at dksX5_route_1 22 rfl rfl)
theorem dX5_route_46 : decode cX5_route 46 = .ok (.getfield 30, 3) := dk_180 0 30 (dk_at dksX5_route_2 0 rfl rfl)
theorem dX5_route_49 : decode cX5_route 49 = .ok (.iload_n 1, 1) := dk_27 (dk_at dksX5_route_2 3 rfl rfl)
theorem dX5_route_50 : decode cX5_route 50 = .ok (.caload, 1) := dk_52 (dk_at dksX5_route_2 4 rfl rfl)
theorem dX5_route_51 : decode cX5_route 51 = .ok (.invokevirtual 241, 3) := dk_182 0 241 (dk_at dksX5_route_2 5 rfl rfl)
theorem dX5_route_54 : decode cX5_route 54 = .ok (.istore 4, 2) := dk_54 4 (dk_at dksX5_route_2 8 rfl rfl)
theorem dX5_route_56 : decode cX5_route 56 = .ok (.aload_n 0, 1) := dk_42 (dk_at dksX5_route_2 10 rfl rfl)
theorem dX5_route_57 : decode cX5_route 57 = .ok (.aload_n 0, 1) := dk_42 (dk_at dksX5_route_2 11 rfl rfl)
theorem dX5_route_58 : decode cX5_route 58 = .ok (.getfield 19, 3) := dk_180 0 19 (dk_at dksX5_route_2 12 rfl rfl)
theorem dX5_route_61 : decode cX5_route 61 = .ok (.iload_n 1, 1) := dk_27 (dk_at dksX5_route_2 15 rfl rfl)
theorem dX5_route_62 : decode cX5_route 62 = .ok (.iaload, 1) := dk_46 (dk_at dksX5_route_2 16 rfl rfl)
theorem dX5_route_63 : decode cX5_route 63 = .ok (.aload_n 0, 1) := dk_42 (dk_at dksX5_route_2 17 rfl rfl)
theorem dX5_route_64 : decode cX5_route 64 = .ok (.getfield 30, 3) := dk_180 0 30 (dk_at dksX5_route_2 18 rfl rfl)
theorem dX5_route_67 : decode cX5_route 67 = .ok (.iload_n 1, 1) := dk_27 (dk_at dksX5_route_2 21 rfl rfl)
theorem dX5_route_68 : decode cX5_route 68 = .ok (.caload, 1) := dk_52 (dk_at dksX5_route_2 22 rfl rfl)
theorem dX5_route_69 : decode cX5_route 69 = .ok (.invokevirtual 245, 3) := dk_182 0 245 (dk_at dksX5_route_3 0 rfl rfl)
theorem dX5_route_72 : decode cX5_route 72 = .ok (.istore 5, 2) := dk_54 5 (dk_at dksX5_route_3 3 rfl rfl)
theorem dX5_route_74 : decode cX5_route 74 = .ok (.aload_n 0, 1) := dk_42 (dk_at dksX5_route_3 5 rfl rfl)
theorem dX5_route_75 : decode cX5_route 75 = .ok (.iload_n 2, 1) := dk_28 (dk_at dksX5_route_3 6 rfl rfl)
theorem dX5_route_76 : decode cX5_route 76 = .ok (.iload_n 3, 1) := dk_29 (dk_at dksX5_route_3 7 rfl rfl)
theorem dX5_route_77 : decode cX5_route 77 = .ok (.invokevirtual 248, 3) := dk_182 0 248 (dk_at dksX5_route_3 8 rfl rfl)
theorem dX5_route_80 : decode cX5_route 80 = .ok (.ifCond .eq 14, 3) := dk_153 0 14 (dk_at dksX5_route_3 11 rfl rfl)
theorem dX5_route_83 : decode cX5_route 83 = .ok (.aload_n 0, 1) := dk_42 (dk_at dksX5_route_3 14 rfl rfl)
theorem dX5_route_84 : decode cX5_route 84 = .ok (.iload 4, 2) := dk_21 4 (dk_at dksX5_route_3 15 rfl rfl)
theorem dX5_route_86 : decode cX5_route 86 = .ok (.iload 5, 2) := dk_21 5 (dk_at dksX5_route_3 17 rfl rfl)
theorem dX5_route_88 : decode cX5_route 88 = .ok (.invokevirtual 248, 3) := dk_182 0 248 (dk_at dksX5_route_3 19 rfl rfl)
theorem dX5_route_91 : decode cX5_route 91 = .ok (.ifCond .ne 6, 3) := dk_154 0 6 (dk_at dksX5_route_4 0 rfl rfl)
theorem dX5_route_94 : decode cX5_route 94 = .ok (.ldc 251, 2) := dk_18 251 (dk_at dksX5_route_4 3 rfl rfl)
theorem dX5_route_96 : decode cX5_route 96 = .ok (.ireturn, 1) := dk_172 (dk_at dksX5_route_4 5 rfl rfl)
theorem dX5_route_97 : decode cX5_route 97 = .ok (.iconst 0, 1) := dk_3 (dk_at dksX5_route_4 6 rfl rfl)
theorem dX5_route_98 : decode cX5_route 98 = .ok (.istore 6, 2) := dk_54 6 (dk_at dksX5_route_4 7 rfl rfl)
theorem dX5_route_100 : decode cX5_route 100 = .ok (.iload 6, 2) := dk_21 6 (dk_at dksX5_route_4 9 rfl rfl)
theorem dX5_route_102 : decode cX5_route 102 = .ok (.aload_n 0, 1) := dk_42 (dk_at dksX5_route_4 11 rfl rfl)
theorem dX5_route_103 : decode cX5_route 103 = .ok (.getfield 85, 3) := dk_180 0 85 (dk_at dksX5_route_4 12 rfl rfl)
theorem dX5_route_106 : decode cX5_route 106 = .ok (.arraylength, 1) := dk_190 (dk_at dksX5_route_4 15 rfl rfl)
theorem dX5_route_107 : decode cX5_route 107 = .ok (.if_icmp .ge 26, 3) := dk_162 0 26 (dk_at dksX5_route_4 16 rfl rfl)
theorem dX5_route_110 : decode cX5_route 110 = .ok (.aload_n 0, 1) := dk_42 (dk_at dksX5_route_4 19 rfl rfl)
theorem dX5_route_111 : decode cX5_route 111 = .ok (.getfield 85, 3) := dk_180 0 85 (dk_at dksX5_route_4 20 rfl rfl)
theorem dX5_route_114 : decode cX5_route 114 = .ok (.iload 6, 2) := dk_21 6 (dk_at dksX5_route_5 0 rfl rfl)
theorem dX5_route_116 : decode cX5_route 116 = .ok (.ldc 251, 2) := dk_18 251 (dk_at dksX5_route_5 2 rfl rfl)
theorem dX5_route_118 : decode cX5_route 118 = .ok (.iastore, 1) := dk_79 (dk_at dksX5_route_5 4 rfl rfl)
theorem dX5_route_119 : decode cX5_route 119 = .ok (.aload_n 0, 1) := dk_42 (dk_at dksX5_route_5 5 rfl rfl)
theorem dX5_route_120 : decode cX5_route 120 = .ok (.getfield 94, 3) := dk_180 0 94 (dk_at dksX5_route_5 6 rfl rfl)
theorem dX5_route_123 : decode cX5_route 123 = .ok (.iload 6, 2) := dk_21 6 (dk_at dksX5_route_5 9 rfl rfl)
theorem dX5_route_125 : decode cX5_route 125 = .ok (.iconst 0, 1) := dk_3 (dk_at dksX5_route_5 11 rfl rfl)
theorem dX5_route_126 : decode cX5_route 126 = .ok (.bastore, 1) := dk_84 (dk_at dksX5_route_5 12 rfl rfl)
theorem dX5_route_127 : decode cX5_route 127 = .ok (.iinc 6 1, 3) := dk_132 6 1 (dk_at dksX5_route_5 13 rfl rfl)
theorem dX5_route_130 : decode cX5_route 130 = .ok (.goto (-30), 3) := dk_167 255 226 (dk_at dksX5_route_5 16 rfl rfl)
theorem dX5_route_133 : decode cX5_route 133 = .ok (.iconst 0, 1) := dk_3 (dk_at dksX5_route_5 19 rfl rfl)
theorem dX5_route_134 : decode cX5_route 134 = .ok (.istore 6, 2) := dk_54 6 (dk_at dksX5_route_5 20 rfl rfl)
theorem dX5_route_136 : decode cX5_route 136 = .ok (.iconst 0, 1) := dk_3 (dk_at dksX5_route_5 22 rfl rfl)
theorem dX5_route_137 : decode cX5_route 137 = .ok (.istore 7, 2) := dk_54 7 (dk_at dksX5_route_6 0 rfl rfl)
theorem dX5_route_139 : decode cX5_route 139 = .ok (.iconst 0, 1) := dk_3 (dk_at dksX5_route_6 2 rfl rfl)
theorem dX5_route_140 : decode cX5_route 140 = .ok (.istore 8, 2) := dk_54 8 (dk_at dksX5_route_6 3 rfl rfl)
theorem dX5_route_142 : decode cX5_route 142 = .ok (.iload 8, 2) := dk_21 8 (dk_at dksX5_route_6 5 rfl rfl)
theorem dX5_route_144 : decode cX5_route 144 = .ok (.iconst 4, 1) := dk_7 (dk_at dksX5_route_6 7 rfl rfl)
theorem dX5_route_145 : decode cX5_route 145 = .ok (.if_icmp .ge 50, 3) := dk_162 0 50 (dk_at dksX5_route_6 8 rfl rfl)
theorem dX5_route_148 : decode cX5_route 148 = .ok (.iconst 4, 1) := dk_7 (dk_at dksX5_route_6 11 rfl rfl)
theorem dX5_route_149 : decode cX5_route 149 = .ok (.bipush 24, 2) := dk_16 24 (dk_at dksX5_route_6 12 rfl rfl)
theorem dX5_route_151 : decode cX5_route 151 = .ok (.iload_n 3, 1) := dk_29 (dk_at dksX5_route_6 14 rfl rfl)
theorem dX5_route_152 : decode cX5_route 152 = .ok (.imul, 1) := dk_104 (dk_at dksX5_route_6 15 rfl rfl)
theorem dX5_route_153 : decode cX5_route 153 = .ok (.iload_n 2, 1) := dk_28 (dk_at dksX5_route_6 16 rfl rfl)
theorem dX5_route_154 : decode cX5_route 154 = .ok (.iadd, 1) := dk_96 (dk_at dksX5_route_6 17 rfl rfl)
theorem dX5_route_155 : decode cX5_route 155 = .ok (.imul, 1) := dk_104 (dk_at dksX5_route_6 18 rfl rfl)
theorem dX5_route_156 : decode cX5_route 156 = .ok (.iload 8, 2) := dk_21 8 (dk_at dksX5_route_6 19 rfl rfl)
theorem dX5_route_158 : decode cX5_route 158 = .ok (.iadd, 1) := dk_96 (dk_at dksX5_route_6 21 rfl rfl)
theorem dX5_route_159 : decode cX5_route 159 = .ok (.istore 9, 2) := dk_54 9 (dk_at dksX5_route_6 22 rfl rfl)
theorem dX5_route_161 : decode cX5_route 161 = .ok (.aload_n 0, 1) := dk_42 (dk_at dksX5_route_7 0 rfl rfl)
theorem dX5_route_162 : decode cX5_route 162 = .ok (.getfield 85, 3) := dk_180 0 85 (dk_at dksX5_route_7 1 rfl rfl)
theorem dX5_route_165 : decode cX5_route 165 = .ok (.iload 9, 2) := dk_21 9 (dk_at dksX5_route_7 4 rfl rfl)
theorem dX5_route_167 : decode cX5_route 167 = .ok (.iconst 1, 1) := dk_4 (dk_at dksX5_route_7 6 rfl rfl)
theorem dX5_route_168 : decode cX5_route 168 = .ok (.iastore, 1) := dk_79 (dk_at dksX5_route_7 7 rfl rfl)
theorem dX5_route_169 : decode cX5_route 169 = .ok (.aload_n 0, 1) := dk_42 (dk_at dksX5_route_7 8 rfl rfl)
theorem dX5_route_170 : decode cX5_route 170 = .ok (.getfield 88, 3) := dk_180 0 88 (dk_at dksX5_route_7 9 rfl rfl)
theorem dX5_route_173 : decode cX5_route 173 = .ok (.iload 7, 2) := dk_21 7 (dk_at dksX5_route_7 12 rfl rfl)
theorem dX5_route_175 : decode cX5_route 175 = .ok (.iload 9, 2) := dk_21 9 (dk_at dksX5_route_7 14 rfl rfl)
theorem dX5_route_177 : decode cX5_route 177 = .ok (.iastore, 1) := dk_79 (dk_at dksX5_route_7 16 rfl rfl)
theorem dX5_route_178 : decode cX5_route 178 = .ok (.aload_n 0, 1) := dk_42 (dk_at dksX5_route_7 17 rfl rfl)
theorem dX5_route_179 : decode cX5_route 179 = .ok (.getfield 94, 3) := dk_180 0 94 (dk_at dksX5_route_7 18 rfl rfl)
theorem dX5_route_182 : decode cX5_route 182 = .ok (.iload 9, 2) := dk_21 9 (dk_at dksX5_route_7 21 rfl rfl)
theorem dX5_route_184 : decode cX5_route 184 = .ok (.iconst 1, 1) := dk_4 (dk_at dksX5_route_7 23 rfl rfl)
theorem dX5_route_185 : decode cX5_route 185 = .ok (.bastore, 1) := dk_84 (dk_at dksX5_route_8 0 rfl rfl)
theorem dX5_route_186 : decode cX5_route 186 = .ok (.iinc 7 1, 3) := dk_132 7 1 (dk_at dksX5_route_8 1 rfl rfl)
theorem dX5_route_189 : decode cX5_route 189 = .ok (.iinc 8 1, 3) := dk_132 8 1 (dk_at dksX5_route_8 4 rfl rfl)
theorem dX5_route_192 : decode cX5_route 192 = .ok (.goto (-50), 3) := dk_167 255 206 (dk_at dksX5_route_8 7 rfl rfl)
theorem dX5_route_195 : decode cX5_route 195 = .ok (.iload 7, 2) := dk_21 7 (dk_at dksX5_route_8 10 rfl rfl)
theorem dX5_route_197 : decode cX5_route 197 = .ok (.ifCond .le 214, 3) := dk_158 0 214 (dk_at dksX5_route_8 12 rfl rfl)
theorem dX5_route_200 : decode cX5_route 200 = .ok (.aload_n 0, 1) := dk_42 (dk_at dksX5_route_8 15 rfl rfl)
theorem dX5_route_201 : decode cX5_route 201 = .ok (.getfield 88, 3) := dk_180 0 88 (dk_at dksX5_route_8 16 rfl rfl)
theorem dX5_route_204 : decode cX5_route 204 = .ok (.iload 6, 2) := dk_21 6 (dk_at dksX5_route_8 19 rfl rfl)
theorem dX5_route_206 : decode cX5_route 206 = .ok (.iaload, 1) := dk_46 (dk_at dksX5_route_8 21 rfl rfl)
theorem dX5_route_207 : decode cX5_route 207 = .ok (.istore 8, 2) := dk_54 8 (dk_at dksX5_route_8 22 rfl rfl)
theorem dX5_route_209 : decode cX5_route 209 = .ok (.iload 6, 2) := dk_21 6 (dk_at dksX5_route_9 0 rfl rfl)
theorem dX5_route_211 : decode cX5_route 211 = .ok (.iconst 1, 1) := dk_4 (dk_at dksX5_route_9 2 rfl rfl)
theorem dX5_route_212 : decode cX5_route 212 = .ok (.iadd, 1) := dk_96 (dk_at dksX5_route_9 3 rfl rfl)
theorem dX5_route_213 : decode cX5_route 213 = .ok (.aload_n 0, 1) := dk_42 (dk_at dksX5_route_9 4 rfl rfl)
theorem dX5_route_214 : decode cX5_route 214 = .ok (.getfield 88, 3) := dk_180 0 88 (dk_at dksX5_route_9 5 rfl rfl)
theorem dX5_route_217 : decode cX5_route 217 = .ok (.arraylength, 1) := dk_190 (dk_at dksX5_route_9 8 rfl rfl)
theorem dX5_route_218 : decode cX5_route 218 = .ok (.irem, 1) := dk_112 (dk_at dksX5_route_9 9 rfl rfl)
theorem dX5_route_219 : decode cX5_route 219 = .ok (.istore 6, 2) := dk_54 6 (dk_at dksX5_route_9 10 rfl rfl)
theorem dX5_route_221 : decode cX5_route 221 = .ok (.iinc 7 (-1), 3) := dk_132 7 255 (dk_at dksX5_route_9 12 rfl rfl)
theorem dX5_route_224 : decode cX5_route 224 = .ok (.aload_n 0, 1) := dk_42 (dk_at dksX5_route_9 15 rfl rfl)
theorem dX5_route_225 : decode cX5_route 225 = .ok (.getfield 94, 3) := dk_180 0 94 (dk_at dksX5_route_9 16 rfl rfl)
theorem dX5_route_228 : decode cX5_route 228 = .ok (.iload 8, 2) := dk_21 8 (dk_at dksX5_route_9 19 rfl rfl)
theorem dX5_route_230 : decode cX5_route 230 = .ok (.iconst 0, 1) := dk_3 (dk_at dksX5_route_9 21 rfl rfl)
theorem dX5_route_231 : decode cX5_route 231 = .ok (.bastore, 1) := dk_84 (dk_at dksX5_route_9 22 rfl rfl)
theorem dX5_route_232 : decode cX5_route 232 = .ok (.iload 8, 2) := dk_21 8 (dk_at dksX5_route_10 0 rfl rfl)
theorem dX5_route_234 : decode cX5_route 234 = .ok (.iconst 4, 1) := dk_7 (dk_at dksX5_route_10 2 rfl rfl)
theorem dX5_route_235 : decode cX5_route 235 = .ok (.idiv, 1) := dk_108 (dk_at dksX5_route_10 3 rfl rfl)
theorem dX5_route_236 : decode cX5_route 236 = .ok (.bipush 24, 2) := dk_16 24 (dk_at dksX5_route_10 4 rfl rfl)
theorem dX5_route_238 : decode cX5_route 238 = .ok (.irem, 1) := dk_112 (dk_at dksX5_route_10 6 rfl rfl)
theorem dX5_route_239 : decode cX5_route 239 = .ok (.istore 9, 2) := dk_54 9 (dk_at dksX5_route_10 7 rfl rfl)
theorem dX5_route_241 : decode cX5_route 241 = .ok (.iload 8, 2) := dk_21 8 (dk_at dksX5_route_10 9 rfl rfl)
theorem dX5_route_243 : decode cX5_route 243 = .ok (.iconst 4, 1) := dk_7 (dk_at dksX5_route_10 11 rfl rfl)
theorem dX5_route_244 : decode cX5_route 244 = .ok (.idiv, 1) := dk_108 (dk_at dksX5_route_10 12 rfl rfl)
theorem dX5_route_245 : decode cX5_route 245 = .ok (.bipush 24, 2) := dk_16 24 (dk_at dksX5_route_10 13 rfl rfl)
theorem dX5_route_247 : decode cX5_route 247 = .ok (.idiv, 1) := dk_108 (dk_at dksX5_route_10 15 rfl rfl)
theorem dX5_route_248 : decode cX5_route 248 = .ok (.istore 10, 2) := dk_54 10 (dk_at dksX5_route_10 16 rfl rfl)
theorem dX5_route_250 : decode cX5_route 250 = .ok (.iconst 0, 1) := dk_3 (dk_at dksX5_route_10 18 rfl rfl)
theorem dX5_route_251 : decode cX5_route 251 = .ok (.istore 11, 2) := dk_54 11 (dk_at dksX5_route_10 19 rfl rfl)
theorem dX5_route_253 : decode cX5_route 253 = .ok (.iload 11, 2) := dk_21 11 (dk_at dksX5_route_10 21 rfl rfl)
theorem dX5_route_255 : decode cX5_route 255 = .ok (.iconst 4, 1) := dk_7 (dk_at dksX5_route_10 23 rfl rfl)
theorem dX5_route_256 : decode cX5_route 256 = .ok (.if_icmp .ge 152, 3) := dk_162 0 152 (dk_at dksX5_route_11 0 rfl rfl)
theorem dX5_route_259 : decode cX5_route 259 = .ok (.iload 9, 2) := dk_21 9 (dk_at dksX5_route_11 3 rfl rfl)
theorem dX5_route_261 : decode cX5_route 261 = .ok (.iload 11, 2) := dk_21 11 (dk_at dksX5_route_11 5 rfl rfl)
theorem dX5_route_263 : decode cX5_route 263 = .ok (.invokestatic 252, 3) := dk_184 0 252 (dk_at dksX5_route_11 7 rfl rfl)
theorem dX5_route_266 : decode cX5_route 266 = .ok (.iadd, 1) := dk_96 (dk_at dksX5_route_11 10 rfl rfl)
theorem dX5_route_267 : decode cX5_route 267 = .ok (.istore 12, 2) := dk_54 12 (dk_at dksX5_route_11 11 rfl rfl)
theorem dX5_route_269 : decode cX5_route 269 = .ok (.iload 10, 2) := dk_21 10 (dk_at dksX5_route_11 13 rfl rfl)
theorem dX5_route_271 : decode cX5_route 271 = .ok (.iload 11, 2) := dk_21 11 (dk_at dksX5_route_11 15 rfl rfl)
theorem dX5_route_273 : decode cX5_route 273 = .ok (.invokestatic 255, 3) := dk_184 0 255 (dk_at dksX5_route_11 17 rfl rfl)
theorem dX5_route_276 : decode cX5_route 276 = .ok (.iadd, 1) := dk_96 (dk_at dksX5_route_11 20 rfl rfl)
theorem dX5_route_277 : decode cX5_route 277 = .ok (.istore 13, 2) := dk_54 13 (dk_at dksX5_route_11 21 rfl rfl)
theorem dX5_route_279 : decode cX5_route 279 = .ok (.aload_n 0, 1) := dk_42 (dk_at dksX5_route_11 23 rfl rfl)
theorem dX5_route_280 : decode cX5_route 280 = .ok (.iload 12, 2) := dk_21 12 (dk_at dksX5_route_12 0 rfl rfl)
theorem dX5_route_282 : decode cX5_route 282 = .ok (.iload 13, 2) := dk_21 13 (dk_at dksX5_route_12 2 rfl rfl)
theorem dX5_route_284 : decode cX5_route 284 = .ok (.invokevirtual 248, 3) := dk_182 0 248 (dk_at dksX5_route_12 4 rfl rfl)
theorem dX5_route_287 : decode cX5_route 287 = .ok (.ifCond .ne 6, 3) := dk_154 0 6 (dk_at dksX5_route_12 7 rfl rfl)
theorem dX5_route_290 : decode cX5_route 290 = .ok (.goto 112, 3) := dk_167 0 112 (dk_at dksX5_route_12 10 rfl rfl)
theorem dX5_route_293 : decode cX5_route 293 = .ok (.iconst 4, 1) := dk_7 (dk_at dksX5_route_12 13 rfl rfl)
theorem dX5_route_294 : decode cX5_route 294 = .ok (.bipush 24, 2) := dk_16 24 (dk_at dksX5_route_12 14 rfl rfl)
theorem dX5_route_296 : decode cX5_route 296 = .ok (.iload 13, 2) := dk_21 13 (dk_at dksX5_route_12 16 rfl rfl)
theorem dX5_route_298 : decode cX5_route 298 = .ok (.imul, 1) := dk_104 (dk_at dksX5_route_12 18 rfl rfl)
theorem dX5_route_299 : decode cX5_route 299 = .ok (.iload 12, 2) := dk_21 12 (dk_at dksX5_route_12 19 rfl rfl)
theorem dX5_route_301 : decode cX5_route 301 = .ok (.iadd, 1) := dk_96 (dk_at dksX5_route_12 21 rfl rfl)
theorem dX5_route_302 : decode cX5_route 302 = .ok (.imul, 1) := dk_104 (dk_at dksX5_route_12 22 rfl rfl)
theorem dX5_route_303 : decode cX5_route 303 = .ok (.iload 11, 2) := dk_21 11 (dk_at dksX5_route_13 0 rfl rfl)
theorem dX5_route_305 : decode cX5_route 305 = .ok (.iadd, 1) := dk_96 (dk_at dksX5_route_13 2 rfl rfl)
theorem dX5_route_306 : decode cX5_route 306 = .ok (.istore 14, 2) := dk_54 14 (dk_at dksX5_route_13 3 rfl rfl)
theorem dX5_route_308 : decode cX5_route 308 = .ok (.aload_n 0, 1) := dk_42 (dk_at dksX5_route_13 5 rfl rfl)
theorem dX5_route_309 : decode cX5_route 309 = .ok (.getfield 85, 3) := dk_180 0 85 (dk_at dksX5_route_13 6 rfl rfl)
theorem dX5_route_312 : decode cX5_route 312 = .ok (.iload 8, 2) := dk_21 8 (dk_at dksX5_route_13 9 rfl rfl)
theorem dX5_route_314 : decode cX5_route 314 = .ok (.iaload, 1) := dk_46 (dk_at dksX5_route_13 11 rfl rfl)
theorem dX5_route_315 : decode cX5_route 315 = .ok (.iconst 1, 1) := dk_4 (dk_at dksX5_route_13 12 rfl rfl)
theorem dX5_route_316 : decode cX5_route 316 = .ok (.iadd, 1) := dk_96 (dk_at dksX5_route_13 13 rfl rfl)
theorem dX5_route_317 : decode cX5_route 317 = .ok (.iload 11, 2) := dk_21 11 (dk_at dksX5_route_13 14 rfl rfl)
theorem dX5_route_319 : decode cX5_route 319 = .ok (.iload 8, 2) := dk_21 8 (dk_at dksX5_route_13 16 rfl rfl)
theorem dX5_route_321 : decode cX5_route 321 = .ok (.iconst 4, 1) := dk_7 (dk_at dksX5_route_13 18 rfl rfl)
theorem dX5_route_322 : decode cX5_route 322 = .ok (.irem, 1) := dk_112 (dk_at dksX5_route_13 19 rfl rfl)
theorem dX5_route_323 : decode cX5_route 323 = .ok (.if_icmp .ne 7, 3) := dk_160 0 7 (dk_at dksX5_route_13 20 rfl rfl)
theorem dX5_route_326 : decode cX5_route 326 = .ok (.iconst 0, 1) := dk_3 (dk_at dksX5_route_13 23 rfl rfl)
theorem dX5_route_327 : decode cX5_route 327 = .ok (.goto 6, 3) := dk_167 0 6 (dk_at dksX5_route_14 0 rfl rfl)
theorem dX5_route_330 : decode cX5_route 330 = .ok (.sipush 1000, 3) := dk_17 3 232 (dk_at dksX5_route_14 3 rfl rfl)
theorem dX5_route_333 : decode cX5_route 333 = .ok (.iadd, 1) := dk_96 (dk_at dksX5_route_14 6 rfl rfl)
theorem dX5_route_334 : decode cX5_route 334 = .ok (.istore 15, 2) := dk_54 15 (dk_at dksX5_route_14 7 rfl rfl)
theorem dX5_route_336 : decode cX5_route 336 = .ok (.iload 15, 2) := dk_21 15 (dk_at dksX5_route_14 9 rfl rfl)
theorem dX5_route_338 : decode cX5_route 338 = .ok (.aload_n 0, 1) := dk_42 (dk_at dksX5_route_14 11 rfl rfl)
theorem dX5_route_339 : decode cX5_route 339 = .ok (.getfield 85, 3) := dk_180 0 85 (dk_at dksX5_route_14 12 rfl rfl)
theorem dX5_route_342 : decode cX5_route 342 = .ok (.iload 14, 2) := dk_21 14 (dk_at dksX5_route_14 15 rfl rfl)
theorem dX5_route_344 : decode cX5_route 344 = .ok (.iaload, 1) := dk_46 (dk_at dksX5_route_14 17 rfl rfl)
theorem dX5_route_345 : decode cX5_route 345 = .ok (.if_icmp .lt 6, 3) := dk_161 0 6 (dk_at dksX5_route_14 18 rfl rfl)
theorem dX5_route_348 : decode cX5_route 348 = .ok (.goto 54, 3) := dk_167 0 54 (dk_at dksX5_route_14 21 rfl rfl)
theorem dX5_route_351 : decode cX5_route 351 = .ok (.aload_n 0, 1) := dk_42 (dk_at dksX5_route_15 0 rfl rfl)
theorem dX5_route_352 : decode cX5_route 352 = .ok (.getfield 85, 3) := dk_180 0 85 (dk_at dksX5_route_15 1 rfl rfl)
theorem dX5_route_355 : decode cX5_route 355 = .ok (.iload 14, 2) := dk_21 14 (dk_at dksX5_route_15 4 rfl rfl)
theorem dX5_route_357 : decode cX5_route 357 = .ok (.iload 15, 2) := dk_21 15 (dk_at dksX5_route_15 6 rfl rfl)
theorem dX5_route_359 : decode cX5_route 359 = .ok (.iastore, 1) := dk_79 (dk_at dksX5_route_15 8 rfl rfl)
theorem dX5_route_360 : decode cX5_route 360 = .ok (.aload_n 0, 1) := dk_42 (dk_at dksX5_route_15 9 rfl rfl)
theorem dX5_route_361 : decode cX5_route 361 = .ok (.getfield 94, 3) := dk_180 0 94 (dk_at dksX5_route_15 10 rfl rfl)
theorem dX5_route_364 : decode cX5_route 364 = .ok (.iload 14, 2) := dk_21 14 (dk_at dksX5_route_15 13 rfl rfl)
theorem dX5_route_366 : decode cX5_route 366 = .ok (.baload, 1) := dk_51 (dk_at dksX5_route_15 15 rfl rfl)
theorem dX5_route_367 : decode cX5_route 367 = .ok (.ifCond .eq 6, 3) := dk_153 0 6 (dk_at dksX5_route_15 16 rfl rfl)
theorem dX5_route_370 : decode cX5_route 370 = .ok (.goto 32, 3) := dk_167 0 32 (dk_at dksX5_route_15 19 rfl rfl)
theorem dX5_route_373 : decode cX5_route 373 = .ok (.aload_n 0, 1) := dk_42 (dk_at dksX5_route_15 22 rfl rfl)
theorem dX5_route_374 : decode cX5_route 374 = .ok (.getfield 88, 3) := dk_180 0 88 (dk_at dksX5_route_16 0 rfl rfl)
theorem dX5_route_377 : decode cX5_route 377 = .ok (.iload 6, 2) := dk_21 6 (dk_at dksX5_route_16 3 rfl rfl)
theorem dX5_route_379 : decode cX5_route 379 = .ok (.iload 7, 2) := dk_21 7 (dk_at dksX5_route_16 5 rfl rfl)
theorem dX5_route_381 : decode cX5_route 381 = .ok (.iadd, 1) := dk_96 (dk_at dksX5_route_16 7 rfl rfl)
theorem dX5_route_382 : decode cX5_route 382 = .ok (.aload_n 0, 1) := dk_42 (dk_at dksX5_route_16 8 rfl rfl)
theorem dX5_route_383 : decode cX5_route 383 = .ok (.getfield 88, 3) := dk_180 0 88 (dk_at dksX5_route_16 9 rfl rfl)
theorem dX5_route_386 : decode cX5_route 386 = .ok (.arraylength, 1) := dk_190 (dk_at dksX5_route_16 12 rfl rfl)
theorem dX5_route_387 : decode cX5_route 387 = .ok (.irem, 1) := dk_112 (dk_at dksX5_route_16 13 rfl rfl)
theorem dX5_route_388 : decode cX5_route 388 = .ok (.iload 14, 2) := dk_21 14 (dk_at dksX5_route_16 14 rfl rfl)
theorem dX5_route_390 : decode cX5_route 390 = .ok (.iastore, 1) := dk_79 (dk_at dksX5_route_16 16 rfl rfl)
theorem dX5_route_391 : decode cX5_route 391 = .ok (.aload_n 0, 1) := dk_42 (dk_at dksX5_route_16 17 rfl rfl)
theorem dX5_route_392 : decode cX5_route 392 = .ok (.getfield 94, 3) := dk_180 0 94 (dk_at dksX5_route_16 18 rfl rfl)
theorem dX5_route_395 : decode cX5_route 395 = .ok (.iload 14, 2) := dk_21 14 (dk_at dksX5_route_16 21 rfl rfl)
theorem dX5_route_397 : decode cX5_route 397 = .ok (.iconst 1, 1) := dk_4 (dk_at dksX5_route_16 23 rfl rfl)
theorem dX5_route_398 : decode cX5_route 398 = .ok (.bastore, 1) := dk_84 (dk_at dksX5_route_17 0 rfl rfl)
theorem dX5_route_399 : decode cX5_route 399 = .ok (.iinc 7 1, 3) := dk_132 7 1 (dk_at dksX5_route_17 1 rfl rfl)
theorem dX5_route_402 : decode cX5_route 402 = .ok (.iinc 11 1, 3) := dk_132 11 1 (dk_at dksX5_route_17 4 rfl rfl)
theorem dX5_route_405 : decode cX5_route 405 = .ok (.goto (-152), 3) := dk_167 255 104 (dk_at dksX5_route_17 7 rfl rfl)
theorem dX5_route_408 : decode cX5_route 408 = .ok (.goto (-213), 3) := dk_167 255 43 (dk_at dksX5_route_17 10 rfl rfl)
theorem dX5_route_411 : decode cX5_route 411 = .ok (.ldc 251, 2) := dk_18 251 (dk_at dksX5_route_17 13 rfl rfl)
theorem dX5_route_413 : decode cX5_route 413 = .ok (.istore 8, 2) := dk_54 8 (dk_at dksX5_route_17 15 rfl rfl)
theorem dX5_route_415 : decode cX5_route 415 = .ok (.iconst 0, 1) := dk_3 (dk_at dksX5_route_17 17 rfl rfl)
theorem dX5_route_416 : decode cX5_route 416 = .ok (.istore 9, 2) := dk_54 9 (dk_at dksX5_route_17 18 rfl rfl)
theorem dX5_route_418 : decode cX5_route 418 = .ok (.iload 9, 2) := dk_21 9 (dk_at dksX5_route_17 20 rfl rfl)
theorem dX5_route_420 : decode cX5_route 420 = .ok (.iconst 4, 1) := dk_7 (dk_at dksX5_route_17 22 rfl rfl)
theorem dX5_route_421 : decode cX5_route 421 = .ok (.if_icmp .ge 34, 3) := dk_162 0 34 (dk_at dksX5_route_18 0 rfl rfl)
theorem dX5_route_424 : decode cX5_route 424 = .ok (.iload 8, 2) := dk_21 8 (dk_at dksX5_route_18 3 rfl rfl)
theorem dX5_route_426 : decode cX5_route 426 = .ok (.aload_n 0, 1) := dk_42 (dk_at dksX5_route_18 5 rfl rfl)
theorem dX5_route_427 : decode cX5_route 427 = .ok (.getfield 85, 3) := dk_180 0 85 (dk_at dksX5_route_18 6 rfl rfl)
theorem dX5_route_430 : decode cX5_route 430 = .ok (.iconst 4, 1) := dk_7 (dk_at dksX5_route_18 9 rfl rfl)
theorem dX5_route_431 : decode cX5_route 431 = .ok (.bipush 24, 2) := dk_16 24 (dk_at dksX5_route_18 10 rfl rfl)
theorem dX5_route_433 : decode cX5_route 433 = .ok (.iload 5, 2) := dk_21 5 (dk_at dksX5_route_18 12 rfl rfl)
theorem dX5_route_435 : decode cX5_route 435 = .ok (.imul, 1) := dk_104 (dk_at dksX5_route_18 14 rfl rfl)
theorem dX5_route_436 : decode cX5_route 436 = .ok (.iload 4, 2) := dk_21 4 (dk_at dksX5_route_18 15 rfl rfl)
theorem dX5_route_438 : decode cX5_route 438 = .ok (.iadd, 1) := dk_96 (dk_at dksX5_route_18 17 rfl rfl)
theorem dX5_route_439 : decode cX5_route 439 = .ok (.imul, 1) := dk_104 (dk_at dksX5_route_18 18 rfl rfl)
theorem dX5_route_440 : decode cX5_route 440 = .ok (.iload 9, 2) := dk_21 9 (dk_at dksX5_route_18 19 rfl rfl)
theorem dX5_route_442 : decode cX5_route 442 = .ok (.iadd, 1) := dk_96 (dk_at dksX5_route_18 21 rfl rfl)
theorem dX5_route_443 : decode cX5_route 443 = .ok (.iaload, 1) := dk_46 (dk_at dksX5_route_18 22 rfl rfl)
theorem dX5_route_444 : decode cX5_route 444 = .ok (.invokestatic 258, 3) := dk_184 1 2 (dk_at dksX5_route_19 0 rfl rfl)
theorem dX5_route_447 : decode cX5_route 447 = .ok (.istore 8, 2) := dk_54 8 (dk_at dksX5_route_19 3 rfl rfl)
theorem dX5_route_449 : decode cX5_route 449 = .ok (.iinc 9 1, 3) := dk_132 9 1 (dk_at dksX5_route_19 5 rfl rfl)
theorem dX5_route_452 : decode cX5_route 452 = .ok (.goto (-34), 3) := dk_167 255 222 (dk_at dksX5_route_19 8 rfl rfl)
theorem dX5_route_455 : decode cX5_route 455 = .ok (.iload 8, 2) := dk_21 8 (dk_at dksX5_route_19 11 rfl rfl)
theorem dX5_route_457 : decode cX5_route 457 = .ok (.ireturn, 1) := dk_172 (dk_at dksX5_route_19 13 rfl rfl)
theorem q2243 : (Jvm.Cond.methodLink "PlugboardModel" (238 : Nat) ({ cls := "PlugboardModel", name := "shuts", desc := "()V" } : Jvm.MethodName)) ∈ lw_all := lw_g (lw_at lw_m10 13 rfl) rfl
theorem q2245 : (Jvm.Cond.instanceMethod ({ cls := "PlugboardModel", name := "shuts", desc := "()V" } : Jvm.MethodName)) ∈ lw_all := lw_g (lw_at lw_m10 15 rfl) rfl
theorem q2246 : (Jvm.Cond.code ({ cls := "PlugboardModel", name := "shuts", desc := "()V" } : Jvm.MethodName) prog_19_method_70_code (3 : Nat) (Option.none : Option Jvm.ClassFile.FieldType)) ∈ lw_all := lw_g (lw_at lw_m10 16 rfl) rfl
theorem q2247 : (Jvm.Cond.methodLink "PlugboardModel" (241 : Nat) ({ cls := "PlugboardModel", name := "endColumn", desc := "(IC)I" } : Jvm.MethodName)) ∈ lw_all := lw_g (lw_at lw_m10 17 rfl) rfl
theorem q2249 : (Jvm.Cond.instanceMethod ({ cls := "PlugboardModel", name := "endColumn", desc := "(IC)I" } : Jvm.MethodName)) ∈ lw_all := lw_g (lw_at lw_m10 19 rfl) rfl
theorem q2250 : (Jvm.Cond.code ({ cls := "PlugboardModel", name := "endColumn", desc := "(IC)I" } : Jvm.MethodName) prog_19_method_67_code (3 : Nat) (Option.some Jvm.ClassFile.FieldType.int)) ∈ lw_all := lw_g (lw_at lw_m10 20 rfl) rfl
theorem q2251 : (Jvm.Cond.methodLink "PlugboardModel" (245 : Nat) ({ cls := "PlugboardModel", name := "endRow", desc := "(IC)I" } : Jvm.MethodName)) ∈ lw_all := lw_g (lw_at lw_m10 21 rfl) rfl
theorem q2253 : (Jvm.Cond.instanceMethod ({ cls := "PlugboardModel", name := "endRow", desc := "(IC)I" } : Jvm.MethodName)) ∈ lw_all := lw_g (lw_at lw_m10 23 rfl) rfl
theorem q2254 : (Jvm.Cond.code ({ cls := "PlugboardModel", name := "endRow", desc := "(IC)I" } : Jvm.MethodName) prog_19_method_68_code (3 : Nat) (Option.some Jvm.ClassFile.FieldType.int)) ∈ lw_all := lw_g (lw_at lw_m10 24 rfl) rfl
theorem q2255 : (Jvm.Cond.methodLink "PlugboardModel" (248 : Nat) ({ cls := "PlugboardModel", name := "isOpen", desc := "(II)Z" } : Jvm.MethodName)) ∈ lw_all := lw_g (lw_at lw_m10 25 rfl) rfl
theorem q2257 : (Jvm.Cond.instanceMethod ({ cls := "PlugboardModel", name := "isOpen", desc := "(II)Z" } : Jvm.MethodName)) ∈ lw_all := lw_g (lw_at lw_m10 27 rfl) rfl
theorem q2258 : (Jvm.Cond.code ({ cls := "PlugboardModel", name := "isOpen", desc := "(II)Z" } : Jvm.MethodName) prog_19_method_69_code (3 : Nat) (Option.some Jvm.ClassFile.FieldType.boolean)) ∈ lw_all := lw_g (lw_at lw_m10 28 rfl) rfl
theorem q2259 : (Jvm.Cond.constant "PlugboardModel" (251 : Nat) (1000000000 : Int32)) ∈ lw_all := lw_g (lw_at lw_m10 29 rfl) rfl
theorem q2260 : (Jvm.Cond.methodLink "PlugboardModel" (252 : Nat) ({ cls := "PlugboardModel", name := "stepOver", desc := "(I)I" } : Jvm.MethodName)) ∈ lw_all := lw_g (lw_at lw_m10 30 rfl) rfl
theorem q2261 : (Jvm.Cond.static ({ cls := "PlugboardModel", name := "stepOver", desc := "(I)I" } : Jvm.MethodName)) ∈ lw_all := lw_g (lw_at lw_m10 31 rfl) rfl
theorem q2262 : (Jvm.Cond.code ({ cls := "PlugboardModel", name := "stepOver", desc := "(I)I" } : Jvm.MethodName) prog_19_method_71_code (1 : Nat) (Option.some Jvm.ClassFile.FieldType.int)) ∈ lw_all := lw_g (lw_at lw_m10 32 rfl) rfl
theorem q2263 : (Jvm.Cond.methodLink "PlugboardModel" (255 : Nat) ({ cls := "PlugboardModel", name := "stepDown", desc := "(I)I" } : Jvm.MethodName)) ∈ lw_all := lw_g (lw_at lw_m10 33 rfl) rfl
theorem q2264 : (Jvm.Cond.static ({ cls := "PlugboardModel", name := "stepDown", desc := "(I)I" } : Jvm.MethodName)) ∈ lw_all := lw_g (lw_at lw_m10 34 rfl) rfl
theorem q2265 : (Jvm.Cond.code ({ cls := "PlugboardModel", name := "stepDown", desc := "(I)I" } : Jvm.MethodName) prog_19_method_72_code (1 : Nat) (Option.some Jvm.ClassFile.FieldType.int)) ∈ lw_all := lw_g (lw_at lw_m10 35 rfl) rfl
theorem q2266 : (Jvm.Cond.methodLink "PlugboardModel" (258 : Nat) ({ cls := "java/lang/Math", name := "min", desc := "(II)I" } : Jvm.MethodName)) ∈ lw_all := lw_g (lw_at lw_m10 36 rfl) rfl
abbrev rm_X5_route : Room := { frames := 3, cells := 0, slots := 0, locals := 68 }
def w_X5_route_418 (P : Int32 → AH → Prop) (x0 : Option Nat) (x4 : Int32) (x5 : Int32) (x8 : Int32) (x9 : Int32) (h : AH) : Prop :=
  ∀ Z418 : Int32 → Int32 → AH → Prop, (∀ x8 x9 h, (
      ((4 ≤ x9 →
        P x8 h) ∧
       (¬ 4 ≤ x9 →
        g_q h x0 4 28 fun y427 =>
        l_i h y427 0 ((4 * ((24 * x5) + x4)) + x9) fun y443 =>
        w_J14_min x8 y443 h (fun y444 h444 =>
        Z418 y444 (x9 + 1) h444))))
      → Z418 x8 x9 h) → Z418 x8 x9 h
def w_X5_route_333 (P : Int32 → AH → Prop) (Z195 : Int32 → Int32 → AH → Prop) (Z253 : Int32 → Int32 → AH → Prop) (x0 : Option Nat) (x4 : Int32) (x5 : Int32) (x6 : Int32) (x7 : Int32) (x8 : Int32) (x9 : Int32) (x10 : Int32) (x11 : Int32) (x14 : Int32) (t0 : Int32) (t1 : Int32) (h : AH) : Prop :=
  g_q h x0 4 28 fun y339 =>
  l_i h y339 0 x14 fun y344 =>
  (((t1 + t0) < y344 →
    g_q h x0 4 28 fun y352 =>
    s_i h y352 0 x14 (t1 + t0) fun h359 =>
    g_q h359 x0 4 31 fun y361 =>
    l_i h359 y361 1 x14 fun y366 =>
    ((y366 = 0 →
      g_q h359 x0 4 29 fun y374 =>
      g_q h359 x0 4 29 fun y383 =>
      n_a h359 y383 fun y386 =>
      ¬ y386 = 0 ∧
      s_i h359 y374 0 ((x6 + x7) - (x6 + x7) / y386 * y386) x14 fun h390 =>
      g_q h390 x0 4 31 fun y392 =>
      s_i h390 y392 1 x14 1 fun h398 =>
      Z253 (x7 + 1) (x11 + 1) h398) ∧
     (¬ y366 = 0 →
      Z253 x7 (x11 + 1) h359))) ∧
   (¬ (t1 + t0) < y344 →
    Z253 x7 (x11 + 1) h))
def w_X5_route_253 (P : Int32 → AH → Prop) (Z195 : Int32 → Int32 → AH → Prop) (x0 : Option Nat) (x4 : Int32) (x5 : Int32) (x6 : Int32) (x7 : Int32) (x8 : Int32) (x9 : Int32) (x10 : Int32) (x11 : Int32) (h : AH) : Prop :=
  ∀ Z253 : Int32 → Int32 → AH → Prop, (∀ x7 x11 h, (
      ((4 ≤ x11 →
        Z195 x6 x7 h) ∧
       (¬ 4 ≤ x11 →
        w_X5_stepOver x11 h (fun y263 h263 =>
        w_X5_stepDown x11 h263 (fun y273 h273 =>
        is_c h273 x0 [4] (
        w_X5_isOpen x0 (x9 + y263) (x10 + y273) h273 (fun y284 h284 =>
        ((y284 = 0 →
          Z253 x7 (x11 + 1) h284) ∧
         (¬ y284 = 0 →
          g_q h284 x0 4 28 fun y309 =>
          l_i h284 y309 0 x8 fun y314 =>
          ¬ (4 : Int32) = 0 ∧
          ((x11 = (x8 - x8 / 4 * 4) →
            w_X5_route_333 P Z195 Z253 x0 x4 x5 x6 x7 x8 x9 x10 x11 ((4 * ((24 * (x10 + y273)) + (x9 + y263))) + x11) 0 (y314 + 1) h284) ∧
           (¬ x11 = (x8 - x8 / 4 * 4) →
            w_X5_route_333 P Z195 Z253 x0 x4 x5 x6 x7 x8 x9 x10 x11 ((4 * ((24 * (x10 + y273)) + (x9 + y263))) + x11) 1000 (y314 + 1) h284)))))))))))
      → Z253 x7 x11 h) → Z253 x7 x11 h
def w_X5_route_195 (P : Int32 → AH → Prop) (x0 : Option Nat) (x4 : Int32) (x5 : Int32) (x6 : Int32) (x7 : Int32) (h : AH) : Prop :=
  ∀ Z195 : Int32 → Int32 → AH → Prop, (∀ x6 x7 h, (
      ((x7 ≤ 0 →
        w_X5_route_418 P x0 x4 x5 1000000000 0 h) ∧
       (¬ x7 ≤ 0 →
        g_q h x0 4 29 fun y201 =>
        l_i h y201 0 x6 fun y206 =>
        g_q h x0 4 29 fun y214 =>
        n_a h y214 fun y217 =>
        ¬ y217 = 0 ∧
        g_q h x0 4 31 fun y225 =>
        s_i h y225 1 y206 0 fun h231 =>
        ¬ (4 : Int32) = 0 ∧
        ¬ (24 : Int32) = 0 ∧
        ¬ (4 : Int32) = 0 ∧
        ¬ (24 : Int32) = 0 ∧
        w_X5_route_253 P Z195 x0 x4 x5 ((x6 + 1) - (x6 + 1) / y217 * y217) (x7 + (-1)) y206 ((y206 / 4) - (y206 / 4) / 24 * 24) ((y206 / 4) / 24) 0 h231)))
      → Z195 x6 x7 h) → Z195 x6 x7 h
def w_X5_route_142 (P : Int32 → AH → Prop) (x0 : Option Nat) (x2 : Int32) (x3 : Int32) (x4 : Int32) (x5 : Int32) (x6 : Int32) (x7 : Int32) (x8 : Int32) (h : AH) : Prop :=
  ∀ Z142 : Int32 → Int32 → AH → Prop, (∀ x7 x8 h, (
      ((4 ≤ x8 →
        w_X5_route_195 P x0 x4 x5 x6 x7 h) ∧
       (¬ 4 ≤ x8 →
        g_q h x0 4 28 fun y162 =>
        s_i h y162 0 ((4 * ((24 * x3) + x2)) + x8) 1 fun h168 =>
        g_q h168 x0 4 29 fun y170 =>
        s_i h168 y170 0 x7 ((4 * ((24 * x3) + x2)) + x8) fun h177 =>
        g_q h177 x0 4 31 fun y179 =>
        s_i h177 y179 1 ((4 * ((24 * x3) + x2)) + x8) 1 fun h185 =>
        Z142 (x7 + 1) (x8 + 1) h185)))
      → Z142 x7 x8 h) → Z142 x7 x8 h
def w_X5_route_100 (P : Int32 → AH → Prop) (x0 : Option Nat) (x2 : Int32) (x3 : Int32) (x4 : Int32) (x5 : Int32) (x6 : Int32) (h : AH) : Prop :=
  ∀ Z100 : Int32 → AH → Prop, (∀ x6 h, (
      g_q h x0 4 28 fun y103 =>
      n_a h y103 fun y106 =>
      ((y106 ≤ x6 →
        w_X5_route_142 P x0 x2 x3 x4 x5 0 0 0 h) ∧
       (¬ y106 ≤ x6 →
        g_q h x0 4 28 fun y111 =>
        s_i h y111 0 x6 1000000000 fun h118 =>
        g_q h118 x0 4 31 fun y120 =>
        s_i h118 y120 1 x6 0 fun h126 =>
        Z100 (x6 + 1) h126)))
      → Z100 x6 h) → Z100 x6 h
def w_X5_route (a0 : Option Nat) (a1 : Int32) (h : AH) (P : Int32 → AH → Prop) : Prop :=
  is_c h a0 [4] (
  w_X5_shuts a0 h (fun h1 =>
  g_q h1 a0 4 3 fun y6 =>
  l_i h1 y6 0 a1 fun y10 =>
  g_q h1 a0 4 6 fun y12 =>
  l_i h1 y12 4 a1 fun y16 =>
  is_c h1 a0 [4] (
  w_X5_endColumn a0 y10 y16 h1 (fun y17 h17 =>
  g_q h17 a0 4 3 fun y23 =>
  l_i h17 y23 0 a1 fun y27 =>
  g_q h17 a0 4 6 fun y29 =>
  l_i h17 y29 4 a1 fun y33 =>
  is_c h17 a0 [4] (
  w_X5_endRow a0 y27 y33 h17 (fun y34 h34 =>
  g_q h34 a0 4 4 fun y40 =>
  l_i h34 y40 0 a1 fun y44 =>
  g_q h34 a0 4 7 fun y46 =>
  l_i h34 y46 4 a1 fun y50 =>
  is_c h34 a0 [4] (
  w_X5_endColumn a0 y44 y50 h34 (fun y51 h51 =>
  g_q h51 a0 4 4 fun y58 =>
  l_i h51 y58 0 a1 fun y62 =>
  g_q h51 a0 4 7 fun y64 =>
  l_i h51 y64 4 a1 fun y68 =>
  is_c h51 a0 [4] (
  w_X5_endRow a0 y62 y68 h51 (fun y69 h69 =>
  is_c h69 a0 [4] (
  w_X5_isOpen a0 y17 y34 h69 (fun y77 h77 =>
  ((y77 = 0 →
    P 1000000000 h77) ∧
   (¬ y77 = 0 →
    is_c h77 a0 [4] (
    w_X5_isOpen a0 y51 y69 h77 (fun y88 h88 =>
    ((y88 = 0 →
      P 1000000000 h88) ∧
     (¬ y88 = 0 →
      w_X5_route_100 P a0 y17 y34 y51 y69 0 h88))))))))))))))))))
theorem wk_X5_route_418 {x : CX} (X : Ok x cX5_route RX5 rm_X5_route 16) (er : xrt x = (Option.some Jvm.ClassFile.FieldType.int)) (en : xnm x = yX5_route.name) {P : Int32 → AH → Prop} (hQ : xr_i x P) (x0 : Option Nat) (x4 : Int32) (x5 : Int32) (x8 : Int32) (x9 : Int32) (h : AH) (hw : w_X5_route_418 P x0 x4 x5 x8 x9 h) : J x h 0 0 418 [(0, vR x0), (4, vI x4), (5, vI x5), (8, vI x8), (9, vI x9)] [] := by
  refine hw (fun x8 x9 h => J x h 0 0 418 [(0, vR x0), (4, vI x4), (5, vI x5), (8, vI x8), (9, vI x9)] []) (fun x8 x9 h hw => ?_)
  refine j_iload X (pc := 418) 4 dX5_route_418 rfl ?_
  refine j_iconst X (pc := 420) 4 dX5_route_420 (by decide) ?_
  refine j_icmp_ge X (pc := 421) 455 dX5_route_421 (by decide) hw (fun hw => ?_) (fun hw => ?_)
  · refine j_iload X (pc := 455) 3 dX5_route_455 rfl ?_
    exact j_iret X (pc := 457) hQ er (Nat.le_of_ble_eq_true rfl) (Nat.le_of_ble_eq_true rfl) dX5_route_457 hw
  · refine j_iload X (pc := 424) 3 dX5_route_424 rfl ?_
    refine j_aload_n X (pc := 426) 0 dX5_route_426 rfl rfl ?_
    refine j_getq (ci := 4) X (pc := 427) in_X5 rfl (by decide) 28 (by decide) q1900 (Or.inl rfl) dX5_route_427 hw (fun y427 hw => ?_)
    refine j_iconst X (pc := 430) 4 dX5_route_430 (by decide) ?_
    refine j_bipush X (pc := 431) 24 dX5_route_431 (by decide) ?_
    refine j_iload X (pc := 433) 2 dX5_route_433 rfl ?_
    refine j_imul X (pc := 435) dX5_route_435 ?_
    refine j_iload X (pc := 436) 1 dX5_route_436 rfl ?_
    refine j_iadd X (pc := 438) dX5_route_438 ?_
    refine j_imul X (pc := 439) dX5_route_439 ?_
    refine j_iload X (pc := 440) 4 dX5_route_440 rfl ?_
    refine j_iadd X (pc := 442) dX5_route_442 ?_
    refine j_iald X (pc := 443) 0 rfl dX5_route_443 hw (fun y443 hw => ?_)
    refine j_calli (j_runS (n8 := 2) (As := [vI x8, vI y443]) (rest := []) X (pc := 444) (met_J14_min (xl x) X.hl (xG x) h x8 y443 _ hw) q2266 q670 q92 q671 (by decide +kernel) dX5_route_444 rfl ⟨Nat.le_of_ble_eq_true rfl, Nat.le_of_ble_eq_true rfl⟩ (Nat.le_of_ble_eq_true rfl) ⟨Nat.le_of_ble_eq_true rfl, Nat.le_of_ble_eq_true rfl⟩) (fun y444 h444 hw => ?_)
    refine j_istore X (pc := 447) [(8, vI y444), (0, vR x0), (4, vI x4), (5, vI x5), (9, vI x9)] dX5_route_447 (Nat.le_of_ble_eq_true rfl) rfl ?_
    refine j_iinc X (pc := 449) 4 (x9 + 1) [(9, vI (x9 + 1)), (8, vI y444), (0, vR x0), (4, vI x4), (5, vI x5)] dX5_route_449 rfl rfl (Nat.le_of_ble_eq_true rfl) rfl ?_
    refine j_goto X (pc := 452) 418 dX5_route_452 (by decide) ?_
    refine j_lv [(0, vR x0), (4, vI x4), (5, vI x5), (8, vI y444), (9, vI (x9 + 1))] [2, 3, 4, 1, 0] rfl ?_
    refine j_cs (u' := 0) (v' := 0) (Nat.le_of_ble_eq_true rfl) (Nat.le_of_ble_eq_true rfl) ?_
    exact hw
theorem wk_X5_route_333 {x : CX} (X : Ok x cX5_route RX5 rm_X5_route 16) (er : xrt x = (Option.some Jvm.ClassFile.FieldType.int)) (en : xnm x = yX5_route.name) {P : Int32 → AH → Prop} (hQ : xr_i x P) (Z195 : Int32 → Int32 → AH → Prop) (Z253 : Int32 → Int32 → AH → Prop) (x0 : Option Nat) (x4 : Int32) (x5 : Int32) (x6 : Int32) (x7 : Int32) (x8 : Int32) (x9 : Int32) (x10 : Int32) (x11 : Int32) (x14 : Int32) (t0 : Int32) (t1 : Int32) (h : AH) (hZ195 : ∀ x6 x7 h, Z195 x6 x7 h → J x h 0 0 195 [(0, vR x0), (4, vI x4), (5, vI x5), (6, vI x6), (7, vI x7)] []) (hZ253 : ∀ x7 x11 h, Z253 x7 x11 h → J x h 0 0 253 [(0, vR x0), (4, vI x4), (5, vI x5), (6, vI x6), (7, vI x7), (8, vI x8), (9, vI x9), (10, vI x10), (11, vI x11)] []) (hw : w_X5_route_333 P Z195 Z253 x0 x4 x5 x6 x7 x8 x9 x10 x11 x14 t0 t1 h) : J x h 0 0 333 [(0, vR x0), (4, vI x4), (5, vI x5), (6, vI x6), (7, vI x7), (8, vI x8), (9, vI x9), (10, vI x10), (11, vI x11), (14, vI x14)] [vI t0, vI t1] := by
  refine j_iadd X (pc := 333) dX5_route_333 ?_
  refine j_istore X (pc := 334) [(15, vI (t1 + t0)), (0, vR x0), (4, vI x4), (5, vI x5), (6, vI x6), (7, vI x7), (8, vI x8), (9, vI x9), (10, vI x10), (11, vI x11), (14, vI x14)] dX5_route_334 (Nat.le_of_ble_eq_true rfl) rfl ?_
  refine j_iload X (pc := 336) 0 dX5_route_336 rfl ?_
  refine j_aload_n X (pc := 338) 1 dX5_route_338 rfl rfl ?_
  refine j_getq (ci := 4) X (pc := 339) in_X5 rfl (by decide) 28 (by decide) q1900 (Or.inl rfl) dX5_route_339 hw (fun y339 hw => ?_)
  refine j_iload X (pc := 342) 10 dX5_route_342 rfl ?_
  refine j_iald X (pc := 344) 0 rfl dX5_route_344 hw (fun y344 hw => ?_)
  refine j_icmp_lt X (pc := 345) 351 dX5_route_345 (by decide) hw (fun hw => ?_) (fun hw => ?_)
  · refine j_aload_n X (pc := 351) 1 dX5_route_351 rfl rfl ?_
    refine j_getq (ci := 4) X (pc := 352) in_X5 rfl (by decide) 28 (by decide) q1900 (Or.inl rfl) dX5_route_352 hw (fun y352 hw => ?_)
    refine j_iload X (pc := 355) 10 dX5_route_355 rfl ?_
    refine j_iload X (pc := 357) 0 dX5_route_357 rfl ?_
    refine j_iast X (pc := 359) 0 rfl rfl dX5_route_359 hw (fun h359 hw => ?_)
    refine j_aload_n X (pc := 360) 1 dX5_route_360 rfl rfl ?_
    refine j_getq (ci := 4) X (pc := 361) in_X5 rfl (by decide) 31 (by decide) q1903 (Or.inl rfl) dX5_route_361 hw (fun y361 hw => ?_)
    refine j_iload X (pc := 364) 10 dX5_route_364 rfl ?_
    refine j_zald X (pc := 366) 1 rfl dX5_route_366 hw (fun y366 hw => ?_)
    refine j_if_eq X (pc := 367) 373 dX5_route_367 (by decide) hw (fun hw => ?_) (fun hw => ?_)
    · refine j_aload_n X (pc := 373) 1 dX5_route_373 rfl rfl ?_
      refine j_getq (ci := 4) X (pc := 374) in_X5 rfl (by decide) 29 (by decide) q1901 (Or.inl rfl) dX5_route_374 hw (fun y374 hw => ?_)
      refine j_iload X (pc := 377) 4 dX5_route_377 rfl ?_
      refine j_iload X (pc := 379) 5 dX5_route_379 rfl ?_
      refine j_iadd X (pc := 381) dX5_route_381 ?_
      refine j_aload_n X (pc := 382) 1 dX5_route_382 rfl rfl ?_
      refine j_getq (ci := 4) X (pc := 383) in_X5 rfl (by decide) 29 (by decide) q1901 (Or.inl rfl) dX5_route_383 hw (fun y383 hw => ?_)
      refine j_alen X (pc := 386) dX5_route_386 hw (fun y386 hw => ?_)
      refine j_irem X (pc := 387) dX5_route_387 hw (fun hw => ?_)
      refine j_iload X (pc := 388) 10 dX5_route_388 rfl ?_
      refine j_iast X (pc := 390) 0 rfl rfl dX5_route_390 hw (fun h390 hw => ?_)
      refine j_aload_n X (pc := 391) 1 dX5_route_391 rfl rfl ?_
      refine j_getq (ci := 4) X (pc := 392) in_X5 rfl (by decide) 31 (by decide) q1903 (Or.inl rfl) dX5_route_392 hw (fun y392 hw => ?_)
      refine j_iload X (pc := 395) 10 dX5_route_395 rfl ?_
      refine j_iconst X (pc := 397) 1 dX5_route_397 (by decide) ?_
      refine j_zast X (pc := 398) 1 rfl rfl ⟨rfl, rfl⟩ dX5_route_398 hw (fun h398 hw => ?_)
      refine j_iinc X (pc := 399) 5 (x7 + 1) [(7, vI (x7 + 1)), (15, vI (t1 + t0)), (0, vR x0), (4, vI x4), (5, vI x5), (6, vI x6), (8, vI x8), (9, vI x9), (10, vI x10), (11, vI x11), (14, vI x14)] dX5_route_399 rfl rfl (Nat.le_of_ble_eq_true rfl) rfl ?_
      refine j_iinc X (pc := 402) 9 (x11 + 1) [(11, vI (x11 + 1)), (7, vI (x7 + 1)), (15, vI (t1 + t0)), (0, vR x0), (4, vI x4), (5, vI x5), (6, vI x6), (8, vI x8), (9, vI x9), (10, vI x10), (14, vI x14)] dX5_route_402 rfl rfl (Nat.le_of_ble_eq_true rfl) rfl ?_
      refine j_goto X (pc := 405) 253 dX5_route_405 (by decide) ?_
      refine j_lv [(0, vR x0), (4, vI x4), (5, vI x5), (6, vI x6), (7, vI (x7 + 1)), (8, vI x8), (9, vI x9), (10, vI x10), (11, vI (x11 + 1))] [3, 4, 5, 6, 1, 7, 8, 9, 0] rfl ?_
      refine j_cs (u' := 0) (v' := 0) (Nat.le_of_ble_eq_true rfl) (Nat.le_of_ble_eq_true rfl) ?_
      exact hZ253 (x7 + 1) (x11 + 1) h398 hw
    · refine j_goto X (pc := 370) 402 dX5_route_370 (by decide) ?_
      refine j_iinc X (pc := 402) 9 (x11 + 1) [(11, vI (x11 + 1)), (15, vI (t1 + t0)), (0, vR x0), (4, vI x4), (5, vI x5), (6, vI x6), (7, vI x7), (8, vI x8), (9, vI x9), (10, vI x10), (14, vI x14)] dX5_route_402 rfl rfl (Nat.le_of_ble_eq_true rfl) rfl ?_
      refine j_goto X (pc := 405) 253 dX5_route_405 (by decide) ?_
      refine j_lv [(0, vR x0), (4, vI x4), (5, vI x5), (6, vI x6), (7, vI x7), (8, vI x8), (9, vI x9), (10, vI x10), (11, vI (x11 + 1))] [2, 3, 4, 5, 6, 7, 8, 9, 0] rfl ?_
      refine j_cs (u' := 0) (v' := 0) (Nat.le_of_ble_eq_true rfl) (Nat.le_of_ble_eq_true rfl) ?_
      exact hZ253 x7 (x11 + 1) h359 hw
  · refine j_goto X (pc := 348) 402 dX5_route_348 (by decide) ?_
    refine j_iinc X (pc := 402) 9 (x11 + 1) [(11, vI (x11 + 1)), (15, vI (t1 + t0)), (0, vR x0), (4, vI x4), (5, vI x5), (6, vI x6), (7, vI x7), (8, vI x8), (9, vI x9), (10, vI x10), (14, vI x14)] dX5_route_402 rfl rfl (Nat.le_of_ble_eq_true rfl) rfl ?_
    refine j_goto X (pc := 405) 253 dX5_route_405 (by decide) ?_
    refine j_lv [(0, vR x0), (4, vI x4), (5, vI x5), (6, vI x6), (7, vI x7), (8, vI x8), (9, vI x9), (10, vI x10), (11, vI (x11 + 1))] [2, 3, 4, 5, 6, 7, 8, 9, 0] rfl ?_
    refine j_cs (u' := 0) (v' := 0) (Nat.le_of_ble_eq_true rfl) (Nat.le_of_ble_eq_true rfl) ?_
    exact hZ253 x7 (x11 + 1) h hw
theorem wk_X5_route_253 {x : CX} (X : Ok x cX5_route RX5 rm_X5_route 16) (er : xrt x = (Option.some Jvm.ClassFile.FieldType.int)) (en : xnm x = yX5_route.name) {P : Int32 → AH → Prop} (hQ : xr_i x P) (Z195 : Int32 → Int32 → AH → Prop) (x0 : Option Nat) (x4 : Int32) (x5 : Int32) (x6 : Int32) (x7 : Int32) (x8 : Int32) (x9 : Int32) (x10 : Int32) (x11 : Int32) (h : AH) (hZ195 : ∀ x6 x7 h, Z195 x6 x7 h → J x h 0 0 195 [(0, vR x0), (4, vI x4), (5, vI x5), (6, vI x6), (7, vI x7)] []) (hw : w_X5_route_253 P Z195 x0 x4 x5 x6 x7 x8 x9 x10 x11 h) : J x h 0 0 253 [(0, vR x0), (4, vI x4), (5, vI x5), (6, vI x6), (7, vI x7), (8, vI x8), (9, vI x9), (10, vI x10), (11, vI x11)] [] := by
  refine hw (fun x7 x11 h => J x h 0 0 253 [(0, vR x0), (4, vI x4), (5, vI x5), (6, vI x6), (7, vI x7), (8, vI x8), (9, vI x9), (10, vI x10), (11, vI x11)] []) (fun x7 x11 h hw => ?_)
  refine j_iload X (pc := 253) 8 dX5_route_253 rfl ?_
  refine j_iconst X (pc := 255) 4 dX5_route_255 (by decide) ?_
  refine j_icmp_ge X (pc := 256) 408 dX5_route_256 (by decide) hw (fun hw => ?_) (fun hw => ?_)
  · refine j_goto X (pc := 408) 195 dX5_route_408 (by decide) ?_
    refine j_lv [(0, vR x0), (4, vI x4), (5, vI x5), (6, vI x6), (7, vI x7)] [0, 1, 2, 3, 4] rfl ?_
    refine j_cs (u' := 0) (v' := 0) (Nat.le_of_ble_eq_true rfl) (Nat.le_of_ble_eq_true rfl) ?_
    exact hZ195 x6 x7 h hw
  · refine j_iload X (pc := 259) 6 dX5_route_259 rfl ?_
    refine j_iload X (pc := 261) 8 dX5_route_261 rfl ?_
    refine j_calli (j_runS (n8 := 1) (As := [vI x11]) (rest := [vI x9]) X (pc := 263) (met_X5_stepOver (xl x) X.hl (xG x) h x11 _ hw) q2260 q2261 q78 q2262 (by decide +kernel) dX5_route_263 rfl ⟨Nat.le_of_ble_eq_true rfl, Nat.le_of_ble_eq_true rfl⟩ (Nat.le_of_ble_eq_true rfl) ⟨Nat.le_of_ble_eq_true rfl, Nat.le_of_ble_eq_true rfl⟩) (fun y263 h263 hw => ?_)
    refine j_iadd X (pc := 266) dX5_route_266 ?_
    refine j_istore X (pc := 267) [(12, vI (x9 + y263)), (0, vR x0), (4, vI x4), (5, vI x5), (6, vI x6), (7, vI x7), (8, vI x8), (9, vI x9), (10, vI x10), (11, vI x11)] dX5_route_267 (Nat.le_of_ble_eq_true rfl) rfl ?_
    refine j_iload X (pc := 269) 8 dX5_route_269 rfl ?_
    refine j_iload X (pc := 271) 9 dX5_route_271 rfl ?_
    refine j_calli (j_runS (n8 := 1) (As := [vI x11]) (rest := [vI x10]) X (pc := 273) (met_X5_stepDown (xl x) X.hl (xG x) h263 x11 _ hw) q2263 q2264 q78 q2265 (by decide +kernel) dX5_route_273 rfl ⟨Nat.le_of_ble_eq_true rfl, Nat.le_of_ble_eq_true rfl⟩ (Nat.le_of_ble_eq_true rfl) ⟨Nat.le_of_ble_eq_true rfl, Nat.le_of_ble_eq_true rfl⟩) (fun y273 h273 hw => ?_)
    refine j_iadd X (pc := 276) dX5_route_276 ?_
    refine j_istore X (pc := 277) [(13, vI (x10 + y273)), (12, vI (x9 + y263)), (0, vR x0), (4, vI x4), (5, vI x5), (6, vI x6), (7, vI x7), (8, vI x8), (9, vI x9), (10, vI x10), (11, vI x11)] dX5_route_277 (Nat.le_of_ble_eq_true rfl) rfl ?_
    refine j_aload_n X (pc := 279) 2 dX5_route_279 rfl rfl ?_
    refine j_iload X (pc := 280) 1 dX5_route_280 rfl ?_
    refine j_iload X (pc := 282) 0 dX5_route_282 rfl ?_
    obtain ⟨b9, c9, f9, hr9, ho9, hc9, hw⟩ := hw
    obtain rfl := List.mem_singleton.mp hc9
    refine j_calli (j_runV (n8 := 2) (As := [vI (x9 + y263), vI (x10 + y273)]) (rest := []) X (pc := 284) hr9 (met_X5_isOpen (xl x) X.hl (xG x) h273 x0 (x9 + y263) (x10 + y273) _ hw) ho9 (by decide) rfl q2255 q2257 qs66 q78 q2258 (by decide +kernel) dX5_route_284 rfl ⟨Nat.le_of_ble_eq_true rfl, Nat.le_of_ble_eq_true rfl⟩ (Nat.le_of_ble_eq_true rfl) ⟨Nat.le_of_ble_eq_true rfl, Nat.le_of_ble_eq_true rfl⟩) (fun y284 h284 hw => ?_)
    refine j_if_ne X (pc := 287) 293 dX5_route_287 (by decide) hw (fun hw => ?_) (fun hw => ?_)
    · refine j_goto X (pc := 290) 402 dX5_route_290 (by decide) ?_
      refine j_iinc X (pc := 402) 10 (x11 + 1) [(11, vI (x11 + 1)), (13, vI (x10 + y273)), (12, vI (x9 + y263)), (0, vR x0), (4, vI x4), (5, vI x5), (6, vI x6), (7, vI x7), (8, vI x8), (9, vI x9), (10, vI x10)] dX5_route_402 rfl rfl (Nat.le_of_ble_eq_true rfl) rfl ?_
      refine j_goto X (pc := 405) 253 dX5_route_405 (by decide) ?_
      refine j_lv [(0, vR x0), (4, vI x4), (5, vI x5), (6, vI x6), (7, vI x7), (8, vI x8), (9, vI x9), (10, vI x10), (11, vI (x11 + 1))] [3, 4, 5, 6, 7, 8, 9, 10, 0] rfl ?_
      refine j_cs (u' := 0) (v' := 0) (Nat.le_of_ble_eq_true rfl) (Nat.le_of_ble_eq_true rfl) ?_
      exact hw
    · refine j_iconst X (pc := 293) 4 dX5_route_293 (by decide) ?_
      refine j_bipush X (pc := 294) 24 dX5_route_294 (by decide) ?_
      refine j_iload X (pc := 296) 0 dX5_route_296 rfl ?_
      refine j_imul X (pc := 298) dX5_route_298 ?_
      refine j_iload X (pc := 299) 1 dX5_route_299 rfl ?_
      refine j_iadd X (pc := 301) dX5_route_301 ?_
      refine j_imul X (pc := 302) dX5_route_302 ?_
      refine j_iload X (pc := 303) 10 dX5_route_303 rfl ?_
      refine j_iadd X (pc := 305) dX5_route_305 ?_
      refine j_istore X (pc := 306) [(14, vI ((4 * ((24 * (x10 + y273)) + (x9 + y263))) + x11)), (13, vI (x10 + y273)), (12, vI (x9 + y263)), (0, vR x0), (4, vI x4), (5, vI x5), (6, vI x6), (7, vI x7), (8, vI x8), (9, vI x9), (10, vI x10), (11, vI x11)] dX5_route_306 (Nat.le_of_ble_eq_true rfl) rfl ?_
      refine j_aload_n X (pc := 308) 3 dX5_route_308 rfl rfl ?_
      refine j_getq (ci := 4) X (pc := 309) in_X5 rfl (by decide) 28 (by decide) q1900 (Or.inl rfl) dX5_route_309 hw (fun y309 hw => ?_)
      refine j_iload X (pc := 312) 8 dX5_route_312 rfl ?_
      refine j_iald X (pc := 314) 0 rfl dX5_route_314 hw (fun y314 hw => ?_)
      refine j_iconst X (pc := 315) 1 dX5_route_315 (by decide) ?_
      refine j_iadd X (pc := 316) dX5_route_316 ?_
      refine j_iload X (pc := 317) 11 dX5_route_317 rfl ?_
      refine j_iload X (pc := 319) 8 dX5_route_319 rfl ?_
      refine j_iconst X (pc := 321) 4 dX5_route_321 (by decide) ?_
      refine j_irem X (pc := 322) dX5_route_322 hw (fun hw => ?_)
      refine j_icmp_ne X (pc := 323) 330 dX5_route_323 (by decide) hw (fun hw => ?_) (fun hw => ?_)
      · refine j_iconst X (pc := 326) 0 dX5_route_326 (by decide) ?_
        refine j_goto X (pc := 327) 333 dX5_route_327 (by decide) ?_
        refine j_lv [(0, vR x0), (4, vI x4), (5, vI x5), (6, vI x6), (7, vI x7), (8, vI x8), (9, vI x9), (10, vI x10), (11, vI x11), (14, vI ((4 * ((24 * (x10 + y273)) + (x9 + y263))) + x11))] [3, 4, 5, 6, 7, 8, 9, 10, 11, 0] rfl ?_
        refine j_cs (u' := 0) (v' := 0) (Nat.le_of_ble_eq_true rfl) (Nat.le_of_ble_eq_true rfl) ?_
        exact wk_X5_route_333 X er en hQ _ _ x0 x4 x5 x6 x7 x8 x9 x10 x11 ((4 * ((24 * (x10 + y273)) + (x9 + y263))) + x11) 0 (y314 + 1) h284 hZ195 (fun x7_ x11_ h_ hz => hz) hw
      · refine j_sipush X (pc := 330) 1000 dX5_route_330 (by decide) ?_
        refine j_lv [(0, vR x0), (4, vI x4), (5, vI x5), (6, vI x6), (7, vI x7), (8, vI x8), (9, vI x9), (10, vI x10), (11, vI x11), (14, vI ((4 * ((24 * (x10 + y273)) + (x9 + y263))) + x11))] [3, 4, 5, 6, 7, 8, 9, 10, 11, 0] rfl ?_
        refine j_cs (u' := 0) (v' := 0) (Nat.le_of_ble_eq_true rfl) (Nat.le_of_ble_eq_true rfl) ?_
        exact wk_X5_route_333 X er en hQ _ _ x0 x4 x5 x6 x7 x8 x9 x10 x11 ((4 * ((24 * (x10 + y273)) + (x9 + y263))) + x11) 1000 (y314 + 1) h284 hZ195 (fun x7_ x11_ h_ hz => hz) hw
theorem wk_X5_route_195 {x : CX} (X : Ok x cX5_route RX5 rm_X5_route 16) (er : xrt x = (Option.some Jvm.ClassFile.FieldType.int)) (en : xnm x = yX5_route.name) {P : Int32 → AH → Prop} (hQ : xr_i x P) (x0 : Option Nat) (x4 : Int32) (x5 : Int32) (x6 : Int32) (x7 : Int32) (h : AH) (hw : w_X5_route_195 P x0 x4 x5 x6 x7 h) : J x h 0 0 195 [(0, vR x0), (4, vI x4), (5, vI x5), (6, vI x6), (7, vI x7)] [] := by
  refine hw (fun x6 x7 h => J x h 0 0 195 [(0, vR x0), (4, vI x4), (5, vI x5), (6, vI x6), (7, vI x7)] []) (fun x6 x7 h hw => ?_)
  refine j_iload X (pc := 195) 4 dX5_route_195 rfl ?_
  refine j_if_le X (pc := 197) 411 dX5_route_197 (by decide) hw (fun hw => ?_) (fun hw => ?_)
  · refine j_ldc X (pc := 411) dX5_route_411 q2259 ?_
    refine j_istore X (pc := 413) [(8, vI 1000000000), (0, vR x0), (4, vI x4), (5, vI x5), (6, vI x6), (7, vI x7)] dX5_route_413 (Nat.le_of_ble_eq_true rfl) rfl ?_
    refine j_iconst X (pc := 415) 0 dX5_route_415 (by decide) ?_
    refine j_istore X (pc := 416) [(9, vI 0), (8, vI 1000000000), (0, vR x0), (4, vI x4), (5, vI x5), (6, vI x6), (7, vI x7)] dX5_route_416 (Nat.le_of_ble_eq_true rfl) rfl ?_
    refine j_lv [(0, vR x0), (4, vI x4), (5, vI x5), (8, vI 1000000000), (9, vI 0)] [2, 3, 4, 1, 0] rfl ?_
    refine j_cs (u' := 0) (v' := 0) (Nat.le_of_ble_eq_true rfl) (Nat.le_of_ble_eq_true rfl) ?_
    exact wk_X5_route_418 X er en hQ x0 x4 x5 1000000000 0 h hw
  · refine j_aload_n X (pc := 200) 0 dX5_route_200 rfl rfl ?_
    refine j_getq (ci := 4) X (pc := 201) in_X5 rfl (by decide) 29 (by decide) q1901 (Or.inl rfl) dX5_route_201 hw (fun y201 hw => ?_)
    refine j_iload X (pc := 204) 3 dX5_route_204 rfl ?_
    refine j_iald X (pc := 206) 0 rfl dX5_route_206 hw (fun y206 hw => ?_)
    refine j_istore X (pc := 207) [(8, vI y206), (0, vR x0), (4, vI x4), (5, vI x5), (6, vI x6), (7, vI x7)] dX5_route_207 (Nat.le_of_ble_eq_true rfl) rfl ?_
    refine j_iload X (pc := 209) 4 dX5_route_209 rfl ?_
    refine j_iconst X (pc := 211) 1 dX5_route_211 (by decide) ?_
    refine j_iadd X (pc := 212) dX5_route_212 ?_
    refine j_aload_n X (pc := 213) 1 dX5_route_213 rfl rfl ?_
    refine j_getq (ci := 4) X (pc := 214) in_X5 rfl (by decide) 29 (by decide) q1901 (Or.inl rfl) dX5_route_214 hw (fun y214 hw => ?_)
    refine j_alen X (pc := 217) dX5_route_217 hw (fun y217 hw => ?_)
    refine j_irem X (pc := 218) dX5_route_218 hw (fun hw => ?_)
    refine j_istore X (pc := 219) [(6, vI ((x6 + 1) - (x6 + 1) / y217 * y217)), (8, vI y206), (0, vR x0), (4, vI x4), (5, vI x5), (7, vI x7)] dX5_route_219 (Nat.le_of_ble_eq_true rfl) rfl ?_
    refine j_iinc X (pc := 221) 5 (x7 + (-1)) [(7, vI (x7 + (-1))), (6, vI ((x6 + 1) - (x6 + 1) / y217 * y217)), (8, vI y206), (0, vR x0), (4, vI x4), (5, vI x5)] dX5_route_221 rfl rfl (Nat.le_of_ble_eq_true rfl) rfl ?_
    refine j_aload_n X (pc := 224) 3 dX5_route_224 rfl rfl ?_
    refine j_getq (ci := 4) X (pc := 225) in_X5 rfl (by decide) 31 (by decide) q1903 (Or.inl rfl) dX5_route_225 hw (fun y225 hw => ?_)
    refine j_iload X (pc := 228) 2 dX5_route_228 rfl ?_
    refine j_iconst X (pc := 230) 0 dX5_route_230 (by decide) ?_
    refine j_zast X (pc := 231) 1 rfl rfl ⟨rfl, rfl⟩ dX5_route_231 hw (fun h231 hw => ?_)
    refine j_iload X (pc := 232) 2 dX5_route_232 rfl ?_
    refine j_iconst X (pc := 234) 4 dX5_route_234 (by decide) ?_
    refine j_idiv X (pc := 235) dX5_route_235 hw (fun hw => ?_)
    refine j_bipush X (pc := 236) 24 dX5_route_236 (by decide) ?_
    refine j_irem X (pc := 238) dX5_route_238 hw (fun hw => ?_)
    refine j_istore X (pc := 239) [(9, vI ((y206 / 4) - (y206 / 4) / 24 * 24)), (7, vI (x7 + (-1))), (6, vI ((x6 + 1) - (x6 + 1) / y217 * y217)), (8, vI y206), (0, vR x0), (4, vI x4), (5, vI x5)] dX5_route_239 (Nat.le_of_ble_eq_true rfl) rfl ?_
    refine j_iload X (pc := 241) 3 dX5_route_241 rfl ?_
    refine j_iconst X (pc := 243) 4 dX5_route_243 (by decide) ?_
    refine j_idiv X (pc := 244) dX5_route_244 hw (fun hw => ?_)
    refine j_bipush X (pc := 245) 24 dX5_route_245 (by decide) ?_
    refine j_idiv X (pc := 247) dX5_route_247 hw (fun hw => ?_)
    refine j_istore X (pc := 248) [(10, vI ((y206 / 4) / 24)), (9, vI ((y206 / 4) - (y206 / 4) / 24 * 24)), (7, vI (x7 + (-1))), (6, vI ((x6 + 1) - (x6 + 1) / y217 * y217)), (8, vI y206), (0, vR x0), (4, vI x4), (5, vI x5)] dX5_route_248 (Nat.le_of_ble_eq_true rfl) rfl ?_
    refine j_iconst X (pc := 250) 0 dX5_route_250 (by decide) ?_
    refine j_istore X (pc := 251) [(11, vI 0), (10, vI ((y206 / 4) / 24)), (9, vI ((y206 / 4) - (y206 / 4) / 24 * 24)), (7, vI (x7 + (-1))), (6, vI ((x6 + 1) - (x6 + 1) / y217 * y217)), (8, vI y206), (0, vR x0), (4, vI x4), (5, vI x5)] dX5_route_251 (Nat.le_of_ble_eq_true rfl) rfl ?_
    refine j_lv [(0, vR x0), (4, vI x4), (5, vI x5), (6, vI ((x6 + 1) - (x6 + 1) / y217 * y217)), (7, vI (x7 + (-1))), (8, vI y206), (9, vI ((y206 / 4) - (y206 / 4) / 24 * 24)), (10, vI ((y206 / 4) / 24)), (11, vI 0)] [6, 7, 8, 4, 3, 5, 2, 1, 0] rfl ?_
    refine j_cs (u' := 0) (v' := 0) (Nat.le_of_ble_eq_true rfl) (Nat.le_of_ble_eq_true rfl) ?_
    exact wk_X5_route_253 X er en hQ _ x0 x4 x5 ((x6 + 1) - (x6 + 1) / y217 * y217) (x7 + (-1)) y206 ((y206 / 4) - (y206 / 4) / 24 * 24) ((y206 / 4) / 24) 0 h231 (fun x6_ x7_ h_ hz => hz) hw
theorem wk_X5_route_142 {x : CX} (X : Ok x cX5_route RX5 rm_X5_route 16) (er : xrt x = (Option.some Jvm.ClassFile.FieldType.int)) (en : xnm x = yX5_route.name) {P : Int32 → AH → Prop} (hQ : xr_i x P) (x0 : Option Nat) (x2 : Int32) (x3 : Int32) (x4 : Int32) (x5 : Int32) (x6 : Int32) (x7 : Int32) (x8 : Int32) (h : AH) (hw : w_X5_route_142 P x0 x2 x3 x4 x5 x6 x7 x8 h) : J x h 0 0 142 [(0, vR x0), (2, vI x2), (3, vI x3), (4, vI x4), (5, vI x5), (6, vI x6), (7, vI x7), (8, vI x8)] [] := by
  refine hw (fun x7 x8 h => J x h 0 0 142 [(0, vR x0), (2, vI x2), (3, vI x3), (4, vI x4), (5, vI x5), (6, vI x6), (7, vI x7), (8, vI x8)] []) (fun x7 x8 h hw => ?_)
  refine j_iload X (pc := 142) 7 dX5_route_142 rfl ?_
  refine j_iconst X (pc := 144) 4 dX5_route_144 (by decide) ?_
  refine j_icmp_ge X (pc := 145) 195 dX5_route_145 (by decide) hw (fun hw => ?_) (fun hw => ?_)
  · refine j_lv [(0, vR x0), (4, vI x4), (5, vI x5), (6, vI x6), (7, vI x7)] [0, 3, 4, 5, 6] rfl ?_
    refine j_cs (u' := 0) (v' := 0) (Nat.le_of_ble_eq_true rfl) (Nat.le_of_ble_eq_true rfl) ?_
    exact wk_X5_route_195 X er en hQ x0 x4 x5 x6 x7 h hw
  · refine j_iconst X (pc := 148) 4 dX5_route_148 (by decide) ?_
    refine j_bipush X (pc := 149) 24 dX5_route_149 (by decide) ?_
    refine j_iload_n X (pc := 151) 2 dX5_route_151 rfl rfl ?_
    refine j_imul X (pc := 152) dX5_route_152 ?_
    refine j_iload_n X (pc := 153) 1 dX5_route_153 rfl rfl ?_
    refine j_iadd X (pc := 154) dX5_route_154 ?_
    refine j_imul X (pc := 155) dX5_route_155 ?_
    refine j_iload X (pc := 156) 7 dX5_route_156 rfl ?_
    refine j_iadd X (pc := 158) dX5_route_158 ?_
    refine j_istore X (pc := 159) [(9, vI ((4 * ((24 * x3) + x2)) + x8)), (0, vR x0), (2, vI x2), (3, vI x3), (4, vI x4), (5, vI x5), (6, vI x6), (7, vI x7), (8, vI x8)] dX5_route_159 (Nat.le_of_ble_eq_true rfl) rfl ?_
    refine j_aload_n X (pc := 161) 1 dX5_route_161 rfl rfl ?_
    refine j_getq (ci := 4) X (pc := 162) in_X5 rfl (by decide) 28 (by decide) q1900 (Or.inl rfl) dX5_route_162 hw (fun y162 hw => ?_)
    refine j_iload X (pc := 165) 0 dX5_route_165 rfl ?_
    refine j_iconst X (pc := 167) 1 dX5_route_167 (by decide) ?_
    refine j_iast X (pc := 168) 0 rfl rfl dX5_route_168 hw (fun h168 hw => ?_)
    refine j_aload_n X (pc := 169) 1 dX5_route_169 rfl rfl ?_
    refine j_getq (ci := 4) X (pc := 170) in_X5 rfl (by decide) 29 (by decide) q1901 (Or.inl rfl) dX5_route_170 hw (fun y170 hw => ?_)
    refine j_iload X (pc := 173) 7 dX5_route_173 rfl ?_
    refine j_iload X (pc := 175) 0 dX5_route_175 rfl ?_
    refine j_iast X (pc := 177) 0 rfl rfl dX5_route_177 hw (fun h177 hw => ?_)
    refine j_aload_n X (pc := 178) 1 dX5_route_178 rfl rfl ?_
    refine j_getq (ci := 4) X (pc := 179) in_X5 rfl (by decide) 31 (by decide) q1903 (Or.inl rfl) dX5_route_179 hw (fun y179 hw => ?_)
    refine j_iload X (pc := 182) 0 dX5_route_182 rfl ?_
    refine j_iconst X (pc := 184) 1 dX5_route_184 (by decide) ?_
    refine j_zast X (pc := 185) 1 rfl rfl ⟨rfl, rfl⟩ dX5_route_185 hw (fun h185 hw => ?_)
    refine j_iinc X (pc := 186) 7 (x7 + 1) [(7, vI (x7 + 1)), (9, vI ((4 * ((24 * x3) + x2)) + x8)), (0, vR x0), (2, vI x2), (3, vI x3), (4, vI x4), (5, vI x5), (6, vI x6), (8, vI x8)] dX5_route_186 rfl rfl (Nat.le_of_ble_eq_true rfl) rfl ?_
    refine j_iinc X (pc := 189) 8 (x8 + 1) [(8, vI (x8 + 1)), (7, vI (x7 + 1)), (9, vI ((4 * ((24 * x3) + x2)) + x8)), (0, vR x0), (2, vI x2), (3, vI x3), (4, vI x4), (5, vI x5), (6, vI x6)] dX5_route_189 rfl rfl (Nat.le_of_ble_eq_true rfl) rfl ?_
    refine j_goto X (pc := 192) 142 dX5_route_192 (by decide) ?_
    refine j_lv [(0, vR x0), (2, vI x2), (3, vI x3), (4, vI x4), (5, vI x5), (6, vI x6), (7, vI (x7 + 1)), (8, vI (x8 + 1))] [3, 4, 5, 6, 7, 8, 1, 0] rfl ?_
    refine j_cs (u' := 0) (v' := 0) (Nat.le_of_ble_eq_true rfl) (Nat.le_of_ble_eq_true rfl) ?_
    exact hw
theorem wk_X5_route_100 {x : CX} (X : Ok x cX5_route RX5 rm_X5_route 16) (er : xrt x = (Option.some Jvm.ClassFile.FieldType.int)) (en : xnm x = yX5_route.name) {P : Int32 → AH → Prop} (hQ : xr_i x P) (x0 : Option Nat) (x2 : Int32) (x3 : Int32) (x4 : Int32) (x5 : Int32) (x6 : Int32) (h : AH) (hw : w_X5_route_100 P x0 x2 x3 x4 x5 x6 h) : J x h 0 0 100 [(0, vR x0), (2, vI x2), (3, vI x3), (4, vI x4), (5, vI x5), (6, vI x6)] [] := by
  refine hw (fun x6 h => J x h 0 0 100 [(0, vR x0), (2, vI x2), (3, vI x3), (4, vI x4), (5, vI x5), (6, vI x6)] []) (fun x6 h hw => ?_)
  refine j_iload X (pc := 100) 5 dX5_route_100 rfl ?_
  refine j_aload_n X (pc := 102) 0 dX5_route_102 rfl rfl ?_
  refine j_getq (ci := 4) X (pc := 103) in_X5 rfl (by decide) 28 (by decide) q1900 (Or.inl rfl) dX5_route_103 hw (fun y103 hw => ?_)
  refine j_alen X (pc := 106) dX5_route_106 hw (fun y106 hw => ?_)
  refine j_icmp_ge X (pc := 107) 133 dX5_route_107 (by decide) hw (fun hw => ?_) (fun hw => ?_)
  · refine j_iconst X (pc := 133) 0 dX5_route_133 (by decide) ?_
    refine j_istore X (pc := 134) [(6, vI 0), (0, vR x0), (2, vI x2), (3, vI x3), (4, vI x4), (5, vI x5)] dX5_route_134 (Nat.le_of_ble_eq_true rfl) rfl ?_
    refine j_iconst X (pc := 136) 0 dX5_route_136 (by decide) ?_
    refine j_istore X (pc := 137) [(7, vI 0), (6, vI 0), (0, vR x0), (2, vI x2), (3, vI x3), (4, vI x4), (5, vI x5)] dX5_route_137 (Nat.le_of_ble_eq_true rfl) rfl ?_
    refine j_iconst X (pc := 139) 0 dX5_route_139 (by decide) ?_
    refine j_istore X (pc := 140) [(8, vI 0), (7, vI 0), (6, vI 0), (0, vR x0), (2, vI x2), (3, vI x3), (4, vI x4), (5, vI x5)] dX5_route_140 (Nat.le_of_ble_eq_true rfl) rfl ?_
    refine j_lv [(0, vR x0), (2, vI x2), (3, vI x3), (4, vI x4), (5, vI x5), (6, vI 0), (7, vI 0), (8, vI 0)] [3, 4, 5, 6, 7, 2, 1, 0] rfl ?_
    refine j_cs (u' := 0) (v' := 0) (Nat.le_of_ble_eq_true rfl) (Nat.le_of_ble_eq_true rfl) ?_
    exact wk_X5_route_142 X er en hQ x0 x2 x3 x4 x5 0 0 0 h hw
  · refine j_aload_n X (pc := 110) 0 dX5_route_110 rfl rfl ?_
    refine j_getq (ci := 4) X (pc := 111) in_X5 rfl (by decide) 28 (by decide) q1900 (Or.inl rfl) dX5_route_111 hw (fun y111 hw => ?_)
    refine j_iload X (pc := 114) 5 dX5_route_114 rfl ?_
    refine j_ldc X (pc := 116) dX5_route_116 q2259 ?_
    refine j_iast X (pc := 118) 0 rfl rfl dX5_route_118 hw (fun h118 hw => ?_)
    refine j_aload_n X (pc := 119) 0 dX5_route_119 rfl rfl ?_
    refine j_getq (ci := 4) X (pc := 120) in_X5 rfl (by decide) 31 (by decide) q1903 (Or.inl rfl) dX5_route_120 hw (fun y120 hw => ?_)
    refine j_iload X (pc := 123) 5 dX5_route_123 rfl ?_
    refine j_iconst X (pc := 125) 0 dX5_route_125 (by decide) ?_
    refine j_zast X (pc := 126) 1 rfl rfl ⟨rfl, rfl⟩ dX5_route_126 hw (fun h126 hw => ?_)
    refine j_iinc X (pc := 127) 5 (x6 + 1) [(6, vI (x6 + 1)), (0, vR x0), (2, vI x2), (3, vI x3), (4, vI x4), (5, vI x5)] dX5_route_127 rfl rfl (Nat.le_of_ble_eq_true rfl) rfl ?_
    refine j_goto X (pc := 130) 100 dX5_route_130 (by decide) ?_
    refine j_lv [(0, vR x0), (2, vI x2), (3, vI x3), (4, vI x4), (5, vI x5), (6, vI (x6 + 1))] [1, 2, 3, 4, 5, 0] rfl ?_
    refine j_cs (u' := 0) (v' := 0) (Nat.le_of_ble_eq_true rfl) (Nat.le_of_ble_eq_true rfl) ?_
    exact hw
theorem met_X5_route (l : Launch) (hlt : l.stackTraces = false) (G : GG) (h : AH) (a0 : Option Nat) (a1 : Int32) (P : Int32 → AH → Prop) (hw : w_X5_route a0 a1 h P) : ct_i l yX5_route (ws_ yX5_route cX5_route 16 (Option.some Jvm.ClassFile.FieldType.int)) rm_X5_route G h [vR a0, vI a1] P := by
  refine j_starti hlt [(0, vR a0), (1, vI a1)] (plainFor_of_name (by decide)) rfl rfl (fun x X eG er en hQ => ?_)
  subst eG
  refine j_aload_n X (pc := 0) 0 dX5_route_0 rfl rfl ?_
  obtain ⟨b9, c9, f9, hr9, ho9, hc9, hw⟩ := hw
  obtain rfl := List.mem_singleton.mp hc9
  refine j_callv (j_runV (n8 := 0) (As := []) (rest := []) X (pc := 1) hr9 (met_X5_shuts (xl x) X.hl (xG x) h a0 _ hw) ho9 (by decide) rfl q2243 q2245 qs63 q78 q2246 (by decide +kernel) dX5_route_1 rfl ⟨Nat.le_of_ble_eq_true rfl, Nat.le_of_ble_eq_true rfl⟩ (Nat.le_of_ble_eq_true rfl) ⟨Nat.le_of_ble_eq_true rfl, Nat.le_of_ble_eq_true rfl⟩) (fun h1 hw => ?_)
  refine j_aload_n X (pc := 4) 0 dX5_route_4 rfl rfl ?_
  refine j_aload_n X (pc := 5) 0 dX5_route_5 rfl rfl ?_
  refine j_getq (ci := 4) X (pc := 6) in_X5 rfl (by decide) 3 (by decide) q1875 (Or.inl rfl) dX5_route_6 hw (fun y6 hw => ?_)
  refine j_iload_n X (pc := 9) 1 dX5_route_9 rfl rfl ?_
  refine j_iald X (pc := 10) 0 rfl dX5_route_10 hw (fun y10 hw => ?_)
  refine j_aload_n X (pc := 11) 0 dX5_route_11 rfl rfl ?_
  refine j_getq (ci := 4) X (pc := 12) in_X5 rfl (by decide) 6 (by decide) q1878 (Or.inl rfl) dX5_route_12 hw (fun y12 hw => ?_)
  refine j_iload_n X (pc := 15) 1 dX5_route_15 rfl rfl ?_
  refine j_cald X (pc := 16) 4 rfl dX5_route_16 hw (fun y16 hw => ?_)
  obtain ⟨b9, c9, f9, hr9, ho9, hc9, hw⟩ := hw
  obtain rfl := List.mem_singleton.mp hc9
  refine j_calli (j_runV (n8 := 2) (As := [vI y10, vI y16]) (rest := []) X (pc := 17) hr9 (met_X5_endColumn (xl x) X.hl (xG x) h1 a0 y10 y16 _ hw) ho9 (by decide) rfl q2247 q2249 qs64 q78 q2250 (by decide +kernel) dX5_route_17 rfl ⟨Nat.le_of_ble_eq_true rfl, Nat.le_of_ble_eq_true rfl⟩ (Nat.le_of_ble_eq_true rfl) ⟨Nat.le_of_ble_eq_true rfl, Nat.le_of_ble_eq_true rfl⟩) (fun y17 h17 hw => ?_)
  refine j_istore_n X (pc := 20) [(2, vI y17), (0, vR a0), (1, vI a1)] dX5_route_20 rfl (Nat.le_of_ble_eq_true rfl) rfl ?_
  refine j_aload_n X (pc := 21) 1 dX5_route_21 rfl rfl ?_
  refine j_aload_n X (pc := 22) 1 dX5_route_22 rfl rfl ?_
  refine j_getq (ci := 4) X (pc := 23) in_X5 rfl (by decide) 3 (by decide) q1875 (Or.inl rfl) dX5_route_23 hw (fun y23 hw => ?_)
  refine j_iload_n X (pc := 26) 2 dX5_route_26 rfl rfl ?_
  refine j_iald X (pc := 27) 0 rfl dX5_route_27 hw (fun y27 hw => ?_)
  refine j_aload_n X (pc := 28) 1 dX5_route_28 rfl rfl ?_
  refine j_getq (ci := 4) X (pc := 29) in_X5 rfl (by decide) 6 (by decide) q1878 (Or.inl rfl) dX5_route_29 hw (fun y29 hw => ?_)
  refine j_iload_n X (pc := 32) 2 dX5_route_32 rfl rfl ?_
  refine j_cald X (pc := 33) 4 rfl dX5_route_33 hw (fun y33 hw => ?_)
  obtain ⟨b9, c9, f9, hr9, ho9, hc9, hw⟩ := hw
  obtain rfl := List.mem_singleton.mp hc9
  refine j_calli (j_runV (n8 := 2) (As := [vI y27, vI y33]) (rest := []) X (pc := 34) hr9 (met_X5_endRow (xl x) X.hl (xG x) h17 a0 y27 y33 _ hw) ho9 (by decide) rfl q2251 q2253 qs65 q78 q2254 (by decide +kernel) dX5_route_34 rfl ⟨Nat.le_of_ble_eq_true rfl, Nat.le_of_ble_eq_true rfl⟩ (Nat.le_of_ble_eq_true rfl) ⟨Nat.le_of_ble_eq_true rfl, Nat.le_of_ble_eq_true rfl⟩) (fun y34 h34 hw => ?_)
  refine j_istore_n X (pc := 37) [(3, vI y34), (2, vI y17), (0, vR a0), (1, vI a1)] dX5_route_37 rfl (Nat.le_of_ble_eq_true rfl) rfl ?_
  refine j_aload_n X (pc := 38) 2 dX5_route_38 rfl rfl ?_
  refine j_aload_n X (pc := 39) 2 dX5_route_39 rfl rfl ?_
  refine j_getq (ci := 4) X (pc := 40) in_X5 rfl (by decide) 4 (by decide) q1876 (Or.inl rfl) dX5_route_40 hw (fun y40 hw => ?_)
  refine j_iload_n X (pc := 43) 3 dX5_route_43 rfl rfl ?_
  refine j_iald X (pc := 44) 0 rfl dX5_route_44 hw (fun y44 hw => ?_)
  refine j_aload_n X (pc := 45) 2 dX5_route_45 rfl rfl ?_
  refine j_getq (ci := 4) X (pc := 46) in_X5 rfl (by decide) 7 (by decide) q1879 (Or.inl rfl) dX5_route_46 hw (fun y46 hw => ?_)
  refine j_iload_n X (pc := 49) 3 dX5_route_49 rfl rfl ?_
  refine j_cald X (pc := 50) 4 rfl dX5_route_50 hw (fun y50 hw => ?_)
  obtain ⟨b9, c9, f9, hr9, ho9, hc9, hw⟩ := hw
  obtain rfl := List.mem_singleton.mp hc9
  refine j_calli (j_runV (n8 := 2) (As := [vI y44, vI y50]) (rest := []) X (pc := 51) hr9 (met_X5_endColumn (xl x) X.hl (xG x) h34 a0 y44 y50 _ hw) ho9 (by decide) rfl q2247 q2249 qs64 q78 q2250 (by decide +kernel) dX5_route_51 rfl ⟨Nat.le_of_ble_eq_true rfl, Nat.le_of_ble_eq_true rfl⟩ (Nat.le_of_ble_eq_true rfl) ⟨Nat.le_of_ble_eq_true rfl, Nat.le_of_ble_eq_true rfl⟩) (fun y51 h51 hw => ?_)
  refine j_istore X (pc := 54) [(4, vI y51), (3, vI y34), (2, vI y17), (0, vR a0), (1, vI a1)] dX5_route_54 (Nat.le_of_ble_eq_true rfl) rfl ?_
  refine j_aload_n X (pc := 56) 3 dX5_route_56 rfl rfl ?_
  refine j_aload_n X (pc := 57) 3 dX5_route_57 rfl rfl ?_
  refine j_getq (ci := 4) X (pc := 58) in_X5 rfl (by decide) 4 (by decide) q1876 (Or.inl rfl) dX5_route_58 hw (fun y58 hw => ?_)
  refine j_iload_n X (pc := 61) 4 dX5_route_61 rfl rfl ?_
  refine j_iald X (pc := 62) 0 rfl dX5_route_62 hw (fun y62 hw => ?_)
  refine j_aload_n X (pc := 63) 3 dX5_route_63 rfl rfl ?_
  refine j_getq (ci := 4) X (pc := 64) in_X5 rfl (by decide) 7 (by decide) q1879 (Or.inl rfl) dX5_route_64 hw (fun y64 hw => ?_)
  refine j_iload_n X (pc := 67) 4 dX5_route_67 rfl rfl ?_
  refine j_cald X (pc := 68) 4 rfl dX5_route_68 hw (fun y68 hw => ?_)
  obtain ⟨b9, c9, f9, hr9, ho9, hc9, hw⟩ := hw
  obtain rfl := List.mem_singleton.mp hc9
  refine j_calli (j_runV (n8 := 2) (As := [vI y62, vI y68]) (rest := []) X (pc := 69) hr9 (met_X5_endRow (xl x) X.hl (xG x) h51 a0 y62 y68 _ hw) ho9 (by decide) rfl q2251 q2253 qs65 q78 q2254 (by decide +kernel) dX5_route_69 rfl ⟨Nat.le_of_ble_eq_true rfl, Nat.le_of_ble_eq_true rfl⟩ (Nat.le_of_ble_eq_true rfl) ⟨Nat.le_of_ble_eq_true rfl, Nat.le_of_ble_eq_true rfl⟩) (fun y69 h69 hw => ?_)
  refine j_istore X (pc := 72) [(5, vI y69), (4, vI y51), (3, vI y34), (2, vI y17), (0, vR a0), (1, vI a1)] dX5_route_72 (Nat.le_of_ble_eq_true rfl) rfl ?_
  refine j_aload_n X (pc := 74) 4 dX5_route_74 rfl rfl ?_
  refine j_iload_n X (pc := 75) 3 dX5_route_75 rfl rfl ?_
  refine j_iload_n X (pc := 76) 2 dX5_route_76 rfl rfl ?_
  obtain ⟨b9, c9, f9, hr9, ho9, hc9, hw⟩ := hw
  obtain rfl := List.mem_singleton.mp hc9
  refine j_calli (j_runV (n8 := 2) (As := [vI y17, vI y34]) (rest := []) X (pc := 77) hr9 (met_X5_isOpen (xl x) X.hl (xG x) h69 a0 y17 y34 _ hw) ho9 (by decide) rfl q2255 q2257 qs66 q78 q2258 (by decide +kernel) dX5_route_77 rfl ⟨Nat.le_of_ble_eq_true rfl, Nat.le_of_ble_eq_true rfl⟩ (Nat.le_of_ble_eq_true rfl) ⟨Nat.le_of_ble_eq_true rfl, Nat.le_of_ble_eq_true rfl⟩) (fun y77 h77 hw => ?_)
  refine j_if_eq X (pc := 80) 94 dX5_route_80 (by decide) hw (fun hw => ?_) (fun hw => ?_)
  · refine j_ldc X (pc := 94) dX5_route_94 q2259 ?_
    exact j_iret X (pc := 96) hQ er (Nat.le_of_ble_eq_true rfl) (Nat.le_of_ble_eq_true rfl) dX5_route_96 hw
  · refine j_aload_n X (pc := 83) 4 dX5_route_83 rfl rfl ?_
    refine j_iload X (pc := 84) 1 dX5_route_84 rfl ?_
    refine j_iload X (pc := 86) 0 dX5_route_86 rfl ?_
    obtain ⟨b9, c9, f9, hr9, ho9, hc9, hw⟩ := hw
    obtain rfl := List.mem_singleton.mp hc9
    refine j_calli (j_runV (n8 := 2) (As := [vI y51, vI y69]) (rest := []) X (pc := 88) hr9 (met_X5_isOpen (xl x) X.hl (xG x) h77 a0 y51 y69 _ hw) ho9 (by decide) rfl q2255 q2257 qs66 q78 q2258 (by decide +kernel) dX5_route_88 rfl ⟨Nat.le_of_ble_eq_true rfl, Nat.le_of_ble_eq_true rfl⟩ (Nat.le_of_ble_eq_true rfl) ⟨Nat.le_of_ble_eq_true rfl, Nat.le_of_ble_eq_true rfl⟩) (fun y88 h88 hw => ?_)
    refine j_if_ne X (pc := 91) 97 dX5_route_91 (by decide) hw (fun hw => ?_) (fun hw => ?_)
    · refine j_ldc X (pc := 94) dX5_route_94 q2259 ?_
      exact j_iret X (pc := 96) hQ er (Nat.le_of_ble_eq_true rfl) (Nat.le_of_ble_eq_true rfl) dX5_route_96 hw
    · refine j_iconst X (pc := 97) 0 dX5_route_97 (by decide) ?_
      refine j_istore X (pc := 98) [(6, vI 0), (5, vI y69), (4, vI y51), (3, vI y34), (2, vI y17), (0, vR a0), (1, vI a1)] dX5_route_98 (Nat.le_of_ble_eq_true rfl) rfl ?_
      refine j_lv [(0, vR a0), (2, vI y17), (3, vI y34), (4, vI y51), (5, vI y69), (6, vI 0)] [5, 4, 3, 2, 1, 0] rfl ?_
      refine j_cs (u' := 0) (v' := 0) (Nat.le_of_ble_eq_true rfl) (Nat.le_of_ble_eq_true rfl) ?_
      exact wk_X5_route_100 X er en hQ a0 y17 y34 y51 y69 0 h88 hw
abbrev cX5_asked : ByteArray := prog_19_method_74_code
def yX5_asked : MethodName := ⟨RX5, "asked", "(II)I"⟩
def dkwX5_asked_1 : List UInt8 := [42, 28, 182, 1, 5, 62, 29, 18, 251, 160, 0, 11, 42, 6, 182, 0, 172, 167, 0, 4, 29, 172]
abbrev dktX5_asked_1 : List UInt8 := dkwX5_asked_1 ++ []
def dkwX5_asked_0 : List UInt8 := [42, 27, 182, 0, 228, 153, 0, 5, 3, 172, 42, 28, 182, 0, 135, 154, 0, 9, 42, 5, 182, 0, 172, 172]
abbrev dktX5_asked_0 : List UInt8 := dkwX5_asked_0 ++ dktX5_asked_1
theorem dksX5_asked_0 : cX5_asked.data.toList.drop 0 = dktX5_asked_0 := by decide +kernel
theorem dksX5_asked_1 : cX5_asked.data.toList.drop 24 = dktX5_asked_1 := dk_seg dksX5_asked_0 24 rfl rfl
theorem dX5_asked_0 : decode cX5_asked 0 = .ok (.aload_n 0, 1) := dk_42 (dk_at dksX5_asked_0 0 rfl rfl)
theorem dX5_asked_1 : decode cX5_asked 1 = .ok (.iload_n 1, 1) := dk_27 (dk_at dksX5_asked_0 1 rfl rfl)
theorem dX5_asked_2 : decode cX5_asked 2 = .ok (.invokevirtual 228, 3) := dk_182 0 228 (dk_at dksX5_asked_0 2 rfl rfl)
theorem dX5_asked_5 : decode cX5_asked 5 = .ok (.ifCond .eq 5, 3) := dk_153 0 5 (dk_at dksX5_asked_0 5 rfl rfl)
theorem dX5_asked_8 : decode cX5_asked 8 = .ok (.iconst 0, 1) := dk_3 (dk_at dksX5_asked_0 8 rfl rfl)
theorem dX5_asked_9 : decode cX5_asked 9 = .ok (.ireturn, 1) := dk_172 (dk_at dksX5_asked_0 9 rfl rfl)
theorem dX5_asked_10 : decode cX5_asked 10 = .ok (.aload_n 0, 1) := dk_42 (dk_at dksX5_asked_0 10 rfl rfl)
theorem dX5_asked_11 : decode cX5_asked 11 = .ok (.iload_n 2, 1) := dk_28 (dk_at dksX5_asked_0 11 rfl rfl)
theorem dX5_asked_12 : decode cX5_asked 12 = .ok (.invokevirtual 135, 3) := dk_182 0 135 (dk_at dksX5_asked_0 12 rfl rfl)
theorem dX5_asked_15 : decode cX5_asked 15 = .ok (.ifCond .ne 9, 3) := dk_154 0 9 (dk_at dksX5_asked_0 15 rfl rfl)
theorem dX5_asked_18 : decode cX5_asked 18 = .ok (.aload_n 0, 1) := dk_42 (dk_at dksX5_asked_0 18 rfl rfl)
theorem dX5_asked_19 : decode cX5_asked 19 = .ok (.iconst 2, 1) := dk_5 (dk_at dksX5_asked_0 19 rfl rfl)
theorem dX5_asked_20 : decode cX5_asked 20 = .ok (.invokevirtual 172, 3) := dk_182 0 172 (dk_at dksX5_asked_0 20 rfl rfl)
theorem dX5_asked_23 : decode cX5_asked 23 = .ok (.ireturn, 1) := dk_172 (dk_at dksX5_asked_0 23 rfl rfl)
theorem dX5_asked_24 : decode cX5_asked 24 = .ok (.aload_n 0, 1) := dk_42 (dk_at dksX5_asked_1 0 rfl rfl)
theorem dX5_asked_25 : decode cX5_asked 25 = .ok (.iload_n 2, 1) := dk_28 (dk_at dksX5_asked_1 1 rfl rfl)
theorem dX5_asked_26 : decode cX5_asked 26 = .ok (.invokevirtual 261, 3) := dk_182 1 5 (dk_at dksX5_asked_1 2 rfl rfl)
theorem dX5_asked_29 : decode cX5_asked 29 = .ok (.istore_n 3, 1) := dk_62 (dk_at dksX5_asked_1 5 rfl rfl)
theorem dX5_asked_30 : decode cX5_asked 30 = .ok (.iload_n 3, 1) := dk_29 (dk_at dksX5_asked_1 6 rfl rfl)
theorem dX5_asked_31 : decode cX5_asked 31 = .ok (.ldc 251, 2) := dk_18 251 (dk_at dksX5_asked_1 7 rfl rfl)
theorem dX5_asked_33 : decode cX5_asked 33 = .ok (.if_icmp .ne 11, 3) := dk_160 0 11 (dk_at dksX5_asked_1 9 rfl rfl)
theorem dX5_asked_36 : decode cX5_asked 36 = .ok (.aload_n 0, 1) := dk_42 (dk_at dksX5_asked_1 12 rfl rfl)
theorem dX5_asked_37 : decode cX5_asked 37 = .ok (.iconst 3, 1) := dk_6 (dk_at dksX5_asked_1 13 rfl rfl)
theorem dX5_asked_38 : decode cX5_asked 38 = .ok (.invokevirtual 172, 3) := dk_182 0 172 (dk_at dksX5_asked_1 14 rfl rfl)
theorem dX5_asked_41 : decode cX5_asked 41 = .ok (.goto 4, 3) := dk_167 0 4 (dk_at dksX5_asked_1 17 rfl rfl)
theorem dX5_asked_44 : decode cX5_asked 44 = .ok (.iload_n 3, 1) := dk_29 (dk_at dksX5_asked_1 20 rfl rfl)
theorem dX5_asked_45 : decode cX5_asked 45 = .ok (.ireturn, 1) := dk_172 (dk_at dksX5_asked_1 21 rfl rfl)
theorem q2239 : (Jvm.Cond.methodLink "PlugboardModel" (261 : Nat) ({ cls := "PlugboardModel", name := "route", desc := "(I)I" } : Jvm.MethodName)) ∈ lw_all := lw_g (lw_at lw_m10 9 rfl) rfl
theorem q2241 : (Jvm.Cond.instanceMethod ({ cls := "PlugboardModel", name := "route", desc := "(I)I" } : Jvm.MethodName)) ∈ lw_all := lw_g (lw_at lw_m10 11 rfl) rfl
theorem q2242 : (Jvm.Cond.code ({ cls := "PlugboardModel", name := "route", desc := "(I)I" } : Jvm.MethodName) prog_19_method_73_code (16 : Nat) (Option.some Jvm.ClassFile.FieldType.int)) ∈ lw_all := lw_g (lw_at lw_m10 12 rfl) rfl
abbrev rm_X5_asked : Room := { frames := 4, cells := 0, slots := 0, locals := 103 }
def w_X5_asked (a0 : Option Nat) (a1 : Int32) (a2 : Int32) (h : AH) (P : Int32 → AH → Prop) : Prop :=
  is_c h a0 [4] (
  w_X5_isNobody a0 a1 h (fun y2 h2 =>
  ((y2 = 0 →
    is_c h2 a0 [4] (
    w_X5_isJoined a0 a2 h2 (fun y12 h12 =>
    ((y12 = 0 →
      is_c h12 a0 [4] (
      w_X5_fails a0 2 h12 (fun y20 h20 =>
      P y20 h20))) ∧
     (¬ y12 = 0 →
      is_c h12 a0 [4] (
      w_X5_route a0 a2 h12 (fun y26 h26 =>
      ((y26 = 1000000000 →
        is_c h26 a0 [4] (
        w_X5_fails a0 3 h26 (fun y38 h38 =>
        P y38 h38))) ∧
       (¬ y26 = 1000000000 →
        P y26 h26))))))))) ∧
   (¬ y2 = 0 →
    P 0 h2))))
theorem met_X5_asked (l : Launch) (hlt : l.stackTraces = false) (G : GG) (h : AH) (a0 : Option Nat) (a1 : Int32) (a2 : Int32) (P : Int32 → AH → Prop) (hw : w_X5_asked a0 a1 a2 h P) : ct_i l yX5_asked (ws_ yX5_asked cX5_asked 4 (Option.some Jvm.ClassFile.FieldType.int)) rm_X5_asked G h [vR a0, vI a1, vI a2] P := by
  refine j_starti hlt [(0, vR a0), (1, vI a1), (2, vI a2)] (plainFor_of_name (by decide)) rfl rfl (fun x X eG er en hQ => ?_)
  subst eG
  refine j_aload_n X (pc := 0) 0 dX5_asked_0 rfl rfl ?_
  refine j_iload_n X (pc := 1) 1 dX5_asked_1 rfl rfl ?_
  obtain ⟨b9, c9, f9, hr9, ho9, hc9, hw⟩ := hw
  obtain rfl := List.mem_singleton.mp hc9
  refine j_calli (j_runV (n8 := 1) (As := [vI a1]) (rest := []) X (pc := 2) hr9 (met_X5_isNobody (xl x) X.hl (xG x) h a0 a1 _ hw) ho9 (by decide) rfl q2170 q2172 qs58 q78 q2173 (by decide +kernel) dX5_asked_2 rfl ⟨Nat.le_of_ble_eq_true rfl, Nat.le_of_ble_eq_true rfl⟩ (Nat.le_of_ble_eq_true rfl) ⟨Nat.le_of_ble_eq_true rfl, Nat.le_of_ble_eq_true rfl⟩) (fun y2 h2 hw => ?_)
  refine j_if_eq X (pc := 5) 10 dX5_asked_5 (by decide) hw (fun hw => ?_) (fun hw => ?_)
  · refine j_aload_n X (pc := 10) 0 dX5_asked_10 rfl rfl ?_
    refine j_iload_n X (pc := 11) 2 dX5_asked_11 rfl rfl ?_
    obtain ⟨b9, c9, f9, hr9, ho9, hc9, hw⟩ := hw
    obtain rfl := List.mem_singleton.mp hc9
    refine j_calli (j_runV (n8 := 1) (As := [vI a2]) (rest := []) X (pc := 12) hr9 (met_X5_isJoined (xl x) X.hl (xG x) h2 a0 a2 _ hw) ho9 (by decide) rfl q2110 q2112 qs53 q78 q2113 (by decide +kernel) dX5_asked_12 rfl ⟨Nat.le_of_ble_eq_true rfl, Nat.le_of_ble_eq_true rfl⟩ (Nat.le_of_ble_eq_true rfl) ⟨Nat.le_of_ble_eq_true rfl, Nat.le_of_ble_eq_true rfl⟩) (fun y12 h12 hw => ?_)
    refine j_if_ne X (pc := 15) 24 dX5_asked_15 (by decide) hw (fun hw => ?_) (fun hw => ?_)
    · refine j_aload_n X (pc := 18) 0 dX5_asked_18 rfl rfl ?_
      refine j_iconst X (pc := 19) 2 dX5_asked_19 (by decide) ?_
      obtain ⟨b9, c9, f9, hr9, ho9, hc9, hw⟩ := hw
      obtain rfl := List.mem_singleton.mp hc9
      refine j_calli (j_runV (n8 := 1) (As := [vI 2]) (rest := []) X (pc := 20) hr9 (met_X5_fails (xl x) X.hl (xG x) h12 a0 2 _ hw) ho9 (by decide) rfl q1988 q1990 qs33 q78 q1991 (by decide +kernel) dX5_asked_20 rfl ⟨Nat.le_of_ble_eq_true rfl, Nat.le_of_ble_eq_true rfl⟩ (Nat.le_of_ble_eq_true rfl) ⟨Nat.le_of_ble_eq_true rfl, Nat.le_of_ble_eq_true rfl⟩) (fun y20 h20 hw => ?_)
      exact j_iret X (pc := 23) hQ er (Nat.le_of_ble_eq_true rfl) (Nat.le_of_ble_eq_true rfl) dX5_asked_23 hw
    · refine j_aload_n X (pc := 24) 0 dX5_asked_24 rfl rfl ?_
      refine j_iload_n X (pc := 25) 2 dX5_asked_25 rfl rfl ?_
      obtain ⟨b9, c9, f9, hr9, ho9, hc9, hw⟩ := hw
      obtain rfl := List.mem_singleton.mp hc9
      refine j_calli (j_runV (n8 := 1) (As := [vI a2]) (rest := []) X (pc := 26) hr9 (met_X5_route (xl x) X.hl (xG x) h12 a0 a2 _ hw) ho9 (by decide) rfl q2239 q2241 qs62 q78 q2242 (by decide +kernel) dX5_asked_26 rfl ⟨Nat.le_of_ble_eq_true rfl, Nat.le_of_ble_eq_true rfl⟩ (Nat.le_of_ble_eq_true rfl) ⟨Nat.le_of_ble_eq_true rfl, Nat.le_of_ble_eq_true rfl⟩) (fun y26 h26 hw => ?_)
      refine j_istore_n X (pc := 29) [(3, vI y26), (0, vR a0), (1, vI a1), (2, vI a2)] dX5_asked_29 rfl (Nat.le_of_ble_eq_true rfl) rfl ?_
      refine j_iload_n X (pc := 30) 0 dX5_asked_30 rfl rfl ?_
      refine j_ldc X (pc := 31) dX5_asked_31 q2259 ?_
      refine j_icmp_ne X (pc := 33) 44 dX5_asked_33 (by decide) hw (fun hw => ?_) (fun hw => ?_)
      · refine j_aload_n X (pc := 36) 1 dX5_asked_36 rfl rfl ?_
        refine j_iconst X (pc := 37) 3 dX5_asked_37 (by decide) ?_
        obtain ⟨b9, c9, f9, hr9, ho9, hc9, hw⟩ := hw
        obtain rfl := List.mem_singleton.mp hc9
        refine j_calli (j_runV (n8 := 1) (As := [vI 3]) (rest := []) X (pc := 38) hr9 (met_X5_fails (xl x) X.hl (xG x) h26 a0 3 _ hw) ho9 (by decide) rfl q1988 q1990 qs33 q78 q1991 (by decide +kernel) dX5_asked_38 rfl ⟨Nat.le_of_ble_eq_true rfl, Nat.le_of_ble_eq_true rfl⟩ (Nat.le_of_ble_eq_true rfl) ⟨Nat.le_of_ble_eq_true rfl, Nat.le_of_ble_eq_true rfl⟩) (fun y38 h38 hw => ?_)
        refine j_goto X (pc := 41) 45 dX5_asked_41 (by decide) ?_
        exact j_iret X (pc := 45) hQ er (Nat.le_of_ble_eq_true rfl) (Nat.le_of_ble_eq_true rfl) dX5_asked_45 hw
      · refine j_iload_n X (pc := 44) 0 dX5_asked_44 rfl rfl ?_
        exact j_iret X (pc := 45) hQ er (Nat.le_of_ble_eq_true rfl) (Nat.le_of_ble_eq_true rfl) dX5_asked_45 hw
  · refine j_iconst X (pc := 8) 0 dX5_asked_8 (by decide) ?_
    exact j_iret X (pc := 9) hQ er (Nat.le_of_ble_eq_true rfl) (Nat.le_of_ble_eq_true rfl) dX5_asked_9 hw
abbrev cX5_bends : ByteArray := prog_19_method_75_code
def yX5_bends : MethodName := ⟨RX5, "bends", "(II)I"⟩
def dkwX5_bends_0 : List UInt8 := [42, 27, 28, 182, 1, 8, 17, 3, 232, 108, 172]
abbrev dktX5_bends_0 : List UInt8 := dkwX5_bends_0 ++ []
theorem dksX5_bends_0 : cX5_bends.data.toList.drop 0 = dktX5_bends_0 := by decide +kernel
theorem dX5_bends_0 : decode cX5_bends 0 = .ok (.aload_n 0, 1) := dk_42 (dk_at dksX5_bends_0 0 rfl rfl)
theorem dX5_bends_1 : decode cX5_bends 1 = .ok (.iload_n 1, 1) := dk_27 (dk_at dksX5_bends_0 1 rfl rfl)
theorem dX5_bends_2 : decode cX5_bends 2 = .ok (.iload_n 2, 1) := dk_28 (dk_at dksX5_bends_0 2 rfl rfl)
theorem dX5_bends_3 : decode cX5_bends 3 = .ok (.invokevirtual 264, 3) := dk_182 1 8 (dk_at dksX5_bends_0 3 rfl rfl)
theorem dX5_bends_6 : decode cX5_bends 6 = .ok (.sipush 1000, 3) := dk_17 3 232 (dk_at dksX5_bends_0 6 rfl rfl)
theorem dX5_bends_9 : decode cX5_bends 9 = .ok (.idiv, 1) := dk_108 (dk_at dksX5_bends_0 9 rfl rfl)
theorem dX5_bends_10 : decode cX5_bends 10 = .ok (.ireturn, 1) := dk_172 (dk_at dksX5_bends_0 10 rfl rfl)
theorem q2235 : (Jvm.Cond.methodLink "PlugboardModel" (264 : Nat) ({ cls := "PlugboardModel", name := "asked", desc := "(II)I" } : Jvm.MethodName)) ∈ lw_all := lw_g (lw_at lw_m10 5 rfl) rfl
theorem q2237 : (Jvm.Cond.instanceMethod ({ cls := "PlugboardModel", name := "asked", desc := "(II)I" } : Jvm.MethodName)) ∈ lw_all := lw_g (lw_at lw_m10 7 rfl) rfl
theorem q2238 : (Jvm.Cond.code ({ cls := "PlugboardModel", name := "asked", desc := "(II)I" } : Jvm.MethodName) prog_19_method_74_code (4 : Nat) (Option.some Jvm.ClassFile.FieldType.int)) ∈ lw_all := lw_g (lw_at lw_m10 8 rfl) rfl
abbrev rm_X5_bends : Room := { frames := 5, cells := 0, slots := 0, locals := 126 }
def w_X5_bends (a0 : Option Nat) (a1 : Int32) (a2 : Int32) (h : AH) (P : Int32 → AH → Prop) : Prop :=
  is_c h a0 [4] (
  w_X5_asked a0 a1 a2 h (fun y3 h3 =>
  ¬ (1000 : Int32) = 0 ∧
  P (y3 / 1000) h3))
theorem met_X5_bends (l : Launch) (hlt : l.stackTraces = false) (G : GG) (h : AH) (a0 : Option Nat) (a1 : Int32) (a2 : Int32) (P : Int32 → AH → Prop) (hw : w_X5_bends a0 a1 a2 h P) : ct_i l yX5_bends (ws_ yX5_bends cX5_bends 3 (Option.some Jvm.ClassFile.FieldType.int)) rm_X5_bends G h [vR a0, vI a1, vI a2] P := by
  refine j_starti hlt [(0, vR a0), (1, vI a1), (2, vI a2)] (plainFor_of_name (by decide)) rfl rfl (fun x X eG er en hQ => ?_)
  subst eG
  refine j_aload_n X (pc := 0) 0 dX5_bends_0 rfl rfl ?_
  refine j_iload_n X (pc := 1) 1 dX5_bends_1 rfl rfl ?_
  refine j_iload_n X (pc := 2) 2 dX5_bends_2 rfl rfl ?_
  obtain ⟨b9, c9, f9, hr9, ho9, hc9, hw⟩ := hw
  obtain rfl := List.mem_singleton.mp hc9
  refine j_calli (j_runV (n8 := 2) (As := [vI a1, vI a2]) (rest := []) X (pc := 3) hr9 (met_X5_asked (xl x) X.hl (xG x) h a0 a1 a2 _ hw) ho9 (by decide) rfl q2235 q2237 qs61 q78 q2238 (by decide +kernel) dX5_bends_3 rfl ⟨Nat.le_of_ble_eq_true rfl, Nat.le_of_ble_eq_true rfl⟩ (Nat.le_of_ble_eq_true rfl) ⟨Nat.le_of_ble_eq_true rfl, Nat.le_of_ble_eq_true rfl⟩) (fun y3 h3 hw => ?_)
  refine j_sipush X (pc := 6) 1000 dX5_bends_6 (by decide) ?_
  refine j_idiv X (pc := 9) dX5_bends_9 hw (fun hw => ?_)
  exact j_iret X (pc := 10) hQ er (Nat.le_of_ble_eq_true rfl) (Nat.le_of_ble_eq_true rfl) dX5_bends_10 hw
abbrev cX1_routeByRounds : ByteArray := prog_1_method_69_code
def yX1_routeByRounds : MethodName := ⟨RX1, "routeByRounds", "(LPlugboard$Board;LPlugboard$Connector;)I"⟩
def dkwX1_routeByRounds_9 : List UInt8 := [172]
abbrev dktX1_routeByRounds_9 : List UInt8 := dkwX1_routeByRounds_9 ++ []
def dkwX1_routeByRounds_8 : List UInt8 := [4, 54, 5, 132, 7, 1, 167, 255, 176, 132, 6, 1, 167, 255, 141, 167, 255, 127, 42, 21, 4, 182, 1, 161]
abbrev dktX1_routeByRounds_8 : List UInt8 := dkwX1_routeByRounds_8 ++ dktX1_routeByRounds_9
def dkwX1_routeByRounds_7 : List UInt8 := [21, 8, 104, 21, 7, 96, 46, 162, 0, 20, 42, 180, 0, 99, 7, 21, 8, 104, 21, 7, 96, 21, 9, 79]
abbrev dktX1_routeByRounds_7 : List UInt8 := dkwX1_routeByRounds_7 ++ dktX1_routeByRounds_8
def dkwX1_routeByRounds_6 : List UInt8 := [7, 112, 21, 7, 184, 1, 158, 96, 54, 9, 21, 8, 2, 159, 0, 37, 21, 9, 42, 180, 0, 99, 7]
abbrev dktX1_routeByRounds_6 : List UInt8 := dkwX1_routeByRounds_6 ++ dktX1_routeByRounds_7
def dkwX1_routeByRounds_5 : List UInt8 := [162, 0, 80, 42, 21, 6, 7, 108, 21, 7, 182, 1, 155, 54, 8, 42, 180, 0, 99, 21, 6, 46, 21, 6]
abbrev dktX1_routeByRounds_5 : List UInt8 := dkwX1_routeByRounds_5 ++ dktX1_routeByRounds_6
def dkwX1_routeByRounds_4 : List UInt8 := [42, 180, 0, 99, 21, 6, 46, 19, 1, 134, 160, 0, 6, 167, 0, 89, 3, 54, 7, 21, 7, 7]
abbrev dktX1_routeByRounds_4 : List UInt8 := dkwX1_routeByRounds_4 ++ dktX1_routeByRounds_5
def dkwX1_routeByRounds_3 : List UInt8 := [4, 54, 5, 21, 5, 153, 0, 130, 3, 54, 5, 3, 54, 6, 21, 6, 42, 180, 0, 99, 190, 162, 0, 111]
abbrev dktX1_routeByRounds_3 : List UInt8 := dkwX1_routeByRounds_3 ++ dktX1_routeByRounds_4
def dkwX1_routeByRounds_2 : List UInt8 := [21, 5, 7, 162, 0, 21, 42, 180, 0, 99, 7, 29, 104, 21, 5, 96, 4, 79, 132, 5, 1, 167, 255, 235]
abbrev dktX1_routeByRounds_2 : List UInt8 := dkwX1_routeByRounds_2 ++ dktX1_routeByRounds_3
def dkwX1_routeByRounds_1 : List UInt8 := [54, 4, 29, 2, 159, 0, 9, 21, 4, 2, 160, 0, 7, 19, 1, 134, 172, 42, 182, 1, 152, 3, 54, 5]
abbrev dktX1_routeByRounds_1 : List UInt8 := dkwX1_routeByRounds_1 ++ dktX1_routeByRounds_2
def dkwX1_routeByRounds_0 : List UInt8 := [42, 43, 182, 1, 137, 42, 43, 44, 182, 1, 141, 182, 1, 145, 62, 42, 43, 44, 182, 1, 149, 182, 1, 145]
abbrev dktX1_routeByRounds_0 : List UInt8 := dkwX1_routeByRounds_0 ++ dktX1_routeByRounds_1
theorem dksX1_routeByRounds_0 : cX1_routeByRounds.data.toList.drop 0 = dktX1_routeByRounds_0 := by decide +kernel
theorem dksX1_routeByRounds_1 : cX1_routeByRounds.data.toList.drop 24 = dktX1_routeByRounds_1 := dk_seg dksX1_routeByRounds_0 24 rfl rfl
theorem dksX1_routeByRounds_2 : cX1_routeByRounds.data.toList.drop 48 = dktX1_routeByRounds_2 := dk_seg dksX1_routeByRounds_1 24 rfl rfl
theorem dksX1_routeByRounds_3 : cX1_routeByRounds.data.toList.drop 72 = dktX1_routeByRounds_3 := dk_seg dksX1_routeByRounds_2 24 rfl rfl
theorem dksX1_routeByRounds_4 : cX1_routeByRounds.data.toList.drop 96 = dktX1_routeByRounds_4 := dk_seg dksX1_routeByRounds_3 24 rfl rfl
theorem dksX1_routeByRounds_5 : cX1_routeByRounds.data.toList.drop 118 = dktX1_routeByRounds_5 := dk_seg dksX1_routeByRounds_4 22 rfl rfl
theorem dksX1_routeByRounds_6 : cX1_routeByRounds.data.toList.drop 142 = dktX1_routeByRounds_6 := dk_seg dksX1_routeByRounds_5 24 rfl rfl
theorem dksX1_routeByRounds_7 : cX1_routeByRounds.data.toList.drop 165 = dktX1_routeByRounds_7 := dk_seg dksX1_routeByRounds_6 23 rfl rfl
theorem dksX1_routeByRounds_8 : cX1_routeByRounds.data.toList.drop 189 = dktX1_routeByRounds_8 := dk_seg dksX1_routeByRounds_7 24 rfl rfl
theorem dksX1_routeByRounds_9 : cX1_routeByRounds.data.toList.drop 213 = dktX1_routeByRounds_9 := dk_seg dksX1_routeByRounds_8 24 rfl rfl
theorem dX1_routeByRounds_0 : decode cX1_routeByRounds 0 = .ok (.aload_n 0, 1) := dk_42 (dk_at dksX1_routeByRounds_0 0 rfl rfl)
theorem dX1_routeByRounds_1 : decode cX1_routeByRounds 1 = .ok (.aload_n 1, 1) := dk_43 (dk_at dksX1_routeByRounds_0 1 rfl rfl)
theorem dX1_routeByRounds_2 : decode cX1_routeByRounds 2 = .ok (.invokevirtual 393, 3) := dk_182 1 137 (dk_at dksX1_routeByRounds_0 2 rfl rfl)
theorem dX1_routeByRounds_5 : decode cX1_routeByRounds 5 = .ok (.aload_n 0, 1) := dk_42 (dk_at dksX1_routeByRounds_0 5 rfl rfl)
theorem dX1_routeByRounds_6 : decode cX1_routeByRounds 6 = .ok (.aload_n 1, 1) := dk_43 (dk_at dksX1_routeByRounds_0 6 rfl rfl)
theorem dX1_routeByRounds_7 : decode cX1_routeByRounds 7 = .ok (.aload_n 2, 1) := dk_44 (dk_at dksX1_routeByRounds_0 7 rfl rfl)
theorem dX1_routeByRounds_8 : decode cX1_routeByRounds 8 = .ok (.invokevirtual 397, 3) := dk_182 1 141 (dk_at dksX1_routeByRounds_0 8 rfl rfl)
theorem dX1_routeByRounds_11 : decode cX1_routeByRounds 11 = .ok (.invokevirtual 401, 3) := dk_182 1 145 (dk_at dksX1_routeByRounds_0 11 rfl rfl)
theorem dX1_routeByRounds_14 : decode cX1_routeByRounds 14 = .ok (.istore_n 3, 1) := dk_62 (dk_at dksX1_routeByRounds_0 14 rfl rfl)
theorem dX1_routeByRounds_15 : decode cX1_routeByRounds 15 = .ok (.aload_n 0, 1) := dk_42 (dk_at dksX1_routeByRounds_0 15 rfl rfl)
theorem dX1_routeByRounds_16 : decode cX1_routeByRounds 16 = .ok (.aload_n 1, 1) := dk_43 (dk_at dksX1_routeByRounds_0 16 rfl rfl)
theorem dX1_routeByRounds_17 : decode cX1_routeByRounds 17 = .ok (.aload_n 2, 1) := dk_44 (dk_at dksX1_routeByRounds_0 17 rfl rfl)
theorem dX1_routeByRounds_18 : decode cX1_routeByRounds 18 = .ok (.invokevirtual 405, 3) := dk_182 1 149 (dk_at dksX1_routeByRounds_0 18 rfl rfl)
theorem dX1_routeByRounds_21 : decode cX1_routeByRounds 21 = .ok (.invokevirtual 401, 3) := dk_182 1 145 (dk_at dksX1_routeByRounds_0 21 rfl rfl)
theorem dX1_routeByRounds_24 : decode cX1_routeByRounds 24 = .ok (.istore 4, 2) := dk_54 4 (dk_at dksX1_routeByRounds_1 0 rfl rfl)
theorem dX1_routeByRounds_26 : decode cX1_routeByRounds 26 = .ok (.iload_n 3, 1) := dk_29 (dk_at dksX1_routeByRounds_1 2 rfl rfl)
theorem dX1_routeByRounds_27 : decode cX1_routeByRounds 27 = .ok (.iconst (-1), 1) := dk_2 (dk_at dksX1_routeByRounds_1 3 rfl rfl)
theorem dX1_routeByRounds_28 : decode cX1_routeByRounds 28 = .ok (.if_icmp .eq 9, 3) := dk_159 0 9 (dk_at dksX1_routeByRounds_1 4 rfl rfl)
theorem dX1_routeByRounds_31 : decode cX1_routeByRounds 31 = .ok (.iload 4, 2) := dk_21 4 (dk_at dksX1_routeByRounds_1 7 rfl rfl)
theorem dX1_routeByRounds_33 : decode cX1_routeByRounds 33 = .ok (.iconst (-1), 1) := dk_2 (dk_at dksX1_routeByRounds_1 9 rfl rfl)
theorem dX1_routeByRounds_34 : decode cX1_routeByRounds 34 = .ok (.if_icmp .ne 7, 3) := dk_160 0 7 (dk_at dksX1_routeByRounds_1 10 rfl rfl)
theorem dX1_routeByRounds_37 : decode cX1_routeByRounds 37 = .ok (.ldc_w 390, 3) := dk_19 1 134 (dk_at dksX1_routeByRounds_1 13 rfl rfl)
theorem dX1_routeByRounds_40 : decode cX1_routeByRounds 40 = .ok (.ireturn, 1) := dk_172 (dk_at dksX1_routeByRounds_1 16 rfl rfl)
theorem dX1_routeByRounds_41 : decode cX1_routeByRounds 41 = .ok (.aload_n 0, 1) := dk_42 (dk_at dksX1_routeByRounds_1 17 rfl rfl)
theorem dX1_routeByRounds_42 : decode cX1_routeByRounds 42 = .ok (.invokevirtual 408, 3) := dk_182 1 152 (dk_at dksX1_routeByRounds_1 18 rfl rfl)
theorem dX1_routeByRounds_45 : decode cX1_routeByRounds 45 = .ok (.iconst 0, 1) := dk_3 (dk_at dksX1_routeByRounds_1 21 rfl rfl)
theorem dX1_routeByRounds_46 : decode cX1_routeByRounds 46 = .ok (.istore 5, 2) := dk_54 5 (dk_at dksX1_routeByRounds_1 22 rfl rfl)
theorem dX1_routeByRounds_48 : decode cX1_routeByRounds 48 = .ok (.iload 5, 2) := dk_21 5 (dk_at dksX1_routeByRounds_2 0 rfl rfl)
theorem dX1_routeByRounds_50 : decode cX1_routeByRounds 50 = .ok (.iconst 4, 1) := dk_7 (dk_at dksX1_routeByRounds_2 2 rfl rfl)
theorem dX1_routeByRounds_51 : decode cX1_routeByRounds 51 = .ok (.if_icmp .ge 21, 3) := dk_162 0 21 (dk_at dksX1_routeByRounds_2 3 rfl rfl)
theorem dX1_routeByRounds_54 : decode cX1_routeByRounds 54 = .ok (.aload_n 0, 1) := dk_42 (dk_at dksX1_routeByRounds_2 6 rfl rfl)
theorem dX1_routeByRounds_55 : decode cX1_routeByRounds 55 = .ok (.getfield 99, 3) := dk_180 0 99 (dk_at dksX1_routeByRounds_2 7 rfl rfl)
theorem dX1_routeByRounds_58 : decode cX1_routeByRounds 58 = .ok (.iconst 4, 1) := dk_7 (dk_at dksX1_routeByRounds_2 10 rfl rfl)
theorem dX1_routeByRounds_59 : decode cX1_routeByRounds 59 = .ok (.iload_n 3, 1) := dk_29 (dk_at dksX1_routeByRounds_2 11 rfl rfl)
theorem dX1_routeByRounds_60 : decode cX1_routeByRounds 60 = .ok (.imul, 1) := dk_104 (dk_at dksX1_routeByRounds_2 12 rfl rfl)
theorem dX1_routeByRounds_61 : decode cX1_routeByRounds 61 = .ok (.iload 5, 2) := dk_21 5 (dk_at dksX1_routeByRounds_2 13 rfl rfl)
theorem dX1_routeByRounds_63 : decode cX1_routeByRounds 63 = .ok (.iadd, 1) := dk_96 (dk_at dksX1_routeByRounds_2 15 rfl rfl)
theorem dX1_routeByRounds_64 : decode cX1_routeByRounds 64 = .ok (.iconst 1, 1) := dk_4 (dk_at dksX1_routeByRounds_2 16 rfl rfl)
theorem dX1_routeByRounds_65 : decode cX1_routeByRounds 65 = .ok (.iastore, 1) := dk_79 (dk_at dksX1_routeByRounds_2 17 rfl rfl)
theorem dX1_routeByRounds_66 : decode cX1_routeByRounds 66 = .ok (.iinc 5 1, 3) := dk_132 5 1 (dk_at dksX1_routeByRounds_2 18 rfl rfl)
theorem dX1_routeByRounds_69 : decode cX1_routeByRounds 69 = .ok (.goto (-21), 3) := dk_167 255 235 (dk_at dksX1_routeByRounds_2 21 rfl rfl)
theorem dX1_routeByRounds_72 : decode cX1_routeByRounds 72 = .ok (.iconst 1, 1) := dk_4 (dk_at dksX1_routeByRounds_3 0 rfl rfl)
theorem dX1_routeByRounds_73 : decode cX1_routeByRounds 73 = .ok (.istore 5, 2) := dk_54 5 (dk_at dksX1_routeByRounds_3 1 rfl rfl)
theorem dX1_routeByRounds_75 : decode cX1_routeByRounds 75 = .ok (.iload 5, 2) := dk_21 5 (dk_at dksX1_routeByRounds_3 3 rfl rfl)
theorem dX1_routeByRounds_77 : decode cX1_routeByRounds 77 = .ok (.ifCond .eq 130, 3) := dk_153 0 130 (dk_at dksX1_routeByRounds_3 5 rfl rfl)
theorem dX1_routeByRounds_80 : decode cX1_routeByRounds 80 = .ok (.iconst 0, 1) := dk_3 (dk_at dksX1_routeByRounds_3 8 rfl rfl)
theorem dX1_routeByRounds_81 : decode cX1_routeByRounds 81 = .ok (.istore 5, 2) := dk_54 5 (dk_at dksX1_routeByRounds_3 9 rfl rfl)
theorem dX1_routeByRounds_83 : decode cX1_routeByRounds 83 = .ok (.iconst 0, 1) := dk_3 (dk_at dksX1_routeByRounds_3 11 rfl rfl)
theorem dX1_routeByRounds_84 : decode cX1_routeByRounds 84 = .ok (.istore 6, 2) := dk_54 6 (dk_at dksX1_routeByRounds_3 12 rfl rfl)
theorem dX1_routeByRounds_86 : decode cX1_routeByRounds 86 = .ok (.iload 6, 2) := dk_21 6 (dk_at dksX1_routeByRounds_3 14 rfl rfl)
theorem dX1_routeByRounds_88 : decode cX1_routeByRounds 88 = .ok (.aload_n 0, 1) := dk_42 (dk_at dksX1_routeByRounds_3 16 rfl rfl)
theorem dX1_routeByRounds_89 : decode cX1_routeByRounds 89 = .ok (.getfield 99, 3) := dk_180 0 99 (dk_at dksX1_routeByRounds_3 17 rfl rfl)
theorem dX1_routeByRounds_92 : decode cX1_routeByRounds 92 = .ok (.arraylength, 1) := dk_190 (dk_at dksX1_routeByRounds_3 20 rfl rfl)
theorem dX1_routeByRounds_93 : decode cX1_routeByRounds 93 = .ok (.if_icmp .ge 111, 3) := dk_162 0 111 (dk_at dksX1_routeByRounds_3 21 rfl rfl)
theorem dX1_routeByRounds_96 : decode cX1_routeByRounds 96 = .ok (.aload_n 0, 1) := dk_42 (dk_at dksX1_routeByRounds_4 0 rfl rfl)
theorem dX1_routeByRounds_97 : decode cX1_routeByRounds 97 = .ok (.getfield 99, 3) := dk_180 0 99 (dk_at dksX1_routeByRounds_4 1 rfl rfl)
theorem dX1_routeByRounds_100 : decode cX1_routeByRounds 100 = .ok (.iload 6, 2) := dk_21 6 (dk_at dksX1_routeByRounds_4 4 rfl rfl)
theorem dX1_routeByRounds_102 : decode cX1_routeByRounds 102 = .ok (.iaload, 1) := dk_46 (dk_at dksX1_routeByRounds_4 6 rfl rfl)
theorem dX1_routeByRounds_103 : decode cX1_routeByRounds 103 = .ok (.ldc_w 390, 3) := dk_19 1 134 (dk_at dksX1_routeByRounds_4 7 rfl rfl)
theorem dX1_routeByRounds_106 : decode cX1_routeByRounds 106 = .ok (.if_icmp .ne 6, 3) := dk_160 0 6 (dk_at dksX1_routeByRounds_4 10 rfl rfl)
theorem dX1_routeByRounds_109 : decode cX1_routeByRounds 109 = .ok (.goto 89, 3) := dk_167 0 89 (dk_at dksX1_routeByRounds_4 13 rfl rfl)
theorem dX1_routeByRounds_112 : decode cX1_routeByRounds 112 = .ok (.iconst 0, 1) := dk_3 (dk_at dksX1_routeByRounds_4 16 rfl rfl)
theorem dX1_routeByRounds_113 : decode cX1_routeByRounds 113 = .ok (.istore 7, 2) := dk_54 7 (dk_at dksX1_routeByRounds_4 17 rfl rfl)
theorem dX1_routeByRounds_115 : decode cX1_routeByRounds 115 = .ok (.iload 7, 2) := dk_21 7 (dk_at dksX1_routeByRounds_4 19 rfl rfl)
theorem dX1_routeByRounds_117 : decode cX1_routeByRounds 117 = .ok (.iconst 4, 1) := dk_7 (dk_at dksX1_routeByRounds_4 21 rfl rfl)
theorem dX1_routeByRounds_118 : decode cX1_routeByRounds 118 = .ok (.if_icmp .ge 80, 3) := dk_162 0 80 (dk_at dksX1_routeByRounds_5 0 rfl rfl)
theorem dX1_routeByRounds_121 : decode cX1_routeByRounds 121 = .ok (.aload_n 0, 1) := dk_42 (dk_at dksX1_routeByRounds_5 3 rfl rfl)
theorem dX1_routeByRounds_122 : decode cX1_routeByRounds 122 = .ok (.iload 6, 2) := dk_21 6 (dk_at dksX1_routeByRounds_5 4 rfl rfl)
theorem dX1_routeByRounds_124 : decode cX1_routeByRounds 124 = .ok (.iconst 4, 1) := dk_7 (dk_at dksX1_routeByRounds_5 6 rfl rfl)
theorem dX1_routeByRounds_125 : decode cX1_routeByRounds 125 = .ok (.idiv, 1) := dk_108 (dk_at dksX1_routeByRounds_5 7 rfl rfl)
theorem dX1_routeByRounds_126 : decode cX1_routeByRounds 126 = .ok (.iload 7, 2) := dk_21 7 (dk_at dksX1_routeByRounds_5 8 rfl rfl)
theorem dX1_routeByRounds_128 : decode cX1_routeByRounds 128 = .ok (.invokevirtual 411, 3) := dk_182 1 155 (dk_at dksX1_routeByRounds_5 10 rfl rfl)
theorem dX1_routeByRounds_131 : decode cX1_routeByRounds 131 = .ok (.istore 8, 2) := dk_54 8 (dk_at dksX1_routeByRounds_5 13 rfl rfl)
theorem dX1_routeByRounds_133 : decode cX1_routeByRounds 133 = .ok (.aload_n 0, 1) := dk_42 (dk_at dksX1_routeByRounds_5 15 rfl rfl)
theorem dX1_routeByRounds_134 : decode cX1_routeByRounds 134 = .ok (.getfield 99, 3) := dk_180 0 99 (dk_at dksX1_routeByRounds_5 16 rfl rfl)
theorem dX1_routeByRounds_137 : decode cX1_routeByRounds 137 = .ok (.iload 6, 2) := dk_21 6 (dk_at dksX1_routeByRounds_5 19 rfl rfl)
theorem dX1_routeByRounds_139 : decode cX1_routeByRounds 139 = .ok (.iaload, 1) := dk_46 (dk_at dksX1_routeByRounds_5 21 rfl rfl)
theorem dX1_routeByRounds_140 : decode cX1_routeByRounds 140 = .ok (.iload 6, 2) := dk_21 6 (dk_at dksX1_routeByRounds_5 22 rfl rfl)
theorem dX1_routeByRounds_142 : decode cX1_routeByRounds 142 = .ok (.iconst 4, 1) := dk_7 (dk_at dksX1_routeByRounds_6 0 rfl rfl)
theorem dX1_routeByRounds_143 : decode cX1_routeByRounds 143 = .ok (.irem, 1) := dk_112 (dk_at dksX1_routeByRounds_6 1 rfl rfl)
theorem dX1_routeByRounds_144 : decode cX1_routeByRounds 144 = .ok (.iload 7, 2) := dk_21 7 (dk_at dksX1_routeByRounds_6 2 rfl rfl)
theorem dX1_routeByRounds_146 : decode cX1_routeByRounds 146 = .ok (.invokestatic 414, 3) := dk_184 1 158 (dk_at dksX1_routeByRounds_6 4 rfl rfl)
theorem dX1_routeByRounds_149 : decode cX1_routeByRounds 149 = .ok (.iadd, 1) := dk_96 (dk_at dksX1_routeByRounds_6 7 rfl rfl)
theorem dX1_routeByRounds_150 : decode cX1_routeByRounds 150 = .ok (.istore 9, 2) := dk_54 9 (dk_at dksX1_routeByRounds_6 8 rfl rfl)
theorem dX1_routeByRounds_152 : decode cX1_routeByRounds 152 = .ok (.iload 8, 2) := dk_21 8 (dk_at dksX1_routeByRounds_6 10 rfl rfl)
theorem dX1_routeByRounds_154 : decode cX1_routeByRounds 154 = .ok (.iconst (-1), 1) := dk_2 (dk_at dksX1_routeByRounds_6 12 rfl rfl)
theorem dX1_routeByRounds_155 : decode cX1_routeByRounds 155 = .ok (.if_icmp .eq 37, 3) := dk_159 0 37 (dk_at dksX1_routeByRounds_6 13 rfl rfl)
theorem dX1_routeByRounds_158 : decode cX1_routeByRounds 158 = .ok (.iload 9, 2) := dk_21 9 (dk_at dksX1_routeByRounds_6 16 rfl rfl)
theorem dX1_routeByRounds_160 : decode cX1_routeByRounds 160 = .ok (.aload_n 0, 1) := dk_42 (dk_at dksX1_routeByRounds_6 18 rfl rfl)
theorem dX1_routeByRounds_161 : decode cX1_routeByRounds 161 = .ok (.getfield 99, 3) := dk_180 0 99 (dk_at dksX1_routeByRounds_6 19 rfl rfl)
theorem dX1_routeByRounds_164 : decode cX1_routeByRounds 164 = .ok (.iconst 4, 1) := dk_7 (dk_at dksX1_routeByRounds_6 22 rfl rfl)
theorem dX1_routeByRounds_165 : decode cX1_routeByRounds 165 = .ok (.iload 8, 2) := dk_21 8 (dk_at dksX1_routeByRounds_7 0 rfl rfl)
theorem dX1_routeByRounds_167 : decode cX1_routeByRounds 167 = .ok (.imul, 1) := dk_104 (dk_at dksX1_routeByRounds_7 2 rfl rfl)
theorem dX1_routeByRounds_168 : decode cX1_routeByRounds 168 = .ok (.iload 7, 2) := dk_21 7 (dk_at dksX1_routeByRounds_7 3 rfl rfl)
theorem dX1_routeByRounds_170 : decode cX1_routeByRounds 170 = .ok (.iadd, 1) := dk_96 (dk_at dksX1_routeByRounds_7 5 rfl rfl)
theorem dX1_routeByRounds_171 : decode cX1_routeByRounds 171 = .ok (.iaload, 1) := dk_46 (dk_at dksX1_routeByRounds_7 6 rfl rfl)
theorem dX1_routeByRounds_172 : decode cX1_routeByRounds 172 = .ok (.if_icmp .ge 20, 3) := dk_162 0 20 (dk_at dksX1_routeByRounds_7 7 rfl rfl)
theorem dX1_routeByRounds_175 : decode cX1_routeByRounds 175 = .ok (.aload_n 0, 1) := dk_42 (dk_at dksX1_routeByRounds_7 10 rfl rfl)
theorem dX1_routeByRounds_176 : decode cX1_routeByRounds 176 = .ok (.getfield 99, 3) := dk_180 0 99 (dk_at dksX1_routeByRounds_7 11 rfl rfl)
theorem dX1_routeByRounds_179 : decode cX1_routeByRounds 179 = .ok (.iconst 4, 1) := dk_7 (dk_at dksX1_routeByRounds_7 14 rfl rfl)
theorem dX1_routeByRounds_180 : decode cX1_routeByRounds 180 = .ok (.iload 8, 2) := dk_21 8 (dk_at dksX1_routeByRounds_7 15 rfl rfl)
theorem dX1_routeByRounds_182 : decode cX1_routeByRounds 182 = .ok (.imul, 1) := dk_104 (dk_at dksX1_routeByRounds_7 17 rfl rfl)
theorem dX1_routeByRounds_183 : decode cX1_routeByRounds 183 = .ok (.iload 7, 2) := dk_21 7 (dk_at dksX1_routeByRounds_7 18 rfl rfl)
theorem dX1_routeByRounds_185 : decode cX1_routeByRounds 185 = .ok (.iadd, 1) := dk_96 (dk_at dksX1_routeByRounds_7 20 rfl rfl)
theorem dX1_routeByRounds_186 : decode cX1_routeByRounds 186 = .ok (.iload 9, 2) := dk_21 9 (dk_at dksX1_routeByRounds_7 21 rfl rfl)
theorem dX1_routeByRounds_188 : decode cX1_routeByRounds 188 = .ok (.iastore, 1) := dk_79 (dk_at dksX1_routeByRounds_7 23 rfl rfl)
theorem dX1_routeByRounds_189 : decode cX1_routeByRounds 189 = .ok (.iconst 1, 1) := dk_4 (dk_at dksX1_routeByRounds_8 0 rfl rfl)
theorem dX1_routeByRounds_190 : decode cX1_routeByRounds 190 = .ok (.istore 5, 2) := dk_54 5 (dk_at dksX1_routeByRounds_8 1 rfl rfl)
theorem dX1_routeByRounds_192 : decode cX1_routeByRounds 192 = .ok (.iinc 7 1, 3) := dk_132 7 1 (dk_at dksX1_routeByRounds_8 3 rfl rfl)
theorem dX1_routeByRounds_195 : decode cX1_routeByRounds 195 = .ok (.goto (-80), 3) := dk_167 255 176 (dk_at dksX1_routeByRounds_8 6 rfl rfl)
theorem dX1_routeByRounds_198 : decode cX1_routeByRounds 198 = .ok (.iinc 6 1, 3) := dk_132 6 1 (dk_at dksX1_routeByRounds_8 9 rfl rfl)
theorem dX1_routeByRounds_201 : decode cX1_routeByRounds 201 = .ok (.goto (-115), 3) := dk_167 255 141 (dk_at dksX1_routeByRounds_8 12 rfl rfl)
theorem dX1_routeByRounds_204 : decode cX1_routeByRounds 204 = .ok (.goto (-129), 3) := dk_167 255 127 (dk_at dksX1_routeByRounds_8 15 rfl rfl)
theorem dX1_routeByRounds_207 : decode cX1_routeByRounds 207 = .ok (.aload_n 0, 1) := dk_42 (dk_at dksX1_routeByRounds_8 18 rfl rfl)
theorem dX1_routeByRounds_208 : decode cX1_routeByRounds 208 = .ok (.iload 4, 2) := dk_21 4 (dk_at dksX1_routeByRounds_8 19 rfl rfl)
theorem dX1_routeByRounds_210 : decode cX1_routeByRounds 210 = .ok (.invokevirtual 417, 3) := dk_182 1 161 (dk_at dksX1_routeByRounds_8 21 rfl rfl)
theorem dX1_routeByRounds_213 : decode cX1_routeByRounds 213 = .ok (.ireturn, 1) := dk_172 (dk_at dksX1_routeByRounds_9 0 rfl rfl)
abbrev rm_X1_routeByRounds : Room := { frames := 5, cells := 0, slots := 0, locals := 114 }
def w_X1_routeByRounds_115 (P : Int32 → AH → Prop) (Z75 : Int32 → AH → Prop) (Z86 : Int32 → Int32 → AH → Prop) (x0 : Option Nat) (x4 : Int32) (x5 : Int32) (x6 : Int32) (x7 : Int32) (h : AH) : Prop :=
  ∀ Z115 : Int32 → Int32 → AH → Prop, (∀ x5 x7 h, (
      ((4 ≤ x7 →
        Z86 x5 (x6 + 1) h) ∧
       (¬ 4 ≤ x7 →
        ¬ (4 : Int32) = 0 ∧
        is_c h x0 [0] (
        w_X1_beside x0 (x6 / 4) x7 h (fun y128 h128 =>
        g_q h128 x0 0 9 fun y134 =>
        l_i h128 y134 0 x6 fun y139 =>
        ¬ (4 : Int32) = 0 ∧
        w_X1_step (x6 - x6 / 4 * 4) x7 h128 (fun y146 h146 =>
        ((y128 = (-1) →
          Z115 x5 (x7 + 1) h146) ∧
         (¬ y128 = (-1) →
          g_q h146 x0 0 9 fun y161 =>
          l_i h146 y161 0 ((4 * y128) + x7) fun y171 =>
          ((y171 ≤ (y139 + y146) →
            Z115 x5 (x7 + 1) h146) ∧
           (¬ y171 ≤ (y139 + y146) →
            g_q h146 x0 0 9 fun y176 =>
            s_i h146 y176 0 ((4 * y128) + x7) (y139 + y146) fun h188 =>
            Z115 1 (x7 + 1) h188))))))))))
      → Z115 x5 x7 h) → Z115 x5 x7 h
def w_X1_routeByRounds_86 (P : Int32 → AH → Prop) (Z75 : Int32 → AH → Prop) (x0 : Option Nat) (x4 : Int32) (x5 : Int32) (x6 : Int32) (h : AH) : Prop :=
  ∀ Z86 : Int32 → Int32 → AH → Prop, (∀ x5 x6 h, (
      g_q h x0 0 9 fun y89 =>
      n_a h y89 fun y92 =>
      ((y92 ≤ x6 →
        Z75 x5 h) ∧
       (¬ y92 ≤ x6 →
        g_q h x0 0 9 fun y97 =>
        l_i h y97 0 x6 fun y102 =>
        ((y102 = 1000000 →
          Z86 x5 (x6 + 1) h) ∧
         (¬ y102 = 1000000 →
          w_X1_routeByRounds_115 P Z75 Z86 x0 x4 x5 x6 0 h)))))
      → Z86 x5 x6 h) → Z86 x5 x6 h
def w_X1_routeByRounds_75 (P : Int32 → AH → Prop) (x0 : Option Nat) (x4 : Int32) (x5 : Int32) (h : AH) : Prop :=
  ∀ Z75 : Int32 → AH → Prop, (∀ x5 h, (
      ((x5 = 0 →
        is_c h x0 [0] (
        w_X1_least x0 x4 h (fun y210 h210 =>
        P y210 h210))) ∧
       (¬ x5 = 0 →
        w_X1_routeByRounds_86 P Z75 x0 x4 0 0 h)))
      → Z75 x5 h) → Z75 x5 h
def w_X1_routeByRounds_48 (P : Int32 → AH → Prop) (x0 : Option Nat) (x3 : Int32) (x4 : Int32) (x5 : Int32) (h : AH) : Prop :=
  ∀ Z48 : Int32 → AH → Prop, (∀ x5 h, (
      ((4 ≤ x5 →
        w_X1_routeByRounds_75 P x0 x4 1 h) ∧
       (¬ 4 ≤ x5 →
        g_q h x0 0 9 fun y55 =>
        s_i h y55 0 ((4 * x3) + x5) 1 fun h65 =>
        Z48 (x5 + 1) h65)))
      → Z48 x5 h) → Z48 x5 h
def w_X1_routeByRounds (a0 : Option Nat) (a1 : Option Nat) (a2 : Option Nat) (h : AH) (P : Int32 → AH → Prop) : Prop :=
  is_c h a0 [0] (
  w_X1_layFree a0 a1 h (fun h2 =>
  is_c h2 a2 [13] (
  w_X15_from a2 h2 (fun y8 h8 =>
  is_c h8 a0 [0] (
  w_X1_cellOf a0 a1 y8 h8 (fun y11 h11 =>
  is_c h11 a2 [13] (
  w_X15_to a2 h11 (fun y18 h18 =>
  is_c h18 a0 [0] (
  w_X1_cellOf a0 a1 y18 h18 (fun y21 h21 =>
  ((y11 = (-1) →
    P 1000000 h21) ∧
   (¬ y11 = (-1) →
    ((y21 = (-1) →
      P 1000000 h21) ∧
     (¬ y21 = (-1) →
      is_c h21 a0 [0] (
      w_X1_clearCosts a0 h21 (fun h42 =>
      w_X1_routeByRounds_48 P a0 y11 y21 0 h42))))))))))))))))
theorem wk_X1_routeByRounds_115 {x : CX} (X : Ok x cX1_routeByRounds RX1 rm_X1_routeByRounds 10) (er : xrt x = (Option.some Jvm.ClassFile.FieldType.int)) (en : xnm x = yX1_routeByRounds.name) {P : Int32 → AH → Prop} (hQ : xr_i x P) (Z75 : Int32 → AH → Prop) (Z86 : Int32 → Int32 → AH → Prop) (x0 : Option Nat) (x4 : Int32) (x5 : Int32) (x6 : Int32) (x7 : Int32) (h : AH) (hZ75 : ∀ x5 h, Z75 x5 h → J x h 0 0 75 [(0, vR x0), (4, vI x4), (5, vI x5)] []) (hZ86 : ∀ x5 x6 h, Z86 x5 x6 h → J x h 0 0 86 [(0, vR x0), (4, vI x4), (5, vI x5), (6, vI x6)] []) (hw : w_X1_routeByRounds_115 P Z75 Z86 x0 x4 x5 x6 x7 h) : J x h 0 0 115 [(0, vR x0), (4, vI x4), (5, vI x5), (6, vI x6), (7, vI x7)] [] := by
  refine hw (fun x5 x7 h => J x h 0 0 115 [(0, vR x0), (4, vI x4), (5, vI x5), (6, vI x6), (7, vI x7)] []) (fun x5 x7 h hw => ?_)
  refine j_iload X (pc := 115) 4 dX1_routeByRounds_115 rfl ?_
  refine j_iconst X (pc := 117) 4 dX1_routeByRounds_117 (by decide) ?_
  refine j_icmp_ge X (pc := 118) 198 dX1_routeByRounds_118 (by decide) hw (fun hw => ?_) (fun hw => ?_)
  · refine j_iinc X (pc := 198) 3 (x6 + 1) [(6, vI (x6 + 1)), (0, vR x0), (4, vI x4), (5, vI x5), (7, vI x7)] dX1_routeByRounds_198 rfl rfl (Nat.le_of_ble_eq_true rfl) rfl ?_
    refine j_goto X (pc := 201) 86 dX1_routeByRounds_201 (by decide) ?_
    refine j_lv [(0, vR x0), (4, vI x4), (5, vI x5), (6, vI (x6 + 1))] [1, 2, 3, 0] rfl ?_
    refine j_cs (u' := 0) (v' := 0) (Nat.le_of_ble_eq_true rfl) (Nat.le_of_ble_eq_true rfl) ?_
    exact hZ86 x5 (x6 + 1) h hw
  · refine j_aload_n X (pc := 121) 0 dX1_routeByRounds_121 rfl rfl ?_
    refine j_iload X (pc := 122) 3 dX1_routeByRounds_122 rfl ?_
    refine j_iconst X (pc := 124) 4 dX1_routeByRounds_124 (by decide) ?_
    refine j_idiv X (pc := 125) dX1_routeByRounds_125 hw (fun hw => ?_)
    refine j_iload X (pc := 126) 4 dX1_routeByRounds_126 rfl ?_
    obtain ⟨b9, c9, f9, hr9, ho9, hc9, hw⟩ := hw
    obtain rfl := List.mem_singleton.mp hc9
    refine j_calli (j_runV (n8 := 2) (As := [vI (x6 / 4), vI x7]) (rest := []) X (pc := 128) hr9 (met_X1_beside (xl x) X.hl (xG x) h x0 (x6 / 4) x7 _ hw) ho9 (by decide) rfl q1554 q1556 qs23 q71 q1557 (by decide +kernel) dX1_routeByRounds_128 rfl ⟨Nat.le_of_ble_eq_true rfl, Nat.le_of_ble_eq_true rfl⟩ (Nat.le_of_ble_eq_true rfl) ⟨Nat.le_of_ble_eq_true rfl, Nat.le_of_ble_eq_true rfl⟩) (fun y128 h128 hw => ?_)
    refine j_istore X (pc := 131) [(8, vI y128), (0, vR x0), (4, vI x4), (5, vI x5), (6, vI x6), (7, vI x7)] dX1_routeByRounds_131 (Nat.le_of_ble_eq_true rfl) rfl ?_
    refine j_aload_n X (pc := 133) 1 dX1_routeByRounds_133 rfl rfl ?_
    refine j_getq (ci := 0) X (pc := 134) in_X1 rfl (by decide) 9 (by decide) q252 (Or.inl rfl) dX1_routeByRounds_134 hw (fun y134 hw => ?_)
    refine j_iload X (pc := 137) 4 dX1_routeByRounds_137 rfl ?_
    refine j_iald X (pc := 139) 0 rfl dX1_routeByRounds_139 hw (fun y139 hw => ?_)
    refine j_iload X (pc := 140) 4 dX1_routeByRounds_140 rfl ?_
    refine j_iconst X (pc := 142) 4 dX1_routeByRounds_142 (by decide) ?_
    refine j_irem X (pc := 143) dX1_routeByRounds_143 hw (fun hw => ?_)
    refine j_iload X (pc := 144) 5 dX1_routeByRounds_144 rfl ?_
    refine j_calli (j_runS (n8 := 2) (As := [vI (x6 - x6 / 4 * 4), vI x7]) (rest := [vI y139]) X (pc := 146) (met_X1_step (xl x) X.hl (xG x) h128 (x6 - x6 / 4 * 4) x7 _ hw) q1558 q1559 q71 q1560 (by decide +kernel) dX1_routeByRounds_146 rfl ⟨Nat.le_of_ble_eq_true rfl, Nat.le_of_ble_eq_true rfl⟩ (Nat.le_of_ble_eq_true rfl) ⟨Nat.le_of_ble_eq_true rfl, Nat.le_of_ble_eq_true rfl⟩) (fun y146 h146 hw => ?_)
    refine j_iadd X (pc := 149) dX1_routeByRounds_149 ?_
    refine j_istore X (pc := 150) [(9, vI (y139 + y146)), (8, vI y128), (0, vR x0), (4, vI x4), (5, vI x5), (6, vI x6), (7, vI x7)] dX1_routeByRounds_150 (Nat.le_of_ble_eq_true rfl) rfl ?_
    refine j_iload X (pc := 152) 1 dX1_routeByRounds_152 rfl ?_
    refine j_iconst X (pc := 154) (-1) dX1_routeByRounds_154 (by decide) ?_
    refine j_icmp_eq X (pc := 155) 192 dX1_routeByRounds_155 (by decide) hw (fun hw => ?_) (fun hw => ?_)
    · refine j_iinc X (pc := 192) 6 (x7 + 1) [(7, vI (x7 + 1)), (9, vI (y139 + y146)), (8, vI y128), (0, vR x0), (4, vI x4), (5, vI x5), (6, vI x6)] dX1_routeByRounds_192 rfl rfl (Nat.le_of_ble_eq_true rfl) rfl ?_
      refine j_goto X (pc := 195) 115 dX1_routeByRounds_195 (by decide) ?_
      refine j_lv [(0, vR x0), (4, vI x4), (5, vI x5), (6, vI x6), (7, vI (x7 + 1))] [3, 4, 5, 6, 0] rfl ?_
      refine j_cs (u' := 0) (v' := 0) (Nat.le_of_ble_eq_true rfl) (Nat.le_of_ble_eq_true rfl) ?_
      exact hw
    · refine j_iload X (pc := 158) 0 dX1_routeByRounds_158 rfl ?_
      refine j_aload_n X (pc := 160) 2 dX1_routeByRounds_160 rfl rfl ?_
      refine j_getq (ci := 0) X (pc := 161) in_X1 rfl (by decide) 9 (by decide) q252 (Or.inl rfl) dX1_routeByRounds_161 hw (fun y161 hw => ?_)
      refine j_iconst X (pc := 164) 4 dX1_routeByRounds_164 (by decide) ?_
      refine j_iload X (pc := 165) 1 dX1_routeByRounds_165 rfl ?_
      refine j_imul X (pc := 167) dX1_routeByRounds_167 ?_
      refine j_iload X (pc := 168) 6 dX1_routeByRounds_168 rfl ?_
      refine j_iadd X (pc := 170) dX1_routeByRounds_170 ?_
      refine j_iald X (pc := 171) 0 rfl dX1_routeByRounds_171 hw (fun y171 hw => ?_)
      refine j_icmp_ge X (pc := 172) 192 dX1_routeByRounds_172 (by decide) hw (fun hw => ?_) (fun hw => ?_)
      · refine j_iinc X (pc := 192) 6 (x7 + 1) [(7, vI (x7 + 1)), (9, vI (y139 + y146)), (8, vI y128), (0, vR x0), (4, vI x4), (5, vI x5), (6, vI x6)] dX1_routeByRounds_192 rfl rfl (Nat.le_of_ble_eq_true rfl) rfl ?_
        refine j_goto X (pc := 195) 115 dX1_routeByRounds_195 (by decide) ?_
        refine j_lv [(0, vR x0), (4, vI x4), (5, vI x5), (6, vI x6), (7, vI (x7 + 1))] [3, 4, 5, 6, 0] rfl ?_
        refine j_cs (u' := 0) (v' := 0) (Nat.le_of_ble_eq_true rfl) (Nat.le_of_ble_eq_true rfl) ?_
        exact hw
      · refine j_aload_n X (pc := 175) 2 dX1_routeByRounds_175 rfl rfl ?_
        refine j_getq (ci := 0) X (pc := 176) in_X1 rfl (by decide) 9 (by decide) q252 (Or.inl rfl) dX1_routeByRounds_176 hw (fun y176 hw => ?_)
        refine j_iconst X (pc := 179) 4 dX1_routeByRounds_179 (by decide) ?_
        refine j_iload X (pc := 180) 1 dX1_routeByRounds_180 rfl ?_
        refine j_imul X (pc := 182) dX1_routeByRounds_182 ?_
        refine j_iload X (pc := 183) 6 dX1_routeByRounds_183 rfl ?_
        refine j_iadd X (pc := 185) dX1_routeByRounds_185 ?_
        refine j_iload X (pc := 186) 0 dX1_routeByRounds_186 rfl ?_
        refine j_iast X (pc := 188) 0 rfl rfl dX1_routeByRounds_188 hw (fun h188 hw => ?_)
        refine j_iconst X (pc := 189) 1 dX1_routeByRounds_189 (by decide) ?_
        refine j_istore X (pc := 190) [(5, vI 1), (9, vI (y139 + y146)), (8, vI y128), (0, vR x0), (4, vI x4), (6, vI x6), (7, vI x7)] dX1_routeByRounds_190 (Nat.le_of_ble_eq_true rfl) rfl ?_
        refine j_iinc X (pc := 192) 6 (x7 + 1) [(7, vI (x7 + 1)), (5, vI 1), (9, vI (y139 + y146)), (8, vI y128), (0, vR x0), (4, vI x4), (6, vI x6)] dX1_routeByRounds_192 rfl rfl (Nat.le_of_ble_eq_true rfl) rfl ?_
        refine j_goto X (pc := 195) 115 dX1_routeByRounds_195 (by decide) ?_
        refine j_lv [(0, vR x0), (4, vI x4), (5, vI 1), (6, vI x6), (7, vI (x7 + 1))] [4, 5, 1, 6, 0] rfl ?_
        refine j_cs (u' := 0) (v' := 0) (Nat.le_of_ble_eq_true rfl) (Nat.le_of_ble_eq_true rfl) ?_
        exact hw
theorem wk_X1_routeByRounds_86 {x : CX} (X : Ok x cX1_routeByRounds RX1 rm_X1_routeByRounds 10) (er : xrt x = (Option.some Jvm.ClassFile.FieldType.int)) (en : xnm x = yX1_routeByRounds.name) {P : Int32 → AH → Prop} (hQ : xr_i x P) (Z75 : Int32 → AH → Prop) (x0 : Option Nat) (x4 : Int32) (x5 : Int32) (x6 : Int32) (h : AH) (hZ75 : ∀ x5 h, Z75 x5 h → J x h 0 0 75 [(0, vR x0), (4, vI x4), (5, vI x5)] []) (hw : w_X1_routeByRounds_86 P Z75 x0 x4 x5 x6 h) : J x h 0 0 86 [(0, vR x0), (4, vI x4), (5, vI x5), (6, vI x6)] [] := by
  refine hw (fun x5 x6 h => J x h 0 0 86 [(0, vR x0), (4, vI x4), (5, vI x5), (6, vI x6)] []) (fun x5 x6 h hw => ?_)
  refine j_iload X (pc := 86) 3 dX1_routeByRounds_86 rfl ?_
  refine j_aload_n X (pc := 88) 0 dX1_routeByRounds_88 rfl rfl ?_
  refine j_getq (ci := 0) X (pc := 89) in_X1 rfl (by decide) 9 (by decide) q252 (Or.inl rfl) dX1_routeByRounds_89 hw (fun y89 hw => ?_)
  refine j_alen X (pc := 92) dX1_routeByRounds_92 hw (fun y92 hw => ?_)
  refine j_icmp_ge X (pc := 93) 204 dX1_routeByRounds_93 (by decide) hw (fun hw => ?_) (fun hw => ?_)
  · refine j_goto X (pc := 204) 75 dX1_routeByRounds_204 (by decide) ?_
    refine j_lv [(0, vR x0), (4, vI x4), (5, vI x5)] [0, 1, 2] rfl ?_
    refine j_cs (u' := 0) (v' := 0) (Nat.le_of_ble_eq_true rfl) (Nat.le_of_ble_eq_true rfl) ?_
    exact hZ75 x5 h hw
  · refine j_aload_n X (pc := 96) 0 dX1_routeByRounds_96 rfl rfl ?_
    refine j_getq (ci := 0) X (pc := 97) in_X1 rfl (by decide) 9 (by decide) q252 (Or.inl rfl) dX1_routeByRounds_97 hw (fun y97 hw => ?_)
    refine j_iload X (pc := 100) 3 dX1_routeByRounds_100 rfl ?_
    refine j_iald X (pc := 102) 0 rfl dX1_routeByRounds_102 hw (fun y102 hw => ?_)
    refine j_ldcw X (pc := 103) dX1_routeByRounds_103 q1549 ?_
    refine j_icmp_ne X (pc := 106) 112 dX1_routeByRounds_106 (by decide) hw (fun hw => ?_) (fun hw => ?_)
    · refine j_goto X (pc := 109) 198 dX1_routeByRounds_109 (by decide) ?_
      refine j_iinc X (pc := 198) 3 (x6 + 1) [(6, vI (x6 + 1)), (0, vR x0), (4, vI x4), (5, vI x5)] dX1_routeByRounds_198 rfl rfl (Nat.le_of_ble_eq_true rfl) rfl ?_
      refine j_goto X (pc := 201) 86 dX1_routeByRounds_201 (by decide) ?_
      refine j_lv [(0, vR x0), (4, vI x4), (5, vI x5), (6, vI (x6 + 1))] [1, 2, 3, 0] rfl ?_
      refine j_cs (u' := 0) (v' := 0) (Nat.le_of_ble_eq_true rfl) (Nat.le_of_ble_eq_true rfl) ?_
      exact hw
    · refine j_iconst X (pc := 112) 0 dX1_routeByRounds_112 (by decide) ?_
      refine j_istore X (pc := 113) [(7, vI 0), (0, vR x0), (4, vI x4), (5, vI x5), (6, vI x6)] dX1_routeByRounds_113 (Nat.le_of_ble_eq_true rfl) rfl ?_
      refine j_lv [(0, vR x0), (4, vI x4), (5, vI x5), (6, vI x6), (7, vI 0)] [1, 2, 3, 4, 0] rfl ?_
      refine j_cs (u' := 0) (v' := 0) (Nat.le_of_ble_eq_true rfl) (Nat.le_of_ble_eq_true rfl) ?_
      exact wk_X1_routeByRounds_115 X er en hQ _ _ x0 x4 x5 x6 0 h hZ75 (fun x5_ x6_ h_ hz => hz) hw
theorem wk_X1_routeByRounds_75 {x : CX} (X : Ok x cX1_routeByRounds RX1 rm_X1_routeByRounds 10) (er : xrt x = (Option.some Jvm.ClassFile.FieldType.int)) (en : xnm x = yX1_routeByRounds.name) {P : Int32 → AH → Prop} (hQ : xr_i x P) (x0 : Option Nat) (x4 : Int32) (x5 : Int32) (h : AH) (hw : w_X1_routeByRounds_75 P x0 x4 x5 h) : J x h 0 0 75 [(0, vR x0), (4, vI x4), (5, vI x5)] [] := by
  refine hw (fun x5 h => J x h 0 0 75 [(0, vR x0), (4, vI x4), (5, vI x5)] []) (fun x5 h hw => ?_)
  refine j_iload X (pc := 75) 2 dX1_routeByRounds_75 rfl ?_
  refine j_if_eq X (pc := 77) 207 dX1_routeByRounds_77 (by decide) hw (fun hw => ?_) (fun hw => ?_)
  · refine j_aload_n X (pc := 207) 0 dX1_routeByRounds_207 rfl rfl ?_
    refine j_iload X (pc := 208) 1 dX1_routeByRounds_208 rfl ?_
    obtain ⟨b9, c9, f9, hr9, ho9, hc9, hw⟩ := hw
    obtain rfl := List.mem_singleton.mp hc9
    refine j_calli (j_runV (n8 := 1) (As := [vI x4]) (rest := []) X (pc := 210) hr9 (met_X1_least (xl x) X.hl (xG x) h x0 x4 _ hw) ho9 (by decide) rfl q1561 q1563 qs24 q71 q1564 (by decide +kernel) dX1_routeByRounds_210 rfl ⟨Nat.le_of_ble_eq_true rfl, Nat.le_of_ble_eq_true rfl⟩ (Nat.le_of_ble_eq_true rfl) ⟨Nat.le_of_ble_eq_true rfl, Nat.le_of_ble_eq_true rfl⟩) (fun y210 h210 hw => ?_)
    exact j_iret X (pc := 213) hQ er (Nat.le_of_ble_eq_true rfl) (Nat.le_of_ble_eq_true rfl) dX1_routeByRounds_213 hw
  · refine j_iconst X (pc := 80) 0 dX1_routeByRounds_80 (by decide) ?_
    refine j_istore X (pc := 81) [(5, vI 0), (0, vR x0), (4, vI x4)] dX1_routeByRounds_81 (Nat.le_of_ble_eq_true rfl) rfl ?_
    refine j_iconst X (pc := 83) 0 dX1_routeByRounds_83 (by decide) ?_
    refine j_istore X (pc := 84) [(6, vI 0), (5, vI 0), (0, vR x0), (4, vI x4)] dX1_routeByRounds_84 (Nat.le_of_ble_eq_true rfl) rfl ?_
    refine j_lv [(0, vR x0), (4, vI x4), (5, vI 0), (6, vI 0)] [2, 3, 1, 0] rfl ?_
    refine j_cs (u' := 0) (v' := 0) (Nat.le_of_ble_eq_true rfl) (Nat.le_of_ble_eq_true rfl) ?_
    exact wk_X1_routeByRounds_86 X er en hQ _ x0 x4 0 0 h (fun x5_ h_ hz => hz) hw
theorem wk_X1_routeByRounds_48 {x : CX} (X : Ok x cX1_routeByRounds RX1 rm_X1_routeByRounds 10) (er : xrt x = (Option.some Jvm.ClassFile.FieldType.int)) (en : xnm x = yX1_routeByRounds.name) {P : Int32 → AH → Prop} (hQ : xr_i x P) (x0 : Option Nat) (x3 : Int32) (x4 : Int32) (x5 : Int32) (h : AH) (hw : w_X1_routeByRounds_48 P x0 x3 x4 x5 h) : J x h 0 0 48 [(0, vR x0), (3, vI x3), (4, vI x4), (5, vI x5)] [] := by
  refine hw (fun x5 h => J x h 0 0 48 [(0, vR x0), (3, vI x3), (4, vI x4), (5, vI x5)] []) (fun x5 h hw => ?_)
  refine j_iload X (pc := 48) 3 dX1_routeByRounds_48 rfl ?_
  refine j_iconst X (pc := 50) 4 dX1_routeByRounds_50 (by decide) ?_
  refine j_icmp_ge X (pc := 51) 72 dX1_routeByRounds_51 (by decide) hw (fun hw => ?_) (fun hw => ?_)
  · refine j_iconst X (pc := 72) 1 dX1_routeByRounds_72 (by decide) ?_
    refine j_istore X (pc := 73) [(5, vI 1), (0, vR x0), (3, vI x3), (4, vI x4)] dX1_routeByRounds_73 (Nat.le_of_ble_eq_true rfl) rfl ?_
    refine j_lv [(0, vR x0), (4, vI x4), (5, vI 1)] [1, 3, 0] rfl ?_
    refine j_cs (u' := 0) (v' := 0) (Nat.le_of_ble_eq_true rfl) (Nat.le_of_ble_eq_true rfl) ?_
    exact wk_X1_routeByRounds_75 X er en hQ x0 x4 1 h hw
  · refine j_aload_n X (pc := 54) 0 dX1_routeByRounds_54 rfl rfl ?_
    refine j_getq (ci := 0) X (pc := 55) in_X1 rfl (by decide) 9 (by decide) q252 (Or.inl rfl) dX1_routeByRounds_55 hw (fun y55 hw => ?_)
    refine j_iconst X (pc := 58) 4 dX1_routeByRounds_58 (by decide) ?_
    refine j_iload_n X (pc := 59) 1 dX1_routeByRounds_59 rfl rfl ?_
    refine j_imul X (pc := 60) dX1_routeByRounds_60 ?_
    refine j_iload X (pc := 61) 3 dX1_routeByRounds_61 rfl ?_
    refine j_iadd X (pc := 63) dX1_routeByRounds_63 ?_
    refine j_iconst X (pc := 64) 1 dX1_routeByRounds_64 (by decide) ?_
    refine j_iast X (pc := 65) 0 rfl rfl dX1_routeByRounds_65 hw (fun h65 hw => ?_)
    refine j_iinc X (pc := 66) 3 (x5 + 1) [(5, vI (x5 + 1)), (0, vR x0), (3, vI x3), (4, vI x4)] dX1_routeByRounds_66 rfl rfl (Nat.le_of_ble_eq_true rfl) rfl ?_
    refine j_goto X (pc := 69) 48 dX1_routeByRounds_69 (by decide) ?_
    refine j_lv [(0, vR x0), (3, vI x3), (4, vI x4), (5, vI (x5 + 1))] [1, 2, 3, 0] rfl ?_
    refine j_cs (u' := 0) (v' := 0) (Nat.le_of_ble_eq_true rfl) (Nat.le_of_ble_eq_true rfl) ?_
    exact hw
theorem met_X1_routeByRounds (l : Launch) (hlt : l.stackTraces = false) (G : GG) (h : AH) (a0 : Option Nat) (a1 : Option Nat) (a2 : Option Nat) (P : Int32 → AH → Prop) (hw : w_X1_routeByRounds a0 a1 a2 h P) : ct_i l yX1_routeByRounds (ws_ yX1_routeByRounds cX1_routeByRounds 10 (Option.some Jvm.ClassFile.FieldType.int)) rm_X1_routeByRounds G h [vR a0, vR a1, vR a2] P := by
  refine j_starti hlt [(0, vR a0), (1, vR a1), (2, vR a2)] (plainFor_of_name (by decide)) rfl rfl (fun x X eG er en hQ => ?_)
  subst eG
  refine j_aload_n X (pc := 0) 0 dX1_routeByRounds_0 rfl rfl ?_
  refine j_aload_n X (pc := 1) 1 dX1_routeByRounds_1 rfl rfl ?_
  obtain ⟨b9, c9, f9, hr9, ho9, hc9, hw⟩ := hw
  obtain rfl := List.mem_singleton.mp hc9
  refine j_callv (j_runV (n8 := 1) (As := [vR a1]) (rest := []) X (pc := 2) hr9 (met_X1_layFree (xl x) X.hl (xG x) h a0 a1 _ hw) ho9 (by decide) rfl q1531 q1533 qs20 q71 q1534 (by decide +kernel) dX1_routeByRounds_2 rfl ⟨Nat.le_of_ble_eq_true rfl, Nat.le_of_ble_eq_true rfl⟩ (Nat.le_of_ble_eq_true rfl) ⟨Nat.le_of_ble_eq_true rfl, Nat.le_of_ble_eq_true rfl⟩) (fun h2 hw => ?_)
  refine j_aload_n X (pc := 5) 0 dX1_routeByRounds_5 rfl rfl ?_
  refine j_aload_n X (pc := 6) 1 dX1_routeByRounds_6 rfl rfl ?_
  refine j_aload_n X (pc := 7) 2 dX1_routeByRounds_7 rfl rfl ?_
  obtain ⟨b9, c9, f9, hr9, ho9, hc9, hw⟩ := hw
  obtain rfl := List.mem_singleton.mp hc9
  refine j_callq (j_runV (n8 := 0) (As := []) (rest := [vR a1, vR a0]) X (pc := 8) hr9 (met_X15_from (xl x) X.hl (xG x) h2 a2 _ hw) ho9 (by decide) rfl q1535 q1303 q1304 q113 q1305 (by decide +kernel) dX1_routeByRounds_8 rfl ⟨Nat.le_of_ble_eq_true rfl, Nat.le_of_ble_eq_true rfl⟩ (Nat.le_of_ble_eq_true rfl) ⟨Nat.le_of_ble_eq_true rfl, Nat.le_of_ble_eq_true rfl⟩) (fun y8 h8 hw => ?_)
  obtain ⟨b9, c9, f9, hr9, ho9, hc9, hw⟩ := hw
  obtain rfl := List.mem_singleton.mp hc9
  refine j_calli (j_runV (n8 := 2) (As := [vR a1, vR y8]) (rest := []) X (pc := 11) hr9 (met_X1_cellOf (xl x) X.hl (xG x) h8 a0 a1 y8 _ hw) ho9 (by decide) rfl q1536 q1538 qs21 q71 q1539 (by decide +kernel) dX1_routeByRounds_11 rfl ⟨Nat.le_of_ble_eq_true rfl, Nat.le_of_ble_eq_true rfl⟩ (Nat.le_of_ble_eq_true rfl) ⟨Nat.le_of_ble_eq_true rfl, Nat.le_of_ble_eq_true rfl⟩) (fun y11 h11 hw => ?_)
  refine j_istore_n X (pc := 14) [(3, vI y11), (0, vR a0), (1, vR a1), (2, vR a2)] dX1_routeByRounds_14 rfl (Nat.le_of_ble_eq_true rfl) rfl ?_
  refine j_aload_n X (pc := 15) 1 dX1_routeByRounds_15 rfl rfl ?_
  refine j_aload_n X (pc := 16) 2 dX1_routeByRounds_16 rfl rfl ?_
  refine j_aload_n X (pc := 17) 3 dX1_routeByRounds_17 rfl rfl ?_
  obtain ⟨b9, c9, f9, hr9, ho9, hc9, hw⟩ := hw
  obtain rfl := List.mem_singleton.mp hc9
  refine j_callq (j_runV (n8 := 0) (As := []) (rest := [vR a1, vR a0]) X (pc := 18) hr9 (met_X15_to (xl x) X.hl (xG x) h11 a2 _ hw) ho9 (by decide) rfl q1548 q1311 q1312 q113 q1313 (by decide +kernel) dX1_routeByRounds_18 rfl ⟨Nat.le_of_ble_eq_true rfl, Nat.le_of_ble_eq_true rfl⟩ (Nat.le_of_ble_eq_true rfl) ⟨Nat.le_of_ble_eq_true rfl, Nat.le_of_ble_eq_true rfl⟩) (fun y18 h18 hw => ?_)
  obtain ⟨b9, c9, f9, hr9, ho9, hc9, hw⟩ := hw
  obtain rfl := List.mem_singleton.mp hc9
  refine j_calli (j_runV (n8 := 2) (As := [vR a1, vR y18]) (rest := []) X (pc := 21) hr9 (met_X1_cellOf (xl x) X.hl (xG x) h18 a0 a1 y18 _ hw) ho9 (by decide) rfl q1536 q1538 qs21 q71 q1539 (by decide +kernel) dX1_routeByRounds_21 rfl ⟨Nat.le_of_ble_eq_true rfl, Nat.le_of_ble_eq_true rfl⟩ (Nat.le_of_ble_eq_true rfl) ⟨Nat.le_of_ble_eq_true rfl, Nat.le_of_ble_eq_true rfl⟩) (fun y21 h21 hw => ?_)
  refine j_istore X (pc := 24) [(4, vI y21), (3, vI y11), (0, vR a0), (1, vR a1), (2, vR a2)] dX1_routeByRounds_24 (Nat.le_of_ble_eq_true rfl) rfl ?_
  refine j_iload_n X (pc := 26) 1 dX1_routeByRounds_26 rfl rfl ?_
  refine j_iconst X (pc := 27) (-1) dX1_routeByRounds_27 (by decide) ?_
  refine j_icmp_eq X (pc := 28) 37 dX1_routeByRounds_28 (by decide) hw (fun hw => ?_) (fun hw => ?_)
  · refine j_ldcw X (pc := 37) dX1_routeByRounds_37 q1549 ?_
    exact j_iret X (pc := 40) hQ er (Nat.le_of_ble_eq_true rfl) (Nat.le_of_ble_eq_true rfl) dX1_routeByRounds_40 hw
  · refine j_iload X (pc := 31) 0 dX1_routeByRounds_31 rfl ?_
    refine j_iconst X (pc := 33) (-1) dX1_routeByRounds_33 (by decide) ?_
    refine j_icmp_ne X (pc := 34) 41 dX1_routeByRounds_34 (by decide) hw (fun hw => ?_) (fun hw => ?_)
    · refine j_ldcw X (pc := 37) dX1_routeByRounds_37 q1549 ?_
      exact j_iret X (pc := 40) hQ er (Nat.le_of_ble_eq_true rfl) (Nat.le_of_ble_eq_true rfl) dX1_routeByRounds_40 hw
    · refine j_aload_n X (pc := 41) 2 dX1_routeByRounds_41 rfl rfl ?_
      obtain ⟨b9, c9, f9, hr9, ho9, hc9, hw⟩ := hw
      obtain rfl := List.mem_singleton.mp hc9
      refine j_callv (j_runV (n8 := 0) (As := []) (rest := []) X (pc := 42) hr9 (met_X1_clearCosts (xl x) X.hl (xG x) h21 a0 _ hw) ho9 (by decide) rfl q1550 q1552 qs22 q71 q1553 (by decide +kernel) dX1_routeByRounds_42 rfl ⟨Nat.le_of_ble_eq_true rfl, Nat.le_of_ble_eq_true rfl⟩ (Nat.le_of_ble_eq_true rfl) ⟨Nat.le_of_ble_eq_true rfl, Nat.le_of_ble_eq_true rfl⟩) (fun h42 hw => ?_)
      refine j_iconst X (pc := 45) 0 dX1_routeByRounds_45 (by decide) ?_
      refine j_istore X (pc := 46) [(5, vI 0), (4, vI y21), (3, vI y11), (0, vR a0), (1, vR a1), (2, vR a2)] dX1_routeByRounds_46 (Nat.le_of_ble_eq_true rfl) rfl ?_
      refine j_lv [(0, vR a0), (3, vI y11), (4, vI y21), (5, vI 0)] [3, 2, 1, 0] rfl ?_
      refine j_cs (u' := 0) (v' := 0) (Nat.le_of_ble_eq_true rfl) (Nat.le_of_ble_eq_true rfl) ?_
      exact wk_X1_routeByRounds_48 X er en hQ a0 y11 y21 0 h42 hw
abbrev cX1_bendsByRounds : ByteArray := prog_1_method_72_code
def yX1_bendsByRounds : MethodName := ⟨RX1, "bendsByRounds", "(II)I"⟩
def dkwX1_bendsByRounds_1 : List UInt8 := [108, 172]
abbrev dktX1_bendsByRounds_1 : List UInt8 := dkwX1_bendsByRounds_1 ++ []
def dkwX1_bendsByRounds_0 : List UInt8 := [42, 27, 182, 0, 199, 78, 42, 42, 45, 42, 45, 28, 182, 1, 46, 182, 1, 172, 182, 1, 169, 17, 3, 232]
abbrev dktX1_bendsByRounds_0 : List UInt8 := dkwX1_bendsByRounds_0 ++ dktX1_bendsByRounds_1
theorem dksX1_bendsByRounds_0 : cX1_bendsByRounds.data.toList.drop 0 = dktX1_bendsByRounds_0 := by decide +kernel
theorem dksX1_bendsByRounds_1 : cX1_bendsByRounds.data.toList.drop 24 = dktX1_bendsByRounds_1 := dk_seg dksX1_bendsByRounds_0 24 rfl rfl
theorem dX1_bendsByRounds_0 : decode cX1_bendsByRounds 0 = .ok (.aload_n 0, 1) := dk_42 (dk_at dksX1_bendsByRounds_0 0 rfl rfl)
theorem dX1_bendsByRounds_1 : decode cX1_bendsByRounds 1 = .ok (.iload_n 1, 1) := dk_27 (dk_at dksX1_bendsByRounds_0 1 rfl rfl)
theorem dX1_bendsByRounds_2 : decode cX1_bendsByRounds 2 = .ok (.invokevirtual 199, 3) := dk_182 0 199 (dk_at dksX1_bendsByRounds_0 2 rfl rfl)
theorem dX1_bendsByRounds_5 : decode cX1_bendsByRounds 5 = .ok (.astore_n 3, 1) := dk_78 (dk_at dksX1_bendsByRounds_0 5 rfl rfl)
theorem dX1_bendsByRounds_6 : decode cX1_bendsByRounds 6 = .ok (.aload_n 0, 1) := dk_42 (dk_at dksX1_bendsByRounds_0 6 rfl rfl)
theorem dX1_bendsByRounds_7 : decode cX1_bendsByRounds 7 = .ok (.aload_n 0, 1) := dk_42 (dk_at dksX1_bendsByRounds_0 7 rfl rfl)
theorem dX1_bendsByRounds_8 : decode cX1_bendsByRounds 8 = .ok (.aload_n 3, 1) := dk_45 (dk_at dksX1_bendsByRounds_0 8 rfl rfl)
theorem dX1_bendsByRounds_9 : decode cX1_bendsByRounds 9 = .ok (.aload_n 0, 1) := dk_42 (dk_at dksX1_bendsByRounds_0 9 rfl rfl)
theorem dX1_bendsByRounds_10 : decode cX1_bendsByRounds 10 = .ok (.aload_n 3, 1) := dk_45 (dk_at dksX1_bendsByRounds_0 10 rfl rfl)
theorem dX1_bendsByRounds_11 : decode cX1_bendsByRounds 11 = .ok (.iload_n 2, 1) := dk_28 (dk_at dksX1_bendsByRounds_0 11 rfl rfl)
theorem dX1_bendsByRounds_12 : decode cX1_bendsByRounds 12 = .ok (.invokevirtual 302, 3) := dk_182 1 46 (dk_at dksX1_bendsByRounds_0 12 rfl rfl)
theorem dX1_bendsByRounds_15 : decode cX1_bendsByRounds 15 = .ok (.invokevirtual 428, 3) := dk_182 1 172 (dk_at dksX1_bendsByRounds_0 15 rfl rfl)
theorem dX1_bendsByRounds_18 : decode cX1_bendsByRounds 18 = .ok (.invokevirtual 425, 3) := dk_182 1 169 (dk_at dksX1_bendsByRounds_0 18 rfl rfl)
theorem dX1_bendsByRounds_21 : decode cX1_bendsByRounds 21 = .ok (.sipush 1000, 3) := dk_17 3 232 (dk_at dksX1_bendsByRounds_0 21 rfl rfl)
theorem dX1_bendsByRounds_24 : decode cX1_bendsByRounds 24 = .ok (.idiv, 1) := dk_108 (dk_at dksX1_bendsByRounds_1 0 rfl rfl)
theorem dX1_bendsByRounds_25 : decode cX1_bendsByRounds 25 = .ok (.ireturn, 1) := dk_172 (dk_at dksX1_bendsByRounds_1 1 rfl rfl)
theorem q1577 : (Jvm.Cond.methodLink "Plugboard" (428 : Nat) ({ cls := "Plugboard", name := "routeByRounds", desc := "(LPlugboard$Board;LPlugboard$Connector;)I" } : Jvm.MethodName)) ∈ lw_all := lw_g (lw_at lw_m7 67 rfl) rfl
theorem q1579 : (Jvm.Cond.instanceMethod ({ cls := "Plugboard", name := "routeByRounds", desc := "(LPlugboard$Board;LPlugboard$Connector;)I" } : Jvm.MethodName)) ∈ lw_all := lw_g (lw_at lw_m7 69 rfl) rfl
theorem q1580 : (Jvm.Cond.code ({ cls := "Plugboard", name := "routeByRounds", desc := "(LPlugboard$Board;LPlugboard$Connector;)I" } : Jvm.MethodName) prog_1_method_69_code (10 : Nat) (Option.some Jvm.ClassFile.FieldType.int)) ∈ lw_all := lw_g (lw_at lw_m7 70 rfl) rfl
abbrev rm_X1_bendsByRounds : Room := { frames := 9, cells := 4, slots := 19, locals := 146 }
def w_X1_bendsByRounds (a0 : Option Nat) (a1 : Int32) (a2 : Int32) (h : AH) (P : Int32 → AH → Prop) (PX : String → AH → Prop) : Prop :=
  is_c h a0 [0] (
  w_X1_board a0 a1 h (fun y2 h2 =>
  is_c h2 a0 [0] (
  w_X1_connector a0 y2 a2 h2 (fun y12 h12 =>
  is_c h12 a0 [0] (
  w_X1_routeByRounds a0 y2 y12 h12 (fun y15 h15 =>
  is_c h15 a0 [0] (
  w_X1_requireWay a0 y15 h15 (fun y18 h18 =>
  ¬ (1000 : Int32) = 0 ∧
  P (y18 / 1000) h18) PX)))) PX)) PX)
theorem met_X1_bendsByRounds (l : Launch) (hlt : l.stackTraces = false) (G : GG) (h : AH) (a0 : Option Nat) (a1 : Int32) (a2 : Int32) (P : Int32 → AH → Prop) (PX : String → AH → Prop) (hw : w_X1_bendsByRounds a0 a1 a2 h P PX) : cx_i l yX1_bendsByRounds (ws_ yX1_bendsByRounds cX1_bendsByRounds 4 (Option.some Jvm.ClassFile.FieldType.int)) rm_X1_bendsByRounds G h [vR a0, vI a1, vI a2] P PX := by
  refine j_startXi hlt [(0, vR a0), (1, vI a1), (2, vI a2)] (by decide) rfl rfl (fun x X eG er en hQ hT hex => ?_)
  subst eG
  refine j_aload_n X (pc := 0) 0 dX1_bendsByRounds_0 rfl rfl ?_
  refine j_iload_n X (pc := 1) 1 dX1_bendsByRounds_1 rfl rfl ?_
  obtain ⟨b9, c9, f9, hr9, ho9, hc9, hw⟩ := hw
  obtain rfl := List.mem_singleton.mp hc9
  refine j_callXq (j_runVX (n8 := 1) (As := [vI a1]) (rest := []) X (pc := 2) hr9 (met_X1_board (xl x) X.hl (xG x) h a0 a1 _ _ hw) ho9 (by decide) rfl q297 q299 qs0 q71 q300 (by decide +kernel) dX1_bendsByRounds_2 rfl ⟨Nat.le_of_ble_eq_true rfl, Nat.le_of_ble_eq_true rfl⟩ (Nat.le_of_ble_eq_true rfl) ⟨Nat.le_of_ble_eq_true rfl, Nat.le_of_ble_eq_true rfl⟩) (fun E h9 hx => j_out X hT hex (Nat.le_of_ble_eq_true rfl) (Nat.le_of_ble_eq_true rfl) hx) (fun y2 h2 hw => ?_)
  refine j_astore_n X (pc := 5) [(3, vR y2), (0, vR a0), (1, vI a1), (2, vI a2)] dX1_bendsByRounds_5 rfl (Nat.le_of_ble_eq_true rfl) rfl ?_
  refine j_aload_n X (pc := 6) 1 dX1_bendsByRounds_6 rfl rfl ?_
  refine j_aload_n X (pc := 7) 1 dX1_bendsByRounds_7 rfl rfl ?_
  refine j_aload_n X (pc := 8) 0 dX1_bendsByRounds_8 rfl rfl ?_
  refine j_aload_n X (pc := 9) 1 dX1_bendsByRounds_9 rfl rfl ?_
  refine j_aload_n X (pc := 10) 0 dX1_bendsByRounds_10 rfl rfl ?_
  refine j_iload_n X (pc := 11) 3 dX1_bendsByRounds_11 rfl rfl ?_
  obtain ⟨b9, c9, f9, hr9, ho9, hc9, hw⟩ := hw
  obtain rfl := List.mem_singleton.mp hc9
  refine j_callXq (j_runVX (n8 := 2) (As := [vR y2, vI a2]) (rest := [vR y2, vR a0, vR a0]) X (pc := 12) hr9 (met_X1_connector (xl x) X.hl (xG x) h2 a0 y2 a2 _ _ hw) ho9 (by decide) rfl q1293 q1295 qs14 q71 q1296 (by decide +kernel) dX1_bendsByRounds_12 rfl ⟨Nat.le_of_ble_eq_true rfl, Nat.le_of_ble_eq_true rfl⟩ (Nat.le_of_ble_eq_true rfl) ⟨Nat.le_of_ble_eq_true rfl, Nat.le_of_ble_eq_true rfl⟩) (fun E h9 hx => j_out X hT hex (Nat.le_of_ble_eq_true rfl) (Nat.le_of_ble_eq_true rfl) hx) (fun y12 h12 hw => ?_)
  obtain ⟨b9, c9, f9, hr9, ho9, hc9, hw⟩ := hw
  obtain rfl := List.mem_singleton.mp hc9
  refine j_calli (j_runV (n8 := 2) (As := [vR y2, vR y12]) (rest := [vR a0]) X (pc := 15) hr9 (met_X1_routeByRounds (xl x) X.hl (xG x) h12 a0 y2 y12 _ hw) ho9 (by decide) rfl q1577 q1579 qs26 q71 q1580 (by decide +kernel) dX1_bendsByRounds_15 rfl ⟨Nat.le_of_ble_eq_true rfl, Nat.le_of_ble_eq_true rfl⟩ (Nat.le_of_ble_eq_true rfl) ⟨Nat.le_of_ble_eq_true rfl, Nat.le_of_ble_eq_true rfl⟩) (fun y15 h15 hw => ?_)
  obtain ⟨b9, c9, f9, hr9, ho9, hc9, hw⟩ := hw
  obtain rfl := List.mem_singleton.mp hc9
  refine j_callXi (j_runVX (n8 := 1) (As := [vI y15]) (rest := []) X (pc := 18) hr9 (met_X1_requireWay (xl x) X.hl (xG x) h15 a0 y15 _ _ hw) ho9 (by decide) rfl q1566 q1568 qs25 q71 q1569 (by decide +kernel) dX1_bendsByRounds_18 rfl ⟨Nat.le_of_ble_eq_true rfl, Nat.le_of_ble_eq_true rfl⟩ (Nat.le_of_ble_eq_true rfl) ⟨Nat.le_of_ble_eq_true rfl, Nat.le_of_ble_eq_true rfl⟩) (fun E h9 hx => j_out X hT hex (Nat.le_of_ble_eq_true rfl) (Nat.le_of_ble_eq_true rfl) hx) (fun y18 h18 hw => ?_)
  refine j_sipush X (pc := 21) 1000 dX1_bendsByRounds_21 (by decide) ?_
  refine j_idiv X (pc := 24) dX1_bendsByRounds_24 hw (fun hw => ?_)
  exact j_iret X (pc := 25) hQ er (Nat.le_of_ble_eq_true rfl) (Nat.le_of_ble_eq_true rfl) dX1_bendsByRounds_25 hw
