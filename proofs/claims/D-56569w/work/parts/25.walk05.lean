/-! walks (printed): Plugboard, Plugboard.Mover, PlugboardLaw, PlugboardModel -/
set_option maxRecDepth 100000
abbrev cX13_init : ByteArray := prog_12_method_1_code
def yX13_init : MethodName := ⟨RX13, "<init>", "(LPlugboard;LPlugboard$Board;LPlugboard$Shape;II)V"⟩
def dkwX13_init_6 : List UInt8 := [153, 0, 7, 4, 167, 0, 4, 3, 96, 147, 181, 0, 65, 167, 255, 147, 177]
abbrev dktX13_init_6 : List UInt8 := dkwX13_init_6 ++ []
def dkwX13_init_5 : List UInt8 := [153, 0, 7, 4, 167, 0, 4, 3, 84, 42, 89, 180, 0, 65, 42, 180, 0, 15, 25, 7, 180, 0, 62, 51]
abbrev dktX13_init_5 : List UInt8 := dkwX13_init_5 ++ dktX13_init_6
def dkwX13_init_4 : List UInt8 := [167, 0, 4, 3, 54, 8, 42, 180, 0, 15, 25, 7, 180, 0, 62, 25, 7, 45, 165, 0, 8, 21, 8]
abbrev dktX13_init_4 : List UInt8 := dkwX13_init_4 ++ dktX13_init_5
def dkwX13_init_3 : List UInt8 := [153, 0, 26, 44, 45, 25, 7, 182, 0, 54, 153, 0, 16, 44, 25, 7, 182, 0, 58, 154, 0, 7, 4]
abbrev dktX13_init_3 : List UInt8 := dkwX13_init_3 ++ dktX13_init_4
def dkwX13_init_2 : List UInt8 := [185, 0, 39, 1, 0, 153, 0, 105, 25, 6, 185, 0, 45, 1, 0, 192, 0, 49, 58, 7, 45, 182, 0, 51]
abbrev dktX13_init_2 : List UInt8 := dkwX13_init_2 ++ dktX13_init_3
def dkwX13_init_1 : List UInt8 := [16, 24, 21, 5, 104, 21, 4, 96, 181, 0, 23, 44, 182, 0, 27, 185, 0, 33, 1, 0, 58, 6, 25, 6]
abbrev dktX13_init_1 : List UInt8 := dkwX13_init_1 ++ dktX13_init_2
def dkwX13_init_0 : List UInt8 := [42, 43, 181, 0, 3, 42, 183, 0, 9, 42, 16, 12, 188, 4, 181, 0, 15, 42, 44, 181, 0, 19, 42]
abbrev dktX13_init_0 : List UInt8 := dkwX13_init_0 ++ dktX13_init_1
theorem dksX13_init_0 : cX13_init.data.toList.drop 0 = dktX13_init_0 := by decide +kernel
theorem dksX13_init_1 : cX13_init.data.toList.drop 23 = dktX13_init_1 := dk_seg dksX13_init_0 23 rfl rfl
theorem dksX13_init_2 : cX13_init.data.toList.drop 47 = dktX13_init_2 := dk_seg dksX13_init_1 24 rfl rfl
theorem dksX13_init_3 : cX13_init.data.toList.drop 71 = dktX13_init_3 := dk_seg dksX13_init_2 24 rfl rfl
theorem dksX13_init_4 : cX13_init.data.toList.drop 94 = dktX13_init_4 := dk_seg dksX13_init_3 23 rfl rfl
theorem dksX13_init_5 : cX13_init.data.toList.drop 117 = dktX13_init_5 := dk_seg dksX13_init_4 23 rfl rfl
theorem dksX13_init_6 : cX13_init.data.toList.drop 141 = dktX13_init_6 := dk_seg dksX13_init_5 24 rfl rfl
theorem dX13_init_0 : decode cX13_init 0 = .ok (.aload_n 0, 1) := dk_42 (dk_at dksX13_init_0 0 rfl rfl)
theorem dX13_init_1 : decode cX13_init 1 = .ok (.aload_n 1, 1) := dk_43 (dk_at dksX13_init_0 1 rfl rfl)
theorem dX13_init_2 : decode cX13_init 2 = .ok (.putfield 3, 3) := dk_181 0 3 (dk_at dksX13_init_0 2 rfl rfl)
theorem dX13_init_5 : decode cX13_init 5 = .ok (.aload_n 0, 1) := dk_42 (dk_at dksX13_init_0 5 rfl rfl)
theorem dX13_init_6 : decode cX13_init 6 = .ok (.invokespecial 9, 3) := dk_183 0 9 (dk_at dksX13_init_0 6 rfl rfl)
theorem dX13_init_9 : decode cX13_init 9 = .ok (.aload_n 0, 1) := dk_42 (dk_at dksX13_init_0 9 rfl rfl)
theorem dX13_init_10 : decode cX13_init 10 = .ok (.bipush 12, 2) := dk_16 12 (dk_at dksX13_init_0 10 rfl rfl)
theorem dX13_init_12 : decode cX13_init 12 = .ok (.newarray .boolean, 2) := dk_188_4 (dk_at dksX13_init_0 12 rfl rfl)
theorem dX13_init_14 : decode cX13_init 14 = .ok (.putfield 15, 3) := dk_181 0 15 (dk_at dksX13_init_0 14 rfl rfl)
theorem dX13_init_17 : decode cX13_init 17 = .ok (.aload_n 0, 1) := dk_42 (dk_at dksX13_init_0 17 rfl rfl)
theorem dX13_init_18 : decode cX13_init 18 = .ok (.aload_n 2, 1) := dk_44 (dk_at dksX13_init_0 18 rfl rfl)
theorem dX13_init_19 : decode cX13_init 19 = .ok (.putfield 19, 3) := dk_181 0 19 (dk_at dksX13_init_0 19 rfl rfl)
theorem dX13_init_22 : decode cX13_init 22 = .ok (.aload_n 0, 1) := dk_42 (dk_at dksX13_init_0 22 rfl rfl)
theorem dX13_init_23 : decode cX13_init 23 = .ok (.bipush 24, 2) := dk_16 24 (dk_at dksX13_init_1 0 rfl rfl)
theorem dX13_init_25 : decode cX13_init 25 = .ok (.iload 5, 2) := dk_21 5 (dk_at dksX13_init_1 2 rfl rfl)
theorem dX13_init_27 : decode cX13_init 27 = .ok (.imul, 1) := dk_104 (dk_at dksX13_init_1 4 rfl rfl)
theorem dX13_init_28 : decode cX13_init 28 = .ok (.iload 4, 2) := dk_21 4 (dk_at dksX13_init_1 5 rfl rfl)
theorem dX13_init_30 : decode cX13_init 30 = .ok (.iadd, 1) := dk_96 (dk_at dksX13_init_1 7 rfl rfl)
theorem dX13_init_31 : decode cX13_init 31 = .ok (.putfield 23, 3) := dk_181 0 23 (dk_at dksX13_init_1 8 rfl rfl)
theorem dX13_init_34 : decode cX13_init 34 = .ok (.aload_n 2, 1) := dk_44 (dk_at dksX13_init_1 11 rfl rfl)
theorem dX13_init_35 : decode cX13_init 35 = .ok (.invokevirtual 27, 3) := dk_182 0 27 (dk_at dksX13_init_1 12 rfl rfl)
theorem dX13_init_38 : decode cX13_init 38 = .ok (.invokeinterface 33 1, 5) := by decide +kernel
theorem dX13_init_43 : decode cX13_init 43 = .ok (.astore 6, 2) := dk_58 6 (dk_at dksX13_init_1 20 rfl rfl)
theorem dX13_init_45 : decode cX13_init 45 = .ok (.aload 6, 2) := dk_25 6 (dk_at dksX13_init_1 22 rfl rfl)
theorem dX13_init_47 : decode cX13_init 47 = .ok (.invokeinterface 39 1, 5) := by decide +kernel
theorem dX13_init_52 : decode cX13_init 52 = .ok (.ifCond .eq 105, 3) := dk_153 0 105 (dk_at dksX13_init_2 5 rfl rfl)
theorem dX13_init_55 : decode cX13_init 55 = .ok (.aload 6, 2) := dk_25 6 (dk_at dksX13_init_2 8 rfl rfl)
theorem dX13_init_57 : decode cX13_init 57 = .ok (.invokeinterface 45 1, 5) := by decide +kernel
theorem dX13_init_62 : decode cX13_init 62 = .ok (.checkcast 49, 3) := dk_192 0 49 (dk_at dksX13_init_2 15 rfl rfl)
theorem dX13_init_65 : decode cX13_init 65 = .ok (.astore 7, 2) := dk_58 7 (dk_at dksX13_init_2 18 rfl rfl)
theorem dX13_init_67 : decode cX13_init 67 = .ok (.aload_n 3, 1) := dk_45 (dk_at dksX13_init_2 20 rfl rfl)
theorem dX13_init_68 : decode cX13_init 68 = .ok (.invokevirtual 51, 3) := dk_182 0 51 (dk_at dksX13_init_2 21 rfl rfl)
theorem dX13_init_71 : decode cX13_init 71 = .ok (.ifCond .eq 26, 3) := dk_153 0 26 (dk_at dksX13_init_3 0 rfl rfl)
theorem dX13_init_74 : decode cX13_init 74 = .ok (.aload_n 2, 1) := dk_44 (dk_at dksX13_init_3 3 rfl rfl)
theorem dX13_init_75 : decode cX13_init 75 = .ok (.aload_n 3, 1) := dk_45 (dk_at dksX13_init_3 4 rfl rfl)
theorem dX13_init_76 : decode cX13_init 76 = .ok (.aload 7, 2) := dk_25 7 (dk_at dksX13_init_3 5 rfl rfl)
theorem dX13_init_78 : decode cX13_init 78 = .ok (.invokevirtual 54, 3) := dk_182 0 54 (dk_at dksX13_init_3 7 rfl rfl)
theorem dX13_init_81 : decode cX13_init 81 = .ok (.ifCond .eq 16, 3) := dk_153 0 16 (dk_at dksX13_init_3 10 rfl rfl)
theorem dX13_init_84 : decode cX13_init 84 = .ok (.aload_n 2, 1) := dk_44 (dk_at dksX13_init_3 13 rfl rfl)
theorem dX13_init_85 : decode cX13_init 85 = .ok (.aload 7, 2) := dk_25 7 (dk_at dksX13_init_3 14 rfl rfl)
theorem dX13_init_87 : decode cX13_init 87 = .ok (.invokevirtual 58, 3) := dk_182 0 58 (dk_at dksX13_init_3 16 rfl rfl)
theorem dX13_init_90 : decode cX13_init 90 = .ok (.ifCond .ne 7, 3) := dk_154 0 7 (dk_at dksX13_init_3 19 rfl rfl)
theorem dX13_init_93 : decode cX13_init 93 = .ok (.iconst 1, 1) := dk_4 (dk_at dksX13_init_3 22 rfl rfl)
theorem dX13_init_94 : decode cX13_init 94 = .ok (.goto 4, 3) := dk_167 0 4 (dk_at dksX13_init_4 0 rfl rfl)
theorem dX13_init_97 : decode cX13_init 97 = .ok (.iconst 0, 1) := dk_3 (dk_at dksX13_init_4 3 rfl rfl)
theorem dX13_init_98 : decode cX13_init 98 = .ok (.istore 8, 2) := dk_54 8 (dk_at dksX13_init_4 4 rfl rfl)
theorem dX13_init_100 : decode cX13_init 100 = .ok (.aload_n 0, 1) := dk_42 (dk_at dksX13_init_4 6 rfl rfl)
theorem dX13_init_101 : decode cX13_init 101 = .ok (.getfield 15, 3) := dk_180 0 15 (dk_at dksX13_init_4 7 rfl rfl)
theorem dX13_init_104 : decode cX13_init 104 = .ok (.aload 7, 2) := dk_25 7 (dk_at dksX13_init_4 10 rfl rfl)
theorem dX13_init_106 : decode cX13_init 106 = .ok (.getfield 62, 3) := dk_180 0 62 (dk_at dksX13_init_4 12 rfl rfl)
theorem dX13_init_109 : decode cX13_init 109 = .ok (.aload 7, 2) := dk_25 7 (dk_at dksX13_init_4 15 rfl rfl)
theorem dX13_init_111 : decode cX13_init 111 = .ok (.aload_n 3, 1) := dk_45 (dk_at dksX13_init_4 17 rfl rfl)
theorem dX13_init_112 : decode cX13_init 112 = .ok (.if_acmp .eq 8, 3) := dk_165 0 8 (dk_at dksX13_init_4 18 rfl rfl)
theorem dX13_init_115 : decode cX13_init 115 = .ok (.iload 8, 2) := dk_21 8 (dk_at dksX13_init_4 21 rfl rfl)
theorem dX13_init_117 : decode cX13_init 117 = .ok (.ifCond .eq 7, 3) := dk_153 0 7 (dk_at dksX13_init_5 0 rfl rfl)
theorem dX13_init_120 : decode cX13_init 120 = .ok (.iconst 1, 1) := dk_4 (dk_at dksX13_init_5 3 rfl rfl)
theorem dX13_init_121 : decode cX13_init 121 = .ok (.goto 4, 3) := dk_167 0 4 (dk_at dksX13_init_5 4 rfl rfl)
theorem dX13_init_124 : decode cX13_init 124 = .ok (.iconst 0, 1) := dk_3 (dk_at dksX13_init_5 7 rfl rfl)
theorem dX13_init_125 : decode cX13_init 125 = .ok (.bastore, 1) := dk_84 (dk_at dksX13_init_5 8 rfl rfl)
theorem dX13_init_126 : decode cX13_init 126 = .ok (.aload_n 0, 1) := dk_42 (dk_at dksX13_init_5 9 rfl rfl)
theorem dX13_init_127 : decode cX13_init 127 = .ok (.dup, 1) := dk_89 (dk_at dksX13_init_5 10 rfl rfl)
theorem dX13_init_128 : decode cX13_init 128 = .ok (.getfield 65, 3) := dk_180 0 65 (dk_at dksX13_init_5 11 rfl rfl)
theorem dX13_init_131 : decode cX13_init 131 = .ok (.aload_n 0, 1) := dk_42 (dk_at dksX13_init_5 14 rfl rfl)
theorem dX13_init_132 : decode cX13_init 132 = .ok (.getfield 15, 3) := dk_180 0 15 (dk_at dksX13_init_5 15 rfl rfl)
theorem dX13_init_135 : decode cX13_init 135 = .ok (.aload 7, 2) := dk_25 7 (dk_at dksX13_init_5 18 rfl rfl)
theorem dX13_init_137 : decode cX13_init 137 = .ok (.getfield 62, 3) := dk_180 0 62 (dk_at dksX13_init_5 20 rfl rfl)
theorem dX13_init_140 : decode cX13_init 140 = .ok (.baload, 1) := dk_51 (dk_at dksX13_init_5 23 rfl rfl)
theorem dX13_init_141 : decode cX13_init 141 = .ok (.ifCond .eq 7, 3) := dk_153 0 7 (dk_at dksX13_init_6 0 rfl rfl)
theorem dX13_init_144 : decode cX13_init 144 = .ok (.iconst 1, 1) := dk_4 (dk_at dksX13_init_6 3 rfl rfl)
theorem dX13_init_145 : decode cX13_init 145 = .ok (.goto 4, 3) := dk_167 0 4 (dk_at dksX13_init_6 4 rfl rfl)
theorem dX13_init_148 : decode cX13_init 148 = .ok (.iconst 0, 1) := dk_3 (dk_at dksX13_init_6 7 rfl rfl)
theorem dX13_init_149 : decode cX13_init 149 = .ok (.iadd, 1) := dk_96 (dk_at dksX13_init_6 8 rfl rfl)
theorem dX13_init_150 : decode cX13_init 150 = .ok (.i2s, 1) := dk_147 (dk_at dksX13_init_6 9 rfl rfl)
theorem dX13_init_151 : decode cX13_init 151 = .ok (.putfield 65, 3) := dk_181 0 65 (dk_at dksX13_init_6 10 rfl rfl)
theorem dX13_init_154 : decode cX13_init 154 = .ok (.goto (-109), 3) := dk_167 255 147 (dk_at dksX13_init_6 13 rfl rfl)
theorem dX13_init_157 : decode cX13_init 157 = .ok (.return_, 1) := dk_177 (dk_at dksX13_init_6 16 rfl rfl)
theorem q576 : (Jvm.Cond.fieldLinkNest "Plugboard$Mover" (62 : Nat) "Plugboard$Shape" "number" "I" "Plugboard") ∈ lw_tbl := lw_at lw_m3 26 rfl
theorem q1128 : (Jvm.Cond.methodLink "Plugboard$Mover" (9 : Nat) ({ cls := "java/lang/Object", name := "<init>", desc := "()V" } : Jvm.MethodName)) ∈ lw_all := lw_g (lw_at lw_m5 98 rfl) rfl
theorem q1129 : (Jvm.Cond.methodLink "Plugboard$Mover" (27 : Nat) ({ cls := "Plugboard$Board", name := "seen", desc := "()Ljava/lang/Iterable;" } : Jvm.MethodName)) ∈ lw_all := lw_g (lw_at lw_m5 99 rfl) rfl
theorem q1131 : (Jvm.Cond.methodLink "Plugboard$Mover" (33 : Nat) ({ cls := "java/lang/Iterable", name := "iterator", desc := "()Ljava/util/Iterator;" } : Jvm.MethodName)) ∈ lw_all := lw_g (lw_at lw_m5 101 rfl) rfl
theorem q1133 : (Jvm.Cond.methodLink "Plugboard$Mover" (39 : Nat) ({ cls := "java/util/Iterator", name := "hasNext", desc := "()Z" } : Jvm.MethodName)) ∈ lw_all := lw_g (lw_at lw_m5 103 rfl) rfl
theorem q1135 : (Jvm.Cond.methodLink "Plugboard$Mover" (45 : Nat) ({ cls := "java/util/Iterator", name := "next", desc := "()Ljava/lang/Object;" } : Jvm.MethodName)) ∈ lw_all := lw_g (lw_at lw_m5 105 rfl) rfl
theorem q1136 : (Jvm.Cond.classLink "Plugboard$Mover" (49 : Nat) "Plugboard$Shape") ∈ lw_all := lw_g (lw_at lw_m5 106 rfl) rfl
theorem q1137 : (Jvm.Cond.methodLink "Plugboard$Mover" (51 : Nat) ({ cls := "Plugboard$Shape", name := "isFrame", desc := "()Z" } : Jvm.MethodName)) ∈ lw_all := lw_g (lw_at lw_m5 107 rfl) rfl
theorem q1146 : (Jvm.Cond.methodLink "Plugboard$Mover" (54 : Nat) ({ cls := "Plugboard$Board", name := "covers", desc := "(LPlugboard$Shape;LPlugboard$Shape;)Z" } : Jvm.MethodName)) ∈ lw_all := lw_g (lw_at lw_m5 116 rfl) rfl
theorem q1147 : (Jvm.Cond.instanceMethod ({ cls := "Plugboard$Board", name := "covers", desc := "(LPlugboard$Shape;LPlugboard$Shape;)Z" } : Jvm.MethodName)) ∈ lw_all := lw_g (lw_at lw_m5 117 rfl) rfl
theorem q1148 : (Jvm.Cond.selects "Plugboard$Board" ({ cls := "Plugboard$Board", name := "covers", desc := "(LPlugboard$Shape;LPlugboard$Shape;)Z" } : Jvm.MethodName) ({ cls := "Plugboard$Board", name := "covers", desc := "(LPlugboard$Shape;LPlugboard$Shape;)Z" } : Jvm.MethodName)) ∈ lw_all := lw_g (lw_at lw_m5 118 rfl) rfl
theorem q1149 : (Jvm.Cond.code ({ cls := "Plugboard$Board", name := "covers", desc := "(LPlugboard$Shape;LPlugboard$Shape;)Z" } : Jvm.MethodName) prog_3_method_11_code (5 : Nat) (Option.some Jvm.ClassFile.FieldType.boolean)) ∈ lw_all := lw_g (lw_at lw_m5 119 rfl) rfl
theorem q1156 : (Jvm.Cond.methodLink "Plugboard$Mover" (58 : Nat) ({ cls := "Plugboard$Board", name := "isLockedByOther", desc := "(LPlugboard$Shape;)Z" } : Jvm.MethodName)) ∈ lw_all := lw_g (lw_at lw_m5 126 rfl) rfl
theorem q1157 : (Jvm.Cond.fieldLink "Plugboard$Mover" (19 : Nat) "Plugboard$Mover" "board" "LPlugboard$Board;") ∈ lw_all := lw_g (lw_at lw_m5 127 rfl) rfl
theorem q1158 : (Jvm.Cond.fieldLink "Plugboard$Mover" (15 : Nat) "Plugboard$Mover" "areMoved" "[Z") ∈ lw_all := lw_g (lw_at lw_m5 128 rfl) rfl
theorem q1159 : (Jvm.Cond.fieldLink "Plugboard$Mover" (23 : Nat) "Plugboard$Mover" "by" "I") ∈ lw_all := lw_g (lw_at lw_m5 129 rfl) rfl
theorem q1160 : (Jvm.Cond.fieldLink "Plugboard$Mover" (65 : Nat) "Plugboard$Mover" "count" "S") ∈ lw_all := lw_g (lw_at lw_m5 130 rfl) rfl
theorem q1161 : (Jvm.Cond.fieldLink "Plugboard$Mover" (3 : Nat) "Plugboard$Mover" "this$0" "LPlugboard;") ∈ lw_all := lw_g (lw_at lw_m5 131 rfl) rfl
abbrev rm_X13_init : Room := { frames := 5, cells := 3, slots := 15, locals := 105 }
def w_X13_init_125 (P : AH → Prop) (Z45 : AH → Prop) (x0 : Option Nat) (x2 : Option Nat) (x3 : Option Nat) (x6 : Option Nat) (x7 : Option Nat) (t0 : Int32) (t1 : Int32) (t2 : Option Nat) (h : AH) : Prop :=
  nrw .boolean t0 ∧
  s_i h t2 1 t1 t0 fun h125 =>
  g_i h125 x0 11 3 fun y128 =>
  g_q h125 x0 11 1 fun y132 =>
  g_iS h125 x7 0 fun y137 =>
  l_i h125 y132 1 y137 fun y140 =>
  ((y140 = 0 →
    nrw .short ((Int32.toInt16 (y128 + 0)).toInt32) ∧
    p_v h125 x0 11 3 (vI ((Int32.toInt16 (y128 + 0)).toInt32)) fun h151 =>
    Z45 h151) ∧
   (¬ y140 = 0 →
    nrw .short ((Int32.toInt16 (y128 + 1)).toInt32) ∧
    p_v h125 x0 11 3 (vI ((Int32.toInt16 (y128 + 1)).toInt32)) fun h151 =>
    Z45 h151))
def w_X13_init_98 (P : AH → Prop) (Z45 : AH → Prop) (x0 : Option Nat) (x2 : Option Nat) (x3 : Option Nat) (x6 : Option Nat) (x7 : Option Nat) (t0 : Int32) (h : AH) : Prop :=
  g_q h x0 11 1 fun y101 =>
  g_iS h x7 0 fun y106 =>
  ((x7 = x3 →
    w_X13_init_125 P Z45 x0 x2 x3 x6 x7 1 y106 y101 h) ∧
   (¬ x7 = x3 →
    ((t0 = 0 →
      w_X13_init_125 P Z45 x0 x2 x3 x6 x7 0 y106 y101 h) ∧
     (¬ t0 = 0 →
      w_X13_init_125 P Z45 x0 x2 x3 x6 x7 1 y106 y101 h))))
def w_X13_init_45 (P : AH → Prop) (x0 : Option Nat) (x2 : Option Nat) (x3 : Option Nat) (x6 : Option Nat) (h : AH) : Prop :=
  ∀ Z45 : AH → Prop, (∀ h, (
      is_c h x6 [6] (
      w_X7_hasNext x6 h (fun y47 h47 =>
      ((y47 = 0 →
        P h47) ∧
       (¬ y47 = 0 →
        is_c h47 x6 [6] (
        w_X7_next x6 h47 (fun y57 h57 =>
        is_c h57 y57 [7, 8] (
        c_fr h57 x3 fun y68 =>
        ((y68 = 0 →
          w_X13_init_98 P Z45 x0 x2 x3 x6 y57 0 h57) ∧
         (¬ y68 = 0 →
          is_c h57 x2 [2] (
          w_X3_covers x2 x3 y57 h57 (fun y78 h78 =>
          ((y78 = 0 →
            w_X13_init_98 P Z45 x0 x2 x3 x6 y57 0 h78) ∧
           (¬ y78 = 0 →
            is_c h78 x2 [2] (
            w_X3_isLockedByOther x2 y57 h78 (fun y87 h87 =>
            ((y87 = 0 →
              w_X13_init_98 P Z45 x0 x2 x3 x6 y57 1 h87) ∧
             (¬ y87 = 0 →
              w_X13_init_98 P Z45 x0 x2 x3 x6 y57 0 h87))))))))))))))))))
      → Z45 h) → Z45 h
def w_X13_init (a0 : Option Nat) (a1 : Option Nat) (a2 : Option Nat) (a3 : Option Nat) (a4 : Int32) (a5 : Int32) (h : AH) (P : AH → Prop) : Prop :=
  p_v h a0 11 4 (vR a1) fun h2 =>
  nn a0 (
  mk_i h2 1 12 12 fun q12 h12 =>
  p_v h12 a0 11 1 (vR (some q12)) fun h14 =>
  p_v h14 a0 11 0 (vR a2) fun h19 =>
  p_v h19 a0 11 2 (vI ((24 * a5) + a4)) fun h31 =>
  is_c h31 a2 [2] (
  w_X3_seen a2 h31 (fun y35 h35 =>
  is_c h35 y35 [5] (
  w_X6_iterator y35 h35 (fun y38 h38 =>
  w_X13_init_45 P a0 a2 a3 y38 h38)))))
theorem wk_X13_init_125 {x : CX} (X : Ok x cX13_init RX13 rm_X13_init 9) (er : xrt x = (Option.none : Option Jvm.ClassFile.FieldType)) (en : xnm x = yX13_init.name) {P : AH → Prop} (hQ : xr_v x P) (Z45 : AH → Prop) (x0 : Option Nat) (x2 : Option Nat) (x3 : Option Nat) (x6 : Option Nat) (x7 : Option Nat) (t0 : Int32) (t1 : Int32) (t2 : Option Nat) (h : AH) (hZ45 : ∀ h, Z45 h → J x h 3 15 45 [(0, vR x0), (2, vR x2), (3, vR x3), (6, vR x6)] []) (hw : w_X13_init_125 P Z45 x0 x2 x3 x6 x7 t0 t1 t2 h) : J x h 3 15 125 [(0, vR x0), (2, vR x2), (3, vR x3), (6, vR x6), (7, vR x7)] [vI t0, vI t1, vR t2] := by
  have hnr := hw.1
  have hw := hw.2
  refine j_zast X (pc := 125) 1 rfl rfl hnr dX13_init_125 hw (fun h125 hw => ?_)
  refine j_aload_n X (pc := 126) 0 dX13_init_126 rfl rfl ?_
  refine j_dup X (pc := 127) dX13_init_127 rfl ?_
  refine j_geti (ci := 11) X (pc := 128) in_X13 rfl (by decide) 3 (by decide) q1160 (Or.inl rfl) dX13_init_128 hw (fun y128 hw => ?_)
  refine j_aload_n X (pc := 131) 0 dX13_init_131 rfl rfl ?_
  refine j_getq (ci := 11) X (pc := 132) in_X13 rfl (by decide) 1 (by decide) q1158 (Or.inl rfl) dX13_init_132 hw (fun y132 hw => ?_)
  refine j_aload X (pc := 135) 4 dX13_init_135 rfl ?_
  refine j_getiSN X (pc := 137) 0 (by decide) q576 dX13_init_137 hw (fun y137 hw => ?_)
  refine j_zald X (pc := 140) 1 rfl dX13_init_140 hw (fun y140 hw => ?_)
  refine j_if_eq X (pc := 141) 148 dX13_init_141 (by decide) hw (fun hw => ?_) (fun hw => ?_)
  · refine j_iconst X (pc := 148) 0 dX13_init_148 (by decide) ?_
    refine j_iadd X (pc := 149) dX13_init_149 ?_
    refine j_i2s X (pc := 150) dX13_init_150 ?_
    have hnr := hw.1
    have hw := hw.2
    refine j_put (ci := 11) X (pc := 151) in_X13 rfl (by decide) 3 (by decide) q1160 (Or.inl rfl) tyX13 tyX13_ok nmX13 rfl rfl (ty := .short) (tyX13_ok 3 (by decide)) hnr.1 hnr.2 dX13_init_151 hw (fun h151 hw => ?_)
    refine j_goto X (pc := 154) 45 dX13_init_154 (by decide) ?_
    refine j_lv [(0, vR x0), (2, vR x2), (3, vR x3), (6, vR x6)] [0, 1, 2, 3] rfl ?_
    refine j_cs (u' := 3) (v' := 15) (Nat.le_of_ble_eq_true rfl) (Nat.le_of_ble_eq_true rfl) ?_
    exact hZ45 h151 hw
  · refine j_iconst X (pc := 144) 1 dX13_init_144 (by decide) ?_
    refine j_goto X (pc := 145) 149 dX13_init_145 (by decide) ?_
    refine j_iadd X (pc := 149) dX13_init_149 ?_
    refine j_i2s X (pc := 150) dX13_init_150 ?_
    have hnr := hw.1
    have hw := hw.2
    refine j_put (ci := 11) X (pc := 151) in_X13 rfl (by decide) 3 (by decide) q1160 (Or.inl rfl) tyX13 tyX13_ok nmX13 rfl rfl (ty := .short) (tyX13_ok 3 (by decide)) hnr.1 hnr.2 dX13_init_151 hw (fun h151 hw => ?_)
    refine j_goto X (pc := 154) 45 dX13_init_154 (by decide) ?_
    refine j_lv [(0, vR x0), (2, vR x2), (3, vR x3), (6, vR x6)] [0, 1, 2, 3] rfl ?_
    refine j_cs (u' := 3) (v' := 15) (Nat.le_of_ble_eq_true rfl) (Nat.le_of_ble_eq_true rfl) ?_
    exact hZ45 h151 hw
theorem wk_X13_init_98 {x : CX} (X : Ok x cX13_init RX13 rm_X13_init 9) (er : xrt x = (Option.none : Option Jvm.ClassFile.FieldType)) (en : xnm x = yX13_init.name) {P : AH → Prop} (hQ : xr_v x P) (Z45 : AH → Prop) (x0 : Option Nat) (x2 : Option Nat) (x3 : Option Nat) (x6 : Option Nat) (x7 : Option Nat) (t0 : Int32) (h : AH) (hZ45 : ∀ h, Z45 h → J x h 3 15 45 [(0, vR x0), (2, vR x2), (3, vR x3), (6, vR x6)] []) (hw : w_X13_init_98 P Z45 x0 x2 x3 x6 x7 t0 h) : J x h 3 15 98 [(0, vR x0), (2, vR x2), (3, vR x3), (6, vR x6), (7, vR x7)] [vI t0] := by
  refine j_istore X (pc := 98) [(8, vI t0), (0, vR x0), (2, vR x2), (3, vR x3), (6, vR x6), (7, vR x7)] dX13_init_98 (Nat.le_of_ble_eq_true rfl) rfl ?_
  refine j_aload_n X (pc := 100) 1 dX13_init_100 rfl rfl ?_
  refine j_getq (ci := 11) X (pc := 101) in_X13 rfl (by decide) 1 (by decide) q1158 (Or.inl rfl) dX13_init_101 hw (fun y101 hw => ?_)
  refine j_aload X (pc := 104) 5 dX13_init_104 rfl ?_
  refine j_getiSN X (pc := 106) 0 (by decide) q576 dX13_init_106 hw (fun y106 hw => ?_)
  refine j_aload X (pc := 109) 5 dX13_init_109 rfl ?_
  refine j_aload_n X (pc := 111) 3 dX13_init_111 rfl rfl ?_
  refine j_acmp_eq X (pc := 112) 120 dX13_init_112 (by decide) hw (fun hw => ?_) (fun hw => ?_)
  · refine j_iconst X (pc := 120) 1 dX13_init_120 (by decide) ?_
    refine j_goto X (pc := 121) 125 dX13_init_121 (by decide) ?_
    refine j_lv [(0, vR x0), (2, vR x2), (3, vR x3), (6, vR x6), (7, vR x7)] [1, 2, 3, 4, 5] rfl ?_
    refine j_cs (u' := 3) (v' := 15) (Nat.le_of_ble_eq_true rfl) (Nat.le_of_ble_eq_true rfl) ?_
    exact wk_X13_init_125 X er en hQ _ x0 x2 x3 x6 x7 1 y106 y101 h hZ45 hw
  · refine j_iload X (pc := 115) 0 dX13_init_115 rfl ?_
    refine j_if_eq X (pc := 117) 124 dX13_init_117 (by decide) hw (fun hw => ?_) (fun hw => ?_)
    · refine j_iconst X (pc := 124) 0 dX13_init_124 (by decide) ?_
      refine j_lv [(0, vR x0), (2, vR x2), (3, vR x3), (6, vR x6), (7, vR x7)] [1, 2, 3, 4, 5] rfl ?_
      refine j_cs (u' := 3) (v' := 15) (Nat.le_of_ble_eq_true rfl) (Nat.le_of_ble_eq_true rfl) ?_
      exact wk_X13_init_125 X er en hQ _ x0 x2 x3 x6 x7 0 y106 y101 h hZ45 hw
    · refine j_iconst X (pc := 120) 1 dX13_init_120 (by decide) ?_
      refine j_goto X (pc := 121) 125 dX13_init_121 (by decide) ?_
      refine j_lv [(0, vR x0), (2, vR x2), (3, vR x3), (6, vR x6), (7, vR x7)] [1, 2, 3, 4, 5] rfl ?_
      refine j_cs (u' := 3) (v' := 15) (Nat.le_of_ble_eq_true rfl) (Nat.le_of_ble_eq_true rfl) ?_
      exact wk_X13_init_125 X er en hQ _ x0 x2 x3 x6 x7 1 y106 y101 h hZ45 hw
theorem wk_X13_init_45 {x : CX} (X : Ok x cX13_init RX13 rm_X13_init 9) (er : xrt x = (Option.none : Option Jvm.ClassFile.FieldType)) (en : xnm x = yX13_init.name) {P : AH → Prop} (hQ : xr_v x P) (x0 : Option Nat) (x2 : Option Nat) (x3 : Option Nat) (x6 : Option Nat) (h : AH) (hw : w_X13_init_45 P x0 x2 x3 x6 h) : J x h 3 15 45 [(0, vR x0), (2, vR x2), (3, vR x3), (6, vR x6)] [] := by
  refine hw (fun h => J x h 3 15 45 [(0, vR x0), (2, vR x2), (3, vR x3), (6, vR x6)] []) (fun h hw => ?_)
  refine j_aload X (pc := 45) 3 dX13_init_45 rfl ?_
  obtain ⟨b9, c9, f9, hr9, ho9, hc9, hw⟩ := hw
  obtain rfl := List.mem_singleton.mp hc9
  refine j_call5i (j_runF (n8 := 0) (As := []) (rest := []) X (pc := 47) hr9 (met_X7_hasNext (xl x) X.hl (xG x) h x6 _ hw) ho9 (by decide) rfl q1133 q485 q487 q85 q489 (fun U hU => kt_F2 hU) (by decide +kernel) dX13_init_47 rfl ⟨Nat.le_of_ble_eq_true rfl, Nat.le_of_ble_eq_true rfl⟩ (Nat.le_of_ble_eq_true rfl) ⟨Nat.le_of_ble_eq_true rfl, Nat.le_of_ble_eq_true rfl⟩) (fun y47 h47 hw => ?_)
  refine j_if_eq X (pc := 52) 157 dX13_init_52 (by decide) hw (fun hw => ?_) (fun hw => ?_)
  · exact j_vret X (pc := 157) hQ er (Nat.le_of_ble_eq_true rfl) (Nat.le_of_ble_eq_true rfl) dX13_init_157 hw
  · refine j_aload X (pc := 55) 3 dX13_init_55 rfl ?_
    obtain ⟨b9, c9, f9, hr9, ho9, hc9, hw⟩ := hw
    obtain rfl := List.mem_singleton.mp hc9
    refine j_call5q (j_runF (n8 := 0) (As := []) (rest := []) X (pc := 57) hr9 (met_X7_next (xl x) X.hl (xG x) h47 x6 _ hw) ho9 (by decide) rfl q1135 q502 q504 q85 q506 (fun U hU => kt_F3 hU) (by decide +kernel) dX13_init_57 rfl ⟨Nat.le_of_ble_eq_true rfl, Nat.le_of_ble_eq_true rfl⟩ (Nat.le_of_ble_eq_true rfl) ⟨Nat.le_of_ble_eq_true rfl, Nat.le_of_ble_eq_true rfl⟩) (fun y57 h57 hw => ?_)
    refine j_chk X (pc := 62) (L := [7, 8]) q1136 (by intro ci hci; simp only [List.mem_cons, List.not_mem_nil, or_false] at hci; rcases hci with rfl | rfl <;> first | exact ⟨by decide, _, _, _, rfl, Or.inr q2343⟩ | exact ⟨by decide, _, _, _, rfl, Or.inr q2344⟩) dX13_init_62 hw (fun hw => ?_)
    refine j_astore X (pc := 65) [(7, vR y57), (0, vR x0), (2, vR x2), (3, vR x3), (6, vR x6)] dX13_init_65 (Nat.le_of_ble_eq_true rfl) rfl ?_
    refine j_aload_n X (pc := 67) 3 dX13_init_67 rfl rfl ?_
    refine j_isFrame (rest := []) X (pc := 68) q1137 dX13_init_68 ⟨Nat.le_of_ble_eq_true rfl, Nat.le_of_ble_eq_true rfl⟩ (Nat.le_of_ble_eq_true rfl) (Nat.le_of_ble_eq_true rfl) (Nat.le_of_ble_eq_true rfl) hw (fun y68 hw => ?_)
    refine j_if_eq X (pc := 71) 97 dX13_init_71 (by decide) hw (fun hw => ?_) (fun hw => ?_)
    · refine j_iconst X (pc := 97) 0 dX13_init_97 (by decide) ?_
      refine j_lv [(0, vR x0), (2, vR x2), (3, vR x3), (6, vR x6), (7, vR y57)] [1, 2, 3, 4, 0] rfl ?_
      refine j_cs (u' := 3) (v' := 15) (Nat.le_of_ble_eq_true rfl) (Nat.le_of_ble_eq_true rfl) ?_
      exact wk_X13_init_98 X er en hQ _ x0 x2 x3 x6 y57 0 h57 (fun h_ hz => hz) hw
    · refine j_aload_n X (pc := 74) 2 dX13_init_74 rfl rfl ?_
      refine j_aload_n X (pc := 75) 3 dX13_init_75 rfl rfl ?_
      refine j_aload X (pc := 76) 0 dX13_init_76 rfl ?_
      obtain ⟨b9, c9, f9, hr9, ho9, hc9, hw⟩ := hw
      obtain rfl := List.mem_singleton.mp hc9
      refine j_calli (j_runV (n8 := 2) (As := [vR x3, vR y57]) (rest := []) X (pc := 78) hr9 (met_X3_covers (xl x) X.hl (xG x) h57 x2 x3 y57 _ hw) ho9 (by decide) rfl q1146 q1147 q1148 q76 q1149 (by decide +kernel) dX13_init_78 rfl ⟨Nat.le_of_ble_eq_true rfl, Nat.le_of_ble_eq_true rfl⟩ (Nat.le_of_ble_eq_true rfl) ⟨Nat.le_of_ble_eq_true rfl, Nat.le_of_ble_eq_true rfl⟩) (fun y78 h78 hw => ?_)
      refine j_if_eq X (pc := 81) 97 dX13_init_81 (by decide) hw (fun hw => ?_) (fun hw => ?_)
      · refine j_iconst X (pc := 97) 0 dX13_init_97 (by decide) ?_
        refine j_lv [(0, vR x0), (2, vR x2), (3, vR x3), (6, vR x6), (7, vR y57)] [1, 2, 3, 4, 0] rfl ?_
        refine j_cs (u' := 3) (v' := 15) (Nat.le_of_ble_eq_true rfl) (Nat.le_of_ble_eq_true rfl) ?_
        exact wk_X13_init_98 X er en hQ _ x0 x2 x3 x6 y57 0 h78 (fun h_ hz => hz) hw
      · refine j_aload_n X (pc := 84) 2 dX13_init_84 rfl rfl ?_
        refine j_aload X (pc := 85) 0 dX13_init_85 rfl ?_
        obtain ⟨b9, c9, f9, hr9, ho9, hc9, hw⟩ := hw
        obtain rfl := List.mem_singleton.mp hc9
        refine j_calli (j_runV (n8 := 1) (As := [vR y57]) (rest := []) X (pc := 87) hr9 (met_X3_isLockedByOther (xl x) X.hl (xG x) h78 x2 y57 _ hw) ho9 (by decide) rfl q1156 q1090 q1091 q76 q1092 (by decide +kernel) dX13_init_87 rfl ⟨Nat.le_of_ble_eq_true rfl, Nat.le_of_ble_eq_true rfl⟩ (Nat.le_of_ble_eq_true rfl) ⟨Nat.le_of_ble_eq_true rfl, Nat.le_of_ble_eq_true rfl⟩) (fun y87 h87 hw => ?_)
        refine j_if_ne X (pc := 90) 97 dX13_init_90 (by decide) hw (fun hw => ?_) (fun hw => ?_)
        · refine j_iconst X (pc := 93) 1 dX13_init_93 (by decide) ?_
          refine j_goto X (pc := 94) 98 dX13_init_94 (by decide) ?_
          refine j_lv [(0, vR x0), (2, vR x2), (3, vR x3), (6, vR x6), (7, vR y57)] [1, 2, 3, 4, 0] rfl ?_
          refine j_cs (u' := 3) (v' := 15) (Nat.le_of_ble_eq_true rfl) (Nat.le_of_ble_eq_true rfl) ?_
          exact wk_X13_init_98 X er en hQ _ x0 x2 x3 x6 y57 1 h87 (fun h_ hz => hz) hw
        · refine j_iconst X (pc := 97) 0 dX13_init_97 (by decide) ?_
          refine j_lv [(0, vR x0), (2, vR x2), (3, vR x3), (6, vR x6), (7, vR y57)] [1, 2, 3, 4, 0] rfl ?_
          refine j_cs (u' := 3) (v' := 15) (Nat.le_of_ble_eq_true rfl) (Nat.le_of_ble_eq_true rfl) ?_
          exact wk_X13_init_98 X er en hQ _ x0 x2 x3 x6 y57 0 h87 (fun h_ hz => hz) hw
theorem met_X13_init (l : Launch) (hlt : l.stackTraces = false) (G : GG) (h : AH) (a0 : Option Nat) (a1 : Option Nat) (a2 : Option Nat) (a3 : Option Nat) (a4 : Int32) (a5 : Int32) (P : AH → Prop) (hw : w_X13_init a0 a1 a2 a3 a4 a5 h P) : ct_v l yX13_init (ws_ yX13_init cX13_init 9 (Option.none : Option Jvm.ClassFile.FieldType)) rm_X13_init G h [vR a0, vR a1, vR a2, vR a3, vI a4, vI a5] P := by
  refine j_startv hlt [(0, vR a0), (1, vR a1), (2, vR a2), (3, vR a3), (4, vI a4), (5, vI a5)] (plainFor_of_name (by decide)) rfl rfl (fun x X eG er en hQ => ?_)
  subst eG
  refine j_aload_n X (pc := 0) 0 dX13_init_0 rfl rfl ?_
  refine j_aload_n X (pc := 1) 1 dX13_init_1 rfl rfl ?_
  refine j_putF (ci := 11) X (pc := 2) in_X13 rfl (by decide) 4 (by decide) q1161 (Or.inl rfl) tyX13 tyX13_ok nmX13 rfl en rfl rfl (ty := (.object "Plugboard")) (tyX13_ok 4 (by decide)) (rt_nar _ rfl _) (rt_fit _ rfl _) dX13_init_2 hw (fun h2 hw => ?_)
  refine j_aload_n X (pc := 5) 0 dX13_init_5 rfl rfl ?_
  obtain ⟨b9, hr9, hw⟩ := hw
  refine j_obj X (pc := 6) hr9 q1128 q125 q126 dX13_init_6 ⟨Nat.le_of_ble_eq_true rfl, Nat.le_of_ble_eq_true rfl⟩ ?_
  refine j_aload_n X (pc := 9) 0 dX13_init_9 rfl rfl ?_
  refine j_bipush X (pc := 10) 12 dX13_init_10 (by decide) ?_
  refine j_newZ X (pc := 12) 12 dX13_init_12 q233 (by decide) (Nat.le_of_ble_eq_true rfl) (Nat.le_of_ble_eq_true rfl) hw (fun q12 h12 hw => ?_)
  refine j_putF (ci := 11) X (pc := 14) in_X13 rfl (by decide) 1 (by decide) q1158 (Or.inl rfl) tyX13 tyX13_ok nmX13 rfl en rfl rfl (ty := (.array .boolean)) (tyX13_ok 1 (by decide)) (rt_nar _ rfl _) (rt_fit _ rfl _) dX13_init_14 hw (fun h14 hw => ?_)
  refine j_aload_n X (pc := 17) 0 dX13_init_17 rfl rfl ?_
  refine j_aload_n X (pc := 18) 2 dX13_init_18 rfl rfl ?_
  refine j_putF (ci := 11) X (pc := 19) in_X13 rfl (by decide) 0 (by decide) q1157 (Or.inl rfl) tyX13 tyX13_ok nmX13 rfl en rfl rfl (ty := (.object "Plugboard$Board")) (tyX13_ok 0 (by decide)) (rt_nar _ rfl _) (rt_fit _ rfl _) dX13_init_19 hw (fun h19 hw => ?_)
  refine j_aload_n X (pc := 22) 0 dX13_init_22 rfl rfl ?_
  refine j_bipush X (pc := 23) 24 dX13_init_23 (by decide) ?_
  refine j_iload X (pc := 25) 5 dX13_init_25 rfl ?_
  refine j_imul X (pc := 27) dX13_init_27 ?_
  refine j_iload X (pc := 28) 4 dX13_init_28 rfl ?_
  refine j_iadd X (pc := 30) dX13_init_30 ?_
  refine j_putF (ci := 11) X (pc := 31) in_X13 rfl (by decide) 2 (by decide) q1159 (Or.inl rfl) tyX13 tyX13_ok nmX13 rfl en rfl rfl (ty := .int) (tyX13_ok 2 (by decide)) rfl rfl dX13_init_31 hw (fun h31 hw => ?_)
  refine j_aload_n X (pc := 34) 2 dX13_init_34 rfl rfl ?_
  obtain ⟨b9, c9, f9, hr9, ho9, hc9, hw⟩ := hw
  obtain rfl := List.mem_singleton.mp hc9
  refine j_callq (j_runV (n8 := 0) (As := []) (rest := []) X (pc := 35) hr9 (met_X3_seen (xl x) X.hl (xG x) h31 a2 _ hw) ho9 (by decide) rfl q1129 q419 q420 q76 q421 (by decide +kernel) dX13_init_35 rfl ⟨Nat.le_of_ble_eq_true rfl, Nat.le_of_ble_eq_true rfl⟩ (Nat.le_of_ble_eq_true rfl) ⟨Nat.le_of_ble_eq_true rfl, Nat.le_of_ble_eq_true rfl⟩) (fun y35 h35 hw => ?_)
  obtain ⟨b9, c9, f9, hr9, ho9, hc9, hw⟩ := hw
  obtain rfl := List.mem_singleton.mp hc9
  refine j_call5q (j_runF (n8 := 0) (As := []) (rest := []) X (pc := 38) hr9 (met_X6_iterator (xl x) X.hl (xG x) h35 y35 _ hw) ho9 (by decide) rfl q1131 q437 q439 q84 q441 (fun U hU => kt_F1 hU) (by decide +kernel) dX13_init_38 rfl ⟨Nat.le_of_ble_eq_true rfl, Nat.le_of_ble_eq_true rfl⟩ (Nat.le_of_ble_eq_true rfl) ⟨Nat.le_of_ble_eq_true rfl, Nat.le_of_ble_eq_true rfl⟩) (fun y38 h38 hw => ?_)
  refine j_astore X (pc := 43) [(6, vR y38), (0, vR a0), (1, vR a1), (2, vR a2), (3, vR a3), (4, vI a4), (5, vI a5)] dX13_init_43 (Nat.le_of_ble_eq_true rfl) rfl ?_
  refine j_lv [(0, vR a0), (2, vR a2), (3, vR a3), (6, vR y38)] [1, 3, 4, 0] rfl ?_
  refine j_cs (u' := 3) (v' := 15) (Nat.le_of_ble_eq_true rfl) (Nat.le_of_ble_eq_true rfl) ?_
  exact wk_X13_init_45 X er en hQ a0 a2 a3 y38 h38 hw
abbrev cX13_moved : ByteArray := prog_12_method_2_code
def yX13_moved : MethodName := ⟨RX13, "moved", "()I"⟩
def dkwX13_moved_4 : List UInt8 := [180, 0, 65, 172]
abbrev dktX13_moved_4 : List UInt8 := dkwX13_moved_4 ++ []
def dkwX13_moved_3 : List UInt8 := [147, 62, 132, 4, 1, 167, 255, 199, 42, 180, 0, 3, 42, 180, 0, 19, 43, 44, 1, 182, 0, 79, 42]
abbrev dktX13_moved_3 : List UInt8 := dkwX13_moved_3 ++ dktX13_moved_4
def dkwX13_moved_2 : List UInt8 := [180, 0, 19, 180, 0, 69, 180, 0, 73, 16, 12, 21, 4, 96, 46, 42, 180, 0, 23, 96, 79, 29, 4, 96]
abbrev dktX13_moved_2 : List UInt8 := dkwX13_moved_2 ++ dktX13_moved_3
def dkwX13_moved_1 : List UInt8 := [162, 0, 56, 42, 180, 0, 15, 21, 4, 51, 153, 0, 40, 43, 29, 16, 12, 21, 4, 96, 79, 44, 29, 42]
abbrev dktX13_moved_1 : List UInt8 := dkwX13_moved_1 ++ dktX13_moved_2
def dkwX13_moved_0 : List UInt8 := [42, 180, 0, 65, 188, 10, 76, 42, 180, 0, 65, 188, 10, 77, 3, 62, 3, 54, 4, 21, 4, 16, 12]
abbrev dktX13_moved_0 : List UInt8 := dkwX13_moved_0 ++ dktX13_moved_1
theorem dksX13_moved_0 : cX13_moved.data.toList.drop 0 = dktX13_moved_0 := by decide +kernel
theorem dksX13_moved_1 : cX13_moved.data.toList.drop 23 = dktX13_moved_1 := dk_seg dksX13_moved_0 23 rfl rfl
theorem dksX13_moved_2 : cX13_moved.data.toList.drop 47 = dktX13_moved_2 := dk_seg dksX13_moved_1 24 rfl rfl
theorem dksX13_moved_3 : cX13_moved.data.toList.drop 71 = dktX13_moved_3 := dk_seg dksX13_moved_2 24 rfl rfl
theorem dksX13_moved_4 : cX13_moved.data.toList.drop 94 = dktX13_moved_4 := dk_seg dksX13_moved_3 23 rfl rfl
theorem dX13_moved_0 : decode cX13_moved 0 = .ok (.aload_n 0, 1) := dk_42 (dk_at dksX13_moved_0 0 rfl rfl)
theorem dX13_moved_1 : decode cX13_moved 1 = .ok (.getfield 65, 3) := dk_180 0 65 (dk_at dksX13_moved_0 1 rfl rfl)
theorem dX13_moved_4 : decode cX13_moved 4 = .ok (.newarray .int, 2) := dk_188_10 (dk_at dksX13_moved_0 4 rfl rfl)
theorem dX13_moved_6 : decode cX13_moved 6 = .ok (.astore_n 1, 1) := dk_76 (dk_at dksX13_moved_0 6 rfl rfl)
theorem dX13_moved_7 : decode cX13_moved 7 = .ok (.aload_n 0, 1) := dk_42 (dk_at dksX13_moved_0 7 rfl rfl)
theorem dX13_moved_8 : decode cX13_moved 8 = .ok (.getfield 65, 3) := dk_180 0 65 (dk_at dksX13_moved_0 8 rfl rfl)
theorem dX13_moved_11 : decode cX13_moved 11 = .ok (.newarray .int, 2) := dk_188_10 (dk_at dksX13_moved_0 11 rfl rfl)
theorem dX13_moved_13 : decode cX13_moved 13 = .ok (.astore_n 2, 1) := dk_77 (dk_at dksX13_moved_0 13 rfl rfl)
theorem dX13_moved_14 : decode cX13_moved 14 = .ok (.iconst 0, 1) := dk_3 (dk_at dksX13_moved_0 14 rfl rfl)
theorem dX13_moved_15 : decode cX13_moved 15 = .ok (.istore_n 3, 1) := dk_62 (dk_at dksX13_moved_0 15 rfl rfl)
theorem dX13_moved_16 : decode cX13_moved 16 = .ok (.iconst 0, 1) := dk_3 (dk_at dksX13_moved_0 16 rfl rfl)
theorem dX13_moved_17 : decode cX13_moved 17 = .ok (.istore 4, 2) := dk_54 4 (dk_at dksX13_moved_0 17 rfl rfl)
theorem dX13_moved_19 : decode cX13_moved 19 = .ok (.iload 4, 2) := dk_21 4 (dk_at dksX13_moved_0 19 rfl rfl)
theorem dX13_moved_21 : decode cX13_moved 21 = .ok (.bipush 12, 2) := dk_16 12 (dk_at dksX13_moved_0 21 rfl rfl)
theorem dX13_moved_23 : decode cX13_moved 23 = .ok (.if_icmp .ge 56, 3) := dk_162 0 56 (dk_at dksX13_moved_1 0 rfl rfl)
theorem dX13_moved_26 : decode cX13_moved 26 = .ok (.aload_n 0, 1) := dk_42 (dk_at dksX13_moved_1 3 rfl rfl)
theorem dX13_moved_27 : decode cX13_moved 27 = .ok (.getfield 15, 3) := dk_180 0 15 (dk_at dksX13_moved_1 4 rfl rfl)
theorem dX13_moved_30 : decode cX13_moved 30 = .ok (.iload 4, 2) := dk_21 4 (dk_at dksX13_moved_1 7 rfl rfl)
theorem dX13_moved_32 : decode cX13_moved 32 = .ok (.baload, 1) := dk_51 (dk_at dksX13_moved_1 9 rfl rfl)
theorem dX13_moved_33 : decode cX13_moved 33 = .ok (.ifCond .eq 40, 3) := dk_153 0 40 (dk_at dksX13_moved_1 10 rfl rfl)
theorem dX13_moved_36 : decode cX13_moved 36 = .ok (.aload_n 1, 1) := dk_43 (dk_at dksX13_moved_1 13 rfl rfl)
theorem dX13_moved_37 : decode cX13_moved 37 = .ok (.iload_n 3, 1) := dk_29 (dk_at dksX13_moved_1 14 rfl rfl)
theorem dX13_moved_38 : decode cX13_moved 38 = .ok (.bipush 12, 2) := dk_16 12 (dk_at dksX13_moved_1 15 rfl rfl)
theorem dX13_moved_40 : decode cX13_moved 40 = .ok (.iload 4, 2) := dk_21 4 (dk_at dksX13_moved_1 17 rfl rfl)
theorem dX13_moved_42 : decode cX13_moved 42 = .ok (.iadd, 1) := dk_96 (dk_at dksX13_moved_1 19 rfl rfl)
theorem dX13_moved_43 : decode cX13_moved 43 = .ok (.iastore, 1) := dk_79 (dk_at dksX13_moved_1 20 rfl rfl)
theorem dX13_moved_44 : decode cX13_moved 44 = .ok (.aload_n 2, 1) := dk_44 (dk_at dksX13_moved_1 21 rfl rfl)
theorem dX13_moved_45 : decode cX13_moved 45 = .ok (.iload_n 3, 1) := dk_29 (dk_at dksX13_moved_1 22 rfl rfl)
theorem dX13_moved_46 : decode cX13_moved 46 = .ok (.aload_n 0, 1) := dk_42 (dk_at dksX13_moved_1 23 rfl rfl)
theorem dX13_moved_47 : decode cX13_moved 47 = .ok (.getfield 19, 3) := dk_180 0 19 (dk_at dksX13_moved_2 0 rfl rfl)
theorem dX13_moved_50 : decode cX13_moved 50 = .ok (.getfield 69, 3) := dk_180 0 69 (dk_at dksX13_moved_2 3 rfl rfl)
theorem dX13_moved_53 : decode cX13_moved 53 = .ok (.getfield 73, 3) := dk_180 0 73 (dk_at dksX13_moved_2 6 rfl rfl)
theorem dX13_moved_56 : decode cX13_moved 56 = .ok (.bipush 12, 2) := dk_16 12 (dk_at dksX13_moved_2 9 rfl rfl)
theorem dX13_moved_58 : decode cX13_moved 58 = .ok (.iload 4, 2) := dk_21 4 (dk_at dksX13_moved_2 11 rfl rfl)
theorem dX13_moved_60 : decode cX13_moved 60 = .ok (.iadd, 1) := dk_96 (dk_at dksX13_moved_2 13 rfl rfl)
theorem dX13_moved_61 : decode cX13_moved 61 = .ok (.iaload, 1) := dk_46 (dk_at dksX13_moved_2 14 rfl rfl)
theorem dX13_moved_62 : decode cX13_moved 62 = .ok (.aload_n 0, 1) := dk_42 (dk_at dksX13_moved_2 15 rfl rfl)
theorem dX13_moved_63 : decode cX13_moved 63 = .ok (.getfield 23, 3) := dk_180 0 23 (dk_at dksX13_moved_2 16 rfl rfl)
theorem dX13_moved_66 : decode cX13_moved 66 = .ok (.iadd, 1) := dk_96 (dk_at dksX13_moved_2 19 rfl rfl)
theorem dX13_moved_67 : decode cX13_moved 67 = .ok (.iastore, 1) := dk_79 (dk_at dksX13_moved_2 20 rfl rfl)
theorem dX13_moved_68 : decode cX13_moved 68 = .ok (.iload_n 3, 1) := dk_29 (dk_at dksX13_moved_2 21 rfl rfl)
theorem dX13_moved_69 : decode cX13_moved 69 = .ok (.iconst 1, 1) := dk_4 (dk_at dksX13_moved_2 22 rfl rfl)
theorem dX13_moved_70 : decode cX13_moved 70 = .ok (.iadd, 1) := dk_96 (dk_at dksX13_moved_2 23 rfl rfl)
theorem dX13_moved_71 : decode cX13_moved 71 = .ok (.i2s, 1) := dk_147 (dk_at dksX13_moved_3 0 rfl rfl)
theorem dX13_moved_72 : decode cX13_moved 72 = .ok (.istore_n 3, 1) := dk_62 (dk_at dksX13_moved_3 1 rfl rfl)
theorem dX13_moved_73 : decode cX13_moved 73 = .ok (.iinc 4 1, 3) := dk_132 4 1 (dk_at dksX13_moved_3 2 rfl rfl)
theorem dX13_moved_76 : decode cX13_moved 76 = .ok (.goto (-57), 3) := dk_167 255 199 (dk_at dksX13_moved_3 5 rfl rfl)
theorem dX13_moved_79 : decode cX13_moved 79 = .ok (.aload_n 0, 1) := dk_42 (dk_at dksX13_moved_3 8 rfl rfl)
theorem dX13_moved_80 : decode cX13_moved 80 = .ok (.getfield 3, 3) := dk_180 0 3 (dk_at dksX13_moved_3 9 rfl rfl)
theorem dX13_moved_83 : decode cX13_moved 83 = .ok (.aload_n 0, 1) := dk_42 (dk_at dksX13_moved_3 12 rfl rfl)
theorem dX13_moved_84 : decode cX13_moved 84 = .ok (.getfield 19, 3) := dk_180 0 19 (dk_at dksX13_moved_3 13 rfl rfl)
theorem dX13_moved_87 : decode cX13_moved 87 = .ok (.aload_n 1, 1) := dk_43 (dk_at dksX13_moved_3 16 rfl rfl)
theorem dX13_moved_88 : decode cX13_moved 88 = .ok (.aload_n 2, 1) := dk_44 (dk_at dksX13_moved_3 17 rfl rfl)
theorem dX13_moved_89 : decode cX13_moved 89 = .ok (.aconst_null, 1) := dk_1 (dk_at dksX13_moved_3 18 rfl rfl)
theorem dX13_moved_90 : decode cX13_moved 90 = .ok (.invokevirtual 79, 3) := dk_182 0 79 (dk_at dksX13_moved_3 19 rfl rfl)
theorem dX13_moved_93 : decode cX13_moved 93 = .ok (.aload_n 0, 1) := dk_42 (dk_at dksX13_moved_3 22 rfl rfl)
theorem dX13_moved_94 : decode cX13_moved 94 = .ok (.getfield 65, 3) := dk_180 0 65 (dk_at dksX13_moved_4 0 rfl rfl)
theorem dX13_moved_97 : decode cX13_moved 97 = .ok (.ireturn, 1) := dk_172 (dk_at dksX13_moved_4 3 rfl rfl)
theorem q166 : (Jvm.Cond.fieldLinkNest "Plugboard$Mover" (73 : Nat) "Plugboard$Fields" "values" "[I" "Plugboard") ∈ lw_tbl := lw_at lw_m1 96 rfl
theorem q209 : (Jvm.Cond.fieldLinkNest "Plugboard$Mover" (69 : Nat) "Plugboard$Board" "fields" "LPlugboard$Fields;" "Plugboard") ∈ lw_tbl := lw_at lw_m1 139 rfl
theorem q1177 : (Jvm.Cond.methodLinkNest "Plugboard$Mover" (79 : Nat) ({ cls := "Plugboard", name := "operate", desc := "(LPlugboard$Board;[I[I[I)V" } : Jvm.MethodName) "Plugboard") ∈ lw_tbl := lw_at lw_m5 147 rfl
abbrev rm_X13_moved : Room := { frames := 10, cells := 10, slots := 223, locals := 247 }
def w_X13_moved_19 (P : Int32 → AH → Prop) (x0 : Option Nat) (x1 : Option Nat) (x2 : Option Nat) (x3 : Int32) (x4 : Int32) (h : AH) : Prop :=
  ∀ Z19 : Int32 → Int32 → AH → Prop, (∀ x3 x4 h, (
      ((12 ≤ x4 →
        g_q h x0 11 4 fun y80 =>
        g_q h x0 11 0 fun y84 =>
        is_c h y80 [0] (
        w_X1_operate y80 y84 x1 x2 none h (fun h90 =>
        g_i h90 x0 11 3 fun y94 =>
        P y94 h90))) ∧
       (¬ 12 ≤ x4 →
        g_q h x0 11 1 fun y27 =>
        l_i h y27 1 x4 fun y32 =>
        ((y32 = 0 →
          Z19 x3 (x4 + 1) h) ∧
         (¬ y32 = 0 →
          s_i h x1 0 x3 (12 + x4) fun h43 =>
          g_q h43 x0 11 0 fun y47 =>
          g_q h43 y47 2 1 fun y50 =>
          g_q h43 y50 1 0 fun y53 =>
          l_i h43 y53 0 (12 + x4) fun y61 =>
          g_i h43 x0 11 2 fun y63 =>
          s_i h43 x2 0 x3 (y61 + y63) fun h67 =>
          Z19 ((Int32.toInt16 (x3 + 1)).toInt32) (x4 + 1) h67)))))
      → Z19 x3 x4 h) → Z19 x3 x4 h
def w_X13_moved (a0 : Option Nat) (h : AH) (P : Int32 → AH → Prop) : Prop :=
  g_i h a0 11 3 fun y1 =>
  mk_i h 0 y1 16 fun q4 h4 =>
  g_i h4 a0 11 3 fun y8 =>
  mk_i h4 0 y8 16 fun q11 h11 =>
  w_X13_moved_19 P a0 (some q4) (some q11) 0 0 h11
theorem wk_X13_moved_19 {x : CX} (X : Ok x cX13_moved RX13 rm_X13_moved 5) (er : xrt x = (Option.some Jvm.ClassFile.FieldType.int)) (en : xnm x = yX13_moved.name) {P : Int32 → AH → Prop} (hQ : xr_i x P) (x0 : Option Nat) (x1 : Option Nat) (x2 : Option Nat) (x3 : Int32) (x4 : Int32) (h : AH) (hw : w_X13_moved_19 P x0 x1 x2 x3 x4 h) : J x h 2 32 19 [(0, vR x0), (1, vR x1), (2, vR x2), (3, vI x3), (4, vI x4)] [] := by
  refine hw (fun x3 x4 h => J x h 2 32 19 [(0, vR x0), (1, vR x1), (2, vR x2), (3, vI x3), (4, vI x4)] []) (fun x3 x4 h hw => ?_)
  refine j_iload X (pc := 19) 4 dX13_moved_19 rfl ?_
  refine j_bipush X (pc := 21) 12 dX13_moved_21 (by decide) ?_
  refine j_icmp_ge X (pc := 23) 79 dX13_moved_23 (by decide) hw (fun hw => ?_) (fun hw => ?_)
  · refine j_aload_n X (pc := 79) 0 dX13_moved_79 rfl rfl ?_
    refine j_getq (ci := 11) X (pc := 80) in_X13 rfl (by decide) 4 (by decide) q1161 (Or.inl rfl) dX13_moved_80 hw (fun y80 hw => ?_)
    refine j_aload_n X (pc := 83) 0 dX13_moved_83 rfl rfl ?_
    refine j_getq (ci := 11) X (pc := 84) in_X13 rfl (by decide) 0 (by decide) q1157 (Or.inl rfl) dX13_moved_84 hw (fun y84 hw => ?_)
    refine j_aload_n X (pc := 87) 1 dX13_moved_87 rfl rfl ?_
    refine j_aload_n X (pc := 88) 2 dX13_moved_88 rfl rfl ?_
    refine j_null X (pc := 89) dX13_moved_89 ?_
    obtain ⟨b9, c9, f9, hr9, ho9, hc9, hw⟩ := hw
    obtain rfl := List.mem_singleton.mp hc9
    refine j_callv (j_runVN (n8 := 4) (As := [vR y84, vR x1, vR x2, vR none]) (rest := []) X (pc := 90) hr9 (met_X1_operate (xl x) X.hl (xG x) h y80 y84 x1 x2 none _ hw) ho9 (by decide) rfl q1177 q690 qs6 q71 q691 (by decide +kernel) dX13_moved_90 rfl ⟨Nat.le_of_ble_eq_true rfl, Nat.le_of_ble_eq_true rfl⟩ (Nat.le_of_ble_eq_true rfl) ⟨Nat.le_of_ble_eq_true rfl, Nat.le_of_ble_eq_true rfl⟩) (fun h90 hw => ?_)
    refine j_aload_n X (pc := 93) 0 dX13_moved_93 rfl rfl ?_
    refine j_geti (ci := 11) X (pc := 94) in_X13 rfl (by decide) 3 (by decide) q1160 (Or.inl rfl) dX13_moved_94 hw (fun y94 hw => ?_)
    exact j_iret X (pc := 97) hQ er (Nat.le_of_ble_eq_true rfl) (Nat.le_of_ble_eq_true rfl) dX13_moved_97 hw
  · refine j_aload_n X (pc := 26) 0 dX13_moved_26 rfl rfl ?_
    refine j_getq (ci := 11) X (pc := 27) in_X13 rfl (by decide) 1 (by decide) q1158 (Or.inl rfl) dX13_moved_27 hw (fun y27 hw => ?_)
    refine j_iload X (pc := 30) 4 dX13_moved_30 rfl ?_
    refine j_zald X (pc := 32) 1 rfl dX13_moved_32 hw (fun y32 hw => ?_)
    refine j_if_eq X (pc := 33) 73 dX13_moved_33 (by decide) hw (fun hw => ?_) (fun hw => ?_)
    · refine j_iinc X (pc := 73) 4 (x4 + 1) [(4, vI (x4 + 1)), (0, vR x0), (1, vR x1), (2, vR x2), (3, vI x3)] dX13_moved_73 rfl rfl (Nat.le_of_ble_eq_true rfl) rfl ?_
      refine j_goto X (pc := 76) 19 dX13_moved_76 (by decide) ?_
      refine j_lv [(0, vR x0), (1, vR x1), (2, vR x2), (3, vI x3), (4, vI (x4 + 1))] [1, 2, 3, 4, 0] rfl ?_
      refine j_cs (u' := 2) (v' := 32) (Nat.le_of_ble_eq_true rfl) (Nat.le_of_ble_eq_true rfl) ?_
      exact hw
    · refine j_aload_n X (pc := 36) 1 dX13_moved_36 rfl rfl ?_
      refine j_iload_n X (pc := 37) 3 dX13_moved_37 rfl rfl ?_
      refine j_bipush X (pc := 38) 12 dX13_moved_38 (by decide) ?_
      refine j_iload X (pc := 40) 4 dX13_moved_40 rfl ?_
      refine j_iadd X (pc := 42) dX13_moved_42 ?_
      refine j_iast X (pc := 43) 0 rfl rfl dX13_moved_43 hw (fun h43 hw => ?_)
      refine j_aload_n X (pc := 44) 2 dX13_moved_44 rfl rfl ?_
      refine j_iload_n X (pc := 45) 3 dX13_moved_45 rfl rfl ?_
      refine j_aload_n X (pc := 46) 0 dX13_moved_46 rfl rfl ?_
      refine j_getq (ci := 11) X (pc := 47) in_X13 rfl (by decide) 0 (by decide) q1157 (Or.inl rfl) dX13_moved_47 hw (fun y47 hw => ?_)
      refine j_getqN (ci := 2) X (pc := 50) in_X3 rfl (by decide) 1 (by decide) q209 (Or.inl rfl) dX13_moved_50 hw (fun y50 hw => ?_)
      refine j_getqN (ci := 1) X (pc := 53) in_X2 rfl (by decide) 0 (by decide) q166 (Or.inl rfl) dX13_moved_53 hw (fun y53 hw => ?_)
      refine j_bipush X (pc := 56) 12 dX13_moved_56 (by decide) ?_
      refine j_iload X (pc := 58) 4 dX13_moved_58 rfl ?_
      refine j_iadd X (pc := 60) dX13_moved_60 ?_
      refine j_iald X (pc := 61) 0 rfl dX13_moved_61 hw (fun y61 hw => ?_)
      refine j_aload_n X (pc := 62) 0 dX13_moved_62 rfl rfl ?_
      refine j_geti (ci := 11) X (pc := 63) in_X13 rfl (by decide) 2 (by decide) q1159 (Or.inl rfl) dX13_moved_63 hw (fun y63 hw => ?_)
      refine j_iadd X (pc := 66) dX13_moved_66 ?_
      refine j_iast X (pc := 67) 0 rfl rfl dX13_moved_67 hw (fun h67 hw => ?_)
      refine j_iload_n X (pc := 68) 3 dX13_moved_68 rfl rfl ?_
      refine j_iconst X (pc := 69) 1 dX13_moved_69 (by decide) ?_
      refine j_iadd X (pc := 70) dX13_moved_70 ?_
      refine j_i2s X (pc := 71) dX13_moved_71 ?_
      refine j_istore_n X (pc := 72) [(3, vI ((Int32.toInt16 (x3 + 1)).toInt32)), (0, vR x0), (1, vR x1), (2, vR x2), (4, vI x4)] dX13_moved_72 rfl (Nat.le_of_ble_eq_true rfl) rfl ?_
      refine j_iinc X (pc := 73) 4 (x4 + 1) [(4, vI (x4 + 1)), (3, vI ((Int32.toInt16 (x3 + 1)).toInt32)), (0, vR x0), (1, vR x1), (2, vR x2)] dX13_moved_73 rfl rfl (Nat.le_of_ble_eq_true rfl) rfl ?_
      refine j_goto X (pc := 76) 19 dX13_moved_76 (by decide) ?_
      refine j_lv [(0, vR x0), (1, vR x1), (2, vR x2), (3, vI ((Int32.toInt16 (x3 + 1)).toInt32)), (4, vI (x4 + 1))] [2, 3, 4, 1, 0] rfl ?_
      refine j_cs (u' := 2) (v' := 32) (Nat.le_of_ble_eq_true rfl) (Nat.le_of_ble_eq_true rfl) ?_
      exact hw
theorem met_X13_moved (l : Launch) (hlt : l.stackTraces = false) (G : GG) (h : AH) (a0 : Option Nat) (P : Int32 → AH → Prop) (hw : w_X13_moved a0 h P) : ct_i l yX13_moved (ws_ yX13_moved cX13_moved 5 (Option.some Jvm.ClassFile.FieldType.int)) rm_X13_moved G h [vR a0] P := by
  refine j_starti hlt [(0, vR a0)] (plainFor_of_name (by decide)) rfl rfl (fun x X eG er en hQ => ?_)
  subst eG
  refine j_aload_n X (pc := 0) 0 dX13_moved_0 rfl rfl ?_
  refine j_geti (ci := 11) X (pc := 1) in_X13 rfl (by decide) 3 (by decide) q1160 (Or.inl rfl) dX13_moved_1 hw (fun y1 hw => ?_)
  refine j_newI X (pc := 4) 16 dX13_moved_4 q180 (by decide) (Nat.le_of_ble_eq_true rfl) (Nat.le_of_ble_eq_true rfl) hw (fun q4 h4 hw => ?_)
  refine j_astore_n X (pc := 6) [(1, vR (some q4)), (0, vR a0)] dX13_moved_6 rfl (Nat.le_of_ble_eq_true rfl) rfl ?_
  refine j_aload_n X (pc := 7) 1 dX13_moved_7 rfl rfl ?_
  refine j_geti (ci := 11) X (pc := 8) in_X13 rfl (by decide) 3 (by decide) q1160 (Or.inl rfl) dX13_moved_8 hw (fun y8 hw => ?_)
  refine j_newI X (pc := 11) 16 dX13_moved_11 q180 (by decide) (Nat.le_of_ble_eq_true rfl) (Nat.le_of_ble_eq_true rfl) hw (fun q11 h11 hw => ?_)
  refine j_astore_n X (pc := 13) [(2, vR (some q11)), (1, vR (some q4)), (0, vR a0)] dX13_moved_13 rfl (Nat.le_of_ble_eq_true rfl) rfl ?_
  refine j_iconst X (pc := 14) 0 dX13_moved_14 (by decide) ?_
  refine j_istore_n X (pc := 15) [(3, vI 0), (2, vR (some q11)), (1, vR (some q4)), (0, vR a0)] dX13_moved_15 rfl (Nat.le_of_ble_eq_true rfl) rfl ?_
  refine j_iconst X (pc := 16) 0 dX13_moved_16 (by decide) ?_
  refine j_istore X (pc := 17) [(4, vI 0), (3, vI 0), (2, vR (some q11)), (1, vR (some q4)), (0, vR a0)] dX13_moved_17 (Nat.le_of_ble_eq_true rfl) rfl ?_
  refine j_lv [(0, vR a0), (1, vR (some q4)), (2, vR (some q11)), (3, vI 0), (4, vI 0)] [4, 3, 2, 1, 0] rfl ?_
  refine j_cs (u' := 2) (v' := 32) (Nat.le_of_ble_eq_true rfl) (Nat.le_of_ble_eq_true rfl) ?_
  exact wk_X13_moved_19 X er en hQ a0 (some q4) (some q11) 0 0 h11 hw
abbrev cX1_move : ByteArray := prog_1_method_20_code
def yX1_move : MethodName := ⟨RX1, "move", "(IIII)I"⟩
def dkwX1_move_6 : List UInt8 := [182, 1, 5, 172]
abbrev dktX1_move_6 : List UInt8 := dkwX1_move_6 ++ []
def dkwX1_move_5 : List UInt8 := [54, 9, 187, 1, 0, 89, 42, 25, 5, 25, 7, 21, 8, 21, 9, 183, 1, 2, 58, 10, 25, 10]
abbrev dktX1_move_5 : List UInt8 := dkwX1_move_5 ++ dktX1_move_6
def dkwX1_move_4 : List UInt8 := [182, 0, 207, 29, 25, 5, 25, 7, 182, 0, 249, 100, 54, 8, 21, 4, 25, 5, 25, 7, 182, 0, 253, 100]
abbrev dktX1_move_4 : List UInt8 := dkwX1_move_4 ++ dktX1_move_5
def dkwX1_move_3 : List UInt8 := [21, 6, 84, 184, 0, 25, 42, 25, 5, 28, 182, 0, 241, 58, 7, 42, 25, 5, 25, 7, 182, 0, 245, 42]
abbrev dktX1_move_3 : List UInt8 := dkwX1_move_3 ++ dktX1_move_4
def dkwX1_move_2 : List UInt8 := [182, 0, 121, 192, 0, 124, 180, 0, 238, 184, 0, 203, 167, 0, 4, 4, 54, 6, 4, 188, 4, 89, 3]
abbrev dktX1_move_2 : List UInt8 := dkwX1_move_2 ++ dktX1_move_3
def dkwX1_move_1 : List UInt8 := [29, 21, 4, 42, 180, 0, 55, 28, 182, 0, 121, 192, 0, 124, 180, 0, 235, 42, 180, 0, 55, 28]
abbrev dktX1_move_1 : List UInt8 := dkwX1_move_1 ++ dktX1_move_2
def dkwX1_move_0 : List UInt8 := [42, 27, 182, 0, 199, 58, 5, 28, 3, 42, 180, 0, 55, 182, 0, 126, 4, 100, 184, 0, 21, 153, 0, 40]
abbrev dktX1_move_0 : List UInt8 := dkwX1_move_0 ++ dktX1_move_1
theorem dksX1_move_0 : cX1_move.data.toList.drop 0 = dktX1_move_0 := by decide +kernel
theorem dksX1_move_1 : cX1_move.data.toList.drop 24 = dktX1_move_1 := dk_seg dksX1_move_0 24 rfl rfl
theorem dksX1_move_2 : cX1_move.data.toList.drop 46 = dktX1_move_2 := dk_seg dksX1_move_1 22 rfl rfl
theorem dksX1_move_3 : cX1_move.data.toList.drop 69 = dktX1_move_3 := dk_seg dksX1_move_2 23 rfl rfl
theorem dksX1_move_4 : cX1_move.data.toList.drop 93 = dktX1_move_4 := dk_seg dksX1_move_3 24 rfl rfl
theorem dksX1_move_5 : cX1_move.data.toList.drop 117 = dktX1_move_5 := dk_seg dksX1_move_4 24 rfl rfl
theorem dksX1_move_6 : cX1_move.data.toList.drop 139 = dktX1_move_6 := dk_seg dksX1_move_5 22 rfl rfl
theorem dX1_move_0 : decode cX1_move 0 = .ok (.aload_n 0, 1) := dk_42 (dk_at dksX1_move_0 0 rfl rfl)
theorem dX1_move_1 : decode cX1_move 1 = .ok (.iload_n 1, 1) := dk_27 (dk_at dksX1_move_0 1 rfl rfl)
theorem dX1_move_2 : decode cX1_move 2 = .ok (.invokevirtual 199, 3) := dk_182 0 199 (dk_at dksX1_move_0 2 rfl rfl)
theorem dX1_move_5 : decode cX1_move 5 = .ok (.astore 5, 2) := dk_58 5 (dk_at dksX1_move_0 5 rfl rfl)
theorem dX1_move_7 : decode cX1_move 7 = .ok (.iload_n 2, 1) := dk_28 (dk_at dksX1_move_0 7 rfl rfl)
theorem dX1_move_8 : decode cX1_move 8 = .ok (.iconst 0, 1) := dk_3 (dk_at dksX1_move_0 8 rfl rfl)
theorem dX1_move_9 : decode cX1_move 9 = .ok (.aload_n 0, 1) := dk_42 (dk_at dksX1_move_0 9 rfl rfl)
theorem dX1_move_10 : decode cX1_move 10 = .ok (.getfield 55, 3) := dk_180 0 55 (dk_at dksX1_move_0 10 rfl rfl)
theorem dX1_move_13 : decode cX1_move 13 = .ok (.invokevirtual 126, 3) := dk_182 0 126 (dk_at dksX1_move_0 13 rfl rfl)
theorem dX1_move_16 : decode cX1_move 16 = .ok (.iconst 1, 1) := dk_4 (dk_at dksX1_move_0 16 rfl rfl)
theorem dX1_move_17 : decode cX1_move 17 = .ok (.isub, 1) := dk_100 (dk_at dksX1_move_0 17 rfl rfl)
theorem dX1_move_18 : decode cX1_move 18 = .ok (.invokestatic 21, 3) := dk_184 0 21 (dk_at dksX1_move_0 18 rfl rfl)
theorem dX1_move_21 : decode cX1_move 21 = .ok (.ifCond .eq 40, 3) := dk_153 0 40 (dk_at dksX1_move_0 21 rfl rfl)
theorem dX1_move_24 : decode cX1_move 24 = .ok (.iload_n 3, 1) := dk_29 (dk_at dksX1_move_1 0 rfl rfl)
theorem dX1_move_25 : decode cX1_move 25 = .ok (.iload 4, 2) := dk_21 4 (dk_at dksX1_move_1 1 rfl rfl)
theorem dX1_move_27 : decode cX1_move 27 = .ok (.aload_n 0, 1) := dk_42 (dk_at dksX1_move_1 3 rfl rfl)
theorem dX1_move_28 : decode cX1_move 28 = .ok (.getfield 55, 3) := dk_180 0 55 (dk_at dksX1_move_1 4 rfl rfl)
theorem dX1_move_31 : decode cX1_move 31 = .ok (.iload_n 2, 1) := dk_28 (dk_at dksX1_move_1 7 rfl rfl)
theorem dX1_move_32 : decode cX1_move 32 = .ok (.invokevirtual 121, 3) := dk_182 0 121 (dk_at dksX1_move_1 8 rfl rfl)
theorem dX1_move_35 : decode cX1_move 35 = .ok (.checkcast 124, 3) := dk_192 0 124 (dk_at dksX1_move_1 11 rfl rfl)
theorem dX1_move_38 : decode cX1_move 38 = .ok (.getfield 235, 3) := dk_180 0 235 (dk_at dksX1_move_1 14 rfl rfl)
theorem dX1_move_41 : decode cX1_move 41 = .ok (.aload_n 0, 1) := dk_42 (dk_at dksX1_move_1 17 rfl rfl)
theorem dX1_move_42 : decode cX1_move 42 = .ok (.getfield 55, 3) := dk_180 0 55 (dk_at dksX1_move_1 18 rfl rfl)
theorem dX1_move_45 : decode cX1_move 45 = .ok (.iload_n 2, 1) := dk_28 (dk_at dksX1_move_1 21 rfl rfl)
theorem dX1_move_46 : decode cX1_move 46 = .ok (.invokevirtual 121, 3) := dk_182 0 121 (dk_at dksX1_move_2 0 rfl rfl)
theorem dX1_move_49 : decode cX1_move 49 = .ok (.checkcast 124, 3) := dk_192 0 124 (dk_at dksX1_move_2 3 rfl rfl)
theorem dX1_move_52 : decode cX1_move 52 = .ok (.getfield 238, 3) := dk_180 0 238 (dk_at dksX1_move_2 6 rfl rfl)
theorem dX1_move_55 : decode cX1_move 55 = .ok (.invokestatic 203, 3) := dk_184 0 203 (dk_at dksX1_move_2 9 rfl rfl)
theorem dX1_move_58 : decode cX1_move 58 = .ok (.goto 4, 3) := dk_167 0 4 (dk_at dksX1_move_2 12 rfl rfl)
theorem dX1_move_61 : decode cX1_move 61 = .ok (.iconst 1, 1) := dk_4 (dk_at dksX1_move_2 15 rfl rfl)
theorem dX1_move_62 : decode cX1_move 62 = .ok (.istore 6, 2) := dk_54 6 (dk_at dksX1_move_2 16 rfl rfl)
theorem dX1_move_64 : decode cX1_move 64 = .ok (.iconst 1, 1) := dk_4 (dk_at dksX1_move_2 18 rfl rfl)
theorem dX1_move_65 : decode cX1_move 65 = .ok (.newarray .boolean, 2) := dk_188_4 (dk_at dksX1_move_2 19 rfl rfl)
theorem dX1_move_67 : decode cX1_move 67 = .ok (.dup, 1) := dk_89 (dk_at dksX1_move_2 21 rfl rfl)
theorem dX1_move_68 : decode cX1_move 68 = .ok (.iconst 0, 1) := dk_3 (dk_at dksX1_move_2 22 rfl rfl)
theorem dX1_move_69 : decode cX1_move 69 = .ok (.iload 6, 2) := dk_21 6 (dk_at dksX1_move_3 0 rfl rfl)
theorem dX1_move_71 : decode cX1_move 71 = .ok (.bastore, 1) := dk_84 (dk_at dksX1_move_3 2 rfl rfl)
theorem dX1_move_72 : decode cX1_move 72 = .ok (.invokestatic 25, 3) := dk_184 0 25 (dk_at dksX1_move_3 3 rfl rfl)
theorem dX1_move_75 : decode cX1_move 75 = .ok (.aload_n 0, 1) := dk_42 (dk_at dksX1_move_3 6 rfl rfl)
theorem dX1_move_76 : decode cX1_move 76 = .ok (.aload 5, 2) := dk_25 5 (dk_at dksX1_move_3 7 rfl rfl)
theorem dX1_move_78 : decode cX1_move 78 = .ok (.iload_n 2, 1) := dk_28 (dk_at dksX1_move_3 9 rfl rfl)
theorem dX1_move_79 : decode cX1_move 79 = .ok (.invokevirtual 241, 3) := dk_182 0 241 (dk_at dksX1_move_3 10 rfl rfl)
theorem dX1_move_82 : decode cX1_move 82 = .ok (.astore 7, 2) := dk_58 7 (dk_at dksX1_move_3 13 rfl rfl)
theorem dX1_move_84 : decode cX1_move 84 = .ok (.aload_n 0, 1) := dk_42 (dk_at dksX1_move_3 15 rfl rfl)
theorem dX1_move_85 : decode cX1_move 85 = .ok (.aload 5, 2) := dk_25 5 (dk_at dksX1_move_3 16 rfl rfl)
theorem dX1_move_87 : decode cX1_move 87 = .ok (.aload 7, 2) := dk_25 7 (dk_at dksX1_move_3 18 rfl rfl)
theorem dX1_move_89 : decode cX1_move 89 = .ok (.invokevirtual 245, 3) := dk_182 0 245 (dk_at dksX1_move_3 20 rfl rfl)
theorem dX1_move_92 : decode cX1_move 92 = .ok (.aload_n 0, 1) := dk_42 (dk_at dksX1_move_3 23 rfl rfl)
theorem dX1_move_93 : decode cX1_move 93 = .ok (.invokevirtual 207, 3) := dk_182 0 207 (dk_at dksX1_move_4 0 rfl rfl)
theorem dX1_move_96 : decode cX1_move 96 = .ok (.iload_n 3, 1) := dk_29 (dk_at dksX1_move_4 3 rfl rfl)
theorem dX1_move_97 : decode cX1_move 97 = .ok (.aload 5, 2) := dk_25 5 (dk_at dksX1_move_4 4 rfl rfl)
theorem dX1_move_99 : decode cX1_move 99 = .ok (.aload 7, 2) := dk_25 7 (dk_at dksX1_move_4 6 rfl rfl)
theorem dX1_move_101 : decode cX1_move 101 = .ok (.invokevirtual 249, 3) := dk_182 0 249 (dk_at dksX1_move_4 8 rfl rfl)
theorem dX1_move_104 : decode cX1_move 104 = .ok (.isub, 1) := dk_100 (dk_at dksX1_move_4 11 rfl rfl)
theorem dX1_move_105 : decode cX1_move 105 = .ok (.istore 8, 2) := dk_54 8 (dk_at dksX1_move_4 12 rfl rfl)
theorem dX1_move_107 : decode cX1_move 107 = .ok (.iload 4, 2) := dk_21 4 (dk_at dksX1_move_4 14 rfl rfl)
theorem dX1_move_109 : decode cX1_move 109 = .ok (.aload 5, 2) := dk_25 5 (dk_at dksX1_move_4 16 rfl rfl)
theorem dX1_move_111 : decode cX1_move 111 = .ok (.aload 7, 2) := dk_25 7 (dk_at dksX1_move_4 18 rfl rfl)
theorem dX1_move_113 : decode cX1_move 113 = .ok (.invokevirtual 253, 3) := dk_182 0 253 (dk_at dksX1_move_4 20 rfl rfl)
theorem dX1_move_116 : decode cX1_move 116 = .ok (.isub, 1) := dk_100 (dk_at dksX1_move_4 23 rfl rfl)
theorem dX1_move_117 : decode cX1_move 117 = .ok (.istore 9, 2) := dk_54 9 (dk_at dksX1_move_5 0 rfl rfl)
theorem dX1_move_119 : decode cX1_move 119 = .ok (.new 256, 3) := dk_187 1 0 (dk_at dksX1_move_5 2 rfl rfl)
theorem dX1_move_122 : decode cX1_move 122 = .ok (.dup, 1) := dk_89 (dk_at dksX1_move_5 5 rfl rfl)
theorem dX1_move_123 : decode cX1_move 123 = .ok (.aload_n 0, 1) := dk_42 (dk_at dksX1_move_5 6 rfl rfl)
theorem dX1_move_124 : decode cX1_move 124 = .ok (.aload 5, 2) := dk_25 5 (dk_at dksX1_move_5 7 rfl rfl)
theorem dX1_move_126 : decode cX1_move 126 = .ok (.aload 7, 2) := dk_25 7 (dk_at dksX1_move_5 9 rfl rfl)
theorem dX1_move_128 : decode cX1_move 128 = .ok (.iload 8, 2) := dk_21 8 (dk_at dksX1_move_5 11 rfl rfl)
theorem dX1_move_130 : decode cX1_move 130 = .ok (.iload 9, 2) := dk_21 9 (dk_at dksX1_move_5 13 rfl rfl)
theorem dX1_move_132 : decode cX1_move 132 = .ok (.invokespecial 258, 3) := dk_183 1 2 (dk_at dksX1_move_5 15 rfl rfl)
theorem dX1_move_135 : decode cX1_move 135 = .ok (.astore 10, 2) := dk_58 10 (dk_at dksX1_move_5 18 rfl rfl)
theorem dX1_move_137 : decode cX1_move 137 = .ok (.aload 10, 2) := dk_25 10 (dk_at dksX1_move_5 20 rfl rfl)
theorem dX1_move_139 : decode cX1_move 139 = .ok (.invokevirtual 261, 3) := dk_182 1 5 (dk_at dksX1_move_6 0 rfl rfl)
theorem dX1_move_142 : decode cX1_move 142 = .ok (.ireturn, 1) := dk_172 (dk_at dksX1_move_6 3 rfl rfl)
theorem q110 : (Jvm.Cond.initialized "Plugboard$Mover") ∈ lw_all := lw_g (lw_at lw_m1 40 rfl) rfl
theorem q581 : (Jvm.Cond.fieldLinkNest "Plugboard" (235 : Nat) "Plugboard$Shape" "width" "I" "Plugboard") ∈ lw_tbl := lw_at lw_m3 31 rfl
theorem q584 : (Jvm.Cond.fieldLinkNest "Plugboard" (238 : Nat) "Plugboard$Shape" "height" "I" "Plugboard") ∈ lw_tbl := lw_at lw_m3 34 rfl
theorem q1075 : (Jvm.Cond.methodLink "Plugboard" (241 : Nat) ({ cls := "Plugboard", name := "shape", desc := "(LPlugboard$Board;I)LPlugboard$Shape;" } : Jvm.MethodName)) ∈ lw_all := lw_g (lw_at lw_m5 45 rfl) rfl
theorem q1077 : (Jvm.Cond.instanceMethod ({ cls := "Plugboard", name := "shape", desc := "(LPlugboard$Board;I)LPlugboard$Shape;" } : Jvm.MethodName)) ∈ lw_all := lw_g (lw_at lw_m5 47 rfl) rfl
theorem q1078 : (Jvm.Cond.code ({ cls := "Plugboard", name := "shape", desc := "(LPlugboard$Board;I)LPlugboard$Shape;" } : Jvm.MethodName) prog_1_method_11_code (3 : Nat) (Option.some (Jvm.ClassFile.FieldType.object "Plugboard$Shape"))) ∈ lw_all := lw_g (lw_at lw_m5 48 rfl) rfl
theorem q1085 : (Jvm.Cond.methodLink "Plugboard" (245 : Nat) ({ cls := "Plugboard", name := "requireUnlocked", desc := "(LPlugboard$Board;LPlugboard$Shape;)V" } : Jvm.MethodName)) ∈ lw_all := lw_g (lw_at lw_m5 55 rfl) rfl
theorem q1087 : (Jvm.Cond.instanceMethod ({ cls := "Plugboard", name := "requireUnlocked", desc := "(LPlugboard$Board;LPlugboard$Shape;)V" } : Jvm.MethodName)) ∈ lw_all := lw_g (lw_at lw_m5 57 rfl) rfl
theorem q1088 : (Jvm.Cond.code ({ cls := "Plugboard", name := "requireUnlocked", desc := "(LPlugboard$Board;LPlugboard$Shape;)V" } : Jvm.MethodName) prog_1_method_19_code (3 : Nat) (Option.none : Option Jvm.ClassFile.FieldType)) ∈ lw_all := lw_g (lw_at lw_m5 58 rfl) rfl
theorem q1115 : (Jvm.Cond.methodLink "Plugboard" (249 : Nat) ({ cls := "Plugboard$Board", name := "columnOf", desc := "(LPlugboard$Shape;)I" } : Jvm.MethodName)) ∈ lw_all := lw_g (lw_at lw_m5 85 rfl) rfl
theorem q1119 : (Jvm.Cond.methodLink "Plugboard" (253 : Nat) ({ cls := "Plugboard$Board", name := "rowOf", desc := "(LPlugboard$Shape;)I" } : Jvm.MethodName)) ∈ lw_all := lw_g (lw_at lw_m5 89 rfl) rfl
theorem q1123 : (Jvm.Cond.classLink "Plugboard" (256 : Nat) "Plugboard$Mover") ∈ lw_all := lw_g (lw_at lw_m5 93 rfl) rfl
theorem q1124 : (Jvm.Cond.instantiable "Plugboard$Mover" (5 : Nat)) ∈ lw_all := lw_g (lw_at lw_m5 94 rfl) rfl
theorem q1125 : (Jvm.Cond.methodLink "Plugboard" (258 : Nat) ({ cls := "Plugboard$Mover", name := "<init>", desc := "(LPlugboard;LPlugboard$Board;LPlugboard$Shape;II)V" } : Jvm.MethodName)) ∈ lw_all := lw_g (lw_at lw_m5 95 rfl) rfl
theorem q1126 : (Jvm.Cond.instanceMethod ({ cls := "Plugboard$Mover", name := "<init>", desc := "(LPlugboard;LPlugboard$Board;LPlugboard$Shape;II)V" } : Jvm.MethodName)) ∈ lw_all := lw_g (lw_at lw_m5 96 rfl) rfl
theorem q1127 : (Jvm.Cond.code ({ cls := "Plugboard$Mover", name := "<init>", desc := "(LPlugboard;LPlugboard$Board;LPlugboard$Shape;II)V" } : Jvm.MethodName) prog_12_method_1_code (9 : Nat) (Option.none : Option Jvm.ClassFile.FieldType)) ∈ lw_all := lw_g (lw_at lw_m5 97 rfl) rfl
theorem q1173 : (Jvm.Cond.methodLink "Plugboard" (261 : Nat) ({ cls := "Plugboard$Mover", name := "moved", desc := "()I" } : Jvm.MethodName)) ∈ lw_all := lw_g (lw_at lw_m5 143 rfl) rfl
theorem q1174 : (Jvm.Cond.instanceMethod ({ cls := "Plugboard$Mover", name := "moved", desc := "()I" } : Jvm.MethodName)) ∈ lw_all := lw_g (lw_at lw_m5 144 rfl) rfl
theorem q1175 : (Jvm.Cond.selects "Plugboard$Mover" ({ cls := "Plugboard$Mover", name := "moved", desc := "()I" } : Jvm.MethodName) ({ cls := "Plugboard$Mover", name := "moved", desc := "()I" } : Jvm.MethodName)) ∈ lw_all := lw_g (lw_at lw_m5 145 rfl) rfl
theorem q1176 : (Jvm.Cond.code ({ cls := "Plugboard$Mover", name := "moved", desc := "()I" } : Jvm.MethodName) prog_12_method_2_code (5 : Nat) (Option.some Jvm.ClassFile.FieldType.int)) ∈ lw_all := lw_g (lw_at lw_m5 146 rfl) rfl
abbrev rm_X1_move : Room := { frames := 11, cells := 21, slots := 275, locals := 271 }
def w_X1_move_62 (P : Int32 → AH → Prop) (PX : String → AH → Prop) (x0 : Option Nat) (x2 : Int32) (x3 : Int32) (x4 : Int32) (x5 : Option Nat) (t0 : Int32) (h : AH) : Prop :=
  mk_i h 1 1 1 fun q65 h65 =>
  nrw .boolean t0 ∧
  s_i h65 (some q65) 1 0 t0 fun h71 =>
  w_X1_require (some q65) h71 (fun h72 =>
  is_c h72 x0 [0] (
  w_X1_shape x0 x5 x2 h72 (fun y79 h79 =>
  is_c h79 x0 [0] (
  w_X1_requireUnlocked x0 x5 y79 h79 (fun h89 =>
  is_c h89 x0 [0] (
  w_X1_requireRoom x0 h89 (fun h93 =>
  is_c h93 x5 [2] (
  w_X3_columnOf x5 y79 h93 (fun y101 h101 =>
  is_c h101 x5 [2] (
  w_X3_rowOf x5 y79 h101 (fun y113 h113 =>
  mk h113 (.inr (11, dvX13)) fun q119 h119 =>
  w_X13_init (some q119) x0 x5 y79 (x3 - y101) (x4 - y113) h119 (fun h132 =>
  is_c h132 (some q119) [11] (
  w_X13_moved (some q119) h132 (fun y139 h139 =>
  P y139 h139)))))))) PX)) PX)) PX)) PX
def w_X1_move (a0 : Option Nat) (a1 : Int32) (a2 : Int32) (a3 : Int32) (a4 : Int32) (h : AH) (P : Int32 → AH → Prop) (PX : String → AH → Prop) : Prop :=
  is_c h a0 [0] (
  w_X1_board a0 a1 h (fun y2 h2 =>
  g_q h2 a0 0 0 fun y10 =>
  is_c h2 y10 [15] (
  w_J2_size y10 h2 (fun y13 h13 =>
  w_X1_isBetween a2 0 (y13 - 1) h13 (fun y18 h18 =>
  ((y18 = 0 →
    w_X1_move_62 P PX a0 a2 a3 a4 y2 1 h18) ∧
   (¬ y18 = 0 →
    g_q h18 a0 0 0 fun y28 =>
    is_c h18 y28 [15] (
    w_J2_get y28 a2 h18 (fun y32 h32 =>
    is_c h32 y32 [7, 8] (
    g_iS h32 y32 1 fun y38 =>
    g_q h32 a0 0 0 fun y42 =>
    is_c h32 y42 [15] (
    w_J2_get y42 a2 h32 (fun y46 h46 =>
    is_c h46 y46 [7, 8] (
    g_iS h46 y46 2 fun y52 =>
    w_X1_isOnBoard a3 a4 y38 y52 h46 (fun y55 h55 =>
    w_X1_move_62 P PX a0 a2 a3 a4 y2 y55 h55))))))))))))) PX)
theorem wk_X1_move_62 {x : CX} (X : Ok x cX1_move RX1 rm_X1_move 11) (er : xrt x = (Option.some Jvm.ClassFile.FieldType.int)) (en : xnm x = yX1_move.name) {P : Int32 → AH → Prop} {PX : String → AH → Prop} (hQ : xr_i x P) (hT : xt_ x PX) (hex : ∀ z ∈ x.2.2.2.2.2.2.2.2.2.1.exceptionTable.toList, False) (x0 : Option Nat) (x2 : Int32) (x3 : Int32) (x4 : Int32) (x5 : Option Nat) (t0 : Int32) (h : AH) (hw : w_X1_move_62 P PX x0 x2 x3 x4 x5 t0 h) : J x h 2 7 62 [(0, vR x0), (2, vI x2), (3, vI x3), (4, vI x4), (5, vR x5)] [vI t0] := by
  refine j_istore X (pc := 62) [(6, vI t0), (0, vR x0), (2, vI x2), (3, vI x3), (4, vI x4), (5, vR x5)] dX1_move_62 (Nat.le_of_ble_eq_true rfl) rfl ?_
  refine j_iconst X (pc := 64) 1 dX1_move_64 (by decide) ?_
  refine j_newZ X (pc := 65) 1 dX1_move_65 q233 (by decide) (Nat.le_of_ble_eq_true rfl) (Nat.le_of_ble_eq_true rfl) hw (fun q65 h65 hw => ?_)
  refine j_dup X (pc := 67) dX1_move_67 rfl ?_
  refine j_iconst X (pc := 68) 0 dX1_move_68 (by decide) ?_
  refine j_iload X (pc := 69) 0 dX1_move_69 rfl ?_
  have hnr := hw.1
  have hw := hw.2
  refine j_zast X (pc := 71) 1 rfl rfl hnr dX1_move_71 hw (fun h71 hw => ?_)
  refine j_callXv (j_runSX (n8 := 1) (As := [vR (some q65)]) (rest := []) X (pc := 72) (met_X1_require (xl x) X.hl (xG x) h71 (some q65) _ _ hw) q307 q308 q71 q309 (by decide +kernel) dX1_move_72 rfl ⟨Nat.le_of_ble_eq_true rfl, Nat.le_of_ble_eq_true rfl⟩ (Nat.le_of_ble_eq_true rfl) ⟨Nat.le_of_ble_eq_true rfl, Nat.le_of_ble_eq_true rfl⟩) (fun E h9 hx => j_out X hT hex (Nat.le_of_ble_eq_true rfl) (Nat.le_of_ble_eq_true rfl) hx) (fun h72 hw => ?_)
  refine j_aload_n X (pc := 75) 1 dX1_move_75 rfl rfl ?_
  refine j_aload X (pc := 76) 5 dX1_move_76 rfl ?_
  refine j_iload_n X (pc := 78) 2 dX1_move_78 rfl rfl ?_
  obtain ⟨b9, c9, f9, hr9, ho9, hc9, hw⟩ := hw
  obtain rfl := List.mem_singleton.mp hc9
  refine j_callXq (j_runVX (n8 := 2) (As := [vR x5, vI x2]) (rest := []) X (pc := 79) hr9 (met_X1_shape (xl x) X.hl (xG x) h72 x0 x5 x2 _ _ hw) ho9 (by decide) rfl q1075 q1077 qs9 q71 q1078 (by decide +kernel) dX1_move_79 rfl ⟨Nat.le_of_ble_eq_true rfl, Nat.le_of_ble_eq_true rfl⟩ (Nat.le_of_ble_eq_true rfl) ⟨Nat.le_of_ble_eq_true rfl, Nat.le_of_ble_eq_true rfl⟩) (fun E h9 hx => j_out X hT hex (Nat.le_of_ble_eq_true rfl) (Nat.le_of_ble_eq_true rfl) hx) (fun y79 h79 hw => ?_)
  refine j_astore X (pc := 82) [(7, vR y79), (6, vI t0), (0, vR x0), (2, vI x2), (3, vI x3), (4, vI x4), (5, vR x5)] dX1_move_82 (Nat.le_of_ble_eq_true rfl) rfl ?_
  refine j_aload_n X (pc := 84) 2 dX1_move_84 rfl rfl ?_
  refine j_aload X (pc := 85) 6 dX1_move_85 rfl ?_
  refine j_aload X (pc := 87) 0 dX1_move_87 rfl ?_
  obtain ⟨b9, c9, f9, hr9, ho9, hc9, hw⟩ := hw
  obtain rfl := List.mem_singleton.mp hc9
  refine j_callXv (j_runVX (n8 := 2) (As := [vR x5, vR y79]) (rest := []) X (pc := 89) hr9 (met_X1_requireUnlocked (xl x) X.hl (xG x) h79 x0 x5 y79 _ _ hw) ho9 (by decide) rfl q1085 q1087 qs10 q71 q1088 (by decide +kernel) dX1_move_89 rfl ⟨Nat.le_of_ble_eq_true rfl, Nat.le_of_ble_eq_true rfl⟩ (Nat.le_of_ble_eq_true rfl) ⟨Nat.le_of_ble_eq_true rfl, Nat.le_of_ble_eq_true rfl⟩) (fun E h9 hx => j_out X hT hex (Nat.le_of_ble_eq_true rfl) (Nat.le_of_ble_eq_true rfl) hx) (fun h89 hw => ?_)
  refine j_aload_n X (pc := 92) 2 dX1_move_92 rfl rfl ?_
  obtain ⟨b9, c9, f9, hr9, ho9, hc9, hw⟩ := hw
  obtain rfl := List.mem_singleton.mp hc9
  refine j_callXv (j_runVX (n8 := 0) (As := []) (rest := []) X (pc := 93) hr9 (met_X1_requireRoom (xl x) X.hl (xG x) h89 x0 _ _ hw) ho9 (by decide) rfl q400 q402 qs2 q71 q403 (by decide +kernel) dX1_move_93 rfl ⟨Nat.le_of_ble_eq_true rfl, Nat.le_of_ble_eq_true rfl⟩ (Nat.le_of_ble_eq_true rfl) ⟨Nat.le_of_ble_eq_true rfl, Nat.le_of_ble_eq_true rfl⟩) (fun E h9 hx => j_out X hT hex (Nat.le_of_ble_eq_true rfl) (Nat.le_of_ble_eq_true rfl) hx) (fun h93 hw => ?_)
  refine j_iload_n X (pc := 96) 4 dX1_move_96 rfl rfl ?_
  refine j_aload X (pc := 97) 6 dX1_move_97 rfl ?_
  refine j_aload X (pc := 99) 0 dX1_move_99 rfl ?_
  obtain ⟨b9, c9, f9, hr9, ho9, hc9, hw⟩ := hw
  obtain rfl := List.mem_singleton.mp hc9
  refine j_calli (j_runV (n8 := 1) (As := [vR y79]) (rest := [vI x3]) X (pc := 101) hr9 (met_X3_columnOf (xl x) X.hl (xG x) h93 x5 y79 _ hw) ho9 (by decide) rfl q1115 q1116 q1117 q76 q1118 (by decide +kernel) dX1_move_101 rfl ⟨Nat.le_of_ble_eq_true rfl, Nat.le_of_ble_eq_true rfl⟩ (Nat.le_of_ble_eq_true rfl) ⟨Nat.le_of_ble_eq_true rfl, Nat.le_of_ble_eq_true rfl⟩) (fun y101 h101 hw => ?_)
  refine j_isub X (pc := 104) dX1_move_104 ?_
  refine j_istore X (pc := 105) [(8, vI (x3 - y101)), (7, vR y79), (6, vI t0), (0, vR x0), (2, vI x2), (3, vI x3), (4, vI x4), (5, vR x5)] dX1_move_105 (Nat.le_of_ble_eq_true rfl) rfl ?_
  refine j_iload X (pc := 107) 6 dX1_move_107 rfl ?_
  refine j_aload X (pc := 109) 7 dX1_move_109 rfl ?_
  refine j_aload X (pc := 111) 1 dX1_move_111 rfl ?_
  obtain ⟨b9, c9, f9, hr9, ho9, hc9, hw⟩ := hw
  obtain rfl := List.mem_singleton.mp hc9
  refine j_calli (j_runV (n8 := 1) (As := [vR y79]) (rest := [vI x4]) X (pc := 113) hr9 (met_X3_rowOf (xl x) X.hl (xG x) h101 x5 y79 _ hw) ho9 (by decide) rfl q1119 q1120 q1121 q76 q1122 (by decide +kernel) dX1_move_113 rfl ⟨Nat.le_of_ble_eq_true rfl, Nat.le_of_ble_eq_true rfl⟩ (Nat.le_of_ble_eq_true rfl) ⟨Nat.le_of_ble_eq_true rfl, Nat.le_of_ble_eq_true rfl⟩) (fun y113 h113 hw => ?_)
  refine j_isub X (pc := 116) dX1_move_116 ?_
  refine j_istore X (pc := 117) [(9, vI (x4 - y113)), (8, vI (x3 - y101)), (7, vR y79), (6, vI t0), (0, vR x0), (2, vI x2), (3, vI x3), (4, vI x4), (5, vR x5)] dX1_move_117 (Nat.le_of_ble_eq_true rfl) rfl ?_
  refine j_new (ci := 11) X (pc := 119) in_X13 rfl (by decide) tyX13 tyX13_ok q1123 q1124 q110 (fs := dvX13) dfX13 (Nat.le_of_ble_eq_true rfl) (Nat.le_of_ble_eq_true rfl) dX1_move_119 hw (fun q119 h119 hw => ?_)
  refine j_dup X (pc := 122) dX1_move_122 rfl ?_
  refine j_aload_n X (pc := 123) 4 dX1_move_123 rfl rfl ?_
  refine j_aload X (pc := 124) 8 dX1_move_124 rfl ?_
  refine j_aload X (pc := 126) 2 dX1_move_126 rfl ?_
  refine j_iload X (pc := 128) 1 dX1_move_128 rfl ?_
  refine j_iload X (pc := 130) 0 dX1_move_130 rfl ?_
  refine j_callv (j_runI (n8 := 5) (As := [vR x0, vR x5, vR y79, vI (x3 - y101), vI (x4 - y113)]) (rest := [vR (some q119)]) X (pc := 132) rfl (met_X13_init (xl x) X.hl (xG x) h119 (some q119) x0 x5 y79 (x3 - y101) (x4 - y113) _ hw) q1125 q1126 q110 q1127 (by decide +kernel) dX1_move_132 rfl ⟨Nat.le_of_ble_eq_true rfl, Nat.le_of_ble_eq_true rfl⟩ (Nat.le_of_ble_eq_true rfl) ⟨Nat.le_of_ble_eq_true rfl, Nat.le_of_ble_eq_true rfl⟩) (fun h132 hw => ?_)
  refine j_astore X (pc := 135) [(10, vR (some q119)), (9, vI (x4 - y113)), (8, vI (x3 - y101)), (7, vR y79), (6, vI t0), (0, vR x0), (2, vI x2), (3, vI x3), (4, vI x4), (5, vR x5)] dX1_move_135 (Nat.le_of_ble_eq_true rfl) rfl ?_
  refine j_aload X (pc := 137) 0 dX1_move_137 rfl ?_
  obtain ⟨b9, c9, f9, hr9, ho9, hc9, hw⟩ := hw
  obtain rfl := List.mem_singleton.mp hc9
  refine j_calli (j_runV (n8 := 0) (As := []) (rest := []) X (pc := 139) hr9 (met_X13_moved (xl x) X.hl (xG x) h132 (some q119) _ hw) ho9 (by decide) rfl q1173 q1174 q1175 q110 q1176 (by decide +kernel) dX1_move_139 rfl ⟨Nat.le_of_ble_eq_true rfl, Nat.le_of_ble_eq_true rfl⟩ (Nat.le_of_ble_eq_true rfl) ⟨Nat.le_of_ble_eq_true rfl, Nat.le_of_ble_eq_true rfl⟩) (fun y139 h139 hw => ?_)
  exact j_iret X (pc := 142) hQ er (Nat.le_of_ble_eq_true rfl) (Nat.le_of_ble_eq_true rfl) dX1_move_142 hw
theorem met_X1_move (l : Launch) (hlt : l.stackTraces = false) (G : GG) (h : AH) (a0 : Option Nat) (a1 : Int32) (a2 : Int32) (a3 : Int32) (a4 : Int32) (P : Int32 → AH → Prop) (PX : String → AH → Prop) (hw : w_X1_move a0 a1 a2 a3 a4 h P PX) : cx_i l yX1_move (ws_ yX1_move cX1_move 11 (Option.some Jvm.ClassFile.FieldType.int)) rm_X1_move G h [vR a0, vI a1, vI a2, vI a3, vI a4] P PX := by
  refine j_startXi hlt [(0, vR a0), (1, vI a1), (2, vI a2), (3, vI a3), (4, vI a4)] (by decide) rfl rfl (fun x X eG er en hQ hT hex => ?_)
  subst eG
  refine j_aload_n X (pc := 0) 0 dX1_move_0 rfl rfl ?_
  refine j_iload_n X (pc := 1) 1 dX1_move_1 rfl rfl ?_
  obtain ⟨b9, c9, f9, hr9, ho9, hc9, hw⟩ := hw
  obtain rfl := List.mem_singleton.mp hc9
  refine j_callXq (j_runVX (n8 := 1) (As := [vI a1]) (rest := []) X (pc := 2) hr9 (met_X1_board (xl x) X.hl (xG x) h a0 a1 _ _ hw) ho9 (by decide) rfl q297 q299 qs0 q71 q300 (by decide +kernel) dX1_move_2 rfl ⟨Nat.le_of_ble_eq_true rfl, Nat.le_of_ble_eq_true rfl⟩ (Nat.le_of_ble_eq_true rfl) ⟨Nat.le_of_ble_eq_true rfl, Nat.le_of_ble_eq_true rfl⟩) (fun E h9 hx => j_out X hT hex (Nat.le_of_ble_eq_true rfl) (Nat.le_of_ble_eq_true rfl) hx) (fun y2 h2 hw => ?_)
  refine j_astore X (pc := 5) [(5, vR y2), (0, vR a0), (1, vI a1), (2, vI a2), (3, vI a3), (4, vI a4)] dX1_move_5 (Nat.le_of_ble_eq_true rfl) rfl ?_
  refine j_iload_n X (pc := 7) 3 dX1_move_7 rfl rfl ?_
  refine j_iconst X (pc := 8) 0 dX1_move_8 (by decide) ?_
  refine j_aload_n X (pc := 9) 1 dX1_move_9 rfl rfl ?_
  refine j_getq (ci := 0) X (pc := 10) in_X1 rfl (by decide) 0 (by decide) q240 (Or.inl rfl) dX1_move_10 hw (fun y10 hw => ?_)
  obtain ⟨b9, c9, f9, hr9, ho9, hc9, hw⟩ := hw
  obtain rfl := List.mem_singleton.mp hc9
  refine j_calli (j_runV (n8 := 0) (As := []) (rest := [vI 0, vI a2]) X (pc := 13) hr9 (met_J2_size (xl x) X.hl (xG x) h2 y10 _ hw) ho9 (by decide) rfl q284 q285 q286 q74 q287 (by decide +kernel) dX1_move_13 rfl ⟨Nat.le_of_ble_eq_true rfl, Nat.le_of_ble_eq_true rfl⟩ (Nat.le_of_ble_eq_true rfl) ⟨Nat.le_of_ble_eq_true rfl, Nat.le_of_ble_eq_true rfl⟩) (fun y13 h13 hw => ?_)
  refine j_iconst X (pc := 16) 1 dX1_move_16 (by decide) ?_
  refine j_isub X (pc := 17) dX1_move_17 ?_
  refine j_calli (j_runS (n8 := 3) (As := [vI a2, vI 0, vI (y13 - 1)]) (rest := []) X (pc := 18) (met_X1_isBetween (xl x) X.hl (xG x) h13 a2 0 (y13 - 1) _ hw) q304 q305 q71 q306 (by decide +kernel) dX1_move_18 rfl ⟨Nat.le_of_ble_eq_true rfl, Nat.le_of_ble_eq_true rfl⟩ (Nat.le_of_ble_eq_true rfl) ⟨Nat.le_of_ble_eq_true rfl, Nat.le_of_ble_eq_true rfl⟩) (fun y18 h18 hw => ?_)
  refine j_if_eq X (pc := 21) 61 dX1_move_21 (by decide) hw (fun hw => ?_) (fun hw => ?_)
  · refine j_iconst X (pc := 61) 1 dX1_move_61 (by decide) ?_
    refine j_lv [(0, vR a0), (2, vI a2), (3, vI a3), (4, vI a4), (5, vR y2)] [1, 3, 4, 5, 0] rfl ?_
    refine j_cs (u' := 2) (v' := 7) (Nat.le_of_ble_eq_true rfl) (Nat.le_of_ble_eq_true rfl) ?_
    exact wk_X1_move_62 X er en hQ hT hex a0 a2 a3 a4 y2 1 h18 hw
  · refine j_iload_n X (pc := 24) 4 dX1_move_24 rfl rfl ?_
    refine j_iload X (pc := 25) 5 dX1_move_25 rfl ?_
    refine j_aload_n X (pc := 27) 1 dX1_move_27 rfl rfl ?_
    refine j_getq (ci := 0) X (pc := 28) in_X1 rfl (by decide) 0 (by decide) q240 (Or.inl rfl) dX1_move_28 hw (fun y28 hw => ?_)
    refine j_iload_n X (pc := 31) 3 dX1_move_31 rfl rfl ?_
    obtain ⟨b9, c9, f9, hr9, ho9, hc9, hw⟩ := hw
    obtain rfl := List.mem_singleton.mp hc9
    refine j_callq (j_runV (n8 := 1) (As := [vI a2]) (rest := [vI a4, vI a3]) X (pc := 32) hr9 (met_J2_get (xl x) X.hl (xG x) h18 y28 a2 _ hw) ho9 (by decide) rfl q1074 q512 q513 q74 q514 (by decide +kernel) dX1_move_32 rfl ⟨Nat.le_of_ble_eq_true rfl, Nat.le_of_ble_eq_true rfl⟩ (Nat.le_of_ble_eq_true rfl) ⟨Nat.le_of_ble_eq_true rfl, Nat.le_of_ble_eq_true rfl⟩) (fun y32 h32 hw => ?_)
    refine j_chk X (pc := 35) (L := [7, 8]) q550 (by intro ci hci; simp only [List.mem_cons, List.not_mem_nil, or_false] at hci; rcases hci with rfl | rfl <;> first | exact ⟨by decide, _, _, _, rfl, Or.inr q2343⟩ | exact ⟨by decide, _, _, _, rfl, Or.inr q2344⟩) dX1_move_35 hw (fun hw => ?_)
    refine j_getiSN X (pc := 38) 1 (by decide) q581 dX1_move_38 hw (fun y38 hw => ?_)
    refine j_aload_n X (pc := 41) 1 dX1_move_41 rfl rfl ?_
    refine j_getq (ci := 0) X (pc := 42) in_X1 rfl (by decide) 0 (by decide) q240 (Or.inl rfl) dX1_move_42 hw (fun y42 hw => ?_)
    refine j_iload_n X (pc := 45) 3 dX1_move_45 rfl rfl ?_
    obtain ⟨b9, c9, f9, hr9, ho9, hc9, hw⟩ := hw
    obtain rfl := List.mem_singleton.mp hc9
    refine j_callq (j_runV (n8 := 1) (As := [vI a2]) (rest := [vI y38, vI a4, vI a3]) X (pc := 46) hr9 (met_J2_get (xl x) X.hl (xG x) h32 y42 a2 _ hw) ho9 (by decide) rfl q1074 q512 q513 q74 q514 (by decide +kernel) dX1_move_46 rfl ⟨Nat.le_of_ble_eq_true rfl, Nat.le_of_ble_eq_true rfl⟩ (Nat.le_of_ble_eq_true rfl) ⟨Nat.le_of_ble_eq_true rfl, Nat.le_of_ble_eq_true rfl⟩) (fun y46 h46 hw => ?_)
    refine j_chk X (pc := 49) (L := [7, 8]) q550 (by intro ci hci; simp only [List.mem_cons, List.not_mem_nil, or_false] at hci; rcases hci with rfl | rfl <;> first | exact ⟨by decide, _, _, _, rfl, Or.inr q2343⟩ | exact ⟨by decide, _, _, _, rfl, Or.inr q2344⟩) dX1_move_49 hw (fun hw => ?_)
    refine j_getiSN X (pc := 52) 2 (by decide) q584 dX1_move_52 hw (fun y52 hw => ?_)
    refine j_calli (j_runS (n8 := 4) (As := [vI a3, vI a4, vI y38, vI y52]) (rest := []) X (pc := 55) (met_X1_isOnBoard (xl x) X.hl (xG x) h46 a3 a4 y38 y52 _ hw) q379 q380 q71 q381 (by decide +kernel) dX1_move_55 rfl ⟨Nat.le_of_ble_eq_true rfl, Nat.le_of_ble_eq_true rfl⟩ (Nat.le_of_ble_eq_true rfl) ⟨Nat.le_of_ble_eq_true rfl, Nat.le_of_ble_eq_true rfl⟩) (fun y55 h55 hw => ?_)
    refine j_goto X (pc := 58) 62 dX1_move_58 (by decide) ?_
    refine j_lv [(0, vR a0), (2, vI a2), (3, vI a3), (4, vI a4), (5, vR y2)] [1, 3, 4, 5, 0] rfl ?_
    refine j_cs (u' := 2) (v' := 7) (Nat.le_of_ble_eq_true rfl) (Nat.le_of_ble_eq_true rfl) ?_
    exact wk_X1_move_62 X er en hQ hT hex a0 a2 a3 a4 y2 y55 h55 hw
abbrev cX0_move : ByteArray := method_4_code
def yX0_move : MethodName := ⟨RX0, "move", "(LPlugboard;IIII[J)I"⟩
def dkwX0_move_1 : List UInt8 := [172, 58, 6, 6, 172, 58, 6, 7, 172, 3, 172]
abbrev dktX0_move_1 : List UInt8 := dkwX0_move_1 ++ []
def dkwX0_move_0 : List UInt8 := [25, 5, 3, 42, 27, 28, 29, 21, 4, 182, 0, 17, 133, 80, 167, 0, 19, 58, 6, 4, 172, 58, 6, 5]
abbrev dktX0_move_0 : List UInt8 := dkwX0_move_0 ++ dktX0_move_1
theorem dksX0_move_0 : cX0_move.data.toList.drop 0 = dktX0_move_0 := by decide +kernel
theorem dksX0_move_1 : cX0_move.data.toList.drop 24 = dktX0_move_1 := dk_seg dksX0_move_0 24 rfl rfl
theorem dX0_move_0 : decode cX0_move 0 = .ok (.aload 5, 2) := dk_25 5 (dk_at dksX0_move_0 0 rfl rfl)
theorem dX0_move_2 : decode cX0_move 2 = .ok (.iconst 0, 1) := dk_3 (dk_at dksX0_move_0 2 rfl rfl)
theorem dX0_move_3 : decode cX0_move 3 = .ok (.aload_n 0, 1) := dk_42 (dk_at dksX0_move_0 3 rfl rfl)
theorem dX0_move_4 : decode cX0_move 4 = .ok (.iload_n 1, 1) := dk_27 (dk_at dksX0_move_0 4 rfl rfl)
theorem dX0_move_5 : decode cX0_move 5 = .ok (.iload_n 2, 1) := dk_28 (dk_at dksX0_move_0 5 rfl rfl)
theorem dX0_move_6 : decode cX0_move 6 = .ok (.iload_n 3, 1) := dk_29 (dk_at dksX0_move_0 6 rfl rfl)
theorem dX0_move_7 : decode cX0_move 7 = .ok (.iload 4, 2) := dk_21 4 (dk_at dksX0_move_0 7 rfl rfl)
theorem dX0_move_9 : decode cX0_move 9 = .ok (.invokevirtual 17, 3) := dk_182 0 17 (dk_at dksX0_move_0 9 rfl rfl)
theorem dX0_move_12 : decode cX0_move 12 = .ok (.i2l, 1) := dk_133 (dk_at dksX0_move_0 12 rfl rfl)
theorem dX0_move_13 : decode cX0_move 13 = .ok (.lastore, 1) := dk_80 (dk_at dksX0_move_0 13 rfl rfl)
theorem dX0_move_14 : decode cX0_move 14 = .ok (.goto 19, 3) := dk_167 0 19 (dk_at dksX0_move_0 14 rfl rfl)
theorem dX0_move_17 : decode cX0_move 17 = .ok (.astore 6, 2) := dk_58 6 (dk_at dksX0_move_0 17 rfl rfl)
theorem dX0_move_19 : decode cX0_move 19 = .ok (.iconst 1, 1) := dk_4 (dk_at dksX0_move_0 19 rfl rfl)
theorem dX0_move_20 : decode cX0_move 20 = .ok (.ireturn, 1) := dk_172 (dk_at dksX0_move_0 20 rfl rfl)
theorem dX0_move_21 : decode cX0_move 21 = .ok (.astore 6, 2) := dk_58 6 (dk_at dksX0_move_0 21 rfl rfl)
theorem dX0_move_23 : decode cX0_move 23 = .ok (.iconst 2, 1) := dk_5 (dk_at dksX0_move_0 23 rfl rfl)
theorem dX0_move_24 : decode cX0_move 24 = .ok (.ireturn, 1) := dk_172 (dk_at dksX0_move_1 0 rfl rfl)
theorem dX0_move_25 : decode cX0_move 25 = .ok (.astore 6, 2) := dk_58 6 (dk_at dksX0_move_1 1 rfl rfl)
theorem dX0_move_27 : decode cX0_move 27 = .ok (.iconst 3, 1) := dk_6 (dk_at dksX0_move_1 3 rfl rfl)
theorem dX0_move_28 : decode cX0_move 28 = .ok (.ireturn, 1) := dk_172 (dk_at dksX0_move_1 4 rfl rfl)
theorem dX0_move_29 : decode cX0_move 29 = .ok (.astore 6, 2) := dk_58 6 (dk_at dksX0_move_1 5 rfl rfl)
theorem dX0_move_31 : decode cX0_move 31 = .ok (.iconst 4, 1) := dk_7 (dk_at dksX0_move_1 7 rfl rfl)
theorem dX0_move_32 : decode cX0_move 32 = .ok (.ireturn, 1) := dk_172 (dk_at dksX0_move_1 8 rfl rfl)
theorem dX0_move_33 : decode cX0_move 33 = .ok (.iconst 0, 1) := dk_3 (dk_at dksX0_move_1 9 rfl rfl)
theorem dX0_move_34 : decode cX0_move 34 = .ok (.ireturn, 1) := dk_172 (dk_at dksX0_move_1 10 rfl rfl)
theorem q537 : (Jvm.Cond.castable "java/util/NoSuchElementException" "java/util/NoSuchElementException") ∈ lw_tbl := lw_at lw_m2 227 rfl
theorem q1068 : (Jvm.Cond.classLink "PlugboardLaw" (21 : Nat) "java/util/NoSuchElementException") ∈ lw_all := lw_g (lw_at lw_m5 38 rfl) rfl
theorem q1069 : (Jvm.Cond.classLink "PlugboardLaw" (23 : Nat) "java/lang/UnsupportedOperationException") ∈ lw_all := lw_g (lw_at lw_m5 39 rfl) rfl
theorem q1070 : (Jvm.Cond.methodLink "PlugboardLaw" (17 : Nat) ({ cls := "Plugboard", name := "move", desc := "(IIII)I" } : Jvm.MethodName)) ∈ lw_all := lw_g (lw_at lw_m5 40 rfl) rfl
theorem q1071 : (Jvm.Cond.instanceMethod ({ cls := "Plugboard", name := "move", desc := "(IIII)I" } : Jvm.MethodName)) ∈ lw_all := lw_g (lw_at lw_m5 41 rfl) rfl
theorem q1072 : (Jvm.Cond.selects "Plugboard" ({ cls := "Plugboard", name := "move", desc := "(IIII)I" } : Jvm.MethodName) ({ cls := "Plugboard", name := "move", desc := "(IIII)I" } : Jvm.MethodName)) ∈ lw_all := lw_g (lw_at lw_m5 42 rfl) rfl
theorem q1073 : (Jvm.Cond.code ({ cls := "Plugboard", name := "move", desc := "(IIII)I" } : Jvm.MethodName) prog_1_method_20_code (11 : Nat) (Option.some Jvm.ClassFile.FieldType.int)) ∈ lw_all := lw_g (lw_at lw_m5 43 rfl) rfl
theorem q1102 : (Jvm.Cond.castable "java/lang/UnsupportedOperationException" "java/lang/UnsupportedOperationException") ∈ lw_tbl := lw_at lw_m5 72 rfl
abbrev rm_X0_move : Room := { frames := 12, cells := 21, slots := 275, locals := 301 }
def w_X0_move (a0 : Option Nat) (a1 : Int32) (a2 : Int32) (a3 : Int32) (a4 : Int32) (a5 : Option Nat) (h : AH) (P : Int32 → AH → Prop) : Prop :=
  is_c h a0 [0] (
  w_X1_move a0 a1 a2 a3 a4 h (fun y9 h9 =>
  s_L h9 a5 0 (Int32.toInt64 y9) fun h13 =>
  P 0 h13)
    (fun E9 h9 => (E9 = "java/lang/IllegalArgumentException" ∧ ∀ q9 : Nat,
    P 1 h9) ∨
    (E9 = "java/util/NoSuchElementException" ∧ ∀ q9 : Nat,
    P 2 h9) ∨
    (E9 = "java/lang/UnsupportedOperationException" ∧ ∀ q9 : Nat,
    P 3 h9) ∨
    (E9 = "java/lang/IllegalStateException" ∧ ∀ q9 : Nat,
    P 4 h9)))
theorem met_X0_move (l : Launch) (hlt : l.stackTraces = false) (G : GG) (h : AH) (a0 : Option Nat) (a1 : Int32) (a2 : Int32) (a3 : Int32) (a4 : Int32) (a5 : Option Nat) (P : Int32 → AH → Prop) (hw : w_X0_move a0 a1 a2 a3 a4 a5 h P) : ct_i l yX0_move (wsW_ yX0_move cX0_move 7 (Option.some Jvm.ClassFile.FieldType.int) [((0 : Nat), (14 : Nat), (17 : Nat), (13 : Nat)), ((0 : Nat), (14 : Nat), (21 : Nat), (21 : Nat)), ((0 : Nat), (14 : Nat), (25 : Nat), (23 : Nat)), ((0 : Nat), (14 : Nat), (29 : Nat), (15 : Nat))]) rm_X0_move G h [vR a0, vI a1, vI a2, vI a3, vI a4, vR a5] P := by
  refine j_startWi hlt [(0, vR a0), (1, vI a1), (2, vI a2), (3, vI a3), (4, vI a4), (5, vR a5)] (by decide) rfl rfl (fun x X eG er en hQ hex => ?_)
  subst eG
  refine j_aload X (pc := 0) 5 dX0_move_0 rfl ?_
  refine j_iconst X (pc := 2) 0 dX0_move_2 (by decide) ?_
  refine j_aload_n X (pc := 3) 0 dX0_move_3 rfl rfl ?_
  refine j_iload_n X (pc := 4) 1 dX0_move_4 rfl rfl ?_
  refine j_iload_n X (pc := 5) 2 dX0_move_5 rfl rfl ?_
  refine j_iload_n X (pc := 6) 3 dX0_move_6 rfl rfl ?_
  refine j_iload X (pc := 7) 4 dX0_move_7 rfl ?_
  obtain ⟨b9, c9, f9, hr9, ho9, hc9, hw⟩ := hw
  obtain rfl := List.mem_singleton.mp hc9
  refine j_callXi (j_runVX (n8 := 4) (As := [vI a1, vI a2, vI a3, vI a4]) (rest := [vI 0, vR a5]) X (pc := 9) hr9 (met_X1_move (xl x) X.hl (xG x) h a0 a1 a2 a3 a4 _ _ hw) ho9 (by decide) rfl q1070 q1071 q1072 q71 q1073 (by decide +kernel) dX0_move_9 rfl ⟨Nat.le_of_ble_eq_true rfl, Nat.le_of_ble_eq_true rfl⟩ (Nat.le_of_ble_eq_true rfl) ⟨Nat.le_of_ble_eq_true rfl, Nat.le_of_ble_eq_true rfl⟩) ?_ (fun y9 h9 hw => ?_)
  · intro E9 h9 hx
    rcases hx with ⟨rfl, hw⟩ | ⟨rfl, hw⟩ | ⟨rfl, hw⟩ | ⟨rfl, hw⟩
    · refine j_catch X (pc := 9) "java/lang/IllegalArgumentException" hex [] [⟨0, 14, 21, 21⟩, ⟨0, 14, 25, 23⟩, ⟨0, 14, 29, 15⟩] ⟨0, 14, 17, 13⟩ rfl (by intro y hy; cases hy) (by decide) (by decide) q291 q312 (fun q9 => ?_)
      have hw := hw q9
      refine j_astore X (pc := 17) [(6, vR (some q9)), (0, vR a0), (1, vI a1), (2, vI a2), (3, vI a3), (4, vI a4), (5, vR a5)] dX0_move_17 (Nat.le_of_ble_eq_true rfl) rfl ?_
      refine j_iconst X (pc := 19) 1 dX0_move_19 (by decide) ?_
      exact j_iret X (pc := 20) hQ er (Nat.le_of_ble_eq_true rfl) (Nat.le_of_ble_eq_true rfl) dX0_move_20 hw
    · refine j_catch X (pc := 9) "java/util/NoSuchElementException" hex [⟨0, 14, 17, 13⟩] [⟨0, 14, 25, 23⟩, ⟨0, 14, 29, 15⟩] ⟨0, 14, 21, 21⟩ rfl (by intro y hy; simp only [List.mem_cons, List.not_mem_nil, or_false] at hy; subst hy; exact Or.inr ⟨by decide, "java/lang/IllegalArgumentException", q291, by decide +kernel⟩) (by decide) (by decide) q1068 q537 (fun q9 => ?_)
      have hw := hw q9
      refine j_astore X (pc := 21) [(6, vR (some q9)), (0, vR a0), (1, vI a1), (2, vI a2), (3, vI a3), (4, vI a4), (5, vR a5)] dX0_move_21 (Nat.le_of_ble_eq_true rfl) rfl ?_
      refine j_iconst X (pc := 23) 2 dX0_move_23 (by decide) ?_
      exact j_iret X (pc := 24) hQ er (Nat.le_of_ble_eq_true rfl) (Nat.le_of_ble_eq_true rfl) dX0_move_24 hw
    · refine j_catch X (pc := 9) "java/lang/UnsupportedOperationException" hex [⟨0, 14, 17, 13⟩, ⟨0, 14, 21, 21⟩] [⟨0, 14, 29, 15⟩] ⟨0, 14, 25, 23⟩ rfl (by intro y hy; simp only [List.mem_cons, List.not_mem_nil, or_false] at hy; rcases hy with rfl | rfl <;> first | exact Or.inr ⟨by decide, "java/lang/IllegalArgumentException", q291, by decide +kernel⟩ | exact Or.inr ⟨by decide, "java/util/NoSuchElementException", q1068, by decide +kernel⟩) (by decide) (by decide) q1069 q1102 (fun q9 => ?_)
      have hw := hw q9
      refine j_astore X (pc := 25) [(6, vR (some q9)), (0, vR a0), (1, vI a1), (2, vI a2), (3, vI a3), (4, vI a4), (5, vR a5)] dX0_move_25 (Nat.le_of_ble_eq_true rfl) rfl ?_
      refine j_iconst X (pc := 27) 3 dX0_move_27 (by decide) ?_
      exact j_iret X (pc := 28) hQ er (Nat.le_of_ble_eq_true rfl) (Nat.le_of_ble_eq_true rfl) dX0_move_28 hw
    · refine j_catch X (pc := 9) "java/lang/IllegalStateException" hex [⟨0, 14, 17, 13⟩, ⟨0, 14, 21, 21⟩, ⟨0, 14, 25, 23⟩] [] ⟨0, 14, 29, 15⟩ rfl (by intro y hy; simp only [List.mem_cons, List.not_mem_nil, or_false] at hy; rcases hy with rfl | rfl | rfl <;> first | exact Or.inr ⟨by decide, "java/lang/IllegalArgumentException", q291, by decide +kernel⟩ | exact Or.inr ⟨by decide, "java/util/NoSuchElementException", q1068, by decide +kernel⟩ | exact Or.inr ⟨by decide, "java/lang/UnsupportedOperationException", q1069, by decide +kernel⟩) (by decide) (by decide) q292 q387 (fun q9 => ?_)
      have hw := hw q9
      refine j_astore X (pc := 29) [(6, vR (some q9)), (0, vR a0), (1, vI a1), (2, vI a2), (3, vI a3), (4, vI a4), (5, vR a5)] dX0_move_29 (Nat.le_of_ble_eq_true rfl) rfl ?_
      refine j_iconst X (pc := 31) 4 dX0_move_31 (by decide) ?_
      exact j_iret X (pc := 32) hQ er (Nat.le_of_ble_eq_true rfl) (Nat.le_of_ble_eq_true rfl) dX0_move_32 hw
  refine j_i2l X (pc := 12) dX0_move_12 ?_
  refine j_last X (pc := 13) dX0_move_13 hw (fun h13 hw => ?_)
  refine j_goto X (pc := 14) 33 dX0_move_14 (by decide) ?_
  refine j_iconst X (pc := 33) 0 dX0_move_33 (by decide) ?_
  exact j_iret X (pc := 34) hQ er (Nat.le_of_ble_eq_true rfl) (Nat.le_of_ble_eq_true rfl) dX0_move_34 hw
abbrev cX5_isBarred : ByteArray := prog_19_method_22_code
def yX5_isBarred : MethodName := ⟨RX5, "isBarred", "(II)Z"⟩
def dkwX5_isBarred_1 : List UInt8 := [159, 0, 7, 4, 167, 0, 4, 3, 172]
abbrev dktX5_isBarred_1 : List UInt8 := dkwX5_isBarred_1 ++ []
def dkwX5_isBarred_0 : List UInt8 := [42, 180, 0, 67, 16, 36, 28, 96, 46, 2, 159, 0, 20, 42, 180, 0, 67, 16, 36, 28, 96, 46, 27]
abbrev dktX5_isBarred_0 : List UInt8 := dkwX5_isBarred_0 ++ dktX5_isBarred_1
theorem dksX5_isBarred_0 : cX5_isBarred.data.toList.drop 0 = dktX5_isBarred_0 := by decide +kernel
theorem dksX5_isBarred_1 : cX5_isBarred.data.toList.drop 23 = dktX5_isBarred_1 := dk_seg dksX5_isBarred_0 23 rfl rfl
theorem dX5_isBarred_0 : decode cX5_isBarred 0 = .ok (.aload_n 0, 1) := dk_42 (dk_at dksX5_isBarred_0 0 rfl rfl)
theorem dX5_isBarred_1 : decode cX5_isBarred 1 = .ok (.getfield 67, 3) := dk_180 0 67 (dk_at dksX5_isBarred_0 1 rfl rfl)
theorem dX5_isBarred_4 : decode cX5_isBarred 4 = .ok (.bipush 36, 2) := dk_16 36 (dk_at dksX5_isBarred_0 4 rfl rfl)
theorem dX5_isBarred_6 : decode cX5_isBarred 6 = .ok (.iload_n 2, 1) := dk_28 (dk_at dksX5_isBarred_0 6 rfl rfl)
theorem dX5_isBarred_7 : decode cX5_isBarred 7 = .ok (.iadd, 1) := dk_96 (dk_at dksX5_isBarred_0 7 rfl rfl)
theorem dX5_isBarred_8 : decode cX5_isBarred 8 = .ok (.iaload, 1) := dk_46 (dk_at dksX5_isBarred_0 8 rfl rfl)
theorem dX5_isBarred_9 : decode cX5_isBarred 9 = .ok (.iconst (-1), 1) := dk_2 (dk_at dksX5_isBarred_0 9 rfl rfl)
theorem dX5_isBarred_10 : decode cX5_isBarred 10 = .ok (.if_icmp .eq 20, 3) := dk_159 0 20 (dk_at dksX5_isBarred_0 10 rfl rfl)
theorem dX5_isBarred_13 : decode cX5_isBarred 13 = .ok (.aload_n 0, 1) := dk_42 (dk_at dksX5_isBarred_0 13 rfl rfl)
theorem dX5_isBarred_14 : decode cX5_isBarred 14 = .ok (.getfield 67, 3) := dk_180 0 67 (dk_at dksX5_isBarred_0 14 rfl rfl)
theorem dX5_isBarred_17 : decode cX5_isBarred 17 = .ok (.bipush 36, 2) := dk_16 36 (dk_at dksX5_isBarred_0 17 rfl rfl)
theorem dX5_isBarred_19 : decode cX5_isBarred 19 = .ok (.iload_n 2, 1) := dk_28 (dk_at dksX5_isBarred_0 19 rfl rfl)
theorem dX5_isBarred_20 : decode cX5_isBarred 20 = .ok (.iadd, 1) := dk_96 (dk_at dksX5_isBarred_0 20 rfl rfl)
theorem dX5_isBarred_21 : decode cX5_isBarred 21 = .ok (.iaload, 1) := dk_46 (dk_at dksX5_isBarred_0 21 rfl rfl)
theorem dX5_isBarred_22 : decode cX5_isBarred 22 = .ok (.iload_n 1, 1) := dk_27 (dk_at dksX5_isBarred_0 22 rfl rfl)
theorem dX5_isBarred_23 : decode cX5_isBarred 23 = .ok (.if_icmp .eq 7, 3) := dk_159 0 7 (dk_at dksX5_isBarred_1 0 rfl rfl)
theorem dX5_isBarred_26 : decode cX5_isBarred 26 = .ok (.iconst 1, 1) := dk_4 (dk_at dksX5_isBarred_1 3 rfl rfl)
theorem dX5_isBarred_27 : decode cX5_isBarred 27 = .ok (.goto 4, 3) := dk_167 0 4 (dk_at dksX5_isBarred_1 4 rfl rfl)
theorem dX5_isBarred_30 : decode cX5_isBarred 30 = .ok (.iconst 0, 1) := dk_3 (dk_at dksX5_isBarred_1 7 rfl rfl)
theorem dX5_isBarred_31 : decode cX5_isBarred 31 = .ok (.ireturn, 1) := dk_172 (dk_at dksX5_isBarred_1 8 rfl rfl)
abbrev rm_X5_isBarred : Room := { frames := 0, cells := 0, slots := 0, locals := 0 }
def w_X5_isBarred (a0 : Option Nat) (a1 : Int32) (a2 : Int32) (h : AH) (P : Int32 → AH → Prop) : Prop :=
  g_q h a0 4 21 fun y1 =>
  l_i h y1 0 (36 + a2) fun y8 =>
  ((y8 = (-1) →
    P 0 h) ∧
   (¬ y8 = (-1) →
    g_q h a0 4 21 fun y14 =>
    l_i h y14 0 (36 + a2) fun y21 =>
    ((y21 = a1 →
      P 0 h) ∧
     (¬ y21 = a1 →
      P 1 h))))
theorem met_X5_isBarred (l : Launch) (hlt : l.stackTraces = false) (G : GG) (h : AH) (a0 : Option Nat) (a1 : Int32) (a2 : Int32) (P : Int32 → AH → Prop) (hw : w_X5_isBarred a0 a1 a2 h P) : ct_i l yX5_isBarred (ws_ yX5_isBarred cX5_isBarred 3 (Option.some Jvm.ClassFile.FieldType.boolean)) rm_X5_isBarred G h [vR a0, vI a1, vI a2] P := by
  refine j_starti hlt [(0, vR a0), (1, vI a1), (2, vI a2)] (plainFor_of_name (by decide)) rfl rfl (fun x X eG er en hQ => ?_)
  subst eG
  refine j_aload_n X (pc := 0) 0 dX5_isBarred_0 rfl rfl ?_
  refine j_getq (ci := 4) X (pc := 1) in_X5 rfl (by decide) 21 (by decide) q1893 (Or.inl rfl) dX5_isBarred_1 hw (fun y1 hw => ?_)
  refine j_bipush X (pc := 4) 36 dX5_isBarred_4 (by decide) ?_
  refine j_iload_n X (pc := 6) 2 dX5_isBarred_6 rfl rfl ?_
  refine j_iadd X (pc := 7) dX5_isBarred_7 ?_
  refine j_iald X (pc := 8) 0 rfl dX5_isBarred_8 hw (fun y8 hw => ?_)
  refine j_iconst X (pc := 9) (-1) dX5_isBarred_9 (by decide) ?_
  refine j_icmp_eq X (pc := 10) 30 dX5_isBarred_10 (by decide) hw (fun hw => ?_) (fun hw => ?_)
  · refine j_iconst X (pc := 30) 0 dX5_isBarred_30 (by decide) ?_
    exact j_zret X (pc := 31) (ty := .boolean) hQ er rfl (Nat.le_of_ble_eq_true rfl) (Nat.le_of_ble_eq_true rfl) dX5_isBarred_31 hw
  · refine j_aload_n X (pc := 13) 0 dX5_isBarred_13 rfl rfl ?_
    refine j_getq (ci := 4) X (pc := 14) in_X5 rfl (by decide) 21 (by decide) q1893 (Or.inl rfl) dX5_isBarred_14 hw (fun y14 hw => ?_)
    refine j_bipush X (pc := 17) 36 dX5_isBarred_17 (by decide) ?_
    refine j_iload_n X (pc := 19) 2 dX5_isBarred_19 rfl rfl ?_
    refine j_iadd X (pc := 20) dX5_isBarred_20 ?_
    refine j_iald X (pc := 21) 0 rfl dX5_isBarred_21 hw (fun y21 hw => ?_)
    refine j_iload_n X (pc := 22) 1 dX5_isBarred_22 rfl rfl ?_
    refine j_icmp_eq X (pc := 23) 30 dX5_isBarred_23 (by decide) hw (fun hw => ?_) (fun hw => ?_)
    · refine j_iconst X (pc := 30) 0 dX5_isBarred_30 (by decide) ?_
      exact j_zret X (pc := 31) (ty := .boolean) hQ er rfl (Nat.le_of_ble_eq_true rfl) (Nat.le_of_ble_eq_true rfl) dX5_isBarred_31 hw
    · refine j_iconst X (pc := 26) 1 dX5_isBarred_26 (by decide) ?_
      refine j_goto X (pc := 27) 31 dX5_isBarred_27 (by decide) ?_
      exact j_zret X (pc := 31) (ty := .boolean) hQ er rfl (Nat.le_of_ble_eq_true rfl) (Nat.le_of_ble_eq_true rfl) dX5_isBarred_31 hw
abbrev cX5_bar : ByteArray := prog_19_method_28_code
def yX5_bar : MethodName := ⟨RX5, "bar", "(II)I"⟩
def dkwX5_bar_1 : List UInt8 := [6, 172, 42, 180, 0, 108, 17, 0, 250, 160, 0, 7, 7, 167, 0, 4, 3, 172]
abbrev dktX5_bar_1 : List UInt8 := dkwX5_bar_1 ++ []
def dkwX5_bar_0 : List UInt8 := [42, 27, 182, 0, 161, 42, 28, 182, 0, 125, 154, 0, 5, 5, 172, 42, 27, 28, 182, 0, 190, 153, 0, 5]
abbrev dktX5_bar_0 : List UInt8 := dkwX5_bar_0 ++ dktX5_bar_1
theorem dksX5_bar_0 : cX5_bar.data.toList.drop 0 = dktX5_bar_0 := by decide +kernel
theorem dksX5_bar_1 : cX5_bar.data.toList.drop 24 = dktX5_bar_1 := dk_seg dksX5_bar_0 24 rfl rfl
theorem dX5_bar_0 : decode cX5_bar 0 = .ok (.aload_n 0, 1) := dk_42 (dk_at dksX5_bar_0 0 rfl rfl)
theorem dX5_bar_1 : decode cX5_bar 1 = .ok (.iload_n 1, 1) := dk_27 (dk_at dksX5_bar_0 1 rfl rfl)
theorem dX5_bar_2 : decode cX5_bar 2 = .ok (.invokevirtual 161, 3) := dk_182 0 161 (dk_at dksX5_bar_0 2 rfl rfl)
theorem dX5_bar_5 : decode cX5_bar 5 = .ok (.aload_n 0, 1) := dk_42 (dk_at dksX5_bar_0 5 rfl rfl)
theorem dX5_bar_6 : decode cX5_bar 6 = .ok (.iload_n 2, 1) := dk_28 (dk_at dksX5_bar_0 6 rfl rfl)
theorem dX5_bar_7 : decode cX5_bar 7 = .ok (.invokevirtual 125, 3) := dk_182 0 125 (dk_at dksX5_bar_0 7 rfl rfl)
theorem dX5_bar_10 : decode cX5_bar 10 = .ok (.ifCond .ne 5, 3) := dk_154 0 5 (dk_at dksX5_bar_0 10 rfl rfl)
theorem dX5_bar_13 : decode cX5_bar 13 = .ok (.iconst 2, 1) := dk_5 (dk_at dksX5_bar_0 13 rfl rfl)
theorem dX5_bar_14 : decode cX5_bar 14 = .ok (.ireturn, 1) := dk_172 (dk_at dksX5_bar_0 14 rfl rfl)
theorem dX5_bar_15 : decode cX5_bar 15 = .ok (.aload_n 0, 1) := dk_42 (dk_at dksX5_bar_0 15 rfl rfl)
theorem dX5_bar_16 : decode cX5_bar 16 = .ok (.iload_n 1, 1) := dk_27 (dk_at dksX5_bar_0 16 rfl rfl)
theorem dX5_bar_17 : decode cX5_bar 17 = .ok (.iload_n 2, 1) := dk_28 (dk_at dksX5_bar_0 17 rfl rfl)
theorem dX5_bar_18 : decode cX5_bar 18 = .ok (.invokevirtual 190, 3) := dk_182 0 190 (dk_at dksX5_bar_0 18 rfl rfl)
theorem dX5_bar_21 : decode cX5_bar 21 = .ok (.ifCond .eq 5, 3) := dk_153 0 5 (dk_at dksX5_bar_0 21 rfl rfl)
theorem dX5_bar_24 : decode cX5_bar 24 = .ok (.iconst 3, 1) := dk_6 (dk_at dksX5_bar_1 0 rfl rfl)
theorem dX5_bar_25 : decode cX5_bar 25 = .ok (.ireturn, 1) := dk_172 (dk_at dksX5_bar_1 1 rfl rfl)
theorem dX5_bar_26 : decode cX5_bar 26 = .ok (.aload_n 0, 1) := dk_42 (dk_at dksX5_bar_1 2 rfl rfl)
theorem dX5_bar_27 : decode cX5_bar 27 = .ok (.getfield 108, 3) := dk_180 0 108 (dk_at dksX5_bar_1 3 rfl rfl)
theorem dX5_bar_30 : decode cX5_bar 30 = .ok (.sipush 250, 3) := dk_17 0 250 (dk_at dksX5_bar_1 6 rfl rfl)
theorem dX5_bar_33 : decode cX5_bar 33 = .ok (.if_icmp .ne 7, 3) := dk_160 0 7 (dk_at dksX5_bar_1 9 rfl rfl)
theorem dX5_bar_36 : decode cX5_bar 36 = .ok (.iconst 4, 1) := dk_7 (dk_at dksX5_bar_1 12 rfl rfl)
theorem dX5_bar_37 : decode cX5_bar 37 = .ok (.goto 4, 3) := dk_167 0 4 (dk_at dksX5_bar_1 13 rfl rfl)
theorem dX5_bar_40 : decode cX5_bar 40 = .ok (.iconst 0, 1) := dk_3 (dk_at dksX5_bar_1 16 rfl rfl)
theorem dX5_bar_41 : decode cX5_bar 41 = .ok (.ireturn, 1) := dk_172 (dk_at dksX5_bar_1 17 rfl rfl)
theorem q2043 : (Jvm.Cond.methodLink "PlugboardModel" (190 : Nat) ({ cls := "PlugboardModel", name := "isBarred", desc := "(II)Z" } : Jvm.MethodName)) ∈ lw_all := lw_g (lw_at lw_m9 53 rfl) rfl
theorem q2045 : (Jvm.Cond.instanceMethod ({ cls := "PlugboardModel", name := "isBarred", desc := "(II)Z" } : Jvm.MethodName)) ∈ lw_all := lw_g (lw_at lw_m9 55 rfl) rfl
theorem q2046 : (Jvm.Cond.code ({ cls := "PlugboardModel", name := "isBarred", desc := "(II)Z" } : Jvm.MethodName) prog_19_method_22_code (3 : Nat) (Option.some Jvm.ClassFile.FieldType.boolean)) ∈ lw_all := lw_g (lw_at lw_m9 56 rfl) rfl
abbrev rm_X5_bar : Room := { frames := 3, cells := 0, slots := 0, locals := 66 }
def w_X5_bar (a0 : Option Nat) (a1 : Int32) (a2 : Int32) (h : AH) (P : Int32 → AH → Prop) : Prop :=
  is_c h a0 [4] (
  w_X5_builds a0 a1 h (fun h2 =>
  is_c h2 a0 [4] (
  w_X5_isSeen a0 a2 h2 (fun y7 h7 =>
  ((y7 = 0 →
    P 2 h7) ∧
   (¬ y7 = 0 →
    is_c h7 a0 [4] (
    w_X5_isBarred a0 a1 a2 h7 (fun y18 h18 =>
    ((y18 = 0 →
      g_i h18 a0 4 20 fun y27 =>
      ((y27 = 250 →
        P 4 h18) ∧
       (¬ y27 = 250 →
        P 0 h18))) ∧
     (¬ y18 = 0 →
      P 3 h18))))))))))
theorem met_X5_bar (l : Launch) (hlt : l.stackTraces = false) (G : GG) (h : AH) (a0 : Option Nat) (a1 : Int32) (a2 : Int32) (P : Int32 → AH → Prop) (hw : w_X5_bar a0 a1 a2 h P) : ct_i l yX5_bar (ws_ yX5_bar cX5_bar 3 (Option.some Jvm.ClassFile.FieldType.int)) rm_X5_bar G h [vR a0, vI a1, vI a2] P := by
  refine j_starti hlt [(0, vR a0), (1, vI a1), (2, vI a2)] (plainFor_of_name (by decide)) rfl rfl (fun x X eG er en hQ => ?_)
  subst eG
  refine j_aload_n X (pc := 0) 0 dX5_bar_0 rfl rfl ?_
  refine j_iload_n X (pc := 1) 1 dX5_bar_1 rfl rfl ?_
  obtain ⟨b9, c9, f9, hr9, ho9, hc9, hw⟩ := hw
  obtain rfl := List.mem_singleton.mp hc9
  refine j_callv (j_runV (n8 := 1) (As := [vI a1]) (rest := []) X (pc := 2) hr9 (met_X5_builds (xl x) X.hl (xG x) h a0 a1 _ hw) ho9 (by decide) rfl q1992 q1994 qs34 q78 q1995 (by decide +kernel) dX5_bar_2 rfl ⟨Nat.le_of_ble_eq_true rfl, Nat.le_of_ble_eq_true rfl⟩ (Nat.le_of_ble_eq_true rfl) ⟨Nat.le_of_ble_eq_true rfl, Nat.le_of_ble_eq_true rfl⟩) (fun h2 hw => ?_)
  refine j_aload_n X (pc := 5) 0 dX5_bar_5 rfl rfl ?_
  refine j_iload_n X (pc := 6) 2 dX5_bar_6 rfl rfl ?_
  obtain ⟨b9, c9, f9, hr9, ho9, hc9, hw⟩ := hw
  obtain rfl := List.mem_singleton.mp hc9
  refine j_calli (j_runV (n8 := 1) (As := [vI a2]) (rest := []) X (pc := 7) hr9 (met_X5_isSeen (xl x) X.hl (xG x) h2 a0 a2 _ hw) ho9 (by decide) rfl q2012 q2014 qs39 q78 q2015 (by decide +kernel) dX5_bar_7 rfl ⟨Nat.le_of_ble_eq_true rfl, Nat.le_of_ble_eq_true rfl⟩ (Nat.le_of_ble_eq_true rfl) ⟨Nat.le_of_ble_eq_true rfl, Nat.le_of_ble_eq_true rfl⟩) (fun y7 h7 hw => ?_)
  refine j_if_ne X (pc := 10) 15 dX5_bar_10 (by decide) hw (fun hw => ?_) (fun hw => ?_)
  · refine j_iconst X (pc := 13) 2 dX5_bar_13 (by decide) ?_
    exact j_iret X (pc := 14) hQ er (Nat.le_of_ble_eq_true rfl) (Nat.le_of_ble_eq_true rfl) dX5_bar_14 hw
  · refine j_aload_n X (pc := 15) 0 dX5_bar_15 rfl rfl ?_
    refine j_iload_n X (pc := 16) 1 dX5_bar_16 rfl rfl ?_
    refine j_iload_n X (pc := 17) 2 dX5_bar_17 rfl rfl ?_
    obtain ⟨b9, c9, f9, hr9, ho9, hc9, hw⟩ := hw
    obtain rfl := List.mem_singleton.mp hc9
    refine j_calli (j_runV (n8 := 2) (As := [vI a1, vI a2]) (rest := []) X (pc := 18) hr9 (met_X5_isBarred (xl x) X.hl (xG x) h7 a0 a1 a2 _ hw) ho9 (by decide) rfl q2043 q2045 qs45 q78 q2046 (by decide +kernel) dX5_bar_18 rfl ⟨Nat.le_of_ble_eq_true rfl, Nat.le_of_ble_eq_true rfl⟩ (Nat.le_of_ble_eq_true rfl) ⟨Nat.le_of_ble_eq_true rfl, Nat.le_of_ble_eq_true rfl⟩) (fun y18 h18 hw => ?_)
    refine j_if_eq X (pc := 21) 26 dX5_bar_21 (by decide) hw (fun hw => ?_) (fun hw => ?_)
    · refine j_aload_n X (pc := 26) 0 dX5_bar_26 rfl rfl ?_
      refine j_geti (ci := 4) X (pc := 27) in_X5 rfl (by decide) 20 (by decide) q1892 (Or.inl rfl) dX5_bar_27 hw (fun y27 hw => ?_)
      refine j_sipush X (pc := 30) 250 dX5_bar_30 (by decide) ?_
      refine j_icmp_ne X (pc := 33) 40 dX5_bar_33 (by decide) hw (fun hw => ?_) (fun hw => ?_)
      · refine j_iconst X (pc := 36) 4 dX5_bar_36 (by decide) ?_
        refine j_goto X (pc := 37) 41 dX5_bar_37 (by decide) ?_
        exact j_iret X (pc := 41) hQ er (Nat.le_of_ble_eq_true rfl) (Nat.le_of_ble_eq_true rfl) dX5_bar_41 hw
      · refine j_iconst X (pc := 40) 0 dX5_bar_40 (by decide) ?_
        exact j_iret X (pc := 41) hQ er (Nat.le_of_ble_eq_true rfl) (Nat.le_of_ble_eq_true rfl) dX5_bar_41 hw
    · refine j_iconst X (pc := 24) 3 dX5_bar_24 (by decide) ?_
      exact j_iret X (pc := 25) hQ er (Nat.le_of_ble_eq_true rfl) (Nat.le_of_ble_eq_true rfl) dX5_bar_25 hw
abbrev cX5_column : ByteArray := prog_19_method_13_code
def yX5_column : MethodName := ⟨RX5, "column", "(I)I"⟩
def dkwX5_column_0 : List UInt8 := [42, 180, 0, 67, 16, 12, 27, 96, 46, 16, 32, 108, 172]
abbrev dktX5_column_0 : List UInt8 := dkwX5_column_0 ++ []
theorem dksX5_column_0 : cX5_column.data.toList.drop 0 = dktX5_column_0 := by decide +kernel
theorem dX5_column_0 : decode cX5_column 0 = .ok (.aload_n 0, 1) := dk_42 (dk_at dksX5_column_0 0 rfl rfl)
theorem dX5_column_1 : decode cX5_column 1 = .ok (.getfield 67, 3) := dk_180 0 67 (dk_at dksX5_column_0 1 rfl rfl)
theorem dX5_column_4 : decode cX5_column 4 = .ok (.bipush 12, 2) := dk_16 12 (dk_at dksX5_column_0 4 rfl rfl)
theorem dX5_column_6 : decode cX5_column 6 = .ok (.iload_n 1, 1) := dk_27 (dk_at dksX5_column_0 6 rfl rfl)
theorem dX5_column_7 : decode cX5_column 7 = .ok (.iadd, 1) := dk_96 (dk_at dksX5_column_0 7 rfl rfl)
theorem dX5_column_8 : decode cX5_column 8 = .ok (.iaload, 1) := dk_46 (dk_at dksX5_column_0 8 rfl rfl)
theorem dX5_column_9 : decode cX5_column 9 = .ok (.bipush 32, 2) := dk_16 32 (dk_at dksX5_column_0 9 rfl rfl)
theorem dX5_column_11 : decode cX5_column 11 = .ok (.idiv, 1) := dk_108 (dk_at dksX5_column_0 11 rfl rfl)
theorem dX5_column_12 : decode cX5_column 12 = .ok (.ireturn, 1) := dk_172 (dk_at dksX5_column_0 12 rfl rfl)
abbrev rm_X5_column : Room := { frames := 0, cells := 0, slots := 0, locals := 0 }
def w_X5_column (a0 : Option Nat) (a1 : Int32) (h : AH) (P : Int32 → AH → Prop) : Prop :=
  g_q h a0 4 21 fun y1 =>
  l_i h y1 0 (12 + a1) fun y8 =>
  ¬ (32 : Int32) = 0 ∧
  P (y8 / 32) h
theorem met_X5_column (l : Launch) (hlt : l.stackTraces = false) (G : GG) (h : AH) (a0 : Option Nat) (a1 : Int32) (P : Int32 → AH → Prop) (hw : w_X5_column a0 a1 h P) : ct_i l yX5_column (ws_ yX5_column cX5_column 2 (Option.some Jvm.ClassFile.FieldType.int)) rm_X5_column G h [vR a0, vI a1] P := by
  refine j_starti hlt [(0, vR a0), (1, vI a1)] (plainFor_of_name (by decide)) rfl rfl (fun x X eG er en hQ => ?_)
  subst eG
  refine j_aload_n X (pc := 0) 0 dX5_column_0 rfl rfl ?_
  refine j_getq (ci := 4) X (pc := 1) in_X5 rfl (by decide) 21 (by decide) q1893 (Or.inl rfl) dX5_column_1 hw (fun y1 hw => ?_)
  refine j_bipush X (pc := 4) 12 dX5_column_4 (by decide) ?_
  refine j_iload_n X (pc := 6) 1 dX5_column_6 rfl rfl ?_
  refine j_iadd X (pc := 7) dX5_column_7 ?_
  refine j_iald X (pc := 8) 0 rfl dX5_column_8 hw (fun y8 hw => ?_)
  refine j_bipush X (pc := 9) 32 dX5_column_9 (by decide) ?_
  refine j_idiv X (pc := 11) dX5_column_11 hw (fun hw => ?_)
  exact j_iret X (pc := 12) hQ er (Nat.le_of_ble_eq_true rfl) (Nat.le_of_ble_eq_true rfl) dX5_column_12 hw
abbrev cX5_row : ByteArray := prog_19_method_14_code
def yX5_row : MethodName := ⟨RX5, "row", "(I)I"⟩
def dkwX5_row_0 : List UInt8 := [42, 180, 0, 67, 16, 12, 27, 96, 46, 16, 32, 112, 172]
abbrev dktX5_row_0 : List UInt8 := dkwX5_row_0 ++ []
theorem dksX5_row_0 : cX5_row.data.toList.drop 0 = dktX5_row_0 := by decide +kernel
theorem dX5_row_0 : decode cX5_row 0 = .ok (.aload_n 0, 1) := dk_42 (dk_at dksX5_row_0 0 rfl rfl)
theorem dX5_row_1 : decode cX5_row 1 = .ok (.getfield 67, 3) := dk_180 0 67 (dk_at dksX5_row_0 1 rfl rfl)
theorem dX5_row_4 : decode cX5_row 4 = .ok (.bipush 12, 2) := dk_16 12 (dk_at dksX5_row_0 4 rfl rfl)
theorem dX5_row_6 : decode cX5_row 6 = .ok (.iload_n 1, 1) := dk_27 (dk_at dksX5_row_0 6 rfl rfl)
theorem dX5_row_7 : decode cX5_row 7 = .ok (.iadd, 1) := dk_96 (dk_at dksX5_row_0 7 rfl rfl)
theorem dX5_row_8 : decode cX5_row 8 = .ok (.iaload, 1) := dk_46 (dk_at dksX5_row_0 8 rfl rfl)
theorem dX5_row_9 : decode cX5_row 9 = .ok (.bipush 32, 2) := dk_16 32 (dk_at dksX5_row_0 9 rfl rfl)
theorem dX5_row_11 : decode cX5_row 11 = .ok (.irem, 1) := dk_112 (dk_at dksX5_row_0 11 rfl rfl)
theorem dX5_row_12 : decode cX5_row 12 = .ok (.ireturn, 1) := dk_172 (dk_at dksX5_row_0 12 rfl rfl)
abbrev rm_X5_row : Room := { frames := 0, cells := 0, slots := 0, locals := 0 }
def w_X5_row (a0 : Option Nat) (a1 : Int32) (h : AH) (P : Int32 → AH → Prop) : Prop :=
  g_q h a0 4 21 fun y1 =>
  l_i h y1 0 (12 + a1) fun y8 =>
  ¬ (32 : Int32) = 0 ∧
  P (y8 - y8 / 32 * 32) h
theorem met_X5_row (l : Launch) (hlt : l.stackTraces = false) (G : GG) (h : AH) (a0 : Option Nat) (a1 : Int32) (P : Int32 → AH → Prop) (hw : w_X5_row a0 a1 h P) : ct_i l yX5_row (ws_ yX5_row cX5_row 2 (Option.some Jvm.ClassFile.FieldType.int)) rm_X5_row G h [vR a0, vI a1] P := by
  refine j_starti hlt [(0, vR a0), (1, vI a1)] (plainFor_of_name (by decide)) rfl rfl (fun x X eG er en hQ => ?_)
  subst eG
  refine j_aload_n X (pc := 0) 0 dX5_row_0 rfl rfl ?_
  refine j_getq (ci := 4) X (pc := 1) in_X5 rfl (by decide) 21 (by decide) q1893 (Or.inl rfl) dX5_row_1 hw (fun y1 hw => ?_)
  refine j_bipush X (pc := 4) 12 dX5_row_4 (by decide) ?_
  refine j_iload_n X (pc := 6) 1 dX5_row_6 rfl rfl ?_
  refine j_iadd X (pc := 7) dX5_row_7 ?_
  refine j_iald X (pc := 8) 0 rfl dX5_row_8 hw (fun y8 hw => ?_)
  refine j_bipush X (pc := 9) 32 dX5_row_9 (by decide) ?_
  refine j_irem X (pc := 11) dX5_row_11 hw (fun hw => ?_)
  exact j_iret X (pc := 12) hQ er (Nat.le_of_ble_eq_true rfl) (Nat.le_of_ble_eq_true rfl) dX5_row_12 hw
abbrev cX5_isInside : ByteArray := prog_19_method_21_code
def yX5_isInside : MethodName := ⟨RX5, "isInside", "(II)Z"⟩
def dkwX5_isInside_3 : List UInt8 := [180, 0, 13, 28, 46, 96, 163, 0, 7, 4, 167, 0, 4, 3, 172]
abbrev dktX5_isInside_3 : List UInt8 := dkwX5_isInside_3 ++ []
def dkwX5_isInside_2 : List UInt8 := [28, 46, 96, 163, 0, 34, 42, 27, 182, 0, 145, 42, 180, 0, 13, 27, 46, 96, 42, 28, 182, 0, 145, 42]
abbrev dktX5_isInside_2 : List UInt8 := dkwX5_isInside_2 ++ dktX5_isInside_3
def dkwX5_isInside_1 : List UInt8 := [161, 0, 61, 42, 27, 182, 0, 141, 42, 180, 0, 9, 27, 46, 96, 42, 28, 182, 0, 141, 42, 180, 0, 9]
abbrev dktX5_isInside_1 : List UInt8 := dkwX5_isInside_1 ++ dktX5_isInside_2
def dkwX5_isInside_0 : List UInt8 := [42, 27, 182, 0, 141, 42, 28, 182, 0, 141, 161, 0, 74, 42, 27, 182, 0, 145, 42, 28, 182, 0, 145]
abbrev dktX5_isInside_0 : List UInt8 := dkwX5_isInside_0 ++ dktX5_isInside_1
theorem dksX5_isInside_0 : cX5_isInside.data.toList.drop 0 = dktX5_isInside_0 := by decide +kernel
theorem dksX5_isInside_1 : cX5_isInside.data.toList.drop 23 = dktX5_isInside_1 := dk_seg dksX5_isInside_0 23 rfl rfl
theorem dksX5_isInside_2 : cX5_isInside.data.toList.drop 47 = dktX5_isInside_2 := dk_seg dksX5_isInside_1 24 rfl rfl
theorem dksX5_isInside_3 : cX5_isInside.data.toList.drop 71 = dktX5_isInside_3 := dk_seg dksX5_isInside_2 24 rfl rfl
theorem dX5_isInside_0 : decode cX5_isInside 0 = .ok (.aload_n 0, 1) := dk_42 (dk_at dksX5_isInside_0 0 rfl rfl)
theorem dX5_isInside_1 : decode cX5_isInside 1 = .ok (.iload_n 1, 1) := dk_27 (dk_at dksX5_isInside_0 1 rfl rfl)
theorem dX5_isInside_2 : decode cX5_isInside 2 = .ok (.invokevirtual 141, 3) := dk_182 0 141 (dk_at dksX5_isInside_0 2 rfl rfl)
theorem dX5_isInside_5 : decode cX5_isInside 5 = .ok (.aload_n 0, 1) := dk_42 (dk_at dksX5_isInside_0 5 rfl rfl)
theorem dX5_isInside_6 : decode cX5_isInside 6 = .ok (.iload_n 2, 1) := dk_28 (dk_at dksX5_isInside_0 6 rfl rfl)
theorem dX5_isInside_7 : decode cX5_isInside 7 = .ok (.invokevirtual 141, 3) := dk_182 0 141 (dk_at dksX5_isInside_0 7 rfl rfl)
theorem dX5_isInside_10 : decode cX5_isInside 10 = .ok (.if_icmp .lt 74, 3) := dk_161 0 74 (dk_at dksX5_isInside_0 10 rfl rfl)
theorem dX5_isInside_13 : decode cX5_isInside 13 = .ok (.aload_n 0, 1) := dk_42 (dk_at dksX5_isInside_0 13 rfl rfl)
theorem dX5_isInside_14 : decode cX5_isInside 14 = .ok (.iload_n 1, 1) := dk_27 (dk_at dksX5_isInside_0 14 rfl rfl)
theorem dX5_isInside_15 : decode cX5_isInside 15 = .ok (.invokevirtual 145, 3) := dk_182 0 145 (dk_at dksX5_isInside_0 15 rfl rfl)
theorem dX5_isInside_18 : decode cX5_isInside 18 = .ok (.aload_n 0, 1) := dk_42 (dk_at dksX5_isInside_0 18 rfl rfl)
theorem dX5_isInside_19 : decode cX5_isInside 19 = .ok (.iload_n 2, 1) := dk_28 (dk_at dksX5_isInside_0 19 rfl rfl)
theorem dX5_isInside_20 : decode cX5_isInside 20 = .ok (.invokevirtual 145, 3) := dk_182 0 145 (dk_at dksX5_isInside_0 20 rfl rfl)
theorem dX5_isInside_23 : decode cX5_isInside 23 = .ok (.if_icmp .lt 61, 3) := dk_161 0 61 (dk_at dksX5_isInside_1 0 rfl rfl)
theorem dX5_isInside_26 : decode cX5_isInside 26 = .ok (.aload_n 0, 1) := dk_42 (dk_at dksX5_isInside_1 3 rfl rfl)
theorem dX5_isInside_27 : decode cX5_isInside 27 = .ok (.iload_n 1, 1) := dk_27 (dk_at dksX5_isInside_1 4 rfl rfl)
theorem dX5_isInside_28 : decode cX5_isInside 28 = .ok (.invokevirtual 141, 3) := dk_182 0 141 (dk_at dksX5_isInside_1 5 rfl rfl)
theorem dX5_isInside_31 : decode cX5_isInside 31 = .ok (.aload_n 0, 1) := dk_42 (dk_at dksX5_isInside_1 8 rfl rfl)
theorem dX5_isInside_32 : decode cX5_isInside 32 = .ok (.getfield 9, 3) := dk_180 0 9 (dk_at dksX5_isInside_1 9 rfl rfl)
theorem dX5_isInside_35 : decode cX5_isInside 35 = .ok (.iload_n 1, 1) := dk_27 (dk_at dksX5_isInside_1 12 rfl rfl)
theorem dX5_isInside_36 : decode cX5_isInside 36 = .ok (.iaload, 1) := dk_46 (dk_at dksX5_isInside_1 13 rfl rfl)
theorem dX5_isInside_37 : decode cX5_isInside 37 = .ok (.iadd, 1) := dk_96 (dk_at dksX5_isInside_1 14 rfl rfl)
theorem dX5_isInside_38 : decode cX5_isInside 38 = .ok (.aload_n 0, 1) := dk_42 (dk_at dksX5_isInside_1 15 rfl rfl)
theorem dX5_isInside_39 : decode cX5_isInside 39 = .ok (.iload_n 2, 1) := dk_28 (dk_at dksX5_isInside_1 16 rfl rfl)
theorem dX5_isInside_40 : decode cX5_isInside 40 = .ok (.invokevirtual 141, 3) := dk_182 0 141 (dk_at dksX5_isInside_1 17 rfl rfl)
theorem dX5_isInside_43 : decode cX5_isInside 43 = .ok (.aload_n 0, 1) := dk_42 (dk_at dksX5_isInside_1 20 rfl rfl)
theorem dX5_isInside_44 : decode cX5_isInside 44 = .ok (.getfield 9, 3) := dk_180 0 9 (dk_at dksX5_isInside_1 21 rfl rfl)
theorem dX5_isInside_47 : decode cX5_isInside 47 = .ok (.iload_n 2, 1) := dk_28 (dk_at dksX5_isInside_2 0 rfl rfl)
theorem dX5_isInside_48 : decode cX5_isInside 48 = .ok (.iaload, 1) := dk_46 (dk_at dksX5_isInside_2 1 rfl rfl)
theorem dX5_isInside_49 : decode cX5_isInside 49 = .ok (.iadd, 1) := dk_96 (dk_at dksX5_isInside_2 2 rfl rfl)
theorem dX5_isInside_50 : decode cX5_isInside 50 = .ok (.if_icmp .gt 34, 3) := dk_163 0 34 (dk_at dksX5_isInside_2 3 rfl rfl)
theorem dX5_isInside_53 : decode cX5_isInside 53 = .ok (.aload_n 0, 1) := dk_42 (dk_at dksX5_isInside_2 6 rfl rfl)
theorem dX5_isInside_54 : decode cX5_isInside 54 = .ok (.iload_n 1, 1) := dk_27 (dk_at dksX5_isInside_2 7 rfl rfl)
theorem dX5_isInside_55 : decode cX5_isInside 55 = .ok (.invokevirtual 145, 3) := dk_182 0 145 (dk_at dksX5_isInside_2 8 rfl rfl)
theorem dX5_isInside_58 : decode cX5_isInside 58 = .ok (.aload_n 0, 1) := dk_42 (dk_at dksX5_isInside_2 11 rfl rfl)
theorem dX5_isInside_59 : decode cX5_isInside 59 = .ok (.getfield 13, 3) := dk_180 0 13 (dk_at dksX5_isInside_2 12 rfl rfl)
theorem dX5_isInside_62 : decode cX5_isInside 62 = .ok (.iload_n 1, 1) := dk_27 (dk_at dksX5_isInside_2 15 rfl rfl)
theorem dX5_isInside_63 : decode cX5_isInside 63 = .ok (.iaload, 1) := dk_46 (dk_at dksX5_isInside_2 16 rfl rfl)
theorem dX5_isInside_64 : decode cX5_isInside 64 = .ok (.iadd, 1) := dk_96 (dk_at dksX5_isInside_2 17 rfl rfl)
theorem dX5_isInside_65 : decode cX5_isInside 65 = .ok (.aload_n 0, 1) := dk_42 (dk_at dksX5_isInside_2 18 rfl rfl)
theorem dX5_isInside_66 : decode cX5_isInside 66 = .ok (.iload_n 2, 1) := dk_28 (dk_at dksX5_isInside_2 19 rfl rfl)
theorem dX5_isInside_67 : decode cX5_isInside 67 = .ok (.invokevirtual 145, 3) := dk_182 0 145 (dk_at dksX5_isInside_2 20 rfl rfl)
theorem dX5_isInside_70 : decode cX5_isInside 70 = .ok (.aload_n 0, 1) := dk_42 (dk_at dksX5_isInside_2 23 rfl rfl)
theorem dX5_isInside_71 : decode cX5_isInside 71 = .ok (.getfield 13, 3) := dk_180 0 13 (dk_at dksX5_isInside_3 0 rfl rfl)
theorem dX5_isInside_74 : decode cX5_isInside 74 = .ok (.iload_n 2, 1) := dk_28 (dk_at dksX5_isInside_3 3 rfl rfl)
theorem dX5_isInside_75 : decode cX5_isInside 75 = .ok (.iaload, 1) := dk_46 (dk_at dksX5_isInside_3 4 rfl rfl)
theorem dX5_isInside_76 : decode cX5_isInside 76 = .ok (.iadd, 1) := dk_96 (dk_at dksX5_isInside_3 5 rfl rfl)
theorem dX5_isInside_77 : decode cX5_isInside 77 = .ok (.if_icmp .gt 7, 3) := dk_163 0 7 (dk_at dksX5_isInside_3 6 rfl rfl)
theorem dX5_isInside_80 : decode cX5_isInside 80 = .ok (.iconst 1, 1) := dk_4 (dk_at dksX5_isInside_3 9 rfl rfl)
theorem dX5_isInside_81 : decode cX5_isInside 81 = .ok (.goto 4, 3) := dk_167 0 4 (dk_at dksX5_isInside_3 10 rfl rfl)
theorem dX5_isInside_84 : decode cX5_isInside 84 = .ok (.iconst 0, 1) := dk_3 (dk_at dksX5_isInside_3 13 rfl rfl)
theorem dX5_isInside_85 : decode cX5_isInside 85 = .ok (.ireturn, 1) := dk_172 (dk_at dksX5_isInside_3 14 rfl rfl)
theorem q2047 : (Jvm.Cond.methodLink "PlugboardModel" (141 : Nat) ({ cls := "PlugboardModel", name := "column", desc := "(I)I" } : Jvm.MethodName)) ∈ lw_all := lw_g (lw_at lw_m9 57 rfl) rfl
theorem q2049 : (Jvm.Cond.instanceMethod ({ cls := "PlugboardModel", name := "column", desc := "(I)I" } : Jvm.MethodName)) ∈ lw_all := lw_g (lw_at lw_m9 59 rfl) rfl
theorem q2050 : (Jvm.Cond.code ({ cls := "PlugboardModel", name := "column", desc := "(I)I" } : Jvm.MethodName) prog_19_method_13_code (2 : Nat) (Option.some Jvm.ClassFile.FieldType.int)) ∈ lw_all := lw_g (lw_at lw_m9 60 rfl) rfl
theorem q2051 : (Jvm.Cond.methodLink "PlugboardModel" (145 : Nat) ({ cls := "PlugboardModel", name := "row", desc := "(I)I" } : Jvm.MethodName)) ∈ lw_all := lw_g (lw_at lw_m9 61 rfl) rfl
theorem q2053 : (Jvm.Cond.instanceMethod ({ cls := "PlugboardModel", name := "row", desc := "(I)I" } : Jvm.MethodName)) ∈ lw_all := lw_g (lw_at lw_m9 63 rfl) rfl
theorem q2054 : (Jvm.Cond.code ({ cls := "PlugboardModel", name := "row", desc := "(I)I" } : Jvm.MethodName) prog_19_method_14_code (2 : Nat) (Option.some Jvm.ClassFile.FieldType.int)) ∈ lw_all := lw_g (lw_at lw_m9 64 rfl) rfl
abbrev rm_X5_isInside : Room := { frames := 1, cells := 0, slots := 0, locals := 21 }
def w_X5_isInside (a0 : Option Nat) (a1 : Int32) (a2 : Int32) (h : AH) (P : Int32 → AH → Prop) : Prop :=
  is_c h a0 [4] (
  w_X5_column a0 a1 h (fun y2 h2 =>
  is_c h2 a0 [4] (
  w_X5_column a0 a2 h2 (fun y7 h7 =>
  ((y2 < y7 →
    P 0 h7) ∧
   (¬ y2 < y7 →
    is_c h7 a0 [4] (
    w_X5_row a0 a1 h7 (fun y15 h15 =>
    is_c h15 a0 [4] (
    w_X5_row a0 a2 h15 (fun y20 h20 =>
    ((y15 < y20 →
      P 0 h20) ∧
     (¬ y15 < y20 →
      is_c h20 a0 [4] (
      w_X5_column a0 a1 h20 (fun y28 h28 =>
      g_q h28 a0 4 1 fun y32 =>
      l_i h28 y32 0 a1 fun y36 =>
      is_c h28 a0 [4] (
      w_X5_column a0 a2 h28 (fun y40 h40 =>
      g_q h40 a0 4 1 fun y44 =>
      l_i h40 y44 0 a2 fun y48 =>
      (((y40 + y48) < (y28 + y36) →
        P 0 h40) ∧
       (¬ (y40 + y48) < (y28 + y36) →
        is_c h40 a0 [4] (
        w_X5_row a0 a1 h40 (fun y55 h55 =>
        g_q h55 a0 4 2 fun y59 =>
        l_i h55 y59 0 a1 fun y63 =>
        is_c h55 a0 [4] (
        w_X5_row a0 a2 h55 (fun y67 h67 =>
        g_q h67 a0 4 2 fun y71 =>
        l_i h67 y71 0 a2 fun y75 =>
        (((y67 + y75) < (y55 + y63) →
          P 0 h67) ∧
         (¬ (y67 + y75) < (y55 + y63) →
          P 1 h67))))))))))))))))))))))))
theorem met_X5_isInside (l : Launch) (hlt : l.stackTraces = false) (G : GG) (h : AH) (a0 : Option Nat) (a1 : Int32) (a2 : Int32) (P : Int32 → AH → Prop) (hw : w_X5_isInside a0 a1 a2 h P) : ct_i l yX5_isInside (ws_ yX5_isInside cX5_isInside 3 (Option.some Jvm.ClassFile.FieldType.boolean)) rm_X5_isInside G h [vR a0, vI a1, vI a2] P := by
  refine j_starti hlt [(0, vR a0), (1, vI a1), (2, vI a2)] (plainFor_of_name (by decide)) rfl rfl (fun x X eG er en hQ => ?_)
  subst eG
  refine j_aload_n X (pc := 0) 0 dX5_isInside_0 rfl rfl ?_
  refine j_iload_n X (pc := 1) 1 dX5_isInside_1 rfl rfl ?_
  obtain ⟨b9, c9, f9, hr9, ho9, hc9, hw⟩ := hw
  obtain rfl := List.mem_singleton.mp hc9
  refine j_calli (j_runV (n8 := 1) (As := [vI a1]) (rest := []) X (pc := 2) hr9 (met_X5_column (xl x) X.hl (xG x) h a0 a1 _ hw) ho9 (by decide) rfl q2047 q2049 qs46 q78 q2050 (by decide +kernel) dX5_isInside_2 rfl ⟨Nat.le_of_ble_eq_true rfl, Nat.le_of_ble_eq_true rfl⟩ (Nat.le_of_ble_eq_true rfl) ⟨Nat.le_of_ble_eq_true rfl, Nat.le_of_ble_eq_true rfl⟩) (fun y2 h2 hw => ?_)
  refine j_aload_n X (pc := 5) 0 dX5_isInside_5 rfl rfl ?_
  refine j_iload_n X (pc := 6) 2 dX5_isInside_6 rfl rfl ?_
  obtain ⟨b9, c9, f9, hr9, ho9, hc9, hw⟩ := hw
  obtain rfl := List.mem_singleton.mp hc9
  refine j_calli (j_runV (n8 := 1) (As := [vI a2]) (rest := [vI y2]) X (pc := 7) hr9 (met_X5_column (xl x) X.hl (xG x) h2 a0 a2 _ hw) ho9 (by decide) rfl q2047 q2049 qs46 q78 q2050 (by decide +kernel) dX5_isInside_7 rfl ⟨Nat.le_of_ble_eq_true rfl, Nat.le_of_ble_eq_true rfl⟩ (Nat.le_of_ble_eq_true rfl) ⟨Nat.le_of_ble_eq_true rfl, Nat.le_of_ble_eq_true rfl⟩) (fun y7 h7 hw => ?_)
  refine j_icmp_lt X (pc := 10) 84 dX5_isInside_10 (by decide) hw (fun hw => ?_) (fun hw => ?_)
  · refine j_iconst X (pc := 84) 0 dX5_isInside_84 (by decide) ?_
    exact j_zret X (pc := 85) (ty := .boolean) hQ er rfl (Nat.le_of_ble_eq_true rfl) (Nat.le_of_ble_eq_true rfl) dX5_isInside_85 hw
  · refine j_aload_n X (pc := 13) 0 dX5_isInside_13 rfl rfl ?_
    refine j_iload_n X (pc := 14) 1 dX5_isInside_14 rfl rfl ?_
    obtain ⟨b9, c9, f9, hr9, ho9, hc9, hw⟩ := hw
    obtain rfl := List.mem_singleton.mp hc9
    refine j_calli (j_runV (n8 := 1) (As := [vI a1]) (rest := []) X (pc := 15) hr9 (met_X5_row (xl x) X.hl (xG x) h7 a0 a1 _ hw) ho9 (by decide) rfl q2051 q2053 qs47 q78 q2054 (by decide +kernel) dX5_isInside_15 rfl ⟨Nat.le_of_ble_eq_true rfl, Nat.le_of_ble_eq_true rfl⟩ (Nat.le_of_ble_eq_true rfl) ⟨Nat.le_of_ble_eq_true rfl, Nat.le_of_ble_eq_true rfl⟩) (fun y15 h15 hw => ?_)
    refine j_aload_n X (pc := 18) 0 dX5_isInside_18 rfl rfl ?_
    refine j_iload_n X (pc := 19) 2 dX5_isInside_19 rfl rfl ?_
    obtain ⟨b9, c9, f9, hr9, ho9, hc9, hw⟩ := hw
    obtain rfl := List.mem_singleton.mp hc9
    refine j_calli (j_runV (n8 := 1) (As := [vI a2]) (rest := [vI y15]) X (pc := 20) hr9 (met_X5_row (xl x) X.hl (xG x) h15 a0 a2 _ hw) ho9 (by decide) rfl q2051 q2053 qs47 q78 q2054 (by decide +kernel) dX5_isInside_20 rfl ⟨Nat.le_of_ble_eq_true rfl, Nat.le_of_ble_eq_true rfl⟩ (Nat.le_of_ble_eq_true rfl) ⟨Nat.le_of_ble_eq_true rfl, Nat.le_of_ble_eq_true rfl⟩) (fun y20 h20 hw => ?_)
    refine j_icmp_lt X (pc := 23) 84 dX5_isInside_23 (by decide) hw (fun hw => ?_) (fun hw => ?_)
    · refine j_iconst X (pc := 84) 0 dX5_isInside_84 (by decide) ?_
      exact j_zret X (pc := 85) (ty := .boolean) hQ er rfl (Nat.le_of_ble_eq_true rfl) (Nat.le_of_ble_eq_true rfl) dX5_isInside_85 hw
    · refine j_aload_n X (pc := 26) 0 dX5_isInside_26 rfl rfl ?_
      refine j_iload_n X (pc := 27) 1 dX5_isInside_27 rfl rfl ?_
      obtain ⟨b9, c9, f9, hr9, ho9, hc9, hw⟩ := hw
      obtain rfl := List.mem_singleton.mp hc9
      refine j_calli (j_runV (n8 := 1) (As := [vI a1]) (rest := []) X (pc := 28) hr9 (met_X5_column (xl x) X.hl (xG x) h20 a0 a1 _ hw) ho9 (by decide) rfl q2047 q2049 qs46 q78 q2050 (by decide +kernel) dX5_isInside_28 rfl ⟨Nat.le_of_ble_eq_true rfl, Nat.le_of_ble_eq_true rfl⟩ (Nat.le_of_ble_eq_true rfl) ⟨Nat.le_of_ble_eq_true rfl, Nat.le_of_ble_eq_true rfl⟩) (fun y28 h28 hw => ?_)
      refine j_aload_n X (pc := 31) 0 dX5_isInside_31 rfl rfl ?_
      refine j_getq (ci := 4) X (pc := 32) in_X5 rfl (by decide) 1 (by decide) q1873 (Or.inl rfl) dX5_isInside_32 hw (fun y32 hw => ?_)
      refine j_iload_n X (pc := 35) 1 dX5_isInside_35 rfl rfl ?_
      refine j_iald X (pc := 36) 0 rfl dX5_isInside_36 hw (fun y36 hw => ?_)
      refine j_iadd X (pc := 37) dX5_isInside_37 ?_
      refine j_aload_n X (pc := 38) 0 dX5_isInside_38 rfl rfl ?_
      refine j_iload_n X (pc := 39) 2 dX5_isInside_39 rfl rfl ?_
      obtain ⟨b9, c9, f9, hr9, ho9, hc9, hw⟩ := hw
      obtain rfl := List.mem_singleton.mp hc9
      refine j_calli (j_runV (n8 := 1) (As := [vI a2]) (rest := [vI (y28 + y36)]) X (pc := 40) hr9 (met_X5_column (xl x) X.hl (xG x) h28 a0 a2 _ hw) ho9 (by decide) rfl q2047 q2049 qs46 q78 q2050 (by decide +kernel) dX5_isInside_40 rfl ⟨Nat.le_of_ble_eq_true rfl, Nat.le_of_ble_eq_true rfl⟩ (Nat.le_of_ble_eq_true rfl) ⟨Nat.le_of_ble_eq_true rfl, Nat.le_of_ble_eq_true rfl⟩) (fun y40 h40 hw => ?_)
      refine j_aload_n X (pc := 43) 0 dX5_isInside_43 rfl rfl ?_
      refine j_getq (ci := 4) X (pc := 44) in_X5 rfl (by decide) 1 (by decide) q1873 (Or.inl rfl) dX5_isInside_44 hw (fun y44 hw => ?_)
      refine j_iload_n X (pc := 47) 2 dX5_isInside_47 rfl rfl ?_
      refine j_iald X (pc := 48) 0 rfl dX5_isInside_48 hw (fun y48 hw => ?_)
      refine j_iadd X (pc := 49) dX5_isInside_49 ?_
      refine j_icmp_gt X (pc := 50) 84 dX5_isInside_50 (by decide) hw (fun hw => ?_) (fun hw => ?_)
      · refine j_iconst X (pc := 84) 0 dX5_isInside_84 (by decide) ?_
        exact j_zret X (pc := 85) (ty := .boolean) hQ er rfl (Nat.le_of_ble_eq_true rfl) (Nat.le_of_ble_eq_true rfl) dX5_isInside_85 hw
      · refine j_aload_n X (pc := 53) 0 dX5_isInside_53 rfl rfl ?_
        refine j_iload_n X (pc := 54) 1 dX5_isInside_54 rfl rfl ?_
        obtain ⟨b9, c9, f9, hr9, ho9, hc9, hw⟩ := hw
        obtain rfl := List.mem_singleton.mp hc9
        refine j_calli (j_runV (n8 := 1) (As := [vI a1]) (rest := []) X (pc := 55) hr9 (met_X5_row (xl x) X.hl (xG x) h40 a0 a1 _ hw) ho9 (by decide) rfl q2051 q2053 qs47 q78 q2054 (by decide +kernel) dX5_isInside_55 rfl ⟨Nat.le_of_ble_eq_true rfl, Nat.le_of_ble_eq_true rfl⟩ (Nat.le_of_ble_eq_true rfl) ⟨Nat.le_of_ble_eq_true rfl, Nat.le_of_ble_eq_true rfl⟩) (fun y55 h55 hw => ?_)
        refine j_aload_n X (pc := 58) 0 dX5_isInside_58 rfl rfl ?_
        refine j_getq (ci := 4) X (pc := 59) in_X5 rfl (by decide) 2 (by decide) q1874 (Or.inl rfl) dX5_isInside_59 hw (fun y59 hw => ?_)
        refine j_iload_n X (pc := 62) 1 dX5_isInside_62 rfl rfl ?_
        refine j_iald X (pc := 63) 0 rfl dX5_isInside_63 hw (fun y63 hw => ?_)
        refine j_iadd X (pc := 64) dX5_isInside_64 ?_
        refine j_aload_n X (pc := 65) 0 dX5_isInside_65 rfl rfl ?_
        refine j_iload_n X (pc := 66) 2 dX5_isInside_66 rfl rfl ?_
        obtain ⟨b9, c9, f9, hr9, ho9, hc9, hw⟩ := hw
        obtain rfl := List.mem_singleton.mp hc9
        refine j_calli (j_runV (n8 := 1) (As := [vI a2]) (rest := [vI (y55 + y63)]) X (pc := 67) hr9 (met_X5_row (xl x) X.hl (xG x) h55 a0 a2 _ hw) ho9 (by decide) rfl q2051 q2053 qs47 q78 q2054 (by decide +kernel) dX5_isInside_67 rfl ⟨Nat.le_of_ble_eq_true rfl, Nat.le_of_ble_eq_true rfl⟩ (Nat.le_of_ble_eq_true rfl) ⟨Nat.le_of_ble_eq_true rfl, Nat.le_of_ble_eq_true rfl⟩) (fun y67 h67 hw => ?_)
        refine j_aload_n X (pc := 70) 0 dX5_isInside_70 rfl rfl ?_
        refine j_getq (ci := 4) X (pc := 71) in_X5 rfl (by decide) 2 (by decide) q1874 (Or.inl rfl) dX5_isInside_71 hw (fun y71 hw => ?_)
        refine j_iload_n X (pc := 74) 2 dX5_isInside_74 rfl rfl ?_
        refine j_iald X (pc := 75) 0 rfl dX5_isInside_75 hw (fun y75 hw => ?_)
        refine j_iadd X (pc := 76) dX5_isInside_76 ?_
        refine j_icmp_gt X (pc := 77) 84 dX5_isInside_77 (by decide) hw (fun hw => ?_) (fun hw => ?_)
        · refine j_iconst X (pc := 84) 0 dX5_isInside_84 (by decide) ?_
          exact j_zret X (pc := 85) (ty := .boolean) hQ er rfl (Nat.le_of_ble_eq_true rfl) (Nat.le_of_ble_eq_true rfl) dX5_isInside_85 hw
        · refine j_iconst X (pc := 80) 1 dX5_isInside_80 (by decide) ?_
          refine j_goto X (pc := 81) 85 dX5_isInside_81 (by decide) ?_
          exact j_zret X (pc := 85) (ty := .boolean) hQ er rfl (Nat.le_of_ble_eq_true rfl) (Nat.le_of_ble_eq_true rfl) dX5_isInside_85 hw
