/-! the component, its methods: X0_duel, X0_right, X0_appeal, X0_spanBy, X11_does, X0_runs (printed by gen/cmain.py) -/
set_option maxRecDepth 100000
theorem q531 : (Jvm.Cond.instanceMethod ({ cls := "LameClocks", name := "hour", desc := "()I" } : Jvm.MethodName)) ∈ lw_all := lw_g (lw_at lw_m2 222 rfl) rfl
theorem q532 : (Jvm.Cond.selects "LameClocks" ({ cls := "LameClocks", name := "hour", desc := "()I" } : Jvm.MethodName) ({ cls := "LameClocks", name := "hour", desc := "()I" } : Jvm.MethodName)) ∈ lw_all := lw_g (lw_at lw_m2 223 rfl) rfl
theorem q826 : (Jvm.Cond.code ({ cls := "LameClocks", name := "runs", desc := "(I)V" } : Jvm.MethodName) prog_1_method_26_code (2 : Nat) (Option.none : Option Jvm.ClassFile.FieldType)) ∈ lw_all := lw_g (lw_at lw_m4 37 rfl) rfl
theorem q902 : (Jvm.Cond.code ({ cls := "LameClocks", name := "duel", desc := "(IIII)I" } : Jvm.MethodName) prog_1_method_37_code (9 : Nat) (Option.some Jvm.ClassFile.FieldType.int)) ∈ lw_all := lw_g (lw_at lw_m4 113 rfl) rfl
theorem q903 : (Jvm.Cond.methodLink "LameClocks" (246 : Nat) ({ cls := "LameClocks", name := "rests", desc := "(II)Z" } : Jvm.MethodName)) ∈ lw_all := lw_g (lw_at lw_m4 114 rfl) rfl
theorem q905 : (Jvm.Cond.instanceMethod ({ cls := "LameClocks", name := "rests", desc := "(II)Z" } : Jvm.MethodName)) ∈ lw_all := lw_g (lw_at lw_m4 116 rfl) rfl
theorem q914 : (Jvm.Cond.code ({ cls := "LameClocks", name := "right", desc := "(II)I" } : Jvm.MethodName) prog_1_method_39_code (5 : Nat) (Option.some Jvm.ClassFile.FieldType.int)) ∈ lw_all := lw_g (lw_at lw_m4 125 rfl) rfl
theorem q918 : (Jvm.Cond.code ({ cls := "LameClocks", name := "appeal", desc := "(II)I" } : Jvm.MethodName) prog_1_method_40_code (3 : Nat) (Option.some Jvm.ClassFile.FieldType.int)) ∈ lw_all := lw_g (lw_at lw_m4 129 rfl) rfl
theorem q926 : (Jvm.Cond.code ({ cls := "LameClocks", name := "spanBy", desc := "(II)I" } : Jvm.MethodName) prog_1_method_41_code (4 : Nat) (Option.some Jvm.ClassFile.FieldType.int)) ∈ lw_all := lw_g (lw_at lw_m4 137 rfl) rfl
theorem q1325 : (Jvm.Cond.code ({ cls := "LameClocks$Passing", name := "does", desc := "()I" } : Jvm.MethodName) prog_10_method_2_code (1 : Nat) (Option.some Jvm.ClassFile.FieldType.int)) ∈ lw_all := lw_g (lw_at lw_m6 56 rfl) rfl
theorem q1326 : (Jvm.Cond.methodLink "LameClocks$Passing" (13 : Nat) ({ cls := "LameClocks", name := "hour", desc := "()I" } : Jvm.MethodName)) ∈ lw_all := lw_g (lw_at lw_m6 57 rfl) rfl
theorem q1573 : (Jvm.Cond.fieldLinkNest "LameClocks" (253 : Nat) "LameClocks$Race" "always" "I" "LameClocks") ∈ lw_tbl := lw_at lw_m7 64 rfl
abbrev cX0_duel : ByteArray := prog_1_method_37_code
def yX0_duel : MethodName := ⟨RX0, "duel", "(IIII)I"⟩
def dkwX0_duel_9 : List UInt8 := [167, 255, 221, 132, 7, 255, 167, 255, 206, 21, 4, 154, 0, 8, 21, 5, 167, 0, 5, 21, 6, 172]
abbrev dktX0_duel_9 : List UInt8 := dkwX0_duel_9 ++ []
def dkwX0_duel_8 : List UInt8 := [154, 0, 6, 167, 0, 16, 132, 5, 1, 16, 100, 21, 7, 104, 21, 8, 96, 54, 6, 132, 8, 255]
abbrev dktX0_duel_8 : List UInt8 := dkwX0_duel_8 ++ dktX0_duel_9
def dkwX0_duel_7 : List UInt8 := [54, 7, 21, 7, 155, 0, 51, 16, 11, 54, 8, 21, 8, 155, 0, 36, 42, 21, 7, 21, 8, 182, 0, 246]
abbrev dktX0_duel_7 : List UInt8 := dkwX0_duel_7 ++ dktX0_duel_8
def dkwX0_duel_6 : List UInt8 := [100, 79, 132, 6, 1, 167, 255, 165, 132, 5, 1, 167, 255, 149, 3, 54, 5, 16, 252, 54, 6, 16, 11]
abbrev dktX0_duel_6 : List UInt8 := dkwX0_duel_6 ++ dktX0_duel_7
def dkwX0_duel_5 : List UInt8 := [21, 6, 42, 180, 0, 213, 27, 182, 0, 111, 180, 0, 116, 42, 180, 0, 213, 28, 182, 0, 111, 180, 0, 116]
abbrev dktX0_duel_5 : List UInt8 := dkwX0_duel_5 ++ dktX0_duel_6
def dkwX0_duel_4 : List UInt8 := [182, 0, 111, 16, 60, 21, 6, 104, 182, 0, 188, 42, 29, 182, 0, 220, 42, 180, 0, 242, 21, 5, 50]
abbrev dktX0_duel_4 : List UInt8 := dkwX0_duel_4 ++ dktX0_duel_5
def dkwX0_duel_3 : List UInt8 := [182, 0, 216, 42, 180, 0, 213, 27, 182, 0, 111, 16, 60, 21, 5, 104, 182, 0, 188, 42, 180, 0, 213, 28]
abbrev dktX0_duel_3 : List UInt8 := dkwX0_duel_3 ++ dktX0_duel_4
def dkwX0_duel_2 : List UInt8 := [16, 12, 162, 0, 106, 3, 54, 6, 21, 6, 16, 12, 162, 0, 90, 42, 180, 0, 213, 42, 180, 0, 38]
abbrev dktX0_duel_2 : List UInt8 := dkwX0_duel_2 ++ dktX0_duel_3
def dkwX0_duel_1 : List UInt8 := [184, 0, 223, 153, 0, 14, 21, 4, 133, 9, 10, 184, 0, 48, 154, 0, 5, 2, 172, 3, 54, 5, 21, 5]
abbrev dktX0_duel_1 : List UInt8 := dkwX0_duel_1 ++ dktX0_duel_2
def dkwX0_duel_0 : List UInt8 := [42, 27, 182, 0, 107, 153, 0, 34, 42, 28, 182, 0, 107, 153, 0, 26, 27, 28, 159, 0, 21, 29]
abbrev dktX0_duel_0 : List UInt8 := dkwX0_duel_0 ++ dktX0_duel_1
theorem dksX0_duel_0 : cX0_duel.data.toList.drop 0 = dktX0_duel_0 := by decide +kernel
theorem dksX0_duel_1 : cX0_duel.data.toList.drop 22 = dktX0_duel_1 := dk_seg dksX0_duel_0 22 rfl rfl
theorem dksX0_duel_2 : cX0_duel.data.toList.drop 46 = dktX0_duel_2 := dk_seg dksX0_duel_1 24 rfl rfl
theorem dksX0_duel_3 : cX0_duel.data.toList.drop 69 = dktX0_duel_3 := dk_seg dksX0_duel_2 23 rfl rfl
theorem dksX0_duel_4 : cX0_duel.data.toList.drop 93 = dktX0_duel_4 := dk_seg dksX0_duel_3 24 rfl rfl
theorem dksX0_duel_5 : cX0_duel.data.toList.drop 116 = dktX0_duel_5 := dk_seg dksX0_duel_4 23 rfl rfl
theorem dksX0_duel_6 : cX0_duel.data.toList.drop 140 = dktX0_duel_6 := dk_seg dksX0_duel_5 24 rfl rfl
theorem dksX0_duel_7 : cX0_duel.data.toList.drop 163 = dktX0_duel_7 := dk_seg dksX0_duel_6 23 rfl rfl
theorem dksX0_duel_8 : cX0_duel.data.toList.drop 187 = dktX0_duel_8 := dk_seg dksX0_duel_7 24 rfl rfl
theorem dksX0_duel_9 : cX0_duel.data.toList.drop 209 = dktX0_duel_9 := dk_seg dksX0_duel_8 22 rfl rfl
theorem dX0_duel_0 : decode cX0_duel 0 = .ok (.aload_n 0, 1) := dk_42 (dk_at dksX0_duel_0 0 rfl rfl)
theorem dX0_duel_1 : decode cX0_duel 1 = .ok (.iload_n 1, 1) := dk_27 (dk_at dksX0_duel_0 1 rfl rfl)
theorem dX0_duel_2 : decode cX0_duel 2 = .ok (.invokevirtual 107, 3) := dk_182 0 107 (dk_at dksX0_duel_0 2 rfl rfl)
theorem dX0_duel_5 : decode cX0_duel 5 = .ok (.ifCond .eq 34, 3) := dk_153 0 34 (dk_at dksX0_duel_0 5 rfl rfl)
theorem dX0_duel_8 : decode cX0_duel 8 = .ok (.aload_n 0, 1) := dk_42 (dk_at dksX0_duel_0 8 rfl rfl)
theorem dX0_duel_9 : decode cX0_duel 9 = .ok (.iload_n 2, 1) := dk_28 (dk_at dksX0_duel_0 9 rfl rfl)
theorem dX0_duel_10 : decode cX0_duel 10 = .ok (.invokevirtual 107, 3) := dk_182 0 107 (dk_at dksX0_duel_0 10 rfl rfl)
theorem dX0_duel_13 : decode cX0_duel 13 = .ok (.ifCond .eq 26, 3) := dk_153 0 26 (dk_at dksX0_duel_0 13 rfl rfl)
theorem dX0_duel_16 : decode cX0_duel 16 = .ok (.iload_n 1, 1) := dk_27 (dk_at dksX0_duel_0 16 rfl rfl)
theorem dX0_duel_17 : decode cX0_duel 17 = .ok (.iload_n 2, 1) := dk_28 (dk_at dksX0_duel_0 17 rfl rfl)
theorem dX0_duel_18 : decode cX0_duel 18 = .ok (.if_icmp .eq 21, 3) := dk_159 0 21 (dk_at dksX0_duel_0 18 rfl rfl)
theorem dX0_duel_21 : decode cX0_duel 21 = .ok (.iload_n 3, 1) := dk_29 (dk_at dksX0_duel_0 21 rfl rfl)
theorem dX0_duel_22 : decode cX0_duel 22 = .ok (.invokestatic 223, 3) := dk_184 0 223 (dk_at dksX0_duel_1 0 rfl rfl)
theorem dX0_duel_25 : decode cX0_duel 25 = .ok (.ifCond .eq 14, 3) := dk_153 0 14 (dk_at dksX0_duel_1 3 rfl rfl)
theorem dX0_duel_28 : decode cX0_duel 28 = .ok (.iload 4, 2) := dk_21 4 (dk_at dksX0_duel_1 6 rfl rfl)
theorem dX0_duel_30 : decode cX0_duel 30 = .ok (.i2l, 1) := dk_133 (dk_at dksX0_duel_1 8 rfl rfl)
theorem dX0_duel_31 : decode cX0_duel 31 = .ok (.lconst 0, 1) := dk_9 (dk_at dksX0_duel_1 9 rfl rfl)
theorem dX0_duel_32 : decode cX0_duel 32 = .ok (.lconst 1, 1) := dk_10 (dk_at dksX0_duel_1 10 rfl rfl)
theorem dX0_duel_33 : decode cX0_duel 33 = .ok (.invokestatic 48, 3) := dk_184 0 48 (dk_at dksX0_duel_1 11 rfl rfl)
theorem dX0_duel_36 : decode cX0_duel 36 = .ok (.ifCond .ne 5, 3) := dk_154 0 5 (dk_at dksX0_duel_1 14 rfl rfl)
theorem dX0_duel_39 : decode cX0_duel 39 = .ok (.iconst (-1), 1) := dk_2 (dk_at dksX0_duel_1 17 rfl rfl)
theorem dX0_duel_40 : decode cX0_duel 40 = .ok (.ireturn, 1) := dk_172 (dk_at dksX0_duel_1 18 rfl rfl)
theorem dX0_duel_41 : decode cX0_duel 41 = .ok (.iconst 0, 1) := dk_3 (dk_at dksX0_duel_1 19 rfl rfl)
theorem dX0_duel_42 : decode cX0_duel 42 = .ok (.istore 5, 2) := dk_54 5 (dk_at dksX0_duel_1 20 rfl rfl)
theorem dX0_duel_44 : decode cX0_duel 44 = .ok (.iload 5, 2) := dk_21 5 (dk_at dksX0_duel_1 22 rfl rfl)
theorem dX0_duel_46 : decode cX0_duel 46 = .ok (.bipush 12, 2) := dk_16 12 (dk_at dksX0_duel_2 0 rfl rfl)
theorem dX0_duel_48 : decode cX0_duel 48 = .ok (.if_icmp .ge 106, 3) := dk_162 0 106 (dk_at dksX0_duel_2 2 rfl rfl)
theorem dX0_duel_51 : decode cX0_duel 51 = .ok (.iconst 0, 1) := dk_3 (dk_at dksX0_duel_2 5 rfl rfl)
theorem dX0_duel_52 : decode cX0_duel 52 = .ok (.istore 6, 2) := dk_54 6 (dk_at dksX0_duel_2 6 rfl rfl)
theorem dX0_duel_54 : decode cX0_duel 54 = .ok (.iload 6, 2) := dk_21 6 (dk_at dksX0_duel_2 8 rfl rfl)
theorem dX0_duel_56 : decode cX0_duel 56 = .ok (.bipush 12, 2) := dk_16 12 (dk_at dksX0_duel_2 10 rfl rfl)
theorem dX0_duel_58 : decode cX0_duel 58 = .ok (.if_icmp .ge 90, 3) := dk_162 0 90 (dk_at dksX0_duel_2 12 rfl rfl)
theorem dX0_duel_61 : decode cX0_duel 61 = .ok (.aload_n 0, 1) := dk_42 (dk_at dksX0_duel_2 15 rfl rfl)
theorem dX0_duel_62 : decode cX0_duel 62 = .ok (.getfield 213, 3) := dk_180 0 213 (dk_at dksX0_duel_2 16 rfl rfl)
theorem dX0_duel_65 : decode cX0_duel 65 = .ok (.aload_n 0, 1) := dk_42 (dk_at dksX0_duel_2 19 rfl rfl)
theorem dX0_duel_66 : decode cX0_duel 66 = .ok (.getfield 38, 3) := dk_180 0 38 (dk_at dksX0_duel_2 20 rfl rfl)
theorem dX0_duel_69 : decode cX0_duel 69 = .ok (.invokevirtual 216, 3) := dk_182 0 216 (dk_at dksX0_duel_3 0 rfl rfl)
theorem dX0_duel_72 : decode cX0_duel 72 = .ok (.aload_n 0, 1) := dk_42 (dk_at dksX0_duel_3 3 rfl rfl)
theorem dX0_duel_73 : decode cX0_duel 73 = .ok (.getfield 213, 3) := dk_180 0 213 (dk_at dksX0_duel_3 4 rfl rfl)
theorem dX0_duel_76 : decode cX0_duel 76 = .ok (.iload_n 1, 1) := dk_27 (dk_at dksX0_duel_3 7 rfl rfl)
theorem dX0_duel_77 : decode cX0_duel 77 = .ok (.invokevirtual 111, 3) := dk_182 0 111 (dk_at dksX0_duel_3 8 rfl rfl)
theorem dX0_duel_80 : decode cX0_duel 80 = .ok (.bipush 60, 2) := dk_16 60 (dk_at dksX0_duel_3 11 rfl rfl)
theorem dX0_duel_82 : decode cX0_duel 82 = .ok (.iload 5, 2) := dk_21 5 (dk_at dksX0_duel_3 13 rfl rfl)
theorem dX0_duel_84 : decode cX0_duel 84 = .ok (.imul, 1) := dk_104 (dk_at dksX0_duel_3 15 rfl rfl)
theorem dX0_duel_85 : decode cX0_duel 85 = .ok (.invokevirtual 188, 3) := dk_182 0 188 (dk_at dksX0_duel_3 16 rfl rfl)
theorem dX0_duel_88 : decode cX0_duel 88 = .ok (.aload_n 0, 1) := dk_42 (dk_at dksX0_duel_3 19 rfl rfl)
theorem dX0_duel_89 : decode cX0_duel 89 = .ok (.getfield 213, 3) := dk_180 0 213 (dk_at dksX0_duel_3 20 rfl rfl)
theorem dX0_duel_92 : decode cX0_duel 92 = .ok (.iload_n 2, 1) := dk_28 (dk_at dksX0_duel_3 23 rfl rfl)
theorem dX0_duel_93 : decode cX0_duel 93 = .ok (.invokevirtual 111, 3) := dk_182 0 111 (dk_at dksX0_duel_4 0 rfl rfl)
theorem dX0_duel_96 : decode cX0_duel 96 = .ok (.bipush 60, 2) := dk_16 60 (dk_at dksX0_duel_4 3 rfl rfl)
theorem dX0_duel_98 : decode cX0_duel 98 = .ok (.iload 6, 2) := dk_21 6 (dk_at dksX0_duel_4 5 rfl rfl)
theorem dX0_duel_100 : decode cX0_duel 100 = .ok (.imul, 1) := dk_104 (dk_at dksX0_duel_4 7 rfl rfl)
theorem dX0_duel_101 : decode cX0_duel 101 = .ok (.invokevirtual 188, 3) := dk_182 0 188 (dk_at dksX0_duel_4 8 rfl rfl)
theorem dX0_duel_104 : decode cX0_duel 104 = .ok (.aload_n 0, 1) := dk_42 (dk_at dksX0_duel_4 11 rfl rfl)
theorem dX0_duel_105 : decode cX0_duel 105 = .ok (.iload_n 3, 1) := dk_29 (dk_at dksX0_duel_4 12 rfl rfl)
theorem dX0_duel_106 : decode cX0_duel 106 = .ok (.invokevirtual 220, 3) := dk_182 0 220 (dk_at dksX0_duel_4 13 rfl rfl)
theorem dX0_duel_109 : decode cX0_duel 109 = .ok (.aload_n 0, 1) := dk_42 (dk_at dksX0_duel_4 16 rfl rfl)
theorem dX0_duel_110 : decode cX0_duel 110 = .ok (.getfield 242, 3) := dk_180 0 242 (dk_at dksX0_duel_4 17 rfl rfl)
theorem dX0_duel_113 : decode cX0_duel 113 = .ok (.iload 5, 2) := dk_21 5 (dk_at dksX0_duel_4 20 rfl rfl)
theorem dX0_duel_115 : decode cX0_duel 115 = .ok (.aaload, 1) := dk_50 (dk_at dksX0_duel_4 22 rfl rfl)
theorem dX0_duel_116 : decode cX0_duel 116 = .ok (.iload 6, 2) := dk_21 6 (dk_at dksX0_duel_5 0 rfl rfl)
theorem dX0_duel_118 : decode cX0_duel 118 = .ok (.aload_n 0, 1) := dk_42 (dk_at dksX0_duel_5 2 rfl rfl)
theorem dX0_duel_119 : decode cX0_duel 119 = .ok (.getfield 213, 3) := dk_180 0 213 (dk_at dksX0_duel_5 3 rfl rfl)
theorem dX0_duel_122 : decode cX0_duel 122 = .ok (.iload_n 1, 1) := dk_27 (dk_at dksX0_duel_5 6 rfl rfl)
theorem dX0_duel_123 : decode cX0_duel 123 = .ok (.invokevirtual 111, 3) := dk_182 0 111 (dk_at dksX0_duel_5 7 rfl rfl)
theorem dX0_duel_126 : decode cX0_duel 126 = .ok (.getfield 116, 3) := dk_180 0 116 (dk_at dksX0_duel_5 10 rfl rfl)
theorem dX0_duel_129 : decode cX0_duel 129 = .ok (.aload_n 0, 1) := dk_42 (dk_at dksX0_duel_5 13 rfl rfl)
theorem dX0_duel_130 : decode cX0_duel 130 = .ok (.getfield 213, 3) := dk_180 0 213 (dk_at dksX0_duel_5 14 rfl rfl)
theorem dX0_duel_133 : decode cX0_duel 133 = .ok (.iload_n 2, 1) := dk_28 (dk_at dksX0_duel_5 17 rfl rfl)
theorem dX0_duel_134 : decode cX0_duel 134 = .ok (.invokevirtual 111, 3) := dk_182 0 111 (dk_at dksX0_duel_5 18 rfl rfl)
theorem dX0_duel_137 : decode cX0_duel 137 = .ok (.getfield 116, 3) := dk_180 0 116 (dk_at dksX0_duel_5 21 rfl rfl)
theorem dX0_duel_140 : decode cX0_duel 140 = .ok (.isub, 1) := dk_100 (dk_at dksX0_duel_6 0 rfl rfl)
theorem dX0_duel_141 : decode cX0_duel 141 = .ok (.iastore, 1) := dk_79 (dk_at dksX0_duel_6 1 rfl rfl)
theorem dX0_duel_142 : decode cX0_duel 142 = .ok (.iinc 6 1, 3) := dk_132 6 1 (dk_at dksX0_duel_6 2 rfl rfl)
theorem dX0_duel_145 : decode cX0_duel 145 = .ok (.goto (-91), 3) := dk_167 255 165 (dk_at dksX0_duel_6 5 rfl rfl)
theorem dX0_duel_148 : decode cX0_duel 148 = .ok (.iinc 5 1, 3) := dk_132 5 1 (dk_at dksX0_duel_6 8 rfl rfl)
theorem dX0_duel_151 : decode cX0_duel 151 = .ok (.goto (-107), 3) := dk_167 255 149 (dk_at dksX0_duel_6 11 rfl rfl)
theorem dX0_duel_154 : decode cX0_duel 154 = .ok (.iconst 0, 1) := dk_3 (dk_at dksX0_duel_6 14 rfl rfl)
theorem dX0_duel_155 : decode cX0_duel 155 = .ok (.istore 5, 2) := dk_54 5 (dk_at dksX0_duel_6 15 rfl rfl)
theorem dX0_duel_157 : decode cX0_duel 157 = .ok (.bipush (-4), 2) := dk_16 252 (dk_at dksX0_duel_6 17 rfl rfl)
theorem dX0_duel_159 : decode cX0_duel 159 = .ok (.istore 6, 2) := dk_54 6 (dk_at dksX0_duel_6 19 rfl rfl)
theorem dX0_duel_161 : decode cX0_duel 161 = .ok (.bipush 11, 2) := dk_16 11 (dk_at dksX0_duel_6 21 rfl rfl)
theorem dX0_duel_163 : decode cX0_duel 163 = .ok (.istore 7, 2) := dk_54 7 (dk_at dksX0_duel_7 0 rfl rfl)
theorem dX0_duel_165 : decode cX0_duel 165 = .ok (.iload 7, 2) := dk_21 7 (dk_at dksX0_duel_7 2 rfl rfl)
theorem dX0_duel_167 : decode cX0_duel 167 = .ok (.ifCond .lt 51, 3) := dk_155 0 51 (dk_at dksX0_duel_7 4 rfl rfl)
theorem dX0_duel_170 : decode cX0_duel 170 = .ok (.bipush 11, 2) := dk_16 11 (dk_at dksX0_duel_7 7 rfl rfl)
theorem dX0_duel_172 : decode cX0_duel 172 = .ok (.istore 8, 2) := dk_54 8 (dk_at dksX0_duel_7 9 rfl rfl)
theorem dX0_duel_174 : decode cX0_duel 174 = .ok (.iload 8, 2) := dk_21 8 (dk_at dksX0_duel_7 11 rfl rfl)
theorem dX0_duel_176 : decode cX0_duel 176 = .ok (.ifCond .lt 36, 3) := dk_155 0 36 (dk_at dksX0_duel_7 13 rfl rfl)
theorem dX0_duel_179 : decode cX0_duel 179 = .ok (.aload_n 0, 1) := dk_42 (dk_at dksX0_duel_7 16 rfl rfl)
theorem dX0_duel_180 : decode cX0_duel 180 = .ok (.iload 7, 2) := dk_21 7 (dk_at dksX0_duel_7 17 rfl rfl)
theorem dX0_duel_182 : decode cX0_duel 182 = .ok (.iload 8, 2) := dk_21 8 (dk_at dksX0_duel_7 19 rfl rfl)
theorem dX0_duel_184 : decode cX0_duel 184 = .ok (.invokevirtual 246, 3) := dk_182 0 246 (dk_at dksX0_duel_7 21 rfl rfl)
theorem dX0_duel_187 : decode cX0_duel 187 = .ok (.ifCond .ne 6, 3) := dk_154 0 6 (dk_at dksX0_duel_8 0 rfl rfl)
theorem dX0_duel_190 : decode cX0_duel 190 = .ok (.goto 16, 3) := dk_167 0 16 (dk_at dksX0_duel_8 3 rfl rfl)
theorem dX0_duel_193 : decode cX0_duel 193 = .ok (.iinc 5 1, 3) := dk_132 5 1 (dk_at dksX0_duel_8 6 rfl rfl)
theorem dX0_duel_196 : decode cX0_duel 196 = .ok (.bipush 100, 2) := dk_16 100 (dk_at dksX0_duel_8 9 rfl rfl)
theorem dX0_duel_198 : decode cX0_duel 198 = .ok (.iload 7, 2) := dk_21 7 (dk_at dksX0_duel_8 11 rfl rfl)
theorem dX0_duel_200 : decode cX0_duel 200 = .ok (.imul, 1) := dk_104 (dk_at dksX0_duel_8 13 rfl rfl)
theorem dX0_duel_201 : decode cX0_duel 201 = .ok (.iload 8, 2) := dk_21 8 (dk_at dksX0_duel_8 14 rfl rfl)
theorem dX0_duel_203 : decode cX0_duel 203 = .ok (.iadd, 1) := dk_96 (dk_at dksX0_duel_8 16 rfl rfl)
theorem dX0_duel_204 : decode cX0_duel 204 = .ok (.istore 6, 2) := dk_54 6 (dk_at dksX0_duel_8 17 rfl rfl)
theorem dX0_duel_206 : decode cX0_duel 206 = .ok (.iinc 8 (-1), 3) := dk_132 8 255 (dk_at dksX0_duel_8 19 rfl rfl)
theorem dX0_duel_209 : decode cX0_duel 209 = .ok (.goto (-35), 3) := dk_167 255 221 (dk_at dksX0_duel_9 0 rfl rfl)
theorem dX0_duel_212 : decode cX0_duel 212 = .ok (.iinc 7 (-1), 3) := dk_132 7 255 (dk_at dksX0_duel_9 3 rfl rfl)
theorem dX0_duel_215 : decode cX0_duel 215 = .ok (.goto (-50), 3) := dk_167 255 206 (dk_at dksX0_duel_9 6 rfl rfl)
theorem dX0_duel_218 : decode cX0_duel 218 = .ok (.iload 4, 2) := dk_21 4 (dk_at dksX0_duel_9 9 rfl rfl)
theorem dX0_duel_220 : decode cX0_duel 220 = .ok (.ifCond .ne 8, 3) := dk_154 0 8 (dk_at dksX0_duel_9 11 rfl rfl)
theorem dX0_duel_223 : decode cX0_duel 223 = .ok (.iload 5, 2) := dk_21 5 (dk_at dksX0_duel_9 14 rfl rfl)
theorem dX0_duel_225 : decode cX0_duel 225 = .ok (.goto 5, 3) := dk_167 0 5 (dk_at dksX0_duel_9 16 rfl rfl)
theorem dX0_duel_228 : decode cX0_duel 228 = .ok (.iload 6, 2) := dk_21 6 (dk_at dksX0_duel_9 19 rfl rfl)
theorem dX0_duel_230 : decode cX0_duel 230 = .ok (.ireturn, 1) := dk_172 (dk_at dksX0_duel_9 21 rfl rfl)
theorem dmV_X0_rests : yX0_rests.cls = RX0 ∧ yX0_rests.cls ≠ "java/lang/invoke/MethodHandle" ∧ yX0_rests.cls ≠ "java/lang/invoke/VarHandle" ∧ (parseMethodDescriptor yX0_rests.desc).map (fun d => d.parameters.length) = some 2 := by decide +kernel
section CP
variable {Γ : Gc} {p : Program} {l : Launch} {e : Env} {s : State} {m : MethodId} {args : Array Value} {below : List Frame} {meth : Method} {c : Code} {ex : Nat → Option Nat} {z : Nat} {tF : St}
noncomputable def fX0_duel_54 (ex : Nat → Option Nat) (z : Nat) (kc44 : Nat → Int32 → Int32 → Int32 → Int32 → Int32 → St → Option (Int32 × St)) : Nat → Nat → Int32 → Int32 → Int32 → Int32 → Int32 → Int32 → St → Option (Int32 × St)
  | 0, _, _, _, _, _, _, _, _ => none
  | n + 1, h0, x1, x2, x3, x4, x5, x6, t => if 12 ≤ x6 then kc44 h0 x1 x2 x3 x4 (x5 + 1) t else cgA [0] 1 t h0 fun v1 => cgA [0] 0 t h0 fun v2 => ccast [1] t v1 (gb (fX1_takes ex (z + t.2.1) v1 v2 (t.1, 0, 0)) t fun _ t4 => cgA [0] 1 t4 h0 fun v10 => ccast [1] t4 v10 (gb (fX1_clock ex (z + t4.2.1) v10 x1 (t4.1, 0, 0)) t4 fun r11 t12 => ccast [4, 5, 6, 7, 8, 9] t12 r11 (gb (fX4_turns ex (z + t12.2.1) r11 (60 * x5) (t12.1, 0, 0)) t12 fun _ t19 => cgA [0] 1 t19 h0 fun v25 => ccast [1] t19 v25 (gb (fX1_clock ex (z + t19.2.1) v25 x2 (t19.1, 0, 0)) t19 fun r26 t27 => ccast [4, 5, 6, 7, 8, 9] t27 r26 (gb (fX4_turns ex (z + t27.2.1) r26 (60 * x6) (t27.1, 0, 0)) t27 fun _ t34 => ccast [0] t34 h0 (gb (fX0_goOn ex (z + t34.2.1) h0 x3 (t34.1, 0, 0)) t34 fun _ t41 => cgA [0] 3 t41 h0 fun v47 => caldA 6 t41 v47 x5 fun v48 => cgA [0] 1 t41 h0 fun v49 => ccast [1] t41 v49 (gb (fX1_clock ex (z + t41.2.1) v49 x1 (t41.1, 0, 0)) t41 fun r50 t51 => cgI [4, 5, 6, 7, 8, 9] 4 t51 r50 fun v57 => cgA [0] 1 t51 h0 fun v58 => ccast [1] t51 v58 (gb (fX1_clock ex (z + t51.2.1) v58 x2 (t51.1, 0, 0)) t51 fun r59 t60 => cgI [4, 5, 6, 7, 8, 9] 4 t60 r59 fun v66 => cast_ 2 (fun x => x) t60 v48 x6 (v57 - v66) fun t67 => fX0_duel_54 ex z kc44 n h0 x1 x2 x3 x4 x5 (x6 + 1) t67))))))))
set_option maxHeartbeats 4000000 in
theorem wX0_duel_54 {rF : Int32} (hex : ex = Γ.2.2.2.2) (X : g_X Γ p s m args meth c cX0_duel 9 RX0) (hr : meth.sig.returnType = (some .int)) {kc44 : Nat → Int32 → Int32 → Int32 → Int32 → Int32 → St → Option (Int32 × St)} (hk44 : ∀ (h0 : Nat) (x1 : Int32) (x2 : Int32) (x3 : Int32) (x4 : Int32) (x5 : Int32) (t : St), Wf Γ p l e 20 425 s m args below meth c 9 (g_ι z) v_i rF tF 44 [(0, .ref h0), (1, .int x1), (2, .int x2), (3, .int x3), (4, .int x4), (5, .int x5)] [] t (kc44 h0 x1 x2 x3 x4 x5 t)) (n : Nat) : ∀ (h0 : Nat) (x1 : Int32) (x2 : Int32) (x3 : Int32) (x4 : Int32) (x5 : Int32) (x6 : Int32) (t : St), Wf Γ p l e 20 425 s m args below meth c 9 (g_ι z) v_i rF tF 54 [(0, .ref h0), (1, .int x1), (2, .int x2), (3, .int x3), (4, .int x4), (5, .int x5), (6, .int x6)] [] t (fX0_duel_54 ex z kc44 n h0 x1 x2 x3 x4 x5 x6 t) := by
  induction n with
  | zero => intro h0 x1 x2 x3 x4 x5 x6 t; exact g_none
  | succ n ih =>
    intro h0 x1 x2 x3 x4 x5 x6 t
    rw [fX0_duel_54]
    refine g_iload (pc := 54) X 6 dX0_duel_54 rfl ?_
    refine g_bipush (pc := 56) X 12 dX0_duel_56 rfl ?_
    refine g_icmp_ge (pc := 58) X 148 dX0_duel_58 (by decide) ?_ ?_
    · refine g_iinc (pc := 148) X 1 5 (lv' := [(5, .int (x5 + 1)), (0, .ref h0), (1, .int x1), (2, .int x2), (3, .int x3), (4, .int x4), (6, .int x6)]) dX0_duel_148 rfl rfl (by decide) rfl ?_
      refine g_goto (pc := 151) X 44 dX0_duel_151 (by decide) ?_
      exact g_lv (pc := 44) (lv' := [(0, .ref h0), (1, .int x1), (2, .int x2), (3, .int x3), (4, .int x4), (5, .int (x5 + 1))]) [1, 2, 3, 4, 5, 0] rfl (hk44 h0 x1 x2 x3 x4 (x5 + 1) t)
    · refine g_aload_n (pc := 61) X 0 dX0_duel_61 rfl rfl ?_
      refine cg_getA (pc := 62) X fo_X0_213 dX0_duel_62 (fun v1 => ?_)
      refine g_aload_n (pc := 65) X 0 dX0_duel_65 rfl rfl ?_
      refine cg_getA (pc := 66) X fo_X0_38 dX0_duel_66 (fun v2 => ?_)
      refine g_bD_v (pc := 69) X (cs := [1]) (As := [.ref v2]) (rest := []) (b := v1) (n := 1) dX0_duel_69 rfl rfl (Nat.le_of_ble_eq_true rfl) (fun fl5 ci6 fs7 hs8 hci9 r u h => ?_) (fun r3 t4 => ?_)
      · obtain rfl := List.mem_singleton.mp hci9
        exact ⟨_, _, _, yX1_takes, _, _, _, 7, 152, rfl, kX1_takes hex h, Or.inl (cwV 1 X.2.2.2.2.1 (lw_V q827 q828 q829 q71 q830) rfl rfl rfl dmV_X1_takes ⟨Nat.le_of_ble_eq_true rfl, Nat.le_of_ble_eq_true rfl⟩)⟩
      refine g_aload_n (pc := 72) X 0 dX0_duel_72 rfl rfl ?_
      refine cg_getA (pc := 73) X fo_X0_213 dX0_duel_73 (fun v10 => ?_)
      refine g_iload_n (pc := 76) X 1 dX0_duel_76 rfl rfl ?_
      refine g_bD_a (pc := 77) X (cs := [1]) (As := [.int x1]) (rest := []) (b := v10) (n := 1) dX0_duel_77 rfl rfl (Nat.le_of_ble_eq_true rfl) (fun fl13 ci14 fs15 hs16 hci17 r u h => ?_) (fun r11 t12 => ?_)
      · obtain rfl := List.mem_singleton.mp hci17
        exact ⟨_, _, _, yX1_clock, _, _, _, 3, 64, rfl, kX1_clock hex h, Or.inl (cwV 1 X.2.2.2.2.1 (lw_V q373 q374 q375 q71 q376) rfl rfl rfl dmV_X1_clock ⟨Nat.le_of_ble_eq_true rfl, Nat.le_of_ble_eq_true rfl⟩)⟩
      refine g_bipush (pc := 80) X 60 dX0_duel_80 rfl ?_
      refine g_iload (pc := 82) X 5 dX0_duel_82 rfl ?_
      refine g_imul (pc := 84) X dX0_duel_84 ?_
      refine g_bD_v (pc := 85) X (cs := [4, 5, 6, 7, 8, 9]) (As := [.int (60 * x5)]) (rest := []) (b := r11) (n := 1) dX0_duel_85 rfl rfl (Nat.le_of_ble_eq_true rfl) (fun fl20 ci21 fs22 hs23 hci24 r u h => ?_) (fun r18 t19 => ?_)
      · simp only [List.mem_cons, List.not_mem_nil, or_false] at hci24
        rcases hci24 with rfl | rfl | rfl | rfl | rfl | rfl
        · exact ⟨_, _, _, yX4_turns, _, _, _, 0, 0, rfl, kX4_turns hex h, Or.inl (cwV 1 X.2.2.2.2.1 (lw_V q732 q733 q734 q77 q741) rfl rfl rfl dmV_X4_turns ⟨Nat.le_of_ble_eq_true rfl, Nat.le_of_ble_eq_true rfl⟩)⟩
        · exact ⟨_, _, _, yX4_turns, _, _, _, 0, 0, rfl, kX4_turns hex h, Or.inr (Or.inl ⟨_, _, va_cwU 1 X.2.2.2.2.1 (lw_U q732 q735 q736 q733 q77 q741) rfl rfl rfl rfl dmU_X4_turns1 ⟨Nat.le_of_ble_eq_true rfl, Nat.le_of_ble_eq_true rfl⟩⟩)⟩
        · exact ⟨_, _, _, yX4_turns, _, _, _, 0, 0, rfl, kX4_turns hex h, Or.inr (Or.inl ⟨_, _, va_cwU 1 X.2.2.2.2.1 (lw_U q732 q735 q738 q733 q77 q741) rfl rfl rfl rfl dmU_X4_turns1 ⟨Nat.le_of_ble_eq_true rfl, Nat.le_of_ble_eq_true rfl⟩⟩)⟩
        · exact ⟨_, _, _, yX4_turns, _, _, _, 0, 0, rfl, kX4_turns hex h, Or.inr (Or.inl ⟨_, _, va_cwU 1 X.2.2.2.2.1 (lw_U q732 q735 q739 q733 q77 q741) rfl rfl rfl rfl dmU_X4_turns1 ⟨Nat.le_of_ble_eq_true rfl, Nat.le_of_ble_eq_true rfl⟩⟩)⟩
        · exact ⟨_, _, _, yX4_turns, _, _, _, 0, 0, rfl, kX4_turns hex h, Or.inr (Or.inl ⟨_, _, va_cwU 1 X.2.2.2.2.1 (lw_U q732 q735 q740 q733 q77 q741) rfl rfl rfl rfl dmU_X4_turns1 ⟨Nat.le_of_ble_eq_true rfl, Nat.le_of_ble_eq_true rfl⟩⟩)⟩
        · exact ⟨_, _, _, yX4_turns, _, _, _, 0, 0, rfl, kX4_turns hex h, Or.inr (Or.inl ⟨_, _, va_cwU 1 X.2.2.2.2.1 (lw_U q732 q735 q737 q733 q77 q741) rfl rfl rfl rfl dmU_X4_turns1 ⟨Nat.le_of_ble_eq_true rfl, Nat.le_of_ble_eq_true rfl⟩⟩)⟩
      refine g_aload_n (pc := 88) X 0 dX0_duel_88 rfl rfl ?_
      refine cg_getA (pc := 89) X fo_X0_213 dX0_duel_89 (fun v25 => ?_)
      refine g_iload_n (pc := 92) X 2 dX0_duel_92 rfl rfl ?_
      refine g_bD_a (pc := 93) X (cs := [1]) (As := [.int x2]) (rest := []) (b := v25) (n := 1) dX0_duel_93 rfl rfl (Nat.le_of_ble_eq_true rfl) (fun fl28 ci29 fs30 hs31 hci32 r u h => ?_) (fun r26 t27 => ?_)
      · obtain rfl := List.mem_singleton.mp hci32
        exact ⟨_, _, _, yX1_clock, _, _, _, 3, 64, rfl, kX1_clock hex h, Or.inl (cwV 1 X.2.2.2.2.1 (lw_V q373 q374 q375 q71 q376) rfl rfl rfl dmV_X1_clock ⟨Nat.le_of_ble_eq_true rfl, Nat.le_of_ble_eq_true rfl⟩)⟩
      refine g_bipush (pc := 96) X 60 dX0_duel_96 rfl ?_
      refine g_iload (pc := 98) X 6 dX0_duel_98 rfl ?_
      refine g_imul (pc := 100) X dX0_duel_100 ?_
      refine g_bD_v (pc := 101) X (cs := [4, 5, 6, 7, 8, 9]) (As := [.int (60 * x6)]) (rest := []) (b := r26) (n := 1) dX0_duel_101 rfl rfl (Nat.le_of_ble_eq_true rfl) (fun fl35 ci36 fs37 hs38 hci39 r u h => ?_) (fun r33 t34 => ?_)
      · simp only [List.mem_cons, List.not_mem_nil, or_false] at hci39
        rcases hci39 with rfl | rfl | rfl | rfl | rfl | rfl
        · exact ⟨_, _, _, yX4_turns, _, _, _, 0, 0, rfl, kX4_turns hex h, Or.inl (cwV 1 X.2.2.2.2.1 (lw_V q732 q733 q734 q77 q741) rfl rfl rfl dmV_X4_turns ⟨Nat.le_of_ble_eq_true rfl, Nat.le_of_ble_eq_true rfl⟩)⟩
        · exact ⟨_, _, _, yX4_turns, _, _, _, 0, 0, rfl, kX4_turns hex h, Or.inr (Or.inl ⟨_, _, va_cwU 1 X.2.2.2.2.1 (lw_U q732 q735 q736 q733 q77 q741) rfl rfl rfl rfl dmU_X4_turns1 ⟨Nat.le_of_ble_eq_true rfl, Nat.le_of_ble_eq_true rfl⟩⟩)⟩
        · exact ⟨_, _, _, yX4_turns, _, _, _, 0, 0, rfl, kX4_turns hex h, Or.inr (Or.inl ⟨_, _, va_cwU 1 X.2.2.2.2.1 (lw_U q732 q735 q738 q733 q77 q741) rfl rfl rfl rfl dmU_X4_turns1 ⟨Nat.le_of_ble_eq_true rfl, Nat.le_of_ble_eq_true rfl⟩⟩)⟩
        · exact ⟨_, _, _, yX4_turns, _, _, _, 0, 0, rfl, kX4_turns hex h, Or.inr (Or.inl ⟨_, _, va_cwU 1 X.2.2.2.2.1 (lw_U q732 q735 q739 q733 q77 q741) rfl rfl rfl rfl dmU_X4_turns1 ⟨Nat.le_of_ble_eq_true rfl, Nat.le_of_ble_eq_true rfl⟩⟩)⟩
        · exact ⟨_, _, _, yX4_turns, _, _, _, 0, 0, rfl, kX4_turns hex h, Or.inr (Or.inl ⟨_, _, va_cwU 1 X.2.2.2.2.1 (lw_U q732 q735 q740 q733 q77 q741) rfl rfl rfl rfl dmU_X4_turns1 ⟨Nat.le_of_ble_eq_true rfl, Nat.le_of_ble_eq_true rfl⟩⟩)⟩
        · exact ⟨_, _, _, yX4_turns, _, _, _, 0, 0, rfl, kX4_turns hex h, Or.inr (Or.inl ⟨_, _, va_cwU 1 X.2.2.2.2.1 (lw_U q732 q735 q737 q733 q77 q741) rfl rfl rfl rfl dmU_X4_turns1 ⟨Nat.le_of_ble_eq_true rfl, Nat.le_of_ble_eq_true rfl⟩⟩)⟩
      refine g_aload_n (pc := 104) X 0 dX0_duel_104 rfl rfl ?_
      refine g_iload_n (pc := 105) X 3 dX0_duel_105 rfl rfl ?_
      refine g_bD_v (pc := 106) X (cs := [0]) (As := [.int x3]) (rest := []) (b := h0) (n := 1) dX0_duel_106 rfl rfl (Nat.le_of_ble_eq_true rfl) (fun fl42 ci43 fs44 hs45 hci46 r u h => ?_) (fun r40 t41 => ?_)
      · obtain rfl := List.mem_singleton.mp hci46
        exact ⟨_, _, _, yX0_goOn, _, _, _, 19, 403, rfl, kX0_goOn hex h, Or.inl (cwV 1 X.2.2.2.2.1 (lw_V q861 q863 qs8 q70 q864) rfl rfl rfl dmV_X0_goOn ⟨Nat.le_of_ble_eq_true rfl, Nat.le_of_ble_eq_true rfl⟩)⟩
      refine g_aload_n (pc := 109) X 0 dX0_duel_109 rfl rfl ?_
      refine cg_getA (pc := 110) X fo_X0_242 dX0_duel_110 (fun v47 => ?_)
      refine g_iload (pc := 113) X 5 dX0_duel_113 rfl ?_
      refine cg_aald (pc := 115) X (j := 6) rfl rfl dX0_duel_115 (fun v48 => ?_)
      refine g_iload (pc := 116) X 6 dX0_duel_116 rfl ?_
      refine g_aload_n (pc := 118) X 0 dX0_duel_118 rfl rfl ?_
      refine cg_getA (pc := 119) X fo_X0_213 dX0_duel_119 (fun v49 => ?_)
      refine g_iload_n (pc := 122) X 1 dX0_duel_122 rfl rfl ?_
      refine g_bD_a (pc := 123) X (cs := [1]) (As := [.int x1]) (rest := [.int x6, .ref v48]) (b := v49) (n := 1) dX0_duel_123 rfl rfl (Nat.le_of_ble_eq_true rfl) (fun fl52 ci53 fs54 hs55 hci56 r u h => ?_) (fun r50 t51 => ?_)
      · obtain rfl := List.mem_singleton.mp hci56
        exact ⟨_, _, _, yX1_clock, _, _, _, 3, 64, rfl, kX1_clock hex h, Or.inl (cwV 1 X.2.2.2.2.1 (lw_V q373 q374 q375 q71 q376) rfl rfl rfl dmV_X1_clock ⟨Nat.le_of_ble_eq_true rfl, Nat.le_of_ble_eq_true rfl⟩)⟩
      refine cg_getI (pc := 126) X fo_X0_116 dX0_duel_126 (fun v57 => ?_)
      refine g_aload_n (pc := 129) X 0 dX0_duel_129 rfl rfl ?_
      refine cg_getA (pc := 130) X fo_X0_213 dX0_duel_130 (fun v58 => ?_)
      refine g_iload_n (pc := 133) X 2 dX0_duel_133 rfl rfl ?_
      refine g_bD_a (pc := 134) X (cs := [1]) (As := [.int x2]) (rest := [.int v57, .int x6, .ref v48]) (b := v58) (n := 1) dX0_duel_134 rfl rfl (Nat.le_of_ble_eq_true rfl) (fun fl61 ci62 fs63 hs64 hci65 r u h => ?_) (fun r59 t60 => ?_)
      · obtain rfl := List.mem_singleton.mp hci65
        exact ⟨_, _, _, yX1_clock, _, _, _, 3, 64, rfl, kX1_clock hex h, Or.inl (cwV 1 X.2.2.2.2.1 (lw_V q373 q374 q375 q71 q376) rfl rfl rfl dmV_X1_clock ⟨Nat.le_of_ble_eq_true rfl, Nat.le_of_ble_eq_true rfl⟩)⟩
      refine cg_getI (pc := 137) X fo_X0_116 dX0_duel_137 (fun v66 => ?_)
      refine g_isub (pc := 140) X dX0_duel_140 ?_
      refine cg_iast (pc := 141) X dX0_duel_141 (fun t67 => ?_)
      refine g_iinc (pc := 142) X 1 6 (lv' := [(6, .int (x6 + 1)), (0, .ref h0), (1, .int x1), (2, .int x2), (3, .int x3), (4, .int x4), (5, .int x5)]) dX0_duel_142 rfl rfl (by decide) rfl ?_
      refine g_goto (pc := 145) X 54 dX0_duel_145 (by decide) ?_
      exact g_lv (pc := 54) (lv' := [(0, .ref h0), (1, .int x1), (2, .int x2), (3, .int x3), (4, .int x4), (5, .int x5), (6, .int (x6 + 1))]) [1, 2, 3, 4, 5, 6, 0] rfl (ih h0 x1 x2 x3 x4 x5 (x6 + 1) t67)
noncomputable def fX0_duel_206 (ex : Nat → Option Nat) (z : Nat) (kc165 : Nat → Int32 → Int32 → Int32 → Int32 → St → Option (Int32 × St)) (kc174 : Nat → Int32 → Int32 → Int32 → Int32 → Int32 → St → Option (Int32 × St)) (h0 : Nat) (x4 : Int32) (x5 : Int32) (x6 : Int32) (x7 : Int32) (x8 : Int32) (t : St) : Option (Int32 × St) := kc174 h0 x4 x5 x6 x7 (x8 + (-1)) t
set_option maxHeartbeats 4000000 in
theorem wX0_duel_206 {rF : Int32} (hex : ex = Γ.2.2.2.2) (X : g_X Γ p s m args meth c cX0_duel 9 RX0) (hr : meth.sig.returnType = (some .int)) {kc165 : Nat → Int32 → Int32 → Int32 → Int32 → St → Option (Int32 × St)} (hk165 : ∀ (h0 : Nat) (x4 : Int32) (x5 : Int32) (x6 : Int32) (x7 : Int32) (t : St), Wf Γ p l e 20 425 s m args below meth c 9 (g_ι z) v_i rF tF 165 [(0, .ref h0), (4, .int x4), (5, .int x5), (6, .int x6), (7, .int x7)] [] t (kc165 h0 x4 x5 x6 x7 t)) {kc174 : Nat → Int32 → Int32 → Int32 → Int32 → Int32 → St → Option (Int32 × St)} (hk174 : ∀ (h0 : Nat) (x4 : Int32) (x5 : Int32) (x6 : Int32) (x7 : Int32) (x8 : Int32) (t : St), Wf Γ p l e 20 425 s m args below meth c 9 (g_ι z) v_i rF tF 174 [(0, .ref h0), (4, .int x4), (5, .int x5), (6, .int x6), (7, .int x7), (8, .int x8)] [] t (kc174 h0 x4 x5 x6 x7 x8 t)) (h0 : Nat) (x4 : Int32) (x5 : Int32) (x6 : Int32) (x7 : Int32) (x8 : Int32) (t : St) : Wf Γ p l e 20 425 s m args below meth c 9 (g_ι z) v_i rF tF 206 [(0, .ref h0), (4, .int x4), (5, .int x5), (6, .int x6), (7, .int x7), (8, .int x8)] [] t (fX0_duel_206 ex z kc165 kc174 h0 x4 x5 x6 x7 x8 t) := by
  unfold fX0_duel_206
  refine g_iinc (pc := 206) X (-1) 5 (lv' := [(8, .int (x8 + (-1))), (0, .ref h0), (4, .int x4), (5, .int x5), (6, .int x6), (7, .int x7)]) dX0_duel_206 rfl rfl (by decide) rfl ?_
  refine g_goto (pc := 209) X 174 dX0_duel_209 (by decide) ?_
  exact g_lv (pc := 174) (lv' := [(0, .ref h0), (4, .int x4), (5, .int x5), (6, .int x6), (7, .int x7), (8, .int (x8 + (-1)))]) [1, 2, 3, 4, 5, 0] rfl (hk174 h0 x4 x5 x6 x7 (x8 + (-1)) t)
noncomputable def fX0_duel_174 (ex : Nat → Option Nat) (z : Nat) (kc165 : Nat → Int32 → Int32 → Int32 → Int32 → St → Option (Int32 × St)) : Nat → Nat → Int32 → Int32 → Int32 → Int32 → Int32 → St → Option (Int32 × St)
  | 0, _, _, _, _, _, _, _ => none
  | n + 1, h0, x4, x5, x6, x7, x8, t => if x8 < 0 then kc165 h0 x4 x5 x6 (x7 + (-1)) t else ccast [0] t h0 (gb (fX0_rests ex (z + t.2.1) h0 x7 x8 (t.1, 0, 0)) t fun r1 t2 => if r1 = 0 then fX0_duel_206 ex z kc165 (fun a0 a1 a2 a3 a4 a5 a6 => fX0_duel_174 ex z kc165 n a0 a1 a2 a3 a4 a5 a6) h0 x4 x5 x6 x7 x8 t2 else lt ((100 * x7) + x8) fun y8 => fX0_duel_206 ex z kc165 (fun a0 a1 a2 a3 a4 a5 a6 => fX0_duel_174 ex z kc165 n a0 a1 a2 a3 a4 a5 a6) h0 x4 (x5 + 1) y8 x7 x8 t2)
set_option maxHeartbeats 4000000 in
theorem wX0_duel_174 {rF : Int32} (hex : ex = Γ.2.2.2.2) (X : g_X Γ p s m args meth c cX0_duel 9 RX0) (hr : meth.sig.returnType = (some .int)) {kc165 : Nat → Int32 → Int32 → Int32 → Int32 → St → Option (Int32 × St)} (hk165 : ∀ (h0 : Nat) (x4 : Int32) (x5 : Int32) (x6 : Int32) (x7 : Int32) (t : St), Wf Γ p l e 20 425 s m args below meth c 9 (g_ι z) v_i rF tF 165 [(0, .ref h0), (4, .int x4), (5, .int x5), (6, .int x6), (7, .int x7)] [] t (kc165 h0 x4 x5 x6 x7 t)) (n : Nat) : ∀ (h0 : Nat) (x4 : Int32) (x5 : Int32) (x6 : Int32) (x7 : Int32) (x8 : Int32) (t : St), Wf Γ p l e 20 425 s m args below meth c 9 (g_ι z) v_i rF tF 174 [(0, .ref h0), (4, .int x4), (5, .int x5), (6, .int x6), (7, .int x7), (8, .int x8)] [] t (fX0_duel_174 ex z kc165 n h0 x4 x5 x6 x7 x8 t) := by
  induction n with
  | zero => intro h0 x4 x5 x6 x7 x8 t; exact g_none
  | succ n ih =>
    intro h0 x4 x5 x6 x7 x8 t
    rw [fX0_duel_174]
    refine g_iload (pc := 174) X 5 dX0_duel_174 rfl ?_
    refine g_if_lt (pc := 176) X 212 dX0_duel_176 (by decide) ?_ ?_
    · refine g_iinc (pc := 212) X (-1) 4 (lv' := [(7, .int (x7 + (-1))), (0, .ref h0), (4, .int x4), (5, .int x5), (6, .int x6), (8, .int x8)]) dX0_duel_212 rfl rfl (by decide) rfl ?_
      refine g_goto (pc := 215) X 165 dX0_duel_215 (by decide) ?_
      exact g_lv (pc := 165) (lv' := [(0, .ref h0), (4, .int x4), (5, .int x5), (6, .int x6), (7, .int (x7 + (-1)))]) [1, 2, 3, 4, 0] rfl (hk165 h0 x4 x5 x6 (x7 + (-1)) t)
    · refine g_aload_n (pc := 179) X 0 dX0_duel_179 rfl rfl ?_
      refine g_iload (pc := 180) X 4 dX0_duel_180 rfl ?_
      refine g_iload (pc := 182) X 5 dX0_duel_182 rfl ?_
      refine g_bD_i (pc := 184) X (cs := [0]) (As := [.int x7, .int x8]) (rest := []) (b := h0) (n := 2) dX0_duel_184 rfl rfl (Nat.le_of_ble_eq_true rfl) (fun fl3 ci4 fs5 hs6 hci7 r u h => ?_) (fun r1 t2 => ?_)
      · obtain rfl := List.mem_singleton.mp hci7
        exact ⟨_, _, _, yX0_rests, _, _, _, 0, 0, rfl, kX0_rests hex h, Or.inl (cwV 2 X.2.2.2.2.1 (lw_V q903 q905 qs11 q70 q906) rfl rfl rfl dmV_X0_rests ⟨Nat.le_of_ble_eq_true rfl, Nat.le_of_ble_eq_true rfl⟩)⟩
      refine g_if_ne (pc := 187) X 193 dX0_duel_187 (by decide) ?_ ?_
      · refine g_iinc (pc := 193) X 1 2 (lv' := [(5, .int (x5 + 1)), (0, .ref h0), (4, .int x4), (6, .int x6), (7, .int x7), (8, .int x8)]) dX0_duel_193 rfl rfl (by decide) rfl ?_
        refine g_bipush (pc := 196) X 100 dX0_duel_196 rfl ?_
        refine g_iload (pc := 198) X 4 dX0_duel_198 rfl ?_
        refine g_imul (pc := 200) X dX0_duel_200 ?_
        refine g_iload (pc := 201) X 5 dX0_duel_201 rfl ?_
        refine g_iadd (pc := 203) X dX0_duel_203 ?_
        refine g_lti (pc := 204) (fun y8 => ?_)
        refine g_istore (pc := 204) X (lv' := [(6, .int y8), (5, .int (x5 + 1)), (0, .ref h0), (4, .int x4), (7, .int x7), (8, .int x8)]) dX0_duel_204 (by decide) rfl ?_
        exact g_lv (pc := 206) (lv' := [(0, .ref h0), (4, .int x4), (5, .int (x5 + 1)), (6, .int y8), (7, .int x7), (8, .int x8)]) [2, 3, 1, 0, 4, 5] rfl (wX0_duel_206 hex X hr hk165 (fun a0 a1 a2 a3 a4 a5 a6 => ih a0 a1 a2 a3 a4 a5 a6) h0 x4 (x5 + 1) y8 x7 x8 t2)
      · refine g_goto (pc := 190) X 206 dX0_duel_190 (by decide) ?_
        exact g_lv (pc := 206) (lv' := [(0, .ref h0), (4, .int x4), (5, .int x5), (6, .int x6), (7, .int x7), (8, .int x8)]) [0, 1, 2, 3, 4, 5] rfl (wX0_duel_206 hex X hr hk165 (fun a0 a1 a2 a3 a4 a5 a6 => ih a0 a1 a2 a3 a4 a5 a6) h0 x4 x5 x6 x7 x8 t2)
noncomputable def fX0_duel_165 (ex : Nat → Option Nat) (z : Nat) : Nat → Nat → Int32 → Int32 → Int32 → Int32 → St → Option (Int32 × St)
  | 0, _, _, _, _, _, _ => none
  | n + 1, h0, x4, x5, x6, x7, t => if x7 < 0 then if x4 = 0 then some (x5, t) else some (x6, t) else fX0_duel_174 ex z (fun a0 a1 a2 a3 a4 a5 => fX0_duel_165 ex z n a0 a1 a2 a3 a4 a5) 1000 h0 x4 x5 x6 x7 11 t
set_option maxHeartbeats 4000000 in
theorem wX0_duel_165 {rF : Int32} (hex : ex = Γ.2.2.2.2) (X : g_X Γ p s m args meth c cX0_duel 9 RX0) (hr : meth.sig.returnType = (some .int)) (n : Nat) : ∀ (h0 : Nat) (x4 : Int32) (x5 : Int32) (x6 : Int32) (x7 : Int32) (t : St), Wf Γ p l e 20 425 s m args below meth c 9 (g_ι z) v_i rF tF 165 [(0, .ref h0), (4, .int x4), (5, .int x5), (6, .int x6), (7, .int x7)] [] t (fX0_duel_165 ex z n h0 x4 x5 x6 x7 t) := by
  induction n with
  | zero => intro h0 x4 x5 x6 x7 t; exact g_none
  | succ n ih =>
    intro h0 x4 x5 x6 x7 t
    rw [fX0_duel_165]
    refine g_iload (pc := 165) X 4 dX0_duel_165 rfl ?_
    refine g_if_lt (pc := 167) X 218 dX0_duel_167 (by decide) ?_ ?_
    · refine g_iload (pc := 218) X 1 dX0_duel_218 rfl ?_
      refine g_if_ne (pc := 220) X 228 dX0_duel_220 (by decide) ?_ ?_
      · refine g_iload (pc := 228) X 3 dX0_duel_228 rfl ?_
        exact g_iret (pc := 230) X hr dX0_duel_230
      · refine g_iload (pc := 223) X 2 dX0_duel_223 rfl ?_
        refine g_goto (pc := 225) X 230 dX0_duel_225 (by decide) ?_
        exact g_iret (pc := 230) X hr dX0_duel_230
    · refine g_bipush (pc := 170) X 11 dX0_duel_170 rfl ?_
      refine g_istore (pc := 172) X (lv' := [(8, .int 11), (0, .ref h0), (4, .int x4), (5, .int x5), (6, .int x6), (7, .int x7)]) dX0_duel_172 (by decide) rfl ?_
      exact g_lv (pc := 174) (lv' := [(0, .ref h0), (4, .int x4), (5, .int x5), (6, .int x6), (7, .int x7), (8, .int 11)]) [1, 2, 3, 4, 5, 0] rfl (wX0_duel_174 hex X hr (fun a0 a1 a2 a3 a4 a5 => ih a0 a1 a2 a3 a4 a5) 1000 h0 x4 x5 x6 x7 11 t)
noncomputable def fX0_duel_44 (ex : Nat → Option Nat) (z : Nat) : Nat → Nat → Int32 → Int32 → Int32 → Int32 → Int32 → St → Option (Int32 × St)
  | 0, _, _, _, _, _, _, _ => none
  | n + 1, h0, x1, x2, x3, x4, x5, t => if 12 ≤ x5 then fX0_duel_165 ex z 1000 h0 x4 0 (-4) 11 t else fX0_duel_54 ex z (fun a0 a1 a2 a3 a4 a5 a6 => fX0_duel_44 ex z n a0 a1 a2 a3 a4 a5 a6) 1000 h0 x1 x2 x3 x4 x5 0 t
set_option maxHeartbeats 4000000 in
theorem wX0_duel_44 {rF : Int32} (hex : ex = Γ.2.2.2.2) (X : g_X Γ p s m args meth c cX0_duel 9 RX0) (hr : meth.sig.returnType = (some .int)) (n : Nat) : ∀ (h0 : Nat) (x1 : Int32) (x2 : Int32) (x3 : Int32) (x4 : Int32) (x5 : Int32) (t : St), Wf Γ p l e 20 425 s m args below meth c 9 (g_ι z) v_i rF tF 44 [(0, .ref h0), (1, .int x1), (2, .int x2), (3, .int x3), (4, .int x4), (5, .int x5)] [] t (fX0_duel_44 ex z n h0 x1 x2 x3 x4 x5 t) := by
  induction n with
  | zero => intro h0 x1 x2 x3 x4 x5 t; exact g_none
  | succ n ih =>
    intro h0 x1 x2 x3 x4 x5 t
    rw [fX0_duel_44]
    refine g_iload (pc := 44) X 5 dX0_duel_44 rfl ?_
    refine g_bipush (pc := 46) X 12 dX0_duel_46 rfl ?_
    refine g_icmp_ge (pc := 48) X 154 dX0_duel_48 (by decide) ?_ ?_
    · refine g_iconst (pc := 154) X 0 dX0_duel_154 rfl ?_
      refine g_istore (pc := 155) X (lv' := [(5, .int 0), (0, .ref h0), (1, .int x1), (2, .int x2), (3, .int x3), (4, .int x4)]) dX0_duel_155 (by decide) rfl ?_
      refine g_bipush (pc := 157) X (-4) dX0_duel_157 rfl ?_
      refine g_istore (pc := 159) X (lv' := [(6, .int (-4)), (5, .int 0), (0, .ref h0), (1, .int x1), (2, .int x2), (3, .int x3), (4, .int x4)]) dX0_duel_159 (by decide) rfl ?_
      refine g_bipush (pc := 161) X 11 dX0_duel_161 rfl ?_
      refine g_istore (pc := 163) X (lv' := [(7, .int 11), (6, .int (-4)), (5, .int 0), (0, .ref h0), (1, .int x1), (2, .int x2), (3, .int x3), (4, .int x4)]) dX0_duel_163 (by decide) rfl ?_
      exact g_lv (pc := 165) (lv' := [(0, .ref h0), (4, .int x4), (5, .int 0), (6, .int (-4)), (7, .int 11)]) [3, 7, 2, 1, 0] rfl (wX0_duel_165 hex X hr 1000 h0 x4 0 (-4) 11 t)
    · refine g_iconst (pc := 51) X 0 dX0_duel_51 rfl ?_
      refine g_istore (pc := 52) X (lv' := [(6, .int 0), (0, .ref h0), (1, .int x1), (2, .int x2), (3, .int x3), (4, .int x4), (5, .int x5)]) dX0_duel_52 (by decide) rfl ?_
      exact g_lv (pc := 54) (lv' := [(0, .ref h0), (1, .int x1), (2, .int x2), (3, .int x3), (4, .int x4), (5, .int x5), (6, .int 0)]) [1, 2, 3, 4, 5, 6, 0] rfl (wX0_duel_54 hex X hr (fun a0 a1 a2 a3 a4 a5 a6 => ih a0 a1 a2 a3 a4 a5 a6) 1000 h0 x1 x2 x3 x4 x5 0 t)
noncomputable def fX0_duel (ex : Nat → Option Nat) (z : Nat) (h0 : Nat) (x1 : Int32) (x2 : Int32) (x3 : Int32) (x4 : Int32) (t : St) : Option (Int32 × St) := ccast [0] t h0 (gb (fX0_isClock ex (z + t.2.1) h0 x1 (t.1, 0, 0)) t fun r1 t2 => if r1 = 0 then some ((-1), t2) else ccast [0] t2 h0 (gb (fX0_isClock ex (z + t2.2.1) h0 x2 (t2.1, 0, 0)) t2 fun r8 t9 => if r8 = 0 then some ((-1), t9) else if x1 = x2 then some ((-1), t9) else gb (fX0_isFew ex (z + t9.2.1) x3 (t9.1, 0, 0)) t9 fun r15 t16 => if r15 = 0 then some ((-1), t16) else gb (fX0_in ex (z + t16.2.1) x4.toInt64 0 1 (t16.1, 0, 0)) t16 fun r17 t18 => if r17 = 0 then some ((-1), t18) else fX0_duel_44 ex z 1000 h0 x1 x2 x3 x4 0 t18))
set_option maxHeartbeats 4000000 in
theorem wX0_duel {rF : Int32} (hex : ex = Γ.2.2.2.2) (X : g_X Γ p s m args meth c cX0_duel 9 RX0) (hr : meth.sig.returnType = (some .int)) (h0 : Nat) (x1 : Int32) (x2 : Int32) (x3 : Int32) (x4 : Int32) (t : St) : Wf Γ p l e 20 425 s m args below meth c 9 (g_ι z) v_i rF tF 0 [(0, .ref h0), (1, .int x1), (2, .int x2), (3, .int x3), (4, .int x4)] [] t (fX0_duel ex z h0 x1 x2 x3 x4 t) := by
  unfold fX0_duel
  refine g_aload_n (pc := 0) X 0 dX0_duel_0 rfl rfl ?_
  refine g_iload_n (pc := 1) X 1 dX0_duel_1 rfl rfl ?_
  refine g_bD_i (pc := 2) X (cs := [0]) (As := [.int x1]) (rest := []) (b := h0) (n := 1) dX0_duel_2 rfl rfl (Nat.le_of_ble_eq_true rfl) (fun fl3 ci4 fs5 hs6 hci7 r u h => ?_) (fun r1 t2 => ?_)
  · obtain rfl := List.mem_singleton.mp hci7
    exact ⟨_, _, _, yX0_isClock, _, _, _, 2, 40, rfl, kX0_isClock hex h, Or.inl (cwV 1 X.2.2.2.2.1 (lw_V q368 q370 qs4 q70 q372) rfl rfl rfl dmV_X0_isClock ⟨Nat.le_of_ble_eq_true rfl, Nat.le_of_ble_eq_true rfl⟩)⟩
  refine g_if_eq (pc := 5) X 39 dX0_duel_5 (by decide) ?_ ?_
  · refine g_iconst (pc := 39) X (-1) dX0_duel_39 rfl ?_
    exact g_iret (pc := 40) X hr dX0_duel_40
  · refine g_aload_n (pc := 8) X 0 dX0_duel_8 rfl rfl ?_
    refine g_iload_n (pc := 9) X 2 dX0_duel_9 rfl rfl ?_
    refine g_bD_i (pc := 10) X (cs := [0]) (As := [.int x2]) (rest := []) (b := h0) (n := 1) dX0_duel_10 rfl rfl (Nat.le_of_ble_eq_true rfl) (fun fl10 ci11 fs12 hs13 hci14 r u h => ?_) (fun r8 t9 => ?_)
    · obtain rfl := List.mem_singleton.mp hci14
      exact ⟨_, _, _, yX0_isClock, _, _, _, 2, 40, rfl, kX0_isClock hex h, Or.inl (cwV 1 X.2.2.2.2.1 (lw_V q368 q370 qs4 q70 q372) rfl rfl rfl dmV_X0_isClock ⟨Nat.le_of_ble_eq_true rfl, Nat.le_of_ble_eq_true rfl⟩)⟩
    refine g_if_eq (pc := 13) X 39 dX0_duel_13 (by decide) ?_ ?_
    · refine g_iconst (pc := 39) X (-1) dX0_duel_39 rfl ?_
      exact g_iret (pc := 40) X hr dX0_duel_40
    · refine g_iload_n (pc := 16) X 1 dX0_duel_16 rfl rfl ?_
      refine g_iload_n (pc := 17) X 2 dX0_duel_17 rfl rfl ?_
      refine g_icmp_eq (pc := 18) X 39 dX0_duel_18 (by decide) ?_ ?_
      · refine g_iconst (pc := 39) X (-1) dX0_duel_39 rfl ?_
        exact g_iret (pc := 40) X hr dX0_duel_40
      · refine g_iload_n (pc := 21) X 3 dX0_duel_21 rfl rfl ?_
        refine g_bS_i (pc := 22) X (y := yX0_isFew) (As := [.int x3]) (rest := []) (fr' := 1) (lo' := 25) (fun _ => va_cwS 1 X.2.2.2.2.1 (lw_S q819 q820 q70 q821) rfl rfl rfl dmS_X0_isFew ⟨Nat.le_of_ble_eq_true rfl, Nat.le_of_ble_eq_true rfl⟩) dX0_duel_22 rfl rfl (Nat.le_of_ble_eq_true rfl) (fun r u h => kX0_isFew hex h) (fun r15 t16 => ?_)
        refine g_if_eq (pc := 25) X 39 dX0_duel_25 (by decide) ?_ ?_
        · refine g_iconst (pc := 39) X (-1) dX0_duel_39 rfl ?_
          exact g_iret (pc := 40) X hr dX0_duel_40
        · refine g_iload (pc := 28) X 4 dX0_duel_28 rfl ?_
          refine g_i2l (pc := 30) X dX0_duel_30 ?_
          refine g_lconst (pc := 31) X 0 dX0_duel_31 rfl ?_
          refine g_lconst (pc := 32) X 1 dX0_duel_32 rfl ?_
          refine g_bS_i (pc := 33) X (y := yX0_in) (As := [.long x4.toInt64, .long 0, .long 1]) (rest := []) (fr' := 0) (lo' := 0) (fun _ => va_cwS 3 X.2.2.2.2.1 (lw_S q122 q123 q70 q124) rfl rfl rfl dmS_X0_in ⟨Nat.le_of_ble_eq_true rfl, Nat.le_of_ble_eq_true rfl⟩) dX0_duel_33 rfl rfl (Nat.le_of_ble_eq_true rfl) (fun r u h => kX0_in hex h) (fun r17 t18 => ?_)
          refine g_if_ne (pc := 36) X 41 dX0_duel_36 (by decide) ?_ ?_
          · refine g_iconst (pc := 41) X 0 dX0_duel_41 rfl ?_
            refine g_istore (pc := 42) X (lv' := [(5, .int 0), (0, .ref h0), (1, .int x1), (2, .int x2), (3, .int x3), (4, .int x4)]) dX0_duel_42 (by decide) rfl ?_
            exact g_lv (pc := 44) (lv' := [(0, .ref h0), (1, .int x1), (2, .int x2), (3, .int x3), (4, .int x4), (5, .int 0)]) [1, 2, 3, 4, 5, 0] rfl (wX0_duel_44 hex X hr 1000 h0 x1 x2 x3 x4 0 t18)
          · refine g_iconst (pc := 39) X (-1) dX0_duel_39 rfl ?_
            exact g_iret (pc := 40) X hr dX0_duel_40
theorem kX0_duel {ex : Nat → Option Nat} {z : Nat} {h0 : Nat} {x1 : Int32} {x2 : Int32} {x3 : Int32} {x4 : Int32} {σ : Sg} {r : Int32} {u : St} (hex : ex = Γ.2.2.2.2) (h : fX0_duel ex z h0 x1 x2 x3 x4 (σ, 0, 0) = some (r, u)) : g_C Γ l yX0_duel cX0_duel 9 (some .int) 20 425 [.ref h0, .int x1, .int x2, .int x3, .int x4] σ z v_i r (g_ι z u) :=
  g_met (ι := g_ι z) (t := (σ, 0, 0)) [.ref h0, .int x1, .int x2, .int x3, .int x4] (by decide) (Nat.le_of_ble_eq_true rfl) h rfl (fun p e s m args below meth c X hr hn => wX0_duel hex X hr h0 x1 x2 x3 x4 (σ, 0, 0))
end CP
abbrev cX0_right : ByteArray := prog_1_method_39_code
def yX0_right : MethodName := ⟨RX0, "right", "(II)I"⟩
def dkwX0_right_3 : List UInt8 := [167, 0, 4, 3, 96, 62, 42, 180, 0, 213, 182, 0, 169, 87, 132, 4, 1, 167, 255, 203, 29, 172]
abbrev dktX0_right_3 : List UInt8 := dkwX0_right_3 ++ []
def dkwX0_right_2 : List UInt8 := [182, 0, 111, 42, 180, 0, 213, 182, 0, 126, 42, 180, 0, 213, 182, 0, 250, 16, 60, 108, 160, 0, 7, 4]
abbrev dktX0_right_2 : List UInt8 := dkwX0_right_2 ++ dktX0_right_3
def dkwX0_right_1 : List UInt8 := [180, 0, 38, 182, 0, 216, 3, 62, 3, 54, 4, 21, 4, 28, 162, 0, 53, 29, 42, 180, 0, 213, 27]
abbrev dktX0_right_1 : List UInt8 := dkwX0_right_1 ++ dktX0_right_2
def dkwX0_right_0 : List UInt8 := [42, 27, 182, 0, 107, 153, 0, 10, 28, 184, 0, 223, 154, 0, 5, 2, 172, 42, 180, 0, 213, 42]
abbrev dktX0_right_0 : List UInt8 := dkwX0_right_0 ++ dktX0_right_1
theorem dksX0_right_0 : cX0_right.data.toList.drop 0 = dktX0_right_0 := by decide +kernel
theorem dksX0_right_1 : cX0_right.data.toList.drop 22 = dktX0_right_1 := dk_seg dksX0_right_0 22 rfl rfl
theorem dksX0_right_2 : cX0_right.data.toList.drop 45 = dktX0_right_2 := dk_seg dksX0_right_1 23 rfl rfl
theorem dksX0_right_3 : cX0_right.data.toList.drop 69 = dktX0_right_3 := dk_seg dksX0_right_2 24 rfl rfl
theorem dX0_right_0 : decode cX0_right 0 = .ok (.aload_n 0, 1) := dk_42 (dk_at dksX0_right_0 0 rfl rfl)
theorem dX0_right_1 : decode cX0_right 1 = .ok (.iload_n 1, 1) := dk_27 (dk_at dksX0_right_0 1 rfl rfl)
theorem dX0_right_2 : decode cX0_right 2 = .ok (.invokevirtual 107, 3) := dk_182 0 107 (dk_at dksX0_right_0 2 rfl rfl)
theorem dX0_right_5 : decode cX0_right 5 = .ok (.ifCond .eq 10, 3) := dk_153 0 10 (dk_at dksX0_right_0 5 rfl rfl)
theorem dX0_right_8 : decode cX0_right 8 = .ok (.iload_n 2, 1) := dk_28 (dk_at dksX0_right_0 8 rfl rfl)
theorem dX0_right_9 : decode cX0_right 9 = .ok (.invokestatic 223, 3) := dk_184 0 223 (dk_at dksX0_right_0 9 rfl rfl)
theorem dX0_right_12 : decode cX0_right 12 = .ok (.ifCond .ne 5, 3) := dk_154 0 5 (dk_at dksX0_right_0 12 rfl rfl)
theorem dX0_right_15 : decode cX0_right 15 = .ok (.iconst (-1), 1) := dk_2 (dk_at dksX0_right_0 15 rfl rfl)
theorem dX0_right_16 : decode cX0_right 16 = .ok (.ireturn, 1) := dk_172 (dk_at dksX0_right_0 16 rfl rfl)
theorem dX0_right_17 : decode cX0_right 17 = .ok (.aload_n 0, 1) := dk_42 (dk_at dksX0_right_0 17 rfl rfl)
theorem dX0_right_18 : decode cX0_right 18 = .ok (.getfield 213, 3) := dk_180 0 213 (dk_at dksX0_right_0 18 rfl rfl)
theorem dX0_right_21 : decode cX0_right 21 = .ok (.aload_n 0, 1) := dk_42 (dk_at dksX0_right_0 21 rfl rfl)
theorem dX0_right_22 : decode cX0_right 22 = .ok (.getfield 38, 3) := dk_180 0 38 (dk_at dksX0_right_1 0 rfl rfl)
theorem dX0_right_25 : decode cX0_right 25 = .ok (.invokevirtual 216, 3) := dk_182 0 216 (dk_at dksX0_right_1 3 rfl rfl)
theorem dX0_right_28 : decode cX0_right 28 = .ok (.iconst 0, 1) := dk_3 (dk_at dksX0_right_1 6 rfl rfl)
theorem dX0_right_29 : decode cX0_right 29 = .ok (.istore_n 3, 1) := dk_62 (dk_at dksX0_right_1 7 rfl rfl)
theorem dX0_right_30 : decode cX0_right 30 = .ok (.iconst 0, 1) := dk_3 (dk_at dksX0_right_1 8 rfl rfl)
theorem dX0_right_31 : decode cX0_right 31 = .ok (.istore 4, 2) := dk_54 4 (dk_at dksX0_right_1 9 rfl rfl)
theorem dX0_right_33 : decode cX0_right 33 = .ok (.iload 4, 2) := dk_21 4 (dk_at dksX0_right_1 11 rfl rfl)
theorem dX0_right_35 : decode cX0_right 35 = .ok (.iload_n 2, 1) := dk_28 (dk_at dksX0_right_1 13 rfl rfl)
theorem dX0_right_36 : decode cX0_right 36 = .ok (.if_icmp .ge 53, 3) := dk_162 0 53 (dk_at dksX0_right_1 14 rfl rfl)
theorem dX0_right_39 : decode cX0_right 39 = .ok (.iload_n 3, 1) := dk_29 (dk_at dksX0_right_1 17 rfl rfl)
theorem dX0_right_40 : decode cX0_right 40 = .ok (.aload_n 0, 1) := dk_42 (dk_at dksX0_right_1 18 rfl rfl)
theorem dX0_right_41 : decode cX0_right 41 = .ok (.getfield 213, 3) := dk_180 0 213 (dk_at dksX0_right_1 19 rfl rfl)
theorem dX0_right_44 : decode cX0_right 44 = .ok (.iload_n 1, 1) := dk_27 (dk_at dksX0_right_1 22 rfl rfl)
theorem dX0_right_45 : decode cX0_right 45 = .ok (.invokevirtual 111, 3) := dk_182 0 111 (dk_at dksX0_right_2 0 rfl rfl)
theorem dX0_right_48 : decode cX0_right 48 = .ok (.aload_n 0, 1) := dk_42 (dk_at dksX0_right_2 3 rfl rfl)
theorem dX0_right_49 : decode cX0_right 49 = .ok (.getfield 213, 3) := dk_180 0 213 (dk_at dksX0_right_2 4 rfl rfl)
theorem dX0_right_52 : decode cX0_right 52 = .ok (.invokevirtual 126, 3) := dk_182 0 126 (dk_at dksX0_right_2 7 rfl rfl)
theorem dX0_right_55 : decode cX0_right 55 = .ok (.aload_n 0, 1) := dk_42 (dk_at dksX0_right_2 10 rfl rfl)
theorem dX0_right_56 : decode cX0_right 56 = .ok (.getfield 213, 3) := dk_180 0 213 (dk_at dksX0_right_2 11 rfl rfl)
theorem dX0_right_59 : decode cX0_right 59 = .ok (.invokevirtual 250, 3) := dk_182 0 250 (dk_at dksX0_right_2 14 rfl rfl)
theorem dX0_right_62 : decode cX0_right 62 = .ok (.bipush 60, 2) := dk_16 60 (dk_at dksX0_right_2 17 rfl rfl)
theorem dX0_right_64 : decode cX0_right 64 = .ok (.idiv, 1) := dk_108 (dk_at dksX0_right_2 19 rfl rfl)
theorem dX0_right_65 : decode cX0_right 65 = .ok (.if_icmp .ne 7, 3) := dk_160 0 7 (dk_at dksX0_right_2 20 rfl rfl)
theorem dX0_right_68 : decode cX0_right 68 = .ok (.iconst 1, 1) := dk_4 (dk_at dksX0_right_2 23 rfl rfl)
theorem dX0_right_69 : decode cX0_right 69 = .ok (.goto 4, 3) := dk_167 0 4 (dk_at dksX0_right_3 0 rfl rfl)
theorem dX0_right_72 : decode cX0_right 72 = .ok (.iconst 0, 1) := dk_3 (dk_at dksX0_right_3 3 rfl rfl)
theorem dX0_right_73 : decode cX0_right 73 = .ok (.iadd, 1) := dk_96 (dk_at dksX0_right_3 4 rfl rfl)
theorem dX0_right_74 : decode cX0_right 74 = .ok (.istore_n 3, 1) := dk_62 (dk_at dksX0_right_3 5 rfl rfl)
theorem dX0_right_75 : decode cX0_right 75 = .ok (.aload_n 0, 1) := dk_42 (dk_at dksX0_right_3 6 rfl rfl)
theorem dX0_right_76 : decode cX0_right 76 = .ok (.getfield 213, 3) := dk_180 0 213 (dk_at dksX0_right_3 7 rfl rfl)
theorem dX0_right_79 : decode cX0_right 79 = .ok (.invokevirtual 169, 3) := dk_182 0 169 (dk_at dksX0_right_3 10 rfl rfl)
theorem dX0_right_82 : decode cX0_right 82 = .ok (.pop, 1) := dk_87 (dk_at dksX0_right_3 13 rfl rfl)
theorem dX0_right_83 : decode cX0_right 83 = .ok (.iinc 4 1, 3) := dk_132 4 1 (dk_at dksX0_right_3 14 rfl rfl)
theorem dX0_right_86 : decode cX0_right 86 = .ok (.goto (-53), 3) := dk_167 255 203 (dk_at dksX0_right_3 17 rfl rfl)
theorem dX0_right_89 : decode cX0_right 89 = .ok (.iload_n 3, 1) := dk_29 (dk_at dksX0_right_3 20 rfl rfl)
theorem dX0_right_90 : decode cX0_right 90 = .ok (.ireturn, 1) := dk_172 (dk_at dksX0_right_3 21 rfl rfl)
theorem dl_LameClocks_Race_truth : Cond.landsInDefault "LameClocks$Race" (⟨"LameClocks$Race", "truth", "()I"⟩ : MethodName) (⟨"LameClocks$Street", "truth", "()I"⟩ : MethodName) ∈ flatC (Jvm.Cond.and given_1 narrow_1) := by decide +kernel
theorem dn_LameClocks_Race_truth : (parseMethodDescriptor (⟨"LameClocks$Race", "truth", "()I"⟩ : MethodName).desc).map (fun d => d.parameters.length) = some 0 := by decide +kernel
theorem dk_LameClocks_250 : Cond.methodLink "LameClocks" 250 (⟨"LameClocks$Race", "truth", "()I"⟩ : MethodName) ∈ flatC (Jvm.Cond.and given_1 narrow_1) := by decide +kernel
theorem ds_LameClocks_Race_truth : Cond.sameMethod "LameClocks$Race" "LameClocks$Street" "truth" "()I" ∈ flatC (Jvm.Cond.and given_1 narrow_1) := by decide +kernel
section CP
variable {Γ : Gc} {p : Program} {l : Launch} {e : Env} {s : State} {m : MethodId} {args : Array Value} {below : List Frame} {meth : Method} {c : Code} {ex : Nat → Option Nat} {z : Nat} {tF : St}
noncomputable def fX0_right_73 (ex : Nat → Option Nat) (z : Nat) (kc33 : Nat → Int32 → Int32 → Int32 → Int32 → St → Option (Int32 × St)) (h0 : Nat) (x1 : Int32) (x2 : Int32) (x4 : Int32) (s0 : Int32) (s1 : Int32) (t : St) : Option (Int32 × St) := lt (s1 + s0) fun y1 => cgA [0] 1 t h0 fun v2 => ccast [1] t v2 (gb (fX1_goes ex (z + t.2.1) v2 (t.1, 0, 0)) t fun r3 t4 => kc33 h0 x1 x2 y1 (x4 + 1) t4)
set_option maxHeartbeats 4000000 in
theorem wX0_right_73 {rF : Int32} (hex : ex = Γ.2.2.2.2) (X : g_X Γ p s m args meth c cX0_right 5 RX0) (hr : meth.sig.returnType = (some .int)) {kc33 : Nat → Int32 → Int32 → Int32 → Int32 → St → Option (Int32 × St)} (hk33 : ∀ (h0 : Nat) (x1 : Int32) (x2 : Int32) (x3 : Int32) (x4 : Int32) (t : St), Wf Γ p l e 19 403 s m args below meth c 5 (g_ι z) v_i rF tF 33 [(0, .ref h0), (1, .int x1), (2, .int x2), (3, .int x3), (4, .int x4)] [] t (kc33 h0 x1 x2 x3 x4 t)) (h0 : Nat) (x1 : Int32) (x2 : Int32) (x4 : Int32) (s0 : Int32) (s1 : Int32) (t : St) : Wf Γ p l e 19 403 s m args below meth c 5 (g_ι z) v_i rF tF 73 [(0, .ref h0), (1, .int x1), (2, .int x2), (4, .int x4)] [.int s0, .int s1] t (fX0_right_73 ex z kc33 h0 x1 x2 x4 s0 s1 t) := by
  unfold fX0_right_73
  refine g_iadd (pc := 73) X dX0_right_73 ?_
  refine g_lti (pc := 74) (fun y1 => ?_)
  refine g_istore_n (pc := 74) X (lv' := [(3, .int y1), (0, .ref h0), (1, .int x1), (2, .int x2), (4, .int x4)]) dX0_right_74 rfl (by decide) rfl ?_
  refine g_aload_n (pc := 75) X 1 dX0_right_75 rfl rfl ?_
  refine cg_getA (pc := 76) X fo_X0_213 dX0_right_76 (fun v2 => ?_)
  refine g_bD_i (pc := 79) X (cs := [1]) (As := []) (rest := []) (b := v2) (n := 0) dX0_right_79 rfl rfl (Nat.le_of_ble_eq_true rfl) (fun fl5 ci6 fs7 hs8 hci9 r u h => ?_) (fun r3 t4 => ?_)
  · obtain rfl := List.mem_singleton.mp hci9
    exact ⟨_, _, _, yX1_goes, _, _, _, 18, 380, rfl, kX1_goes hex h, Or.inl (cwV 0 X.2.2.2.2.1 (lw_V q534 q535 q536 q71 q537) rfl rfl rfl dmV_X1_goes ⟨Nat.le_of_ble_eq_true rfl, Nat.le_of_ble_eq_true rfl⟩)⟩
  refine g_pop (pc := 82) X dX0_right_82 rfl ?_
  refine g_iinc (pc := 83) X 1 4 (lv' := [(4, .int (x4 + 1)), (3, .int y1), (0, .ref h0), (1, .int x1), (2, .int x2)]) dX0_right_83 rfl rfl (by decide) rfl ?_
  refine g_goto (pc := 86) X 33 dX0_right_86 (by decide) ?_
  exact g_lv (pc := 33) (lv' := [(0, .ref h0), (1, .int x1), (2, .int x2), (3, .int y1), (4, .int (x4 + 1))]) [2, 3, 4, 1, 0] rfl (hk33 h0 x1 x2 y1 (x4 + 1) t4)
noncomputable def fX0_right_33 (ex : Nat → Option Nat) (z : Nat) : Nat → Nat → Int32 → Int32 → Int32 → Int32 → St → Option (Int32 × St)
  | 0, _, _, _, _, _, _ => none
  | n + 1, h0, x1, x2, x3, x4, t => if x2 ≤ x4 then some (x3, t) else cgA [0] 1 t h0 fun v1 => ccast [1] t v1 (gb (fX1_clock ex (z + t.2.1) v1 x1 (t.1, 0, 0)) t fun r2 t3 => cgA [0] 1 t3 h0 fun v9 => ccast [4, 5, 6, 7, 8, 9] t3 r2 (gb (fX4_strikes ex (z + t3.2.1) r2 v9 (t3.1, 0, 0)) t3 fun r10 t11 => cgA [0] 1 t11 h0 fun v17 => ccast [1] t11 v17 (gb (fX21_truth ex (z + t11.2.1) v17 (t11.1, 0, 0)) t11 fun r18 t19 => if r10 = r18 / 60 then fX0_right_73 ex z (fun a0 a1 a2 a3 a4 a5 => fX0_right_33 ex z n a0 a1 a2 a3 a4 a5) h0 x1 x2 x4 1 x3 t19 else fX0_right_73 ex z (fun a0 a1 a2 a3 a4 a5 => fX0_right_33 ex z n a0 a1 a2 a3 a4 a5) h0 x1 x2 x4 0 x3 t19)))
set_option maxHeartbeats 4000000 in
theorem wX0_right_33 {rF : Int32} (hex : ex = Γ.2.2.2.2) (X : g_X Γ p s m args meth c cX0_right 5 RX0) (hr : meth.sig.returnType = (some .int)) (n : Nat) : ∀ (h0 : Nat) (x1 : Int32) (x2 : Int32) (x3 : Int32) (x4 : Int32) (t : St), Wf Γ p l e 19 403 s m args below meth c 5 (g_ι z) v_i rF tF 33 [(0, .ref h0), (1, .int x1), (2, .int x2), (3, .int x3), (4, .int x4)] [] t (fX0_right_33 ex z n h0 x1 x2 x3 x4 t) := by
  induction n with
  | zero => intro h0 x1 x2 x3 x4 t; exact g_none
  | succ n ih =>
    intro h0 x1 x2 x3 x4 t
    rw [fX0_right_33]
    refine g_iload (pc := 33) X 4 dX0_right_33 rfl ?_
    refine g_iload_n (pc := 35) X 2 dX0_right_35 rfl rfl ?_
    refine g_icmp_ge (pc := 36) X 89 dX0_right_36 (by decide) ?_ ?_
    · refine g_iload_n (pc := 89) X 3 dX0_right_89 rfl rfl ?_
      exact g_iret (pc := 90) X hr dX0_right_90
    · refine g_iload_n (pc := 39) X 3 dX0_right_39 rfl rfl ?_
      refine g_aload_n (pc := 40) X 0 dX0_right_40 rfl rfl ?_
      refine cg_getA (pc := 41) X fo_X0_213 dX0_right_41 (fun v1 => ?_)
      refine g_iload_n (pc := 44) X 1 dX0_right_44 rfl rfl ?_
      refine g_bD_a (pc := 45) X (cs := [1]) (As := [.int x1]) (rest := [.int x3]) (b := v1) (n := 1) dX0_right_45 rfl rfl (Nat.le_of_ble_eq_true rfl) (fun fl4 ci5 fs6 hs7 hci8 r u h => ?_) (fun r2 t3 => ?_)
      · obtain rfl := List.mem_singleton.mp hci8
        exact ⟨_, _, _, yX1_clock, _, _, _, 3, 64, rfl, kX1_clock hex h, Or.inl (cwV 1 X.2.2.2.2.1 (lw_V q373 q374 q375 q71 q376) rfl rfl rfl dmV_X1_clock ⟨Nat.le_of_ble_eq_true rfl, Nat.le_of_ble_eq_true rfl⟩)⟩
      refine g_aload_n (pc := 48) X 0 dX0_right_48 rfl rfl ?_
      refine cg_getA (pc := 49) X fo_X0_213 dX0_right_49 (fun v9 => ?_)
      refine g_bD_i (pc := 52) X (cs := [4, 5, 6, 7, 8, 9]) (As := [.ref v9]) (rest := [.int x3]) (b := r2) (n := 1) dX0_right_52 rfl rfl (Nat.le_of_ble_eq_true rfl) (fun fl12 ci13 fs14 hs15 hci16 r u h => ?_) (fun r10 t11 => ?_)
      · simp only [List.mem_cons, List.not_mem_nil, or_false] at hci16
        rcases hci16 with rfl | rfl | rfl | rfl | rfl | rfl
        · exact ⟨_, _, _, yX4_strikes, _, _, _, 15, 316, rfl, kX4_strikes hex h, Or.inl (cwV 1 X.2.2.2.2.1 (lw_V q444 q445 q446 q77 q453) rfl rfl rfl dmV_X4_strikes ⟨Nat.le_of_ble_eq_true rfl, Nat.le_of_ble_eq_true rfl⟩)⟩
        · exact ⟨_, _, _, yX4_strikes, _, _, _, 15, 316, rfl, kX4_strikes hex h, Or.inr (Or.inl ⟨_, _, va_cwU 1 X.2.2.2.2.1 (lw_U q444 q447 q448 q445 q77 q453) rfl rfl rfl rfl dmU_X4_strikes1 ⟨Nat.le_of_ble_eq_true rfl, Nat.le_of_ble_eq_true rfl⟩⟩)⟩
        · exact ⟨_, _, _, yX4_strikes, _, _, _, 15, 316, rfl, kX4_strikes hex h, Or.inr (Or.inl ⟨_, _, va_cwU 1 X.2.2.2.2.1 (lw_U q444 q447 q450 q445 q77 q453) rfl rfl rfl rfl dmU_X4_strikes1 ⟨Nat.le_of_ble_eq_true rfl, Nat.le_of_ble_eq_true rfl⟩⟩)⟩
        · exact ⟨_, _, _, yX4_strikes, _, _, _, 15, 316, rfl, kX4_strikes hex h, Or.inr (Or.inl ⟨_, _, va_cwU 1 X.2.2.2.2.1 (lw_U q444 q447 q451 q445 q77 q453) rfl rfl rfl rfl dmU_X4_strikes1 ⟨Nat.le_of_ble_eq_true rfl, Nat.le_of_ble_eq_true rfl⟩⟩)⟩
        · exact ⟨_, _, _, yX4_strikes, _, _, _, 15, 316, rfl, kX4_strikes hex h, Or.inr (Or.inl ⟨_, _, va_cwU 1 X.2.2.2.2.1 (lw_U q444 q447 q452 q445 q77 q453) rfl rfl rfl rfl dmU_X4_strikes1 ⟨Nat.le_of_ble_eq_true rfl, Nat.le_of_ble_eq_true rfl⟩⟩)⟩
        · exact ⟨_, _, _, yX4_strikes, _, _, _, 15, 316, rfl, kX4_strikes hex h, Or.inr (Or.inl ⟨_, _, va_cwU 1 X.2.2.2.2.1 (lw_U q444 q447 q449 q445 q77 q453) rfl rfl rfl rfl dmU_X4_strikes1 ⟨Nat.le_of_ble_eq_true rfl, Nat.le_of_ble_eq_true rfl⟩⟩)⟩
      refine g_aload_n (pc := 55) X 0 dX0_right_55 rfl rfl ?_
      refine cg_getA (pc := 56) X fo_X0_213 dX0_right_56 (fun v17 => ?_)
      refine d_bV_i (pc := 59) X (C := "LameClocks$Race") (owner := "LameClocks$Street") (x := (⟨"LameClocks$Race", "truth", "()I"⟩ : MethodName)) (y := (⟨"LameClocks$Street", "truth", "()I"⟩ : MethodName)) (As := []) (rest := [.int r10, .int x3]) (b := v17) (n := 0) (fr' := 1) (lo' := 20) (ci := 1) ⟨_, _, rfl⟩ dX0_right_59 rfl rfl (Nat.le_of_ble_eq_true rfl) (plainFor_of_name (by decide)) q422 ⟨Nat.le_of_ble_eq_true rfl, Nat.le_of_ble_eq_true rfl⟩ q420 dk_LameClocks_250 ds_LameClocks_Race_truth dl_LameClocks_Race_truth rfl ⟨by decide, by decide⟩ dn_LameClocks_Race_truth (fun r u h => kwX21_truth hex h) (fun r18 t19 => ?_)
      refine g_bipush (pc := 62) X 60 dX0_right_62 rfl ?_
      refine g_idiv (pc := 64) X dX0_right_64 (by decide) ?_
      refine g_icmp_ne (pc := 65) X 72 dX0_right_65 (by decide) ?_ ?_
      · refine g_iconst (pc := 72) X 0 dX0_right_72 rfl ?_
        exact g_lv (pc := 73) (lv' := [(0, .ref h0), (1, .int x1), (2, .int x2), (4, .int x4)]) [0, 1, 2, 4] rfl (wX0_right_73 hex X hr (fun a0 a1 a2 a3 a4 a5 => ih a0 a1 a2 a3 a4 a5) h0 x1 x2 x4 0 x3 t19)
      · refine g_iconst (pc := 68) X 1 dX0_right_68 rfl ?_
        refine g_goto (pc := 69) X 73 dX0_right_69 (by decide) ?_
        exact g_lv (pc := 73) (lv' := [(0, .ref h0), (1, .int x1), (2, .int x2), (4, .int x4)]) [0, 1, 2, 4] rfl (wX0_right_73 hex X hr (fun a0 a1 a2 a3 a4 a5 => ih a0 a1 a2 a3 a4 a5) h0 x1 x2 x4 1 x3 t19)
noncomputable def fX0_right (ex : Nat → Option Nat) (z : Nat) (h0 : Nat) (x1 : Int32) (x2 : Int32) (t : St) : Option (Int32 × St) := ccast [0] t h0 (gb (fX0_isClock ex (z + t.2.1) h0 x1 (t.1, 0, 0)) t fun r1 t2 => if r1 = 0 then some ((-1), t2) else gb (fX0_isFew ex (z + t2.2.1) x2 (t2.1, 0, 0)) t2 fun r8 t9 => if r8 = 0 then some ((-1), t9) else cgA [0] 1 t9 h0 fun v10 => cgA [0] 0 t9 h0 fun v11 => ccast [1] t9 v10 (gb (fX1_takes ex (z + t9.2.1) v10 v11 (t9.1, 0, 0)) t9 fun _ t13 => fX0_right_33 ex z 1000 h0 x1 x2 0 0 t13))
set_option maxHeartbeats 4000000 in
theorem wX0_right {rF : Int32} (hex : ex = Γ.2.2.2.2) (X : g_X Γ p s m args meth c cX0_right 5 RX0) (hr : meth.sig.returnType = (some .int)) (h0 : Nat) (x1 : Int32) (x2 : Int32) (t : St) : Wf Γ p l e 19 403 s m args below meth c 5 (g_ι z) v_i rF tF 0 [(0, .ref h0), (1, .int x1), (2, .int x2)] [] t (fX0_right ex z h0 x1 x2 t) := by
  unfold fX0_right
  refine g_aload_n (pc := 0) X 0 dX0_right_0 rfl rfl ?_
  refine g_iload_n (pc := 1) X 1 dX0_right_1 rfl rfl ?_
  refine g_bD_i (pc := 2) X (cs := [0]) (As := [.int x1]) (rest := []) (b := h0) (n := 1) dX0_right_2 rfl rfl (Nat.le_of_ble_eq_true rfl) (fun fl3 ci4 fs5 hs6 hci7 r u h => ?_) (fun r1 t2 => ?_)
  · obtain rfl := List.mem_singleton.mp hci7
    exact ⟨_, _, _, yX0_isClock, _, _, _, 2, 40, rfl, kX0_isClock hex h, Or.inl (cwV 1 X.2.2.2.2.1 (lw_V q368 q370 qs4 q70 q372) rfl rfl rfl dmV_X0_isClock ⟨Nat.le_of_ble_eq_true rfl, Nat.le_of_ble_eq_true rfl⟩)⟩
  refine g_if_eq (pc := 5) X 15 dX0_right_5 (by decide) ?_ ?_
  · refine g_iconst (pc := 15) X (-1) dX0_right_15 rfl ?_
    exact g_iret (pc := 16) X hr dX0_right_16
  · refine g_iload_n (pc := 8) X 2 dX0_right_8 rfl rfl ?_
    refine g_bS_i (pc := 9) X (y := yX0_isFew) (As := [.int x2]) (rest := []) (fr' := 1) (lo' := 25) (fun _ => va_cwS 1 X.2.2.2.2.1 (lw_S q819 q820 q70 q821) rfl rfl rfl dmS_X0_isFew ⟨Nat.le_of_ble_eq_true rfl, Nat.le_of_ble_eq_true rfl⟩) dX0_right_9 rfl rfl (Nat.le_of_ble_eq_true rfl) (fun r u h => kX0_isFew hex h) (fun r8 t9 => ?_)
    refine g_if_ne (pc := 12) X 17 dX0_right_12 (by decide) ?_ ?_
    · refine g_aload_n (pc := 17) X 0 dX0_right_17 rfl rfl ?_
      refine cg_getA (pc := 18) X fo_X0_213 dX0_right_18 (fun v10 => ?_)
      refine g_aload_n (pc := 21) X 0 dX0_right_21 rfl rfl ?_
      refine cg_getA (pc := 22) X fo_X0_38 dX0_right_22 (fun v11 => ?_)
      refine g_bD_v (pc := 25) X (cs := [1]) (As := [.ref v11]) (rest := []) (b := v10) (n := 1) dX0_right_25 rfl rfl (Nat.le_of_ble_eq_true rfl) (fun fl14 ci15 fs16 hs17 hci18 r u h => ?_) (fun r12 t13 => ?_)
      · obtain rfl := List.mem_singleton.mp hci18
        exact ⟨_, _, _, yX1_takes, _, _, _, 7, 152, rfl, kX1_takes hex h, Or.inl (cwV 1 X.2.2.2.2.1 (lw_V q827 q828 q829 q71 q830) rfl rfl rfl dmV_X1_takes ⟨Nat.le_of_ble_eq_true rfl, Nat.le_of_ble_eq_true rfl⟩)⟩
      refine g_iconst (pc := 28) X 0 dX0_right_28 rfl ?_
      refine g_istore_n (pc := 29) X (lv' := [(3, .int 0), (0, .ref h0), (1, .int x1), (2, .int x2)]) dX0_right_29 rfl (by decide) rfl ?_
      refine g_iconst (pc := 30) X 0 dX0_right_30 rfl ?_
      refine g_istore (pc := 31) X (lv' := [(4, .int 0), (3, .int 0), (0, .ref h0), (1, .int x1), (2, .int x2)]) dX0_right_31 (by decide) rfl ?_
      exact g_lv (pc := 33) (lv' := [(0, .ref h0), (1, .int x1), (2, .int x2), (3, .int 0), (4, .int 0)]) [2, 3, 4, 1, 0] rfl (wX0_right_33 hex X hr 1000 h0 x1 x2 0 0 t13)
    · refine g_iconst (pc := 15) X (-1) dX0_right_15 rfl ?_
      exact g_iret (pc := 16) X hr dX0_right_16
theorem kX0_right {ex : Nat → Option Nat} {z : Nat} {h0 : Nat} {x1 : Int32} {x2 : Int32} {σ : Sg} {r : Int32} {u : St} (hex : ex = Γ.2.2.2.2) (h : fX0_right ex z h0 x1 x2 (σ, 0, 0) = some (r, u)) : g_C Γ l yX0_right cX0_right 5 (some .int) 19 403 [.ref h0, .int x1, .int x2] σ z v_i r (g_ι z u) :=
  g_met (ι := g_ι z) (t := (σ, 0, 0)) [.ref h0, .int x1, .int x2] (by decide) (Nat.le_of_ble_eq_true rfl) h rfl (fun p e s m args below meth c X hr hn => wX0_right hex X hr h0 x1 x2 (σ, 0, 0))
end CP
abbrev cX0_appeal : ByteArray := prog_1_method_40_code
def yX0_appeal : MethodName := ⟨RX0, "appeal", "(II)I"⟩
def dkwX0_appeal_2 : List UInt8 := [180, 0, 213, 27, 182, 0, 111, 182, 0, 165, 172]
abbrev dktX0_appeal_2 : List UInt8 := dkwX0_appeal_2 ++ []
def dkwX0_appeal_1 : List UInt8 := [180, 0, 38, 182, 0, 216, 42, 180, 0, 213, 3, 181, 0, 253, 42, 28, 182, 0, 220, 42, 180, 0, 213, 42]
abbrev dktX0_appeal_1 : List UInt8 := dkwX0_appeal_1 ++ dktX0_appeal_2
def dkwX0_appeal_0 : List UInt8 := [42, 27, 182, 0, 107, 153, 0, 10, 28, 184, 0, 223, 154, 0, 5, 2, 172, 42, 180, 0, 213, 42]
abbrev dktX0_appeal_0 : List UInt8 := dkwX0_appeal_0 ++ dktX0_appeal_1
theorem dksX0_appeal_0 : cX0_appeal.data.toList.drop 0 = dktX0_appeal_0 := by decide +kernel
theorem dksX0_appeal_1 : cX0_appeal.data.toList.drop 22 = dktX0_appeal_1 := dk_seg dksX0_appeal_0 22 rfl rfl
theorem dksX0_appeal_2 : cX0_appeal.data.toList.drop 46 = dktX0_appeal_2 := dk_seg dksX0_appeal_1 24 rfl rfl
theorem dX0_appeal_0 : decode cX0_appeal 0 = .ok (.aload_n 0, 1) := dk_42 (dk_at dksX0_appeal_0 0 rfl rfl)
theorem dX0_appeal_1 : decode cX0_appeal 1 = .ok (.iload_n 1, 1) := dk_27 (dk_at dksX0_appeal_0 1 rfl rfl)
theorem dX0_appeal_2 : decode cX0_appeal 2 = .ok (.invokevirtual 107, 3) := dk_182 0 107 (dk_at dksX0_appeal_0 2 rfl rfl)
theorem dX0_appeal_5 : decode cX0_appeal 5 = .ok (.ifCond .eq 10, 3) := dk_153 0 10 (dk_at dksX0_appeal_0 5 rfl rfl)
theorem dX0_appeal_8 : decode cX0_appeal 8 = .ok (.iload_n 2, 1) := dk_28 (dk_at dksX0_appeal_0 8 rfl rfl)
theorem dX0_appeal_9 : decode cX0_appeal 9 = .ok (.invokestatic 223, 3) := dk_184 0 223 (dk_at dksX0_appeal_0 9 rfl rfl)
theorem dX0_appeal_12 : decode cX0_appeal 12 = .ok (.ifCond .ne 5, 3) := dk_154 0 5 (dk_at dksX0_appeal_0 12 rfl rfl)
theorem dX0_appeal_15 : decode cX0_appeal 15 = .ok (.iconst (-1), 1) := dk_2 (dk_at dksX0_appeal_0 15 rfl rfl)
theorem dX0_appeal_16 : decode cX0_appeal 16 = .ok (.ireturn, 1) := dk_172 (dk_at dksX0_appeal_0 16 rfl rfl)
theorem dX0_appeal_17 : decode cX0_appeal 17 = .ok (.aload_n 0, 1) := dk_42 (dk_at dksX0_appeal_0 17 rfl rfl)
theorem dX0_appeal_18 : decode cX0_appeal 18 = .ok (.getfield 213, 3) := dk_180 0 213 (dk_at dksX0_appeal_0 18 rfl rfl)
theorem dX0_appeal_21 : decode cX0_appeal 21 = .ok (.aload_n 0, 1) := dk_42 (dk_at dksX0_appeal_0 21 rfl rfl)
theorem dX0_appeal_22 : decode cX0_appeal 22 = .ok (.getfield 38, 3) := dk_180 0 38 (dk_at dksX0_appeal_1 0 rfl rfl)
theorem dX0_appeal_25 : decode cX0_appeal 25 = .ok (.invokevirtual 216, 3) := dk_182 0 216 (dk_at dksX0_appeal_1 3 rfl rfl)
theorem dX0_appeal_28 : decode cX0_appeal 28 = .ok (.aload_n 0, 1) := dk_42 (dk_at dksX0_appeal_1 6 rfl rfl)
theorem dX0_appeal_29 : decode cX0_appeal 29 = .ok (.getfield 213, 3) := dk_180 0 213 (dk_at dksX0_appeal_1 7 rfl rfl)
theorem dX0_appeal_32 : decode cX0_appeal 32 = .ok (.iconst 0, 1) := dk_3 (dk_at dksX0_appeal_1 10 rfl rfl)
theorem dX0_appeal_33 : decode cX0_appeal 33 = .ok (.putfield 253, 3) := dk_181 0 253 (dk_at dksX0_appeal_1 11 rfl rfl)
theorem dX0_appeal_36 : decode cX0_appeal 36 = .ok (.aload_n 0, 1) := dk_42 (dk_at dksX0_appeal_1 14 rfl rfl)
theorem dX0_appeal_37 : decode cX0_appeal 37 = .ok (.iload_n 2, 1) := dk_28 (dk_at dksX0_appeal_1 15 rfl rfl)
theorem dX0_appeal_38 : decode cX0_appeal 38 = .ok (.invokevirtual 220, 3) := dk_182 0 220 (dk_at dksX0_appeal_1 16 rfl rfl)
theorem dX0_appeal_41 : decode cX0_appeal 41 = .ok (.aload_n 0, 1) := dk_42 (dk_at dksX0_appeal_1 19 rfl rfl)
theorem dX0_appeal_42 : decode cX0_appeal 42 = .ok (.getfield 213, 3) := dk_180 0 213 (dk_at dksX0_appeal_1 20 rfl rfl)
theorem dX0_appeal_45 : decode cX0_appeal 45 = .ok (.aload_n 0, 1) := dk_42 (dk_at dksX0_appeal_1 23 rfl rfl)
theorem dX0_appeal_46 : decode cX0_appeal 46 = .ok (.getfield 213, 3) := dk_180 0 213 (dk_at dksX0_appeal_2 0 rfl rfl)
theorem dX0_appeal_49 : decode cX0_appeal 49 = .ok (.iload_n 1, 1) := dk_27 (dk_at dksX0_appeal_2 3 rfl rfl)
theorem dX0_appeal_50 : decode cX0_appeal 50 = .ok (.invokevirtual 111, 3) := dk_182 0 111 (dk_at dksX0_appeal_2 4 rfl rfl)
theorem dX0_appeal_53 : decode cX0_appeal 53 = .ok (.invokevirtual 165, 3) := dk_182 0 165 (dk_at dksX0_appeal_2 7 rfl rfl)
theorem dX0_appeal_56 : decode cX0_appeal 56 = .ok (.ireturn, 1) := dk_172 (dk_at dksX0_appeal_2 10 rfl rfl)
theorem fp_X0_253 : g_fp RX0 253 [1] 6 .int false := ⟨_, _, _, Or.inr ⟨rfl, _, q1573⟩, by decide +kernel, fun ci h => by
  simp only [List.mem_cons, List.not_mem_nil, or_false] at h; rcases h with rfl
  · exact ⟨_, _, _, tyX1, rfl, by decide, rfl, rfl, Or.inl rfl, in_X1, rfl, (fun h => by cases h), tyX1_ok, (by decide +kernel)⟩⟩
section CP
variable {Γ : Gc} {p : Program} {l : Launch} {e : Env} {s : State} {m : MethodId} {args : Array Value} {below : List Frame} {meth : Method} {c : Code} {ex : Nat → Option Nat} {z : Nat} {tF : St}
noncomputable def fX0_appeal (ex : Nat → Option Nat) (z : Nat) (h0 : Nat) (x1 : Int32) (x2 : Int32) (t : St) : Option (Int32 × St) := ccast [0] t h0 (gb (fX0_isClock ex (z + t.2.1) h0 x1 (t.1, 0, 0)) t fun r1 t2 => if r1 = 0 then some ((-1), t2) else gb (fX0_isFew ex (z + t2.2.1) x2 (t2.1, 0, 0)) t2 fun r8 t9 => if r8 = 0 then some ((-1), t9) else cgA [0] 1 t9 h0 fun v10 => cgA [0] 0 t9 h0 fun v11 => ccast [1] t9 v10 (gb (fX1_takes ex (z + t9.2.1) v10 v11 (t9.1, 0, 0)) t9 fun _ t13 => cgA [0] 1 t13 h0 fun v19 => cput [1] 6 t13 v19 (.int 0) fun t20 => ccast [0] t20 h0 (gb (fX0_goOn ex (z + t20.2.1) h0 x2 (t20.1, 0, 0)) t20 fun _ t22 => cgA [0] 1 t22 h0 fun v28 => cgA [0] 1 t22 h0 fun v29 => ccast [1] t22 v29 (gb (fX1_clock ex (z + t22.2.1) v29 x1 (t22.1, 0, 0)) t22 fun r30 t31 => ccast [1] t31 v28 (gb (fX1_place ex (z + t31.2.1) v28 r30 (t31.1, 0, 0)) t31 fun r37 t38 => some (r37, t38))))))
set_option maxHeartbeats 4000000 in
theorem wX0_appeal {rF : Int32} (hex : ex = Γ.2.2.2.2) (X : g_X Γ p s m args meth c cX0_appeal 3 RX0) (hr : meth.sig.returnType = (some .int)) (h0 : Nat) (x1 : Int32) (x2 : Int32) (t : St) : Wf Γ p l e 20 425 s m args below meth c 3 (g_ι z) v_i rF tF 0 [(0, .ref h0), (1, .int x1), (2, .int x2)] [] t (fX0_appeal ex z h0 x1 x2 t) := by
  unfold fX0_appeal
  refine g_aload_n (pc := 0) X 0 dX0_appeal_0 rfl rfl ?_
  refine g_iload_n (pc := 1) X 1 dX0_appeal_1 rfl rfl ?_
  refine g_bD_i (pc := 2) X (cs := [0]) (As := [.int x1]) (rest := []) (b := h0) (n := 1) dX0_appeal_2 rfl rfl (Nat.le_of_ble_eq_true rfl) (fun fl3 ci4 fs5 hs6 hci7 r u h => ?_) (fun r1 t2 => ?_)
  · obtain rfl := List.mem_singleton.mp hci7
    exact ⟨_, _, _, yX0_isClock, _, _, _, 2, 40, rfl, kX0_isClock hex h, Or.inl (cwV 1 X.2.2.2.2.1 (lw_V q368 q370 qs4 q70 q372) rfl rfl rfl dmV_X0_isClock ⟨Nat.le_of_ble_eq_true rfl, Nat.le_of_ble_eq_true rfl⟩)⟩
  refine g_if_eq (pc := 5) X 15 dX0_appeal_5 (by decide) ?_ ?_
  · refine g_iconst (pc := 15) X (-1) dX0_appeal_15 rfl ?_
    exact g_iret (pc := 16) X hr dX0_appeal_16
  · refine g_iload_n (pc := 8) X 2 dX0_appeal_8 rfl rfl ?_
    refine g_bS_i (pc := 9) X (y := yX0_isFew) (As := [.int x2]) (rest := []) (fr' := 1) (lo' := 25) (fun _ => va_cwS 1 X.2.2.2.2.1 (lw_S q819 q820 q70 q821) rfl rfl rfl dmS_X0_isFew ⟨Nat.le_of_ble_eq_true rfl, Nat.le_of_ble_eq_true rfl⟩) dX0_appeal_9 rfl rfl (Nat.le_of_ble_eq_true rfl) (fun r u h => kX0_isFew hex h) (fun r8 t9 => ?_)
    refine g_if_ne (pc := 12) X 17 dX0_appeal_12 (by decide) ?_ ?_
    · refine g_aload_n (pc := 17) X 0 dX0_appeal_17 rfl rfl ?_
      refine cg_getA (pc := 18) X fo_X0_213 dX0_appeal_18 (fun v10 => ?_)
      refine g_aload_n (pc := 21) X 0 dX0_appeal_21 rfl rfl ?_
      refine cg_getA (pc := 22) X fo_X0_38 dX0_appeal_22 (fun v11 => ?_)
      refine g_bD_v (pc := 25) X (cs := [1]) (As := [.ref v11]) (rest := []) (b := v10) (n := 1) dX0_appeal_25 rfl rfl (Nat.le_of_ble_eq_true rfl) (fun fl14 ci15 fs16 hs17 hci18 r u h => ?_) (fun r12 t13 => ?_)
      · obtain rfl := List.mem_singleton.mp hci18
        exact ⟨_, _, _, yX1_takes, _, _, _, 7, 152, rfl, kX1_takes hex h, Or.inl (cwV 1 X.2.2.2.2.1 (lw_V q827 q828 q829 q71 q830) rfl rfl rfl dmV_X1_takes ⟨Nat.le_of_ble_eq_true rfl, Nat.le_of_ble_eq_true rfl⟩)⟩
      refine g_aload_n (pc := 28) X 0 dX0_appeal_28 rfl rfl ?_
      refine cg_getA (pc := 29) X fo_X0_213 dX0_appeal_29 (fun v19 => ?_)
      refine g_iconst (pc := 32) X 0 dX0_appeal_32 rfl ?_
      refine cg_put (pc := 33) X fp_X0_253 dX0_appeal_33 (fun h => by cases h) rfl rfl (fun t20 => ?_)
      refine g_aload_n (pc := 36) X 0 dX0_appeal_36 rfl rfl ?_
      refine g_iload_n (pc := 37) X 2 dX0_appeal_37 rfl rfl ?_
      refine g_bD_v (pc := 38) X (cs := [0]) (As := [.int x2]) (rest := []) (b := h0) (n := 1) dX0_appeal_38 rfl rfl (Nat.le_of_ble_eq_true rfl) (fun fl23 ci24 fs25 hs26 hci27 r u h => ?_) (fun r21 t22 => ?_)
      · obtain rfl := List.mem_singleton.mp hci27
        exact ⟨_, _, _, yX0_goOn, _, _, _, 19, 403, rfl, kX0_goOn hex h, Or.inl (cwV 1 X.2.2.2.2.1 (lw_V q861 q863 qs8 q70 q864) rfl rfl rfl dmV_X0_goOn ⟨Nat.le_of_ble_eq_true rfl, Nat.le_of_ble_eq_true rfl⟩)⟩
      refine g_aload_n (pc := 41) X 0 dX0_appeal_41 rfl rfl ?_
      refine cg_getA (pc := 42) X fo_X0_213 dX0_appeal_42 (fun v28 => ?_)
      refine g_aload_n (pc := 45) X 0 dX0_appeal_45 rfl rfl ?_
      refine cg_getA (pc := 46) X fo_X0_213 dX0_appeal_46 (fun v29 => ?_)
      refine g_iload_n (pc := 49) X 1 dX0_appeal_49 rfl rfl ?_
      refine g_bD_a (pc := 50) X (cs := [1]) (As := [.int x1]) (rest := [.ref v28]) (b := v29) (n := 1) dX0_appeal_50 rfl rfl (Nat.le_of_ble_eq_true rfl) (fun fl32 ci33 fs34 hs35 hci36 r u h => ?_) (fun r30 t31 => ?_)
      · obtain rfl := List.mem_singleton.mp hci36
        exact ⟨_, _, _, yX1_clock, _, _, _, 3, 64, rfl, kX1_clock hex h, Or.inl (cwV 1 X.2.2.2.2.1 (lw_V q373 q374 q375 q71 q376) rfl rfl rfl dmV_X1_clock ⟨Nat.le_of_ble_eq_true rfl, Nat.le_of_ble_eq_true rfl⟩)⟩
      refine g_bD_i (pc := 53) X (cs := [1]) (As := [.ref r30]) (rest := []) (b := v28) (n := 1) dX0_appeal_53 rfl rfl (Nat.le_of_ble_eq_true rfl) (fun fl39 ci40 fs41 hs42 hci43 r u h => ?_) (fun r37 t38 => ?_)
      · obtain rfl := List.mem_singleton.mp hci43
        exact ⟨_, _, _, yX1_place, _, _, _, 3, 64, rfl, kX1_place hex h, Or.inl (cwV 1 X.2.2.2.2.1 (lw_V q526 q527 q528 q71 q529) rfl rfl rfl dmV_X1_place ⟨Nat.le_of_ble_eq_true rfl, Nat.le_of_ble_eq_true rfl⟩)⟩
      exact g_iret (pc := 56) X hr dX0_appeal_56
    · refine g_iconst (pc := 15) X (-1) dX0_appeal_15 rfl ?_
      exact g_iret (pc := 16) X hr dX0_appeal_16
theorem kX0_appeal {ex : Nat → Option Nat} {z : Nat} {h0 : Nat} {x1 : Int32} {x2 : Int32} {σ : Sg} {r : Int32} {u : St} (hex : ex = Γ.2.2.2.2) (h : fX0_appeal ex z h0 x1 x2 (σ, 0, 0) = some (r, u)) : g_C Γ l yX0_appeal cX0_appeal 3 (some .int) 20 425 [.ref h0, .int x1, .int x2] σ z v_i r (g_ι z u) :=
  g_met (ι := g_ι z) (t := (σ, 0, 0)) [.ref h0, .int x1, .int x2] (by decide) (Nat.le_of_ble_eq_true rfl) h rfl (fun p e s m args below meth c X hr hn => wX0_appeal hex X hr h0 x1 x2 (σ, 0, 0))
end CP
abbrev cX0_spanBy : ByteArray := prog_1_method_41_code
def yX0_spanBy : MethodName := ⟨RX0, "spanBy", "(II)I"⟩
def dkwX0_spanBy_2 : List UInt8 := [180, 0, 213, 182, 0, 169, 87, 132, 3, 1, 167, 255, 222, 17, 0, 201, 172]
abbrev dktX0_spanBy_2 : List UInt8 := dkwX0_spanBy_2 ++ []
def dkwX0_spanBy_1 : List UInt8 := [17, 0, 200, 163, 0, 33, 42, 180, 0, 213, 27, 182, 0, 111, 182, 0, 229, 153, 0, 5, 29, 172, 42]
abbrev dktX0_spanBy_1 : List UInt8 := dkwX0_spanBy_1 ++ dktX0_spanBy_2
def dkwX0_spanBy_0 : List UInt8 := [42, 180, 0, 213, 42, 180, 0, 38, 182, 0, 216, 42, 180, 0, 213, 28, 181, 0, 253, 3, 62, 29]
abbrev dktX0_spanBy_0 : List UInt8 := dkwX0_spanBy_0 ++ dktX0_spanBy_1
theorem dksX0_spanBy_0 : cX0_spanBy.data.toList.drop 0 = dktX0_spanBy_0 := by decide +kernel
theorem dksX0_spanBy_1 : cX0_spanBy.data.toList.drop 22 = dktX0_spanBy_1 := dk_seg dksX0_spanBy_0 22 rfl rfl
theorem dksX0_spanBy_2 : cX0_spanBy.data.toList.drop 45 = dktX0_spanBy_2 := dk_seg dksX0_spanBy_1 23 rfl rfl
theorem dX0_spanBy_0 : decode cX0_spanBy 0 = .ok (.aload_n 0, 1) := dk_42 (dk_at dksX0_spanBy_0 0 rfl rfl)
theorem dX0_spanBy_1 : decode cX0_spanBy 1 = .ok (.getfield 213, 3) := dk_180 0 213 (dk_at dksX0_spanBy_0 1 rfl rfl)
theorem dX0_spanBy_4 : decode cX0_spanBy 4 = .ok (.aload_n 0, 1) := dk_42 (dk_at dksX0_spanBy_0 4 rfl rfl)
theorem dX0_spanBy_5 : decode cX0_spanBy 5 = .ok (.getfield 38, 3) := dk_180 0 38 (dk_at dksX0_spanBy_0 5 rfl rfl)
theorem dX0_spanBy_8 : decode cX0_spanBy 8 = .ok (.invokevirtual 216, 3) := dk_182 0 216 (dk_at dksX0_spanBy_0 8 rfl rfl)
theorem dX0_spanBy_11 : decode cX0_spanBy 11 = .ok (.aload_n 0, 1) := dk_42 (dk_at dksX0_spanBy_0 11 rfl rfl)
theorem dX0_spanBy_12 : decode cX0_spanBy 12 = .ok (.getfield 213, 3) := dk_180 0 213 (dk_at dksX0_spanBy_0 12 rfl rfl)
theorem dX0_spanBy_15 : decode cX0_spanBy 15 = .ok (.iload_n 2, 1) := dk_28 (dk_at dksX0_spanBy_0 15 rfl rfl)
theorem dX0_spanBy_16 : decode cX0_spanBy 16 = .ok (.putfield 253, 3) := dk_181 0 253 (dk_at dksX0_spanBy_0 16 rfl rfl)
theorem dX0_spanBy_19 : decode cX0_spanBy 19 = .ok (.iconst 0, 1) := dk_3 (dk_at dksX0_spanBy_0 19 rfl rfl)
theorem dX0_spanBy_20 : decode cX0_spanBy 20 = .ok (.istore_n 3, 1) := dk_62 (dk_at dksX0_spanBy_0 20 rfl rfl)
theorem dX0_spanBy_21 : decode cX0_spanBy 21 = .ok (.iload_n 3, 1) := dk_29 (dk_at dksX0_spanBy_0 21 rfl rfl)
theorem dX0_spanBy_22 : decode cX0_spanBy 22 = .ok (.sipush 200, 3) := dk_17 0 200 (dk_at dksX0_spanBy_1 0 rfl rfl)
theorem dX0_spanBy_25 : decode cX0_spanBy 25 = .ok (.if_icmp .gt 33, 3) := dk_163 0 33 (dk_at dksX0_spanBy_1 3 rfl rfl)
theorem dX0_spanBy_28 : decode cX0_spanBy 28 = .ok (.aload_n 0, 1) := dk_42 (dk_at dksX0_spanBy_1 6 rfl rfl)
theorem dX0_spanBy_29 : decode cX0_spanBy 29 = .ok (.getfield 213, 3) := dk_180 0 213 (dk_at dksX0_spanBy_1 7 rfl rfl)
theorem dX0_spanBy_32 : decode cX0_spanBy 32 = .ok (.iload_n 1, 1) := dk_27 (dk_at dksX0_spanBy_1 10 rfl rfl)
theorem dX0_spanBy_33 : decode cX0_spanBy 33 = .ok (.invokevirtual 111, 3) := dk_182 0 111 (dk_at dksX0_spanBy_1 11 rfl rfl)
theorem dX0_spanBy_36 : decode cX0_spanBy 36 = .ok (.invokevirtual 229, 3) := dk_182 0 229 (dk_at dksX0_spanBy_1 14 rfl rfl)
theorem dX0_spanBy_39 : decode cX0_spanBy 39 = .ok (.ifCond .eq 5, 3) := dk_153 0 5 (dk_at dksX0_spanBy_1 17 rfl rfl)
theorem dX0_spanBy_42 : decode cX0_spanBy 42 = .ok (.iload_n 3, 1) := dk_29 (dk_at dksX0_spanBy_1 20 rfl rfl)
theorem dX0_spanBy_43 : decode cX0_spanBy 43 = .ok (.ireturn, 1) := dk_172 (dk_at dksX0_spanBy_1 21 rfl rfl)
theorem dX0_spanBy_44 : decode cX0_spanBy 44 = .ok (.aload_n 0, 1) := dk_42 (dk_at dksX0_spanBy_1 22 rfl rfl)
theorem dX0_spanBy_45 : decode cX0_spanBy 45 = .ok (.getfield 213, 3) := dk_180 0 213 (dk_at dksX0_spanBy_2 0 rfl rfl)
theorem dX0_spanBy_48 : decode cX0_spanBy 48 = .ok (.invokevirtual 169, 3) := dk_182 0 169 (dk_at dksX0_spanBy_2 3 rfl rfl)
theorem dX0_spanBy_51 : decode cX0_spanBy 51 = .ok (.pop, 1) := dk_87 (dk_at dksX0_spanBy_2 6 rfl rfl)
theorem dX0_spanBy_52 : decode cX0_spanBy 52 = .ok (.iinc 3 1, 3) := dk_132 3 1 (dk_at dksX0_spanBy_2 7 rfl rfl)
theorem dX0_spanBy_55 : decode cX0_spanBy 55 = .ok (.goto (-34), 3) := dk_167 255 222 (dk_at dksX0_spanBy_2 10 rfl rfl)
theorem dX0_spanBy_58 : decode cX0_spanBy 58 = .ok (.sipush 201, 3) := dk_17 0 201 (dk_at dksX0_spanBy_2 13 rfl rfl)
theorem dX0_spanBy_61 : decode cX0_spanBy 61 = .ok (.ireturn, 1) := dk_172 (dk_at dksX0_spanBy_2 16 rfl rfl)
section CP
variable {Γ : Gc} {p : Program} {l : Launch} {e : Env} {s : State} {m : MethodId} {args : Array Value} {below : List Frame} {meth : Method} {c : Code} {ex : Nat → Option Nat} {z : Nat} {tF : St}
noncomputable def fX0_spanBy_21 (ex : Nat → Option Nat) (z : Nat) : Nat → Nat → Int32 → Int32 → St → Option (Int32 × St)
  | 0, _, _, _, _ => none
  | n + 1, h0, x1, x3, t => if 200 < x3 then some (201, t) else cgA [0] 1 t h0 fun v1 => ccast [1] t v1 (gb (fX1_clock ex (z + t.2.1) v1 x1 (t.1, 0, 0)) t fun r2 t3 => ccast [4, 5, 6, 7, 8, 9] t3 r2 (gb (fX4_isHome ex (z + t3.2.1) r2 (t3.1, 0, 0)) t3 fun r9 t10 => if r9 = 0 then cgA [0] 1 t10 h0 fun v16 => ccast [1] t10 v16 (gb (fX1_goes ex (z + t10.2.1) v16 (t10.1, 0, 0)) t10 fun r17 t18 => fX0_spanBy_21 ex z n h0 x1 (x3 + 1) t18) else some (x3, t10)))
set_option maxHeartbeats 4000000 in
theorem wX0_spanBy_21 {rF : Int32} (hex : ex = Γ.2.2.2.2) (X : g_X Γ p s m args meth c cX0_spanBy 4 RX0) (hr : meth.sig.returnType = (some .int)) (n : Nat) : ∀ (h0 : Nat) (x1 : Int32) (x3 : Int32) (t : St), Wf Γ p l e 19 403 s m args below meth c 4 (g_ι z) v_i rF tF 21 [(0, .ref h0), (1, .int x1), (3, .int x3)] [] t (fX0_spanBy_21 ex z n h0 x1 x3 t) := by
  induction n with
  | zero => intro h0 x1 x3 t; exact g_none
  | succ n ih =>
    intro h0 x1 x3 t
    rw [fX0_spanBy_21]
    refine g_iload_n (pc := 21) X 2 dX0_spanBy_21 rfl rfl ?_
    refine g_sipush (pc := 22) X 200 dX0_spanBy_22 rfl ?_
    refine g_icmp_gt (pc := 25) X 58 dX0_spanBy_25 (by decide) ?_ ?_
    · refine g_sipush (pc := 58) X 201 dX0_spanBy_58 rfl ?_
      exact g_iret (pc := 61) X hr dX0_spanBy_61
    · refine g_aload_n (pc := 28) X 0 dX0_spanBy_28 rfl rfl ?_
      refine cg_getA (pc := 29) X fo_X0_213 dX0_spanBy_29 (fun v1 => ?_)
      refine g_iload_n (pc := 32) X 1 dX0_spanBy_32 rfl rfl ?_
      refine g_bD_a (pc := 33) X (cs := [1]) (As := [.int x1]) (rest := []) (b := v1) (n := 1) dX0_spanBy_33 rfl rfl (Nat.le_of_ble_eq_true rfl) (fun fl4 ci5 fs6 hs7 hci8 r u h => ?_) (fun r2 t3 => ?_)
      · obtain rfl := List.mem_singleton.mp hci8
        exact ⟨_, _, _, yX1_clock, _, _, _, 3, 64, rfl, kX1_clock hex h, Or.inl (cwV 1 X.2.2.2.2.1 (lw_V q373 q374 q375 q71 q376) rfl rfl rfl dmV_X1_clock ⟨Nat.le_of_ble_eq_true rfl, Nat.le_of_ble_eq_true rfl⟩)⟩
      refine g_bD_i (pc := 36) X (cs := [4, 5, 6, 7, 8, 9]) (As := []) (rest := []) (b := r2) (n := 0) dX0_spanBy_36 rfl rfl (Nat.le_of_ble_eq_true rfl) (fun fl11 ci12 fs13 hs14 hci15 r u h => ?_) (fun r9 t10 => ?_)
      · simp only [List.mem_cons, List.not_mem_nil, or_false] at hci15
        rcases hci15 with rfl | rfl | rfl | rfl | rfl | rfl
        · exact ⟨_, _, _, yX4_isHome, _, _, _, 0, 0, rfl, kX4_isHome hex h, Or.inl (cwV 0 X.2.2.2.2.1 (lw_V q873 q494 q495 q77 q502) rfl rfl rfl dmV_X4_isHome ⟨Nat.le_of_ble_eq_true rfl, Nat.le_of_ble_eq_true rfl⟩)⟩
        · exact ⟨_, _, _, yX4_isHome, _, _, _, 0, 0, rfl, kX4_isHome hex h, Or.inr (Or.inl ⟨_, _, va_cwU 0 X.2.2.2.2.1 (lw_U q873 q496 q497 q494 q77 q502) rfl rfl rfl rfl dmU_X4_isHome0 ⟨Nat.le_of_ble_eq_true rfl, Nat.le_of_ble_eq_true rfl⟩⟩)⟩
        · exact ⟨_, _, _, yX4_isHome, _, _, _, 0, 0, rfl, kX4_isHome hex h, Or.inr (Or.inl ⟨_, _, va_cwU 0 X.2.2.2.2.1 (lw_U q873 q496 q499 q494 q77 q502) rfl rfl rfl rfl dmU_X4_isHome0 ⟨Nat.le_of_ble_eq_true rfl, Nat.le_of_ble_eq_true rfl⟩⟩)⟩
        · exact ⟨_, _, _, yX4_isHome, _, _, _, 0, 0, rfl, kX4_isHome hex h, Or.inr (Or.inl ⟨_, _, va_cwU 0 X.2.2.2.2.1 (lw_U q873 q496 q500 q494 q77 q502) rfl rfl rfl rfl dmU_X4_isHome0 ⟨Nat.le_of_ble_eq_true rfl, Nat.le_of_ble_eq_true rfl⟩⟩)⟩
        · exact ⟨_, _, _, yX4_isHome, _, _, _, 0, 0, rfl, kX4_isHome hex h, Or.inr (Or.inl ⟨_, _, va_cwU 0 X.2.2.2.2.1 (lw_U q873 q496 q501 q494 q77 q502) rfl rfl rfl rfl dmU_X4_isHome0 ⟨Nat.le_of_ble_eq_true rfl, Nat.le_of_ble_eq_true rfl⟩⟩)⟩
        · exact ⟨_, _, _, yX4_isHome, _, _, _, 0, 0, rfl, kX4_isHome hex h, Or.inr (Or.inl ⟨_, _, va_cwU 0 X.2.2.2.2.1 (lw_U q873 q496 q498 q494 q77 q502) rfl rfl rfl rfl dmU_X4_isHome0 ⟨Nat.le_of_ble_eq_true rfl, Nat.le_of_ble_eq_true rfl⟩⟩)⟩
      refine g_if_eq (pc := 39) X 44 dX0_spanBy_39 (by decide) ?_ ?_
      · refine g_aload_n (pc := 44) X 0 dX0_spanBy_44 rfl rfl ?_
        refine cg_getA (pc := 45) X fo_X0_213 dX0_spanBy_45 (fun v16 => ?_)
        refine g_bD_i (pc := 48) X (cs := [1]) (As := []) (rest := []) (b := v16) (n := 0) dX0_spanBy_48 rfl rfl (Nat.le_of_ble_eq_true rfl) (fun fl19 ci20 fs21 hs22 hci23 r u h => ?_) (fun r17 t18 => ?_)
        · obtain rfl := List.mem_singleton.mp hci23
          exact ⟨_, _, _, yX1_goes, _, _, _, 18, 380, rfl, kX1_goes hex h, Or.inl (cwV 0 X.2.2.2.2.1 (lw_V q534 q535 q536 q71 q537) rfl rfl rfl dmV_X1_goes ⟨Nat.le_of_ble_eq_true rfl, Nat.le_of_ble_eq_true rfl⟩)⟩
        refine g_pop (pc := 51) X dX0_spanBy_51 rfl ?_
        refine g_iinc (pc := 52) X 1 2 (lv' := [(3, .int (x3 + 1)), (0, .ref h0), (1, .int x1)]) dX0_spanBy_52 rfl rfl (by decide) rfl ?_
        refine g_goto (pc := 55) X 21 dX0_spanBy_55 (by decide) ?_
        exact g_lv (pc := 21) (lv' := [(0, .ref h0), (1, .int x1), (3, .int (x3 + 1))]) [1, 2, 0] rfl (ih h0 x1 (x3 + 1) t18)
      · refine g_iload_n (pc := 42) X 2 dX0_spanBy_42 rfl rfl ?_
        exact g_iret (pc := 43) X hr dX0_spanBy_43
noncomputable def fX0_spanBy (ex : Nat → Option Nat) (z : Nat) (h0 : Nat) (x1 : Int32) (x2 : Int32) (t : St) : Option (Int32 × St) := cgA [0] 1 t h0 fun v1 => cgA [0] 0 t h0 fun v2 => ccast [1] t v1 (gb (fX1_takes ex (z + t.2.1) v1 v2 (t.1, 0, 0)) t fun _ t4 => cgA [0] 1 t4 h0 fun v10 => cput [1] 6 t4 v10 (.int x2) fun t11 => fX0_spanBy_21 ex z 1000 h0 x1 0 t11)
set_option maxHeartbeats 4000000 in
theorem wX0_spanBy {rF : Int32} (hex : ex = Γ.2.2.2.2) (X : g_X Γ p s m args meth c cX0_spanBy 4 RX0) (hr : meth.sig.returnType = (some .int)) (h0 : Nat) (x1 : Int32) (x2 : Int32) (t : St) : Wf Γ p l e 19 403 s m args below meth c 4 (g_ι z) v_i rF tF 0 [(0, .ref h0), (1, .int x1), (2, .int x2)] [] t (fX0_spanBy ex z h0 x1 x2 t) := by
  unfold fX0_spanBy
  refine g_aload_n (pc := 0) X 0 dX0_spanBy_0 rfl rfl ?_
  refine cg_getA (pc := 1) X fo_X0_213 dX0_spanBy_1 (fun v1 => ?_)
  refine g_aload_n (pc := 4) X 0 dX0_spanBy_4 rfl rfl ?_
  refine cg_getA (pc := 5) X fo_X0_38 dX0_spanBy_5 (fun v2 => ?_)
  refine g_bD_v (pc := 8) X (cs := [1]) (As := [.ref v2]) (rest := []) (b := v1) (n := 1) dX0_spanBy_8 rfl rfl (Nat.le_of_ble_eq_true rfl) (fun fl5 ci6 fs7 hs8 hci9 r u h => ?_) (fun r3 t4 => ?_)
  · obtain rfl := List.mem_singleton.mp hci9
    exact ⟨_, _, _, yX1_takes, _, _, _, 7, 152, rfl, kX1_takes hex h, Or.inl (cwV 1 X.2.2.2.2.1 (lw_V q827 q828 q829 q71 q830) rfl rfl rfl dmV_X1_takes ⟨Nat.le_of_ble_eq_true rfl, Nat.le_of_ble_eq_true rfl⟩)⟩
  refine g_aload_n (pc := 11) X 0 dX0_spanBy_11 rfl rfl ?_
  refine cg_getA (pc := 12) X fo_X0_213 dX0_spanBy_12 (fun v10 => ?_)
  refine g_iload_n (pc := 15) X 2 dX0_spanBy_15 rfl rfl ?_
  refine cg_put (pc := 16) X fp_X0_253 dX0_spanBy_16 (fun h => by cases h) rfl rfl (fun t11 => ?_)
  refine g_iconst (pc := 19) X 0 dX0_spanBy_19 rfl ?_
  refine g_istore_n (pc := 20) X (lv' := [(3, .int 0), (0, .ref h0), (1, .int x1), (2, .int x2)]) dX0_spanBy_20 rfl (by decide) rfl ?_
  exact g_lv (pc := 21) (lv' := [(0, .ref h0), (1, .int x1), (3, .int 0)]) [1, 2, 0] rfl (wX0_spanBy_21 hex X hr 1000 h0 x1 0 t11)
theorem kX0_spanBy {ex : Nat → Option Nat} {z : Nat} {h0 : Nat} {x1 : Int32} {x2 : Int32} {σ : Sg} {r : Int32} {u : St} (hex : ex = Γ.2.2.2.2) (h : fX0_spanBy ex z h0 x1 x2 (σ, 0, 0) = some (r, u)) : g_C Γ l yX0_spanBy cX0_spanBy 4 (some .int) 19 403 [.ref h0, .int x1, .int x2] σ z v_i r (g_ι z u) :=
  g_met (ι := g_ι z) (t := (σ, 0, 0)) [.ref h0, .int x1, .int x2] (by decide) (Nat.le_of_ble_eq_true rfl) h rfl (fun p e s m args below meth c X hr hn => wX0_spanBy hex X hr h0 x1 x2 (σ, 0, 0))
end CP
abbrev cX11_does : ByteArray := prog_10_method_2_code
def yX11_does : MethodName := ⟨RX11, "does", "()I"⟩
def dkwX11_does_0 : List UInt8 := [42, 180, 0, 1, 182, 0, 13, 172]
abbrev dktX11_does_0 : List UInt8 := dkwX11_does_0 ++ []
theorem dksX11_does_0 : cX11_does.data.toList.drop 0 = dktX11_does_0 := by decide +kernel
theorem dX11_does_0 : decode cX11_does 0 = .ok (.aload_n 0, 1) := dk_42 (dk_at dksX11_does_0 0 rfl rfl)
theorem dX11_does_1 : decode cX11_does 1 = .ok (.getfield 1, 3) := dk_180 0 1 (dk_at dksX11_does_0 1 rfl rfl)
theorem dX11_does_4 : decode cX11_does 4 = .ok (.invokevirtual 13, 3) := dk_182 0 13 (dk_at dksX11_does_0 4 rfl rfl)
theorem dX11_does_7 : decode cX11_does 7 = .ok (.ireturn, 1) := dk_172 (dk_at dksX11_does_0 7 rfl rfl)
theorem fo_X11_1 : g_fo RX11 1 [11] 0 := ⟨_, _, _, Or.inl q1251, fun ci h => by
  simp only [List.mem_cons, List.not_mem_nil, or_false] at h; rcases h with rfl
  · exact ⟨_, _, _, rfl, by decide, rfl, rfl, Or.inl rfl, in_X11⟩⟩
theorem dmV_X0_hour : yX0_hour.cls = RX0 ∧ yX0_hour.cls ≠ "java/lang/invoke/MethodHandle" ∧ yX0_hour.cls ≠ "java/lang/invoke/VarHandle" ∧ (parseMethodDescriptor yX0_hour.desc).map (fun d => d.parameters.length) = some 0 := by decide +kernel
section CP
variable {Γ : Gc} {p : Program} {l : Launch} {e : Env} {s : State} {m : MethodId} {args : Array Value} {below : List Frame} {meth : Method} {c : Code} {ex : Nat → Option Nat} {z : Nat} {tF : St}
noncomputable def fX11_does (ex : Nat → Option Nat) (z : Nat) (h0 : Nat) (t : St) : Option (Int32 × St) := cgA [11] 0 t h0 fun v1 => ccast [0] t v1 (gb (fX0_hour ex (z + t.2.1) v1 (t.1, 0, 0)) t fun r2 t3 => some (r2, t3))
set_option maxHeartbeats 4000000 in
theorem wX11_does {rF : Int32} (hex : ex = Γ.2.2.2.2) (X : g_X Γ p s m args meth c cX11_does 1 RX11) (hr : meth.sig.returnType = (some .int)) (h0 : Nat) (t : St) : Wf Γ p l e 20 423 s m args below meth c 1 (g_ι z) v_i rF tF 0 [(0, .ref h0)] [] t (fX11_does ex z h0 t) := by
  unfold fX11_does
  refine g_aload_n (pc := 0) X 0 dX11_does_0 rfl rfl ?_
  refine cg_getA (pc := 1) X fo_X11_1 dX11_does_1 (fun v1 => ?_)
  refine g_bD_i (pc := 4) X (cs := [0]) (As := []) (rest := []) (b := v1) (n := 0) dX11_does_4 rfl rfl (Nat.le_of_ble_eq_true rfl) (fun fl4 ci5 fs6 hs7 hci8 r u h => ?_) (fun r2 t3 => ?_)
  · obtain rfl := List.mem_singleton.mp hci8
    exact ⟨_, _, _, yX0_hour, _, _, _, 19, 403, rfl, kX0_hour hex h, Or.inl (cwV 0 X.2.2.2.2.1 (lw_V q1326 q531 q532 q70 q533) rfl rfl rfl dmV_X0_hour ⟨Nat.le_of_ble_eq_true rfl, Nat.le_of_ble_eq_true rfl⟩)⟩
  exact g_iret (pc := 7) X hr dX11_does_7
theorem kX11_does {ex : Nat → Option Nat} {z : Nat} {h0 : Nat} {σ : Sg} {r : Int32} {u : St} (hex : ex = Γ.2.2.2.2) (h : fX11_does ex z h0 (σ, 0, 0) = some (r, u)) : g_C Γ l yX11_does cX11_does 1 (some .int) 20 423 [.ref h0] σ z v_i r (g_ι z u) :=
  g_met (ι := g_ι z) (t := (σ, 0, 0)) [.ref h0] (by decide) (Nat.le_of_ble_eq_true rfl) h rfl (fun p e s m args below meth c X hr hn => wX11_does hex X hr h0 (σ, 0, 0))
end CP
abbrev cX0_runs : ByteArray := prog_1_method_26_code
def yX0_runs : MethodName := ⟨RX0, "runs", "(I)V"⟩
def dkwX0_runs_0 : List UInt8 := [42, 180, 0, 213, 42, 180, 0, 38, 182, 0, 216, 42, 27, 182, 0, 220, 177]
abbrev dktX0_runs_0 : List UInt8 := dkwX0_runs_0 ++ []
theorem dksX0_runs_0 : cX0_runs.data.toList.drop 0 = dktX0_runs_0 := by decide +kernel
theorem dX0_runs_0 : decode cX0_runs 0 = .ok (.aload_n 0, 1) := dk_42 (dk_at dksX0_runs_0 0 rfl rfl)
theorem dX0_runs_1 : decode cX0_runs 1 = .ok (.getfield 213, 3) := dk_180 0 213 (dk_at dksX0_runs_0 1 rfl rfl)
theorem dX0_runs_4 : decode cX0_runs 4 = .ok (.aload_n 0, 1) := dk_42 (dk_at dksX0_runs_0 4 rfl rfl)
theorem dX0_runs_5 : decode cX0_runs 5 = .ok (.getfield 38, 3) := dk_180 0 38 (dk_at dksX0_runs_0 5 rfl rfl)
theorem dX0_runs_8 : decode cX0_runs 8 = .ok (.invokevirtual 216, 3) := dk_182 0 216 (dk_at dksX0_runs_0 8 rfl rfl)
theorem dX0_runs_11 : decode cX0_runs 11 = .ok (.aload_n 0, 1) := dk_42 (dk_at dksX0_runs_0 11 rfl rfl)
theorem dX0_runs_12 : decode cX0_runs 12 = .ok (.iload_n 1, 1) := dk_27 (dk_at dksX0_runs_0 12 rfl rfl)
theorem dX0_runs_13 : decode cX0_runs 13 = .ok (.invokevirtual 220, 3) := dk_182 0 220 (dk_at dksX0_runs_0 13 rfl rfl)
theorem dX0_runs_16 : decode cX0_runs 16 = .ok (.return_, 1) := dk_177 (dk_at dksX0_runs_0 16 rfl rfl)
section CP
variable {Γ : Gc} {p : Program} {l : Launch} {e : Env} {s : State} {m : MethodId} {args : Array Value} {below : List Frame} {meth : Method} {c : Code} {ex : Nat → Option Nat} {z : Nat} {tF : St}
noncomputable def fX0_runs (ex : Nat → Option Nat) (z : Nat) (h0 : Nat) (x1 : Int32) (t : St) : Option (Unit × St) := cgA [0] 1 t h0 fun v1 => cgA [0] 0 t h0 fun v2 => ccast [1] t v1 (gb (fX1_takes ex (z + t.2.1) v1 v2 (t.1, 0, 0)) t fun _ t4 => ccast [0] t4 h0 (gb (fX0_goOn ex (z + t4.2.1) h0 x1 (t4.1, 0, 0)) t4 fun _ t11 => some ((), t11)))
set_option maxHeartbeats 4000000 in
theorem wX0_runs {rF : Unit} (hex : ex = Γ.2.2.2.2) (X : g_X Γ p s m args meth c cX0_runs 2 RX0) (hr : meth.sig.returnType = none) (h0 : Nat) (x1 : Int32) (t : St) : Wf Γ p l e 20 425 s m args below meth c 2 (g_ι z) v_v rF tF 0 [(0, .ref h0), (1, .int x1)] [] t (fX0_runs ex z h0 x1 t) := by
  unfold fX0_runs
  refine g_aload_n (pc := 0) X 0 dX0_runs_0 rfl rfl ?_
  refine cg_getA (pc := 1) X fo_X0_213 dX0_runs_1 (fun v1 => ?_)
  refine g_aload_n (pc := 4) X 0 dX0_runs_4 rfl rfl ?_
  refine cg_getA (pc := 5) X fo_X0_38 dX0_runs_5 (fun v2 => ?_)
  refine g_bD_v (pc := 8) X (cs := [1]) (As := [.ref v2]) (rest := []) (b := v1) (n := 1) dX0_runs_8 rfl rfl (Nat.le_of_ble_eq_true rfl) (fun fl5 ci6 fs7 hs8 hci9 r u h => ?_) (fun r3 t4 => ?_)
  · obtain rfl := List.mem_singleton.mp hci9
    exact ⟨_, _, _, yX1_takes, _, _, _, 7, 152, rfl, kX1_takes hex h, Or.inl (cwV 1 X.2.2.2.2.1 (lw_V q827 q828 q829 q71 q830) rfl rfl rfl dmV_X1_takes ⟨Nat.le_of_ble_eq_true rfl, Nat.le_of_ble_eq_true rfl⟩)⟩
  refine g_aload_n (pc := 11) X 0 dX0_runs_11 rfl rfl ?_
  refine g_iload_n (pc := 12) X 1 dX0_runs_12 rfl rfl ?_
  refine g_bD_v (pc := 13) X (cs := [0]) (As := [.int x1]) (rest := []) (b := h0) (n := 1) dX0_runs_13 rfl rfl (Nat.le_of_ble_eq_true rfl) (fun fl12 ci13 fs14 hs15 hci16 r u h => ?_) (fun r10 t11 => ?_)
  · obtain rfl := List.mem_singleton.mp hci16
    exact ⟨_, _, _, yX0_goOn, _, _, _, 19, 403, rfl, kX0_goOn hex h, Or.inl (cwV 1 X.2.2.2.2.1 (lw_V q861 q863 qs8 q70 q864) rfl rfl rfl dmV_X0_goOn ⟨Nat.le_of_ble_eq_true rfl, Nat.le_of_ble_eq_true rfl⟩)⟩
  exact g_vret (pc := 16) X hr dX0_runs_16
theorem kX0_runs {ex : Nat → Option Nat} {z : Nat} {h0 : Nat} {x1 : Int32} {σ : Sg} {r : Unit} {u : St} (hex : ex = Γ.2.2.2.2) (h : fX0_runs ex z h0 x1 (σ, 0, 0) = some (r, u)) : g_C Γ l yX0_runs cX0_runs 2 none 20 425 [.ref h0, .int x1] σ z v_v r (g_ι z u) :=
  g_met (ι := g_ι z) (t := (σ, 0, 0)) [.ref h0, .int x1] (by decide) (Nat.le_of_ble_eq_true rfl) h rfl (fun p e s m args below meth c X hr hn => wX0_runs hex X hr h0 x1 (σ, 0, 0))
end CP
