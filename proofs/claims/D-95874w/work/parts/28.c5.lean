/-! the component, its methods: X0_strike, X0_dial, X1_clock, X1_homes, X1_ties, X1_place, X1_begins, X17_init, X17_undoes, X18_init (printed by gen/cmain.py) -/
set_option maxRecDepth 100000
theorem q155 : (Jvm.Cond.fieldLink "LameClocks$Turned" (19 : Nat) "LameClocks$Plain" "hands" "I") ∈ lw_all := lw_g (lw_at lw_m1 86 rfl) rfl
theorem q161 : (Jvm.Cond.fieldLink "LameClocks$Wound" (19 : Nat) "LameClocks$Plain" "spring" "I") ∈ lw_all := lw_g (lw_at lw_m1 92 rfl) rfl
theorem q168 : (Jvm.Cond.fieldLink "LameClocks$Race" (89 : Nat) "LameClocks$Plain" "window" "I") ∈ lw_all := lw_g (lw_at lw_m1 99 rfl) rfl
theorem q171 : (Jvm.Cond.fieldLink "LameClocks$Race" (92 : Nat) "LameClocks$Plain" "finish" "I") ∈ lw_all := lw_g (lw_at lw_m1 102 rfl) rfl
theorem q334 : (Jvm.Cond.code ({ cls := "LameClocks", name := "strike", desc := "()I" } : Jvm.MethodName) prog_1_method_8_code (3 : Nat) (Option.some Jvm.ClassFile.FieldType.int)) ∈ lw_all := lw_g (lw_at lw_m2 25 rfl) rfl
theorem q335 : (Jvm.Cond.methodLink "LameClocks" (80 : Nat) ({ cls := "java/util/ArrayList", name := "remove", desc := "(I)Ljava/lang/Object;" } : Jvm.MethodName)) ∈ lw_all := lw_g (lw_at lw_m2 26 rfl) rfl
theorem q336 : (Jvm.Cond.instanceMethod ({ cls := "java/util/ArrayList", name := "remove", desc := "(I)Ljava/lang/Object;" } : Jvm.MethodName)) ∈ lw_all := lw_g (lw_at lw_m2 27 rfl) rfl
theorem q337 : (Jvm.Cond.selects "java/util/ArrayList" ({ cls := "java/util/ArrayList", name := "remove", desc := "(I)Ljava/lang/Object;" } : Jvm.MethodName) ({ cls := "java/util/ArrayList", name := "remove", desc := "(I)Ljava/lang/Object;" } : Jvm.MethodName)) ∈ lw_all := lw_g (lw_at lw_m2 28 rfl) rfl
theorem q351 : (Jvm.Cond.methodLink "LameClocks" (93 : Nat) ({ cls := "java/util/ArrayList", name := "get", desc := "(I)Ljava/lang/Object;" } : Jvm.MethodName)) ∈ lw_all := lw_g (lw_at lw_m2 42 rfl) rfl
theorem q352 : (Jvm.Cond.instanceMethod ({ cls := "java/util/ArrayList", name := "get", desc := "(I)Ljava/lang/Object;" } : Jvm.MethodName)) ∈ lw_all := lw_g (lw_at lw_m2 43 rfl) rfl
theorem q353 : (Jvm.Cond.selects "java/util/ArrayList" ({ cls := "java/util/ArrayList", name := "get", desc := "(I)Ljava/lang/Object;" } : Jvm.MethodName) ({ cls := "java/util/ArrayList", name := "get", desc := "(I)Ljava/lang/Object;" } : Jvm.MethodName)) ∈ lw_all := lw_g (lw_at lw_m2 44 rfl) rfl
theorem q359 : (Jvm.Cond.classLink "LameClocks" (96 : Nat) "LameClocks$Bet") ∈ lw_all := lw_g (lw_at lw_m2 50 rfl) rfl
theorem q374 : (Jvm.Cond.instanceMethod ({ cls := "LameClocks$Race", name := "clock", desc := "(I)LLameClocks$Plain;" } : Jvm.MethodName)) ∈ lw_all := lw_g (lw_at lw_m2 65 rfl) rfl
theorem q375 : (Jvm.Cond.selects "LameClocks$Race" ({ cls := "LameClocks$Race", name := "clock", desc := "(I)LLameClocks$Plain;" } : Jvm.MethodName) ({ cls := "LameClocks$Race", name := "clock", desc := "(I)LLameClocks$Plain;" } : Jvm.MethodName)) ∈ lw_all := lw_g (lw_at lw_m2 66 rfl) rfl
theorem q376 : (Jvm.Cond.code ({ cls := "LameClocks$Race", name := "clock", desc := "(I)LLameClocks$Plain;" } : Jvm.MethodName) prog_12_method_2_code (2 : Nat) (Option.some (Jvm.ClassFile.FieldType.object "LameClocks$Plain"))) ∈ lw_all := lw_g (lw_at lw_m2 67 rfl) rfl
theorem q377 : (Jvm.Cond.methodLink "LameClocks$Race" (35 : Nat) ({ cls := "java/util/ArrayList", name := "get", desc := "(I)Ljava/lang/Object;" } : Jvm.MethodName)) ∈ lw_all := lw_g (lw_at lw_m2 68 rfl) rfl
theorem q378 : (Jvm.Cond.classLink "LameClocks$Race" (39 : Nat) "LameClocks$Plain") ∈ lw_all := lw_g (lw_at lw_m2 69 rfl) rfl
theorem q462 : (Jvm.Cond.code ({ cls := "LameClocks", name := "dial", desc := "(I)I" } : Jvm.MethodName) prog_1_method_11_code (2 : Nat) (Option.some Jvm.ClassFile.FieldType.int)) ∈ lw_all := lw_g (lw_at lw_m2 153 rfl) rfl
theorem q471 : (Jvm.Cond.methodLink "LameClocks" (132 : Nat) ({ cls := "LameClocks$Race", name := "dial", desc := "(I)I" } : Jvm.MethodName)) ∈ lw_all := lw_g (lw_at lw_m2 162 rfl) rfl
theorem q472 : (Jvm.Cond.instanceMethod ({ cls := "LameClocks$Race", name := "dial", desc := "(I)I" } : Jvm.MethodName)) ∈ lw_all := lw_g (lw_at lw_m2 163 rfl) rfl
theorem q473 : (Jvm.Cond.selects "LameClocks$Race" ({ cls := "LameClocks$Race", name := "dial", desc := "(I)I" } : Jvm.MethodName) ({ cls := "LameClocks$Race", name := "dial", desc := "(I)I" } : Jvm.MethodName)) ∈ lw_all := lw_g (lw_at lw_m2 164 rfl) rfl
theorem q492 : (Jvm.Cond.code ({ cls := "LameClocks$Race", name := "homes", desc := "()I" } : Jvm.MethodName) prog_12_method_14_code (3 : Nat) (Option.some Jvm.ClassFile.FieldType.int)) ∈ lw_all := lw_g (lw_at lw_m2 183 rfl) rfl
theorem q493 : (Jvm.Cond.methodLink "LameClocks$Race" (85 : Nat) ({ cls := "LameClocks$Plain", name := "isHome", desc := "()Z" } : Jvm.MethodName)) ∈ lw_all := lw_g (lw_at lw_m2 184 rfl) rfl
theorem q506 : (Jvm.Cond.code ({ cls := "LameClocks$Race", name := "ties", desc := "()I" } : Jvm.MethodName) prog_12_method_15_code (4 : Nat) (Option.some Jvm.ClassFile.FieldType.int)) ∈ lw_all := lw_g (lw_at lw_m2 197 rfl) rfl
theorem q507 : (Jvm.Cond.methodLink "LameClocks$Race" (129 : Nat) ({ cls := "LameClocks$Plain", name := "isAhead", desc := "(LLameClocks$Plain;)Z" } : Jvm.MethodName)) ∈ lw_all := lw_g (lw_at lw_m2 198 rfl) rfl
theorem q508 : (Jvm.Cond.instanceMethod ({ cls := "LameClocks$Plain", name := "isAhead", desc := "(LLameClocks$Plain;)Z" } : Jvm.MethodName)) ∈ lw_all := lw_g (lw_at lw_m2 199 rfl) rfl
theorem q509 : (Jvm.Cond.selects "LameClocks$Plain" ({ cls := "LameClocks$Plain", name := "isAhead", desc := "(LLameClocks$Plain;)Z" } : Jvm.MethodName) ({ cls := "LameClocks$Plain", name := "isAhead", desc := "(LLameClocks$Plain;)Z" } : Jvm.MethodName)) ∈ lw_all := lw_g (lw_at lw_m2 200 rfl) rfl
theorem q510 : (Jvm.Cond.sameMethod "LameClocks$Plain" "LameClocks$Plain" "isAhead" "(LLameClocks$Plain;)Z") ∈ lw_all := lw_g (lw_at lw_m2 201 rfl) rfl
theorem q511 : (Jvm.Cond.selects "LameClocks$Cuckoo" ({ cls := "LameClocks$Plain", name := "isAhead", desc := "(LLameClocks$Plain;)Z" } : Jvm.MethodName) ({ cls := "LameClocks$Plain", name := "isAhead", desc := "(LLameClocks$Plain;)Z" } : Jvm.MethodName)) ∈ lw_all := lw_g (lw_at lw_m2 202 rfl) rfl
theorem q512 : (Jvm.Cond.selects "LameClocks$Mayor" ({ cls := "LameClocks$Plain", name := "isAhead", desc := "(LLameClocks$Plain;)Z" } : Jvm.MethodName) ({ cls := "LameClocks$Plain", name := "isAhead", desc := "(LLameClocks$Plain;)Z" } : Jvm.MethodName)) ∈ lw_all := lw_g (lw_at lw_m2 203 rfl) rfl
theorem q513 : (Jvm.Cond.selects "LameClocks$Stopped" ({ cls := "LameClocks$Plain", name := "isAhead", desc := "(LLameClocks$Plain;)Z" } : Jvm.MethodName) ({ cls := "LameClocks$Plain", name := "isAhead", desc := "(LLameClocks$Plain;)Z" } : Jvm.MethodName)) ∈ lw_all := lw_g (lw_at lw_m2 204 rfl) rfl
theorem q514 : (Jvm.Cond.selects "LameClocks$Sundial" ({ cls := "LameClocks$Plain", name := "isAhead", desc := "(LLameClocks$Plain;)Z" } : Jvm.MethodName) ({ cls := "LameClocks$Plain", name := "isAhead", desc := "(LLameClocks$Plain;)Z" } : Jvm.MethodName)) ∈ lw_all := lw_g (lw_at lw_m2 205 rfl) rfl
theorem q515 : (Jvm.Cond.selects "LameClocks$Twin" ({ cls := "LameClocks$Plain", name := "isAhead", desc := "(LLameClocks$Plain;)Z" } : Jvm.MethodName) ({ cls := "LameClocks$Plain", name := "isAhead", desc := "(LLameClocks$Plain;)Z" } : Jvm.MethodName)) ∈ lw_all := lw_g (lw_at lw_m2 206 rfl) rfl
theorem q529 : (Jvm.Cond.code ({ cls := "LameClocks$Race", name := "place", desc := "(LLameClocks$Plain;)I" } : Jvm.MethodName) prog_12_method_13_code (4 : Nat) (Option.some Jvm.ClassFile.FieldType.int)) ∈ lw_all := lw_g (lw_at lw_m2 220 rfl) rfl
theorem q656 : (Jvm.Cond.code ({ cls := "LameClocks$Wound", name := "<init>", desc := "(LLameClocks;I)V" } : Jvm.MethodName) prog_22_method_1_code (3 : Nat) (Option.none : Option Jvm.ClassFile.FieldType)) ∈ lw_all := lw_g (lw_at lw_m3 107 rfl) rfl
theorem q657 : (Jvm.Cond.methodLink "LameClocks$Wound" (13 : Nat) ({ cls := "LameClocks$Race", name := "clock", desc := "(I)LLameClocks$Plain;" } : Jvm.MethodName)) ∈ lw_all := lw_g (lw_at lw_m3 108 rfl) rfl
theorem q658 : (Jvm.Cond.methodLink "LameClocks$Wound" (25 : Nat) ({ cls := "LameClocks$Repair", name := "<init>", desc := "(LLameClocks;II)V" } : Jvm.MethodName)) ∈ lw_all := lw_g (lw_at lw_m3 109 rfl) rfl
theorem q662 : (Jvm.Cond.fieldLink "LameClocks$Wound" (1 : Nat) "LameClocks$Wound" "this$0" "LLameClocks;") ∈ lw_all := lw_g (lw_at lw_m3 113 rfl) rfl
theorem q666 : (Jvm.Cond.fieldLink "LameClocks$Turned" (31 : Nat) "LameClocks$Turned" "what" "I") ∈ lw_all := lw_g (lw_at lw_m3 117 rfl) rfl
theorem q667 : (Jvm.Cond.sameField "LameClocks$Turned" "LameClocks$Repair" "what" "I") ∈ lw_all := lw_g (lw_at lw_m3 118 rfl) rfl
theorem q677 : (Jvm.Cond.fieldLink "LameClocks$Turned" (34 : Nat) "LameClocks$Turned" "was" "I") ∈ lw_all := lw_g (lw_at lw_m3 128 rfl) rfl
theorem q678 : (Jvm.Cond.sameField "LameClocks$Turned" "LameClocks$Repair" "was" "I") ∈ lw_all := lw_g (lw_at lw_m3 129 rfl) rfl
theorem q719 : (Jvm.Cond.code ({ cls := "LameClocks$Turned", name := "<init>", desc := "(LLameClocks;I)V" } : Jvm.MethodName) prog_18_method_1_code (3 : Nat) (Option.none : Option Jvm.ClassFile.FieldType)) ∈ lw_all := lw_g (lw_at lw_m3 170 rfl) rfl
theorem q720 : (Jvm.Cond.methodLink "LameClocks$Turned" (13 : Nat) ({ cls := "LameClocks$Race", name := "clock", desc := "(I)LLameClocks$Plain;" } : Jvm.MethodName)) ∈ lw_all := lw_g (lw_at lw_m3 171 rfl) rfl
theorem q721 : (Jvm.Cond.methodLink "LameClocks$Turned" (25 : Nat) ({ cls := "LameClocks$Repair", name := "<init>", desc := "(LLameClocks;II)V" } : Jvm.MethodName)) ∈ lw_all := lw_g (lw_at lw_m3 172 rfl) rfl
theorem q722 : (Jvm.Cond.fieldLink "LameClocks$Turned" (1 : Nat) "LameClocks$Turned" "this$0" "LLameClocks;") ∈ lw_all := lw_g (lw_at lw_m3 173 rfl) rfl
theorem q803 : (Jvm.Cond.code ({ cls := "LameClocks$Turned", name := "undoes", desc := "()V" } : Jvm.MethodName) prog_18_method_2_code (1 : Nat) (Option.none : Option Jvm.ClassFile.FieldType)) ∈ lw_all := lw_g (lw_at lw_m4 14 rfl) rfl
theorem q814 : (Jvm.Cond.code ({ cls := "LameClocks$Race", name := "begins", desc := "()I" } : Jvm.MethodName) prog_12_method_10_code (4 : Nat) (Option.some Jvm.ClassFile.FieldType.int)) ∈ lw_all := lw_g (lw_at lw_m4 25 rfl) rfl
theorem q958 : (Jvm.Cond.fieldLinkNest "LameClocks" (98 : Nat) "LameClocks$Bet" "clock" "I" "LameClocks") ∈ lw_tbl := lw_at lw_m4 169 rfl
theorem q1565 : (Jvm.Cond.fieldLinkNest "LameClocks" (76 : Nat) "LameClocks$Race" "all" "Ljava/util/ArrayList;" "LameClocks") ∈ lw_tbl := lw_at lw_m7 56 rfl
theorem q1612 : (Jvm.Cond.fieldLinkNest "LameClocks$Turned" (7 : Nat) "LameClocks" "race" "LLameClocks$Race;" "LameClocks") ∈ lw_tbl := lw_at lw_m7 103 rfl
theorem q1613 : (Jvm.Cond.fieldLinkNest "LameClocks$Wound" (7 : Nat) "LameClocks" "race" "LLameClocks$Race;" "LameClocks") ∈ lw_tbl := lw_at lw_m7 104 rfl
theorem q1618 : (Jvm.Cond.fieldLink "LameClocks" (101 : Nat) "LameClocks" "undos" "Ljava/util/ArrayList;") ∈ lw_all := lw_g (lw_at lw_m7 109 rfl) rfl
theorem q2174 : (Jvm.Cond.castable "LameClocks$Cuckoo" "LameClocks$Plain") ∈ lw_tbl := lw_at lw_m9 185 rfl
theorem q2175 : (Jvm.Cond.castable "LameClocks$Mayor" "LameClocks$Plain") ∈ lw_tbl := lw_at lw_m9 186 rfl
theorem q2176 : (Jvm.Cond.castable "LameClocks$Stopped" "LameClocks$Plain") ∈ lw_tbl := lw_at lw_m9 187 rfl
theorem q2177 : (Jvm.Cond.castable "LameClocks$Sundial" "LameClocks$Plain") ∈ lw_tbl := lw_at lw_m9 188 rfl
theorem q2178 : (Jvm.Cond.castable "LameClocks$Twin" "LameClocks$Plain") ∈ lw_tbl := lw_at lw_m9 189 rfl
abbrev cX0_strike : ByteArray := prog_1_method_8_code
def yX0_strike : MethodName := ⟨RX0, "strike", "()I"⟩
def dkwX0_strike_4 : List UInt8 := [180, 0, 101, 182, 0, 104, 27, 172]
abbrev dktX0_strike_4 : List UInt8 := dkwX0_strike_4 ++ []
def dkwX0_strike_3 : List UInt8 := [180, 0, 98, 27, 160, 0, 12, 42, 180, 0, 89, 28, 182, 0, 80, 87, 132, 2, 255, 167, 255, 222, 42]
abbrev dktX0_strike_3 : List UInt8 := dkwX0_strike_3 ++ dktX0_strike_4
def dkwX0_strike_2 : List UInt8 := [180, 0, 89, 182, 0, 92, 4, 100, 61, 28, 155, 0, 36, 42, 180, 0, 89, 28, 182, 0, 93, 192, 0, 96]
abbrev dktX0_strike_2 : List UInt8 := dkwX0_strike_2 ++ dktX0_strike_3
def dkwX0_strike_1 : List UInt8 := [27, 182, 0, 80, 87, 42, 180, 0, 38, 89, 180, 0, 86, 4, 27, 120, 2, 130, 126, 181, 0, 86, 42]
abbrev dktX0_strike_1 : List UInt8 := dkwX0_strike_1 ++ dktX0_strike_2
def dkwX0_strike_0 : List UInt8 := [42, 180, 0, 38, 182, 0, 42, 4, 100, 60, 27, 156, 0, 6, 16, 252, 172, 42, 180, 0, 38, 180, 0, 76]
abbrev dktX0_strike_0 : List UInt8 := dkwX0_strike_0 ++ dktX0_strike_1
theorem dksX0_strike_0 : cX0_strike.data.toList.drop 0 = dktX0_strike_0 := by decide +kernel
theorem dksX0_strike_1 : cX0_strike.data.toList.drop 24 = dktX0_strike_1 := dk_seg dksX0_strike_0 24 rfl rfl
theorem dksX0_strike_2 : cX0_strike.data.toList.drop 47 = dktX0_strike_2 := dk_seg dksX0_strike_1 23 rfl rfl
theorem dksX0_strike_3 : cX0_strike.data.toList.drop 71 = dktX0_strike_3 := dk_seg dksX0_strike_2 24 rfl rfl
theorem dksX0_strike_4 : cX0_strike.data.toList.drop 94 = dktX0_strike_4 := dk_seg dksX0_strike_3 23 rfl rfl
theorem dX0_strike_0 : decode cX0_strike 0 = .ok (.aload_n 0, 1) := dk_42 (dk_at dksX0_strike_0 0 rfl rfl)
theorem dX0_strike_1 : decode cX0_strike 1 = .ok (.getfield 38, 3) := dk_180 0 38 (dk_at dksX0_strike_0 1 rfl rfl)
theorem dX0_strike_4 : decode cX0_strike 4 = .ok (.invokevirtual 42, 3) := dk_182 0 42 (dk_at dksX0_strike_0 4 rfl rfl)
theorem dX0_strike_7 : decode cX0_strike 7 = .ok (.iconst 1, 1) := dk_4 (dk_at dksX0_strike_0 7 rfl rfl)
theorem dX0_strike_8 : decode cX0_strike 8 = .ok (.isub, 1) := dk_100 (dk_at dksX0_strike_0 8 rfl rfl)
theorem dX0_strike_9 : decode cX0_strike 9 = .ok (.istore_n 1, 1) := dk_60 (dk_at dksX0_strike_0 9 rfl rfl)
theorem dX0_strike_10 : decode cX0_strike 10 = .ok (.iload_n 1, 1) := dk_27 (dk_at dksX0_strike_0 10 rfl rfl)
theorem dX0_strike_11 : decode cX0_strike 11 = .ok (.ifCond .ge 6, 3) := dk_156 0 6 (dk_at dksX0_strike_0 11 rfl rfl)
theorem dX0_strike_14 : decode cX0_strike 14 = .ok (.bipush (-4), 2) := dk_16 252 (dk_at dksX0_strike_0 14 rfl rfl)
theorem dX0_strike_16 : decode cX0_strike 16 = .ok (.ireturn, 1) := dk_172 (dk_at dksX0_strike_0 16 rfl rfl)
theorem dX0_strike_17 : decode cX0_strike 17 = .ok (.aload_n 0, 1) := dk_42 (dk_at dksX0_strike_0 17 rfl rfl)
theorem dX0_strike_18 : decode cX0_strike 18 = .ok (.getfield 38, 3) := dk_180 0 38 (dk_at dksX0_strike_0 18 rfl rfl)
theorem dX0_strike_21 : decode cX0_strike 21 = .ok (.getfield 76, 3) := dk_180 0 76 (dk_at dksX0_strike_0 21 rfl rfl)
theorem dX0_strike_24 : decode cX0_strike 24 = .ok (.iload_n 1, 1) := dk_27 (dk_at dksX0_strike_1 0 rfl rfl)
theorem dX0_strike_25 : decode cX0_strike 25 = .ok (.invokevirtual 80, 3) := dk_182 0 80 (dk_at dksX0_strike_1 1 rfl rfl)
theorem dX0_strike_28 : decode cX0_strike 28 = .ok (.pop, 1) := dk_87 (dk_at dksX0_strike_1 4 rfl rfl)
theorem dX0_strike_29 : decode cX0_strike 29 = .ok (.aload_n 0, 1) := dk_42 (dk_at dksX0_strike_1 5 rfl rfl)
theorem dX0_strike_30 : decode cX0_strike 30 = .ok (.getfield 38, 3) := dk_180 0 38 (dk_at dksX0_strike_1 6 rfl rfl)
theorem dX0_strike_33 : decode cX0_strike 33 = .ok (.dup, 1) := dk_89 (dk_at dksX0_strike_1 9 rfl rfl)
theorem dX0_strike_34 : decode cX0_strike 34 = .ok (.getfield 86, 3) := dk_180 0 86 (dk_at dksX0_strike_1 10 rfl rfl)
theorem dX0_strike_37 : decode cX0_strike 37 = .ok (.iconst 1, 1) := dk_4 (dk_at dksX0_strike_1 13 rfl rfl)
theorem dX0_strike_38 : decode cX0_strike 38 = .ok (.iload_n 1, 1) := dk_27 (dk_at dksX0_strike_1 14 rfl rfl)
theorem dX0_strike_39 : decode cX0_strike 39 = .ok (.ishl, 1) := dk_120 (dk_at dksX0_strike_1 15 rfl rfl)
theorem dX0_strike_40 : decode cX0_strike 40 = .ok (.iconst (-1), 1) := dk_2 (dk_at dksX0_strike_1 16 rfl rfl)
theorem dX0_strike_41 : decode cX0_strike 41 = .ok (.ixor, 1) := dk_130 (dk_at dksX0_strike_1 17 rfl rfl)
theorem dX0_strike_42 : decode cX0_strike 42 = .ok (.iand, 1) := dk_126 (dk_at dksX0_strike_1 18 rfl rfl)
theorem dX0_strike_43 : decode cX0_strike 43 = .ok (.putfield 86, 3) := dk_181 0 86 (dk_at dksX0_strike_1 19 rfl rfl)
theorem dX0_strike_46 : decode cX0_strike 46 = .ok (.aload_n 0, 1) := dk_42 (dk_at dksX0_strike_1 22 rfl rfl)
theorem dX0_strike_47 : decode cX0_strike 47 = .ok (.getfield 89, 3) := dk_180 0 89 (dk_at dksX0_strike_2 0 rfl rfl)
theorem dX0_strike_50 : decode cX0_strike 50 = .ok (.invokevirtual 92, 3) := dk_182 0 92 (dk_at dksX0_strike_2 3 rfl rfl)
theorem dX0_strike_53 : decode cX0_strike 53 = .ok (.iconst 1, 1) := dk_4 (dk_at dksX0_strike_2 6 rfl rfl)
theorem dX0_strike_54 : decode cX0_strike 54 = .ok (.isub, 1) := dk_100 (dk_at dksX0_strike_2 7 rfl rfl)
theorem dX0_strike_55 : decode cX0_strike 55 = .ok (.istore_n 2, 1) := dk_61 (dk_at dksX0_strike_2 8 rfl rfl)
theorem dX0_strike_56 : decode cX0_strike 56 = .ok (.iload_n 2, 1) := dk_28 (dk_at dksX0_strike_2 9 rfl rfl)
theorem dX0_strike_57 : decode cX0_strike 57 = .ok (.ifCond .lt 36, 3) := dk_155 0 36 (dk_at dksX0_strike_2 10 rfl rfl)
theorem dX0_strike_60 : decode cX0_strike 60 = .ok (.aload_n 0, 1) := dk_42 (dk_at dksX0_strike_2 13 rfl rfl)
theorem dX0_strike_61 : decode cX0_strike 61 = .ok (.getfield 89, 3) := dk_180 0 89 (dk_at dksX0_strike_2 14 rfl rfl)
theorem dX0_strike_64 : decode cX0_strike 64 = .ok (.iload_n 2, 1) := dk_28 (dk_at dksX0_strike_2 17 rfl rfl)
theorem dX0_strike_65 : decode cX0_strike 65 = .ok (.invokevirtual 93, 3) := dk_182 0 93 (dk_at dksX0_strike_2 18 rfl rfl)
theorem dX0_strike_68 : decode cX0_strike 68 = .ok (.checkcast 96, 3) := dk_192 0 96 (dk_at dksX0_strike_2 21 rfl rfl)
theorem dX0_strike_71 : decode cX0_strike 71 = .ok (.getfield 98, 3) := dk_180 0 98 (dk_at dksX0_strike_3 0 rfl rfl)
theorem dX0_strike_74 : decode cX0_strike 74 = .ok (.iload_n 1, 1) := dk_27 (dk_at dksX0_strike_3 3 rfl rfl)
theorem dX0_strike_75 : decode cX0_strike 75 = .ok (.if_icmp .ne 12, 3) := dk_160 0 12 (dk_at dksX0_strike_3 4 rfl rfl)
theorem dX0_strike_78 : decode cX0_strike 78 = .ok (.aload_n 0, 1) := dk_42 (dk_at dksX0_strike_3 7 rfl rfl)
theorem dX0_strike_79 : decode cX0_strike 79 = .ok (.getfield 89, 3) := dk_180 0 89 (dk_at dksX0_strike_3 8 rfl rfl)
theorem dX0_strike_82 : decode cX0_strike 82 = .ok (.iload_n 2, 1) := dk_28 (dk_at dksX0_strike_3 11 rfl rfl)
theorem dX0_strike_83 : decode cX0_strike 83 = .ok (.invokevirtual 80, 3) := dk_182 0 80 (dk_at dksX0_strike_3 12 rfl rfl)
theorem dX0_strike_86 : decode cX0_strike 86 = .ok (.pop, 1) := dk_87 (dk_at dksX0_strike_3 15 rfl rfl)
theorem dX0_strike_87 : decode cX0_strike 87 = .ok (.iinc 2 (-1), 3) := dk_132 2 255 (dk_at dksX0_strike_3 16 rfl rfl)
theorem dX0_strike_90 : decode cX0_strike 90 = .ok (.goto (-34), 3) := dk_167 255 222 (dk_at dksX0_strike_3 19 rfl rfl)
theorem dX0_strike_93 : decode cX0_strike 93 = .ok (.aload_n 0, 1) := dk_42 (dk_at dksX0_strike_3 22 rfl rfl)
theorem dX0_strike_94 : decode cX0_strike 94 = .ok (.getfield 101, 3) := dk_180 0 101 (dk_at dksX0_strike_4 0 rfl rfl)
theorem dX0_strike_97 : decode cX0_strike 97 = .ok (.invokevirtual 104, 3) := dk_182 0 104 (dk_at dksX0_strike_4 3 rfl rfl)
theorem dX0_strike_100 : decode cX0_strike 100 = .ok (.iload_n 1, 1) := dk_27 (dk_at dksX0_strike_4 6 rfl rfl)
theorem dX0_strike_101 : decode cX0_strike 101 = .ok (.ireturn, 1) := dk_172 (dk_at dksX0_strike_4 7 rfl rfl)
theorem fo_X0_76 : g_fo RX0 76 [1] 2 := ⟨_, _, _, Or.inr ⟨_, q1565⟩, fun ci h => by
  simp only [List.mem_cons, List.not_mem_nil, or_false] at h; rcases h with rfl
  · exact ⟨_, _, _, rfl, by decide, rfl, rfl, Or.inl rfl, in_X1⟩⟩
theorem fp_X0_86 : g_fp RX0 86 [1] 7 .int false := ⟨_, _, _, Or.inr ⟨rfl, _, q1574⟩, by decide +kernel, fun ci h => by
  simp only [List.mem_cons, List.not_mem_nil, or_false] at h; rcases h with rfl
  · exact ⟨_, _, _, tyX1, rfl, by decide, rfl, rfl, Or.inl rfl, in_X1, rfl, (fun h => by cases h), tyX1_ok, (by decide +kernel)⟩⟩
theorem fo_X0_101 : g_fo RX0 101 [0] 2 := ⟨_, _, _, Or.inl q1618, fun ci h => by
  simp only [List.mem_cons, List.not_mem_nil, or_false] at h; rcases h with rfl
  · exact ⟨_, _, _, rfl, by decide, rfl, rfl, Or.inl rfl, in_X0⟩⟩
theorem cf_LameClocks_Bet_1 : ∀ ci ∈ ([20] : List Nat), ∃ (C : String) (T : u_T) (N : Nat), cls[ci]? = some (C, T, N) ∧ (C = "LameClocks$Bet" ∨ Cond.castable C "LameClocks$Bet" ∈ lw_tbl) := by
  intro ci h
  simp only [List.mem_cons, List.not_mem_nil, or_false] at h; rcases h with rfl
  · exact ⟨_, _, _, rfl, Or.inl rfl⟩
theorem fo_X0_98 : g_fo RX0 98 [20] 0 := ⟨_, _, _, Or.inr ⟨_, q958⟩, fun ci h => by
  simp only [List.mem_cons, List.not_mem_nil, or_false] at h; rcases h with rfl
  · exact ⟨_, _, _, rfl, by decide, rfl, rfl, Or.inl rfl, in_X20⟩⟩
theorem dmV_J2_get : yJ2_get.cls = RJ2 ∧ yJ2_get.cls ≠ "java/lang/invoke/MethodHandle" ∧ yJ2_get.cls ≠ "java/lang/invoke/VarHandle" ∧ (parseMethodDescriptor yJ2_get.desc).map (fun d => d.parameters.length) = some 1 := by decide +kernel
theorem dmV_J2_remove : yJ2_remove.cls = RJ2 ∧ yJ2_remove.cls ≠ "java/lang/invoke/MethodHandle" ∧ yJ2_remove.cls ≠ "java/lang/invoke/VarHandle" ∧ (parseMethodDescriptor yJ2_remove.desc).map (fun d => d.parameters.length) = some 1 := by decide +kernel
section CP
variable {Γ : Gc} {p : Program} {l : Launch} {e : Env} {s : State} {m : MethodId} {args : Array Value} {below : List Frame} {meth : Method} {c : Code} {ex : Nat → Option Nat} {z : Nat} {tF : St}
noncomputable def fX0_strike_87 (ex : Nat → Option Nat) (z : Nat) (kc56 : Nat → Int32 → Int32 → St → Option (Int32 × St)) (h0 : Nat) (x1 : Int32) (x2 : Int32) (t : St) : Option (Int32 × St) := kc56 h0 x1 (x2 + (-1)) t
set_option maxHeartbeats 4000000 in
theorem wX0_strike_87 {rF : Int32} (hex : ex = Γ.2.2.2.2) (X : g_X Γ p s m args meth c cX0_strike 3 RX0) (hr : meth.sig.returnType = (some .int)) {kc56 : Nat → Int32 → Int32 → St → Option (Int32 × St)} (hk56 : ∀ (h0 : Nat) (x1 : Int32) (x2 : Int32) (t : St), Wf Γ p l e 3 66 s m args below meth c 3 (g_ι z) v_i rF tF 56 [(0, .ref h0), (1, .int x1), (2, .int x2)] [] t (kc56 h0 x1 x2 t)) (h0 : Nat) (x1 : Int32) (x2 : Int32) (t : St) : Wf Γ p l e 3 66 s m args below meth c 3 (g_ι z) v_i rF tF 87 [(0, .ref h0), (1, .int x1), (2, .int x2)] [] t (fX0_strike_87 ex z kc56 h0 x1 x2 t) := by
  unfold fX0_strike_87
  refine g_iinc (pc := 87) X (-1) 2 (lv' := [(2, .int (x2 + (-1))), (0, .ref h0), (1, .int x1)]) dX0_strike_87 rfl rfl (by decide) rfl ?_
  refine g_goto (pc := 90) X 56 dX0_strike_90 (by decide) ?_
  exact g_lv (pc := 56) (lv' := [(0, .ref h0), (1, .int x1), (2, .int (x2 + (-1)))]) [1, 2, 0] rfl (hk56 h0 x1 (x2 + (-1)) t)
noncomputable def fX0_strike_56 (ex : Nat → Option Nat) (z : Nat) : Nat → Nat → Int32 → Int32 → St → Option (Int32 × St)
  | 0, _, _, _, _ => none
  | n + 1, h0, x1, x2, t => if x2 < 0 then cgA [0] 2 t h0 fun v1 => ccast [15] t v1 (gb (fJ2_clear ex (z + t.2.1) v1 (t.1, 0, 0)) t fun _ t3 => some (x1, t3)) else cgA [0] 4 t h0 fun v9 => ccast [15] t v9 (gb (fJ2_get ex (z + t.2.1) v9 x2 (t.1, 0, 0)) t fun r10 t11 => ccast [20] t11 r10 (cgI [20] 0 t11 r10 fun v17 => if v17 = x1 then cgA [0] 4 t11 h0 fun v18 => ccast [15] t11 v18 (gb (fJ2_remove ex (z + t11.2.1) v18 x2 (t11.1, 0, 0)) t11 fun r19 t20 => fX0_strike_87 ex z (fun a0 a1 a2 a3 => fX0_strike_56 ex z n a0 a1 a2 a3) h0 x1 x2 t20) else fX0_strike_87 ex z (fun a0 a1 a2 a3 => fX0_strike_56 ex z n a0 a1 a2 a3) h0 x1 x2 t11))
set_option maxHeartbeats 4000000 in
theorem wX0_strike_56 {rF : Int32} (hex : ex = Γ.2.2.2.2) (X : g_X Γ p s m args meth c cX0_strike 3 RX0) (hr : meth.sig.returnType = (some .int)) (n : Nat) : ∀ (h0 : Nat) (x1 : Int32) (x2 : Int32) (t : St), Wf Γ p l e 3 66 s m args below meth c 3 (g_ι z) v_i rF tF 56 [(0, .ref h0), (1, .int x1), (2, .int x2)] [] t (fX0_strike_56 ex z n h0 x1 x2 t) := by
  induction n with
  | zero => intro h0 x1 x2 t; exact g_none
  | succ n ih =>
    intro h0 x1 x2 t
    rw [fX0_strike_56]
    refine g_iload_n (pc := 56) X 2 dX0_strike_56 rfl rfl ?_
    refine g_if_lt (pc := 57) X 93 dX0_strike_57 (by decide) ?_ ?_
    · refine g_aload_n (pc := 93) X 0 dX0_strike_93 rfl rfl ?_
      refine cg_getA (pc := 94) X fo_X0_101 dX0_strike_94 (fun v1 => ?_)
      refine g_bD_v (pc := 97) X (cs := [15]) (As := []) (rest := []) (b := v1) (n := 0) dX0_strike_97 rfl rfl (Nat.le_of_ble_eq_true rfl) (fun fl4 ci5 fs6 hs7 hci8 r u h => ?_) (fun r2 t3 => ?_)
      · obtain rfl := List.mem_singleton.mp hci8
        exact ⟨_, _, _, yJ2_clear, _, _, _, 0, 0, rfl, kJ2_clear hex h, Or.inl (cwV 0 X.2.2.2.2.1 (lw_V q360 q361 q362 q74 q363) rfl rfl rfl dmV_J2_clear ⟨Nat.le_of_ble_eq_true rfl, Nat.le_of_ble_eq_true rfl⟩)⟩
      refine g_iload_n (pc := 100) X 1 dX0_strike_100 rfl rfl ?_
      exact g_iret (pc := 101) X hr dX0_strike_101
    · refine g_aload_n (pc := 60) X 0 dX0_strike_60 rfl rfl ?_
      refine cg_getA (pc := 61) X fo_X0_89 dX0_strike_61 (fun v9 => ?_)
      refine g_iload_n (pc := 64) X 2 dX0_strike_64 rfl rfl ?_
      refine g_bD_a (pc := 65) X (cs := [15]) (As := [.int x2]) (rest := []) (b := v9) (n := 1) dX0_strike_65 rfl rfl (Nat.le_of_ble_eq_true rfl) (fun fl12 ci13 fs14 hs15 hci16 r u h => ?_) (fun r10 t11 => ?_)
      · obtain rfl := List.mem_singleton.mp hci16
        exact ⟨_, _, _, yJ2_get, _, _, _, 2, 43, rfl, kJ2_get hex h, Or.inl (cwV 1 X.2.2.2.2.1 (lw_V q351 q352 q353 q74 q354) rfl rfl rfl dmV_J2_get ⟨Nat.le_of_ble_eq_true rfl, Nat.le_of_ble_eq_true rfl⟩)⟩
      refine cg_cast (pc := 68) X (cs := [20]) q359 cf_LameClocks_Bet_1 dX0_strike_68 ?_
      refine cg_getI (pc := 71) X fo_X0_98 dX0_strike_71 (fun v17 => ?_)
      refine g_iload_n (pc := 74) X 1 dX0_strike_74 rfl rfl ?_
      refine g_icmp_ne (pc := 75) X 87 dX0_strike_75 (by decide) ?_ ?_
      · exact g_lv (pc := 87) (lv' := [(0, .ref h0), (1, .int x1), (2, .int x2)]) [0, 1, 2] rfl (wX0_strike_87 hex X hr (fun a0 a1 a2 a3 => ih a0 a1 a2 a3) h0 x1 x2 t11)
      · refine g_aload_n (pc := 78) X 0 dX0_strike_78 rfl rfl ?_
        refine cg_getA (pc := 79) X fo_X0_89 dX0_strike_79 (fun v18 => ?_)
        refine g_iload_n (pc := 82) X 2 dX0_strike_82 rfl rfl ?_
        refine g_bD_a (pc := 83) X (cs := [15]) (As := [.int x2]) (rest := []) (b := v18) (n := 1) dX0_strike_83 rfl rfl (Nat.le_of_ble_eq_true rfl) (fun fl21 ci22 fs23 hs24 hci25 r u h => ?_) (fun r19 t20 => ?_)
        · obtain rfl := List.mem_singleton.mp hci25
          exact ⟨_, _, _, yJ2_remove, _, _, _, 2, 43, rfl, kJ2_remove hex h, Or.inl (cwV 1 X.2.2.2.2.1 (lw_V q335 q336 q337 q74 q338) rfl rfl rfl dmV_J2_remove ⟨Nat.le_of_ble_eq_true rfl, Nat.le_of_ble_eq_true rfl⟩)⟩
        refine g_pop (pc := 86) X dX0_strike_86 rfl ?_
        exact g_lv (pc := 87) (lv' := [(0, .ref h0), (1, .int x1), (2, .int x2)]) [0, 1, 2] rfl (wX0_strike_87 hex X hr (fun a0 a1 a2 a3 => ih a0 a1 a2 a3) h0 x1 x2 t20)
noncomputable def fX0_strike (ex : Nat → Option Nat) (z : Nat) (h0 : Nat) (t : St) : Option (Int32 × St) := cgA [0] 0 t h0 fun v1 => ccast [1] t v1 (gb (fX1_size ex (z + t.2.1) v1 (t.1, 0, 0)) t fun r2 t3 => lt (r2 - 1) fun y9 => if 0 ≤ y9 then cgA [0] 0 t3 h0 fun v10 => cgA [1] 2 t3 v10 fun v11 => ccast [15] t3 v11 (gb (fJ2_remove ex (z + t3.2.1) v11 y9 (t3.1, 0, 0)) t3 fun r12 t13 => cgA [0] 0 t13 h0 fun v19 => cgI [1] 7 t13 v19 fun v20 => cput [1] 7 t13 v19 (.int (v20 &&& ((1 <<< (y9 &&& 31)) ^^^ (-1)))) fun t21 => cgA [0] 4 t21 h0 fun v22 => ccast [15] t21 v22 (gb (fJ2_size ex (z + t21.2.1) v22 (t21.1, 0, 0)) t21 fun r23 t24 => lt (r23 - 1) fun y30 => fX0_strike_56 ex z 1000 h0 y9 y30 t24)) else some ((-4), t3))
set_option maxHeartbeats 4000000 in
theorem wX0_strike {rF : Int32} (hex : ex = Γ.2.2.2.2) (X : g_X Γ p s m args meth c cX0_strike 3 RX0) (hr : meth.sig.returnType = (some .int)) (h0 : Nat) (t : St) : Wf Γ p l e 3 66 s m args below meth c 3 (g_ι z) v_i rF tF 0 [(0, .ref h0)] [] t (fX0_strike ex z h0 t) := by
  unfold fX0_strike
  refine g_aload_n (pc := 0) X 0 dX0_strike_0 rfl rfl ?_
  refine cg_getA (pc := 1) X fo_X0_38 dX0_strike_1 (fun v1 => ?_)
  refine g_bD_i (pc := 4) X (cs := [1]) (As := []) (rest := []) (b := v1) (n := 0) dX0_strike_4 rfl rfl (Nat.le_of_ble_eq_true rfl) (fun fl4 ci5 fs6 hs7 hci8 r u h => ?_) (fun r2 t3 => ?_)
  · obtain rfl := List.mem_singleton.mp hci8
    exact ⟨_, _, _, yX1_size, _, _, _, 1, 20, rfl, kX1_size hex h, Or.inl (cwV 0 X.2.2.2.2.1 (lw_V q129 q130 q131 q71 q132) rfl rfl rfl dmV_X1_size ⟨Nat.le_of_ble_eq_true rfl, Nat.le_of_ble_eq_true rfl⟩)⟩
  refine g_iconst (pc := 7) X 1 dX0_strike_7 rfl ?_
  refine g_isub (pc := 8) X dX0_strike_8 ?_
  refine g_lti (pc := 9) (fun y9 => ?_)
  refine g_istore_n (pc := 9) X (lv' := [(1, .int y9), (0, .ref h0)]) dX0_strike_9 rfl (by decide) rfl ?_
  refine g_iload_n (pc := 10) X 0 dX0_strike_10 rfl rfl ?_
  refine g_if_ge (pc := 11) X 17 dX0_strike_11 (by decide) ?_ ?_
  · refine g_aload_n (pc := 17) X 1 dX0_strike_17 rfl rfl ?_
    refine cg_getA (pc := 18) X fo_X0_38 dX0_strike_18 (fun v10 => ?_)
    refine cg_getA (pc := 21) X fo_X0_76 dX0_strike_21 (fun v11 => ?_)
    refine g_iload_n (pc := 24) X 0 dX0_strike_24 rfl rfl ?_
    refine g_bD_a (pc := 25) X (cs := [15]) (As := [.int y9]) (rest := []) (b := v11) (n := 1) dX0_strike_25 rfl rfl (Nat.le_of_ble_eq_true rfl) (fun fl14 ci15 fs16 hs17 hci18 r u h => ?_) (fun r12 t13 => ?_)
    · obtain rfl := List.mem_singleton.mp hci18
      exact ⟨_, _, _, yJ2_remove, _, _, _, 2, 43, rfl, kJ2_remove hex h, Or.inl (cwV 1 X.2.2.2.2.1 (lw_V q335 q336 q337 q74 q338) rfl rfl rfl dmV_J2_remove ⟨Nat.le_of_ble_eq_true rfl, Nat.le_of_ble_eq_true rfl⟩)⟩
    refine g_pop (pc := 28) X dX0_strike_28 rfl ?_
    refine g_aload_n (pc := 29) X 1 dX0_strike_29 rfl rfl ?_
    refine cg_getA (pc := 30) X fo_X0_38 dX0_strike_30 (fun v19 => ?_)
    refine g_dup (pc := 33) X dX0_strike_33 rfl ?_
    refine cg_getI (pc := 34) X fo_X0_86 dX0_strike_34 (fun v20 => ?_)
    refine g_iconst (pc := 37) X 1 dX0_strike_37 rfl ?_
    refine g_iload_n (pc := 38) X 0 dX0_strike_38 rfl rfl ?_
    refine g_ishl (pc := 39) X dX0_strike_39 ?_
    refine g_iconst (pc := 40) X (-1) dX0_strike_40 rfl ?_
    refine g_ixor (pc := 41) X dX0_strike_41 ?_
    refine g_iand (pc := 42) X dX0_strike_42 ?_
    refine cg_put (pc := 43) X fp_X0_86 dX0_strike_43 (fun h => by cases h) rfl rfl (fun t21 => ?_)
    refine g_aload_n (pc := 46) X 1 dX0_strike_46 rfl rfl ?_
    refine cg_getA (pc := 47) X fo_X0_89 dX0_strike_47 (fun v22 => ?_)
    refine g_bD_i (pc := 50) X (cs := [15]) (As := []) (rest := []) (b := v22) (n := 0) dX0_strike_50 rfl rfl (Nat.le_of_ble_eq_true rfl) (fun fl25 ci26 fs27 hs28 hci29 r u h => ?_) (fun r23 t24 => ?_)
    · obtain rfl := List.mem_singleton.mp hci29
      exact ⟨_, _, _, yJ2_size, _, _, _, 0, 0, rfl, kJ2_size hex h, Or.inl (cwV 0 X.2.2.2.2.1 (lw_V q350 q134 q135 q74 q136) rfl rfl rfl dmV_J2_size ⟨Nat.le_of_ble_eq_true rfl, Nat.le_of_ble_eq_true rfl⟩)⟩
    refine g_iconst (pc := 53) X 1 dX0_strike_53 rfl ?_
    refine g_isub (pc := 54) X dX0_strike_54 ?_
    refine g_lti (pc := 55) (fun y30 => ?_)
    refine g_istore_n (pc := 55) X (lv' := [(2, .int y30), (1, .int y9), (0, .ref h0)]) dX0_strike_55 rfl (by decide) rfl ?_
    exact g_lv (pc := 56) (lv' := [(0, .ref h0), (1, .int y9), (2, .int y30)]) [2, 1, 0] rfl (wX0_strike_56 hex X hr 1000 h0 y9 y30 t24)
  · refine g_bipush (pc := 14) X (-4) dX0_strike_14 rfl ?_
    exact g_iret (pc := 16) X hr dX0_strike_16
theorem kX0_strike {ex : Nat → Option Nat} {z : Nat} {h0 : Nat} {σ : Sg} {r : Int32} {u : St} (hex : ex = Γ.2.2.2.2) (h : fX0_strike ex z h0 (σ, 0, 0) = some (r, u)) : g_C Γ l yX0_strike cX0_strike 3 (some .int) 3 66 [.ref h0] σ z v_i r (g_ι z u) :=
  g_met (ι := g_ι z) (t := (σ, 0, 0)) [.ref h0] (by decide) (Nat.le_of_ble_eq_true rfl) h rfl (fun p e s m args below meth c X hr hn => wX0_strike hex X hr h0 (σ, 0, 0))
end CP
abbrev cX0_dial : ByteArray := prog_1_method_11_code
def yX0_dial : MethodName := ⟨RX0, "dial", "(I)I"⟩
def dkwX0_dial_0 : List UInt8 := [42, 27, 182, 0, 129, 153, 0, 14, 42, 180, 0, 38, 27, 182, 0, 132, 167, 0, 4, 2, 172]
abbrev dktX0_dial_0 : List UInt8 := dkwX0_dial_0 ++ []
theorem dksX0_dial_0 : cX0_dial.data.toList.drop 0 = dktX0_dial_0 := by decide +kernel
theorem dX0_dial_0 : decode cX0_dial 0 = .ok (.aload_n 0, 1) := dk_42 (dk_at dksX0_dial_0 0 rfl rfl)
theorem dX0_dial_1 : decode cX0_dial 1 = .ok (.iload_n 1, 1) := dk_27 (dk_at dksX0_dial_0 1 rfl rfl)
theorem dX0_dial_2 : decode cX0_dial 2 = .ok (.invokevirtual 129, 3) := dk_182 0 129 (dk_at dksX0_dial_0 2 rfl rfl)
theorem dX0_dial_5 : decode cX0_dial 5 = .ok (.ifCond .eq 14, 3) := dk_153 0 14 (dk_at dksX0_dial_0 5 rfl rfl)
theorem dX0_dial_8 : decode cX0_dial 8 = .ok (.aload_n 0, 1) := dk_42 (dk_at dksX0_dial_0 8 rfl rfl)
theorem dX0_dial_9 : decode cX0_dial 9 = .ok (.getfield 38, 3) := dk_180 0 38 (dk_at dksX0_dial_0 9 rfl rfl)
theorem dX0_dial_12 : decode cX0_dial 12 = .ok (.iload_n 1, 1) := dk_27 (dk_at dksX0_dial_0 12 rfl rfl)
theorem dX0_dial_13 : decode cX0_dial 13 = .ok (.invokevirtual 132, 3) := dk_182 0 132 (dk_at dksX0_dial_0 13 rfl rfl)
theorem dX0_dial_16 : decode cX0_dial 16 = .ok (.goto 4, 3) := dk_167 0 4 (dk_at dksX0_dial_0 16 rfl rfl)
theorem dX0_dial_19 : decode cX0_dial 19 = .ok (.iconst (-1), 1) := dk_2 (dk_at dksX0_dial_0 19 rfl rfl)
theorem dX0_dial_20 : decode cX0_dial 20 = .ok (.ireturn, 1) := dk_172 (dk_at dksX0_dial_0 20 rfl rfl)
theorem dmV_X1_dial : yX1_dial.cls = RX1 ∧ yX1_dial.cls ≠ "java/lang/invoke/MethodHandle" ∧ yX1_dial.cls ≠ "java/lang/invoke/VarHandle" ∧ (parseMethodDescriptor yX1_dial.desc).map (fun d => d.parameters.length) = some 1 := by decide +kernel
section CP
variable {Γ : Gc} {p : Program} {l : Launch} {e : Env} {s : State} {m : MethodId} {args : Array Value} {below : List Frame} {meth : Method} {c : Code} {ex : Nat → Option Nat} {z : Nat} {tF : St}
noncomputable def fX0_dial (ex : Nat → Option Nat) (z : Nat) (h0 : Nat) (x1 : Int32) (t : St) : Option (Int32 × St) := ccast [0] t h0 (gb (fX0_isWindow ex (z + t.2.1) h0 x1 (t.1, 0, 0)) t fun r1 t2 => if r1 = 0 then some ((-1), t2) else cgA [0] 0 t2 h0 fun v8 => ccast [1] t2 v8 (gb (fX1_dial ex (z + t2.2.1) v8 x1 (t2.1, 0, 0)) t2 fun r9 t10 => some (r9, t10)))
set_option maxHeartbeats 4000000 in
theorem wX0_dial {rF : Int32} (hex : ex = Γ.2.2.2.2) (X : g_X Γ p s m args meth c cX0_dial 2 RX0) (hr : meth.sig.returnType = (some .int)) (h0 : Nat) (x1 : Int32) (t : St) : Wf Γ p l e 2 46 s m args below meth c 2 (g_ι z) v_i rF tF 0 [(0, .ref h0), (1, .int x1)] [] t (fX0_dial ex z h0 x1 t) := by
  unfold fX0_dial
  refine g_aload_n (pc := 0) X 0 dX0_dial_0 rfl rfl ?_
  refine g_iload_n (pc := 1) X 1 dX0_dial_1 rfl rfl ?_
  refine g_bD_i (pc := 2) X (cs := [0]) (As := [.int x1]) (rest := []) (b := h0) (n := 1) dX0_dial_2 rfl rfl (Nat.le_of_ble_eq_true rfl) (fun fl3 ci4 fs5 hs6 hci7 r u h => ?_) (fun r1 t2 => ?_)
  · obtain rfl := List.mem_singleton.mp hci7
    exact ⟨_, _, _, yX0_isWindow, _, _, _, 1, 25, rfl, kX0_isWindow hex h, Or.inl (cwV 1 X.2.2.2.2.1 (lw_V q463 q465 qs5 q70 q466) rfl rfl rfl dmV_X0_isWindow ⟨Nat.le_of_ble_eq_true rfl, Nat.le_of_ble_eq_true rfl⟩)⟩
  refine g_if_eq (pc := 5) X 19 dX0_dial_5 (by decide) ?_ ?_
  · refine g_iconst (pc := 19) X (-1) dX0_dial_19 rfl ?_
    exact g_iret (pc := 20) X hr dX0_dial_20
  · refine g_aload_n (pc := 8) X 0 dX0_dial_8 rfl rfl ?_
    refine cg_getA (pc := 9) X fo_X0_38 dX0_dial_9 (fun v8 => ?_)
    refine g_iload_n (pc := 12) X 1 dX0_dial_12 rfl rfl ?_
    refine g_bD_i (pc := 13) X (cs := [1]) (As := [.int x1]) (rest := []) (b := v8) (n := 1) dX0_dial_13 rfl rfl (Nat.le_of_ble_eq_true rfl) (fun fl11 ci12 fs13 hs14 hci15 r u h => ?_) (fun r9 t10 => ?_)
    · obtain rfl := List.mem_singleton.mp hci15
      exact ⟨_, _, _, yX1_dial, _, _, _, 0, 0, rfl, kX1_dial hex h, Or.inl (cwV 1 X.2.2.2.2.1 (lw_V q471 q472 q473 q71 q474) rfl rfl rfl dmV_X1_dial ⟨Nat.le_of_ble_eq_true rfl, Nat.le_of_ble_eq_true rfl⟩)⟩
    refine g_goto (pc := 16) X 20 dX0_dial_16 (by decide) ?_
    exact g_iret (pc := 20) X hr dX0_dial_20
theorem kX0_dial {ex : Nat → Option Nat} {z : Nat} {h0 : Nat} {x1 : Int32} {σ : Sg} {r : Int32} {u : St} (hex : ex = Γ.2.2.2.2) (h : fX0_dial ex z h0 x1 (σ, 0, 0) = some (r, u)) : g_C Γ l yX0_dial cX0_dial 2 (some .int) 2 46 [.ref h0, .int x1] σ z v_i r (g_ι z u) :=
  g_met (ι := g_ι z) (t := (σ, 0, 0)) [.ref h0, .int x1] (by decide) (Nat.le_of_ble_eq_true rfl) h rfl (fun p e s m args below meth c X hr hn => wX0_dial hex X hr h0 x1 (σ, 0, 0))
end CP
abbrev cX1_clock : ByteArray := prog_12_method_2_code
def yX1_clock : MethodName := ⟨RX1, "clock", "(I)LLameClocks$Plain;"⟩
def dkwX1_clock_0 : List UInt8 := [42, 180, 0, 22, 27, 182, 0, 35, 192, 0, 39, 176]
abbrev dktX1_clock_0 : List UInt8 := dkwX1_clock_0 ++ []
theorem dksX1_clock_0 : cX1_clock.data.toList.drop 0 = dktX1_clock_0 := by decide +kernel
theorem dX1_clock_0 : decode cX1_clock 0 = .ok (.aload_n 0, 1) := dk_42 (dk_at dksX1_clock_0 0 rfl rfl)
theorem dX1_clock_1 : decode cX1_clock 1 = .ok (.getfield 22, 3) := dk_180 0 22 (dk_at dksX1_clock_0 1 rfl rfl)
theorem dX1_clock_4 : decode cX1_clock 4 = .ok (.iload_n 1, 1) := dk_27 (dk_at dksX1_clock_0 4 rfl rfl)
theorem dX1_clock_5 : decode cX1_clock 5 = .ok (.invokevirtual 35, 3) := dk_182 0 35 (dk_at dksX1_clock_0 5 rfl rfl)
theorem dX1_clock_8 : decode cX1_clock 8 = .ok (.checkcast 39, 3) := dk_192 0 39 (dk_at dksX1_clock_0 8 rfl rfl)
theorem dX1_clock_11 : decode cX1_clock 11 = .ok (.areturn, 1) := dk_176 (dk_at dksX1_clock_0 11 rfl rfl)
theorem cf_LameClocks_Plain_6 : ∀ ci ∈ ([4, 5, 6, 7, 8, 9] : List Nat), ∃ (C : String) (T : u_T) (N : Nat), cls[ci]? = some (C, T, N) ∧ (C = "LameClocks$Plain" ∨ Cond.castable C "LameClocks$Plain" ∈ lw_tbl) := by
  intro ci h
  simp only [List.mem_cons, List.not_mem_nil, or_false] at h; rcases h with rfl | rfl | rfl | rfl | rfl | rfl
  · exact ⟨_, _, _, rfl, Or.inl rfl⟩
  · exact ⟨_, _, _, rfl, Or.inr q2174⟩
  · exact ⟨_, _, _, rfl, Or.inr q2176⟩
  · exact ⟨_, _, _, rfl, Or.inr q2177⟩
  · exact ⟨_, _, _, rfl, Or.inr q2178⟩
  · exact ⟨_, _, _, rfl, Or.inr q2175⟩
section CP
variable {Γ : Gc} {p : Program} {l : Launch} {e : Env} {s : State} {m : MethodId} {args : Array Value} {below : List Frame} {meth : Method} {c : Code} {ex : Nat → Option Nat} {z : Nat} {tF : St}
noncomputable def fX1_clock (ex : Nat → Option Nat) (z : Nat) (h0 : Nat) (x1 : Int32) (t : St) : Option (Nat × St) := cgA [1] 2 t h0 fun v1 => ccast [15] t v1 (gb (fJ2_get ex (z + t.2.1) v1 x1 (t.1, 0, 0)) t fun r2 t3 => ccast [4, 5, 6, 7, 8, 9] t3 r2 (some (r2, t3)))
set_option maxHeartbeats 4000000 in
theorem wX1_clock {rF : Nat} (hex : ex = Γ.2.2.2.2) (X : g_X Γ p s m args meth c cX1_clock 2 RX1) (hr : meth.sig.returnType = (some (.object "LameClocks$Plain"))) (h0 : Nat) (x1 : Int32) (t : St) : Wf Γ p l e 3 64 s m args below meth c 2 (g_ι z) v_a rF tF 0 [(0, .ref h0), (1, .int x1)] [] t (fX1_clock ex z h0 x1 t) := by
  unfold fX1_clock
  refine g_aload_n (pc := 0) X 0 dX1_clock_0 rfl rfl ?_
  refine cg_getA (pc := 1) X fo_X1_22 dX1_clock_1 (fun v1 => ?_)
  refine g_iload_n (pc := 4) X 1 dX1_clock_4 rfl rfl ?_
  refine g_bD_a (pc := 5) X (cs := [15]) (As := [.int x1]) (rest := []) (b := v1) (n := 1) dX1_clock_5 rfl rfl (Nat.le_of_ble_eq_true rfl) (fun fl4 ci5 fs6 hs7 hci8 r u h => ?_) (fun r2 t3 => ?_)
  · obtain rfl := List.mem_singleton.mp hci8
    exact ⟨_, _, _, yJ2_get, _, _, _, 2, 43, rfl, kJ2_get hex h, Or.inl (cwV 1 X.2.2.2.2.1 (lw_V q377 q352 q353 q74 q354) rfl rfl rfl dmV_J2_get ⟨Nat.le_of_ble_eq_true rfl, Nat.le_of_ble_eq_true rfl⟩)⟩
  refine cg_cast (pc := 8) X (cs := [4, 5, 6, 7, 8, 9]) q378 cf_LameClocks_Plain_6 dX1_clock_8 ?_
  exact g_aret (pc := 11) X hr (Or.inl ⟨_, rfl⟩) dX1_clock_11
theorem kX1_clock {ex : Nat → Option Nat} {z : Nat} {h0 : Nat} {x1 : Int32} {σ : Sg} {r : Nat} {u : St} (hex : ex = Γ.2.2.2.2) (h : fX1_clock ex z h0 x1 (σ, 0, 0) = some (r, u)) : g_C Γ l yX1_clock cX1_clock 2 (some (.object "LameClocks$Plain")) 3 64 [.ref h0, .int x1] σ z v_a r (g_ι z u) :=
  g_met (ι := g_ι z) (t := (σ, 0, 0)) [.ref h0, .int x1] (by decide) (Nat.le_of_ble_eq_true rfl) h rfl (fun p e s m args below meth c X hr hn => wX1_clock hex X hr h0 x1 (σ, 0, 0))
end CP
abbrev cX1_homes : ByteArray := prog_12_method_14_code
def yX1_homes : MethodName := ⟨RX1, "homes", "()I"⟩
def dkwX1_homes_1 : List UInt8 := [192, 0, 39, 182, 0, 85, 153, 0, 7, 4, 167, 0, 4, 3, 96, 60, 132, 2, 1, 167, 255, 217, 27, 172]
abbrev dktX1_homes_1 : List UInt8 := dkwX1_homes_1 ++ []
def dkwX1_homes_0 : List UInt8 := [3, 60, 3, 61, 28, 42, 180, 0, 22, 182, 0, 44, 162, 0, 34, 27, 42, 180, 0, 22, 28, 182, 0, 35]
abbrev dktX1_homes_0 : List UInt8 := dkwX1_homes_0 ++ dktX1_homes_1
theorem dksX1_homes_0 : cX1_homes.data.toList.drop 0 = dktX1_homes_0 := by decide +kernel
theorem dksX1_homes_1 : cX1_homes.data.toList.drop 24 = dktX1_homes_1 := dk_seg dksX1_homes_0 24 rfl rfl
theorem dX1_homes_0 : decode cX1_homes 0 = .ok (.iconst 0, 1) := dk_3 (dk_at dksX1_homes_0 0 rfl rfl)
theorem dX1_homes_1 : decode cX1_homes 1 = .ok (.istore_n 1, 1) := dk_60 (dk_at dksX1_homes_0 1 rfl rfl)
theorem dX1_homes_2 : decode cX1_homes 2 = .ok (.iconst 0, 1) := dk_3 (dk_at dksX1_homes_0 2 rfl rfl)
theorem dX1_homes_3 : decode cX1_homes 3 = .ok (.istore_n 2, 1) := dk_61 (dk_at dksX1_homes_0 3 rfl rfl)
theorem dX1_homes_4 : decode cX1_homes 4 = .ok (.iload_n 2, 1) := dk_28 (dk_at dksX1_homes_0 4 rfl rfl)
theorem dX1_homes_5 : decode cX1_homes 5 = .ok (.aload_n 0, 1) := dk_42 (dk_at dksX1_homes_0 5 rfl rfl)
theorem dX1_homes_6 : decode cX1_homes 6 = .ok (.getfield 22, 3) := dk_180 0 22 (dk_at dksX1_homes_0 6 rfl rfl)
theorem dX1_homes_9 : decode cX1_homes 9 = .ok (.invokevirtual 44, 3) := dk_182 0 44 (dk_at dksX1_homes_0 9 rfl rfl)
theorem dX1_homes_12 : decode cX1_homes 12 = .ok (.if_icmp .ge 34, 3) := dk_162 0 34 (dk_at dksX1_homes_0 12 rfl rfl)
theorem dX1_homes_15 : decode cX1_homes 15 = .ok (.iload_n 1, 1) := dk_27 (dk_at dksX1_homes_0 15 rfl rfl)
theorem dX1_homes_16 : decode cX1_homes 16 = .ok (.aload_n 0, 1) := dk_42 (dk_at dksX1_homes_0 16 rfl rfl)
theorem dX1_homes_17 : decode cX1_homes 17 = .ok (.getfield 22, 3) := dk_180 0 22 (dk_at dksX1_homes_0 17 rfl rfl)
theorem dX1_homes_20 : decode cX1_homes 20 = .ok (.iload_n 2, 1) := dk_28 (dk_at dksX1_homes_0 20 rfl rfl)
theorem dX1_homes_21 : decode cX1_homes 21 = .ok (.invokevirtual 35, 3) := dk_182 0 35 (dk_at dksX1_homes_0 21 rfl rfl)
theorem dX1_homes_24 : decode cX1_homes 24 = .ok (.checkcast 39, 3) := dk_192 0 39 (dk_at dksX1_homes_1 0 rfl rfl)
theorem dX1_homes_27 : decode cX1_homes 27 = .ok (.invokevirtual 85, 3) := dk_182 0 85 (dk_at dksX1_homes_1 3 rfl rfl)
theorem dX1_homes_30 : decode cX1_homes 30 = .ok (.ifCond .eq 7, 3) := dk_153 0 7 (dk_at dksX1_homes_1 6 rfl rfl)
theorem dX1_homes_33 : decode cX1_homes 33 = .ok (.iconst 1, 1) := dk_4 (dk_at dksX1_homes_1 9 rfl rfl)
theorem dX1_homes_34 : decode cX1_homes 34 = .ok (.goto 4, 3) := dk_167 0 4 (dk_at dksX1_homes_1 10 rfl rfl)
theorem dX1_homes_37 : decode cX1_homes 37 = .ok (.iconst 0, 1) := dk_3 (dk_at dksX1_homes_1 13 rfl rfl)
theorem dX1_homes_38 : decode cX1_homes 38 = .ok (.iadd, 1) := dk_96 (dk_at dksX1_homes_1 14 rfl rfl)
theorem dX1_homes_39 : decode cX1_homes 39 = .ok (.istore_n 1, 1) := dk_60 (dk_at dksX1_homes_1 15 rfl rfl)
theorem dX1_homes_40 : decode cX1_homes 40 = .ok (.iinc 2 1, 3) := dk_132 2 1 (dk_at dksX1_homes_1 16 rfl rfl)
theorem dX1_homes_43 : decode cX1_homes 43 = .ok (.goto (-39), 3) := dk_167 255 217 (dk_at dksX1_homes_1 19 rfl rfl)
theorem dX1_homes_46 : decode cX1_homes 46 = .ok (.iload_n 1, 1) := dk_27 (dk_at dksX1_homes_1 22 rfl rfl)
theorem dX1_homes_47 : decode cX1_homes 47 = .ok (.ireturn, 1) := dk_172 (dk_at dksX1_homes_1 23 rfl rfl)
section CP
variable {Γ : Gc} {p : Program} {l : Launch} {e : Env} {s : State} {m : MethodId} {args : Array Value} {below : List Frame} {meth : Method} {c : Code} {ex : Nat → Option Nat} {z : Nat} {tF : St}
noncomputable def fX1_homes_38 (ex : Nat → Option Nat) (z : Nat) (kc4 : Nat → Int32 → Int32 → St → Option (Int32 × St)) (h0 : Nat) (x2 : Int32) (s0 : Int32) (s1 : Int32) (t : St) : Option (Int32 × St) := lt (s1 + s0) fun y1 => kc4 h0 y1 (x2 + 1) t
set_option maxHeartbeats 4000000 in
theorem wX1_homes_38 {rF : Int32} (hex : ex = Γ.2.2.2.2) (X : g_X Γ p s m args meth c cX1_homes 3 RX1) (hr : meth.sig.returnType = (some .int)) {kc4 : Nat → Int32 → Int32 → St → Option (Int32 × St)} (hk4 : ∀ (h0 : Nat) (x1 : Int32) (x2 : Int32) (t : St), Wf Γ p l e 3 64 s m args below meth c 3 (g_ι z) v_i rF tF 4 [(0, .ref h0), (1, .int x1), (2, .int x2)] [] t (kc4 h0 x1 x2 t)) (h0 : Nat) (x2 : Int32) (s0 : Int32) (s1 : Int32) (t : St) : Wf Γ p l e 3 64 s m args below meth c 3 (g_ι z) v_i rF tF 38 [(0, .ref h0), (2, .int x2)] [.int s0, .int s1] t (fX1_homes_38 ex z kc4 h0 x2 s0 s1 t) := by
  unfold fX1_homes_38
  refine g_iadd (pc := 38) X dX1_homes_38 ?_
  refine g_lti (pc := 39) (fun y1 => ?_)
  refine g_istore_n (pc := 39) X (lv' := [(1, .int y1), (0, .ref h0), (2, .int x2)]) dX1_homes_39 rfl (by decide) rfl ?_
  refine g_iinc (pc := 40) X 1 2 (lv' := [(2, .int (x2 + 1)), (1, .int y1), (0, .ref h0)]) dX1_homes_40 rfl rfl (by decide) rfl ?_
  refine g_goto (pc := 43) X 4 dX1_homes_43 (by decide) ?_
  exact g_lv (pc := 4) (lv' := [(0, .ref h0), (1, .int y1), (2, .int (x2 + 1))]) [2, 1, 0] rfl (hk4 h0 y1 (x2 + 1) t)
noncomputable def fX1_homes_4 (ex : Nat → Option Nat) (z : Nat) : Nat → Nat → Int32 → Int32 → St → Option (Int32 × St)
  | 0, _, _, _, _ => none
  | n + 1, h0, x1, x2, t => cgA [1] 2 t h0 fun v1 => ccast [15] t v1 (gb (fJ2_size ex (z + t.2.1) v1 (t.1, 0, 0)) t fun r2 t3 => if r2 ≤ x2 then some (x1, t3) else cgA [1] 2 t3 h0 fun v9 => ccast [15] t3 v9 (gb (fJ2_get ex (z + t3.2.1) v9 x2 (t3.1, 0, 0)) t3 fun r10 t11 => ccast [4, 5, 6, 7, 8, 9] t11 r10 (ccast [4, 5, 6, 7, 8, 9] t11 r10 (gb (fX4_isHome ex (z + t11.2.1) r10 (t11.1, 0, 0)) t11 fun r17 t18 => if r17 = 0 then fX1_homes_38 ex z (fun a0 a1 a2 a3 => fX1_homes_4 ex z n a0 a1 a2 a3) h0 x2 0 x1 t18 else fX1_homes_38 ex z (fun a0 a1 a2 a3 => fX1_homes_4 ex z n a0 a1 a2 a3) h0 x2 1 x1 t18))))
set_option maxHeartbeats 4000000 in
theorem wX1_homes_4 {rF : Int32} (hex : ex = Γ.2.2.2.2) (X : g_X Γ p s m args meth c cX1_homes 3 RX1) (hr : meth.sig.returnType = (some .int)) (n : Nat) : ∀ (h0 : Nat) (x1 : Int32) (x2 : Int32) (t : St), Wf Γ p l e 3 64 s m args below meth c 3 (g_ι z) v_i rF tF 4 [(0, .ref h0), (1, .int x1), (2, .int x2)] [] t (fX1_homes_4 ex z n h0 x1 x2 t) := by
  induction n with
  | zero => intro h0 x1 x2 t; exact g_none
  | succ n ih =>
    intro h0 x1 x2 t
    rw [fX1_homes_4]
    refine g_iload_n (pc := 4) X 2 dX1_homes_4 rfl rfl ?_
    refine g_aload_n (pc := 5) X 0 dX1_homes_5 rfl rfl ?_
    refine cg_getA (pc := 6) X fo_X1_22 dX1_homes_6 (fun v1 => ?_)
    refine g_bD_i (pc := 9) X (cs := [15]) (As := []) (rest := [.int x2]) (b := v1) (n := 0) dX1_homes_9 rfl rfl (Nat.le_of_ble_eq_true rfl) (fun fl4 ci5 fs6 hs7 hci8 r u h => ?_) (fun r2 t3 => ?_)
    · obtain rfl := List.mem_singleton.mp hci8
      exact ⟨_, _, _, yJ2_size, _, _, _, 0, 0, rfl, kJ2_size hex h, Or.inl (cwV 0 X.2.2.2.2.1 (lw_V q133 q134 q135 q74 q136) rfl rfl rfl dmV_J2_size ⟨Nat.le_of_ble_eq_true rfl, Nat.le_of_ble_eq_true rfl⟩)⟩
    refine g_icmp_ge (pc := 12) X 46 dX1_homes_12 (by decide) ?_ ?_
    · refine g_iload_n (pc := 46) X 1 dX1_homes_46 rfl rfl ?_
      exact g_iret (pc := 47) X hr dX1_homes_47
    · refine g_iload_n (pc := 15) X 1 dX1_homes_15 rfl rfl ?_
      refine g_aload_n (pc := 16) X 0 dX1_homes_16 rfl rfl ?_
      refine cg_getA (pc := 17) X fo_X1_22 dX1_homes_17 (fun v9 => ?_)
      refine g_iload_n (pc := 20) X 2 dX1_homes_20 rfl rfl ?_
      refine g_bD_a (pc := 21) X (cs := [15]) (As := [.int x2]) (rest := [.int x1]) (b := v9) (n := 1) dX1_homes_21 rfl rfl (Nat.le_of_ble_eq_true rfl) (fun fl12 ci13 fs14 hs15 hci16 r u h => ?_) (fun r10 t11 => ?_)
      · obtain rfl := List.mem_singleton.mp hci16
        exact ⟨_, _, _, yJ2_get, _, _, _, 2, 43, rfl, kJ2_get hex h, Or.inl (cwV 1 X.2.2.2.2.1 (lw_V q377 q352 q353 q74 q354) rfl rfl rfl dmV_J2_get ⟨Nat.le_of_ble_eq_true rfl, Nat.le_of_ble_eq_true rfl⟩)⟩
      refine cg_cast (pc := 24) X (cs := [4, 5, 6, 7, 8, 9]) q378 cf_LameClocks_Plain_6 dX1_homes_24 ?_
      refine g_bD_i (pc := 27) X (cs := [4, 5, 6, 7, 8, 9]) (As := []) (rest := [.int x1]) (b := r10) (n := 0) dX1_homes_27 rfl rfl (Nat.le_of_ble_eq_true rfl) (fun fl19 ci20 fs21 hs22 hci23 r u h => ?_) (fun r17 t18 => ?_)
      · simp only [List.mem_cons, List.not_mem_nil, or_false] at hci23
        rcases hci23 with rfl | rfl | rfl | rfl | rfl | rfl
        · exact ⟨_, _, _, yX4_isHome, _, _, _, 0, 0, rfl, kX4_isHome hex h, Or.inl (cwV 0 X.2.2.2.2.1 (lw_V q493 q494 q495 q77 q502) rfl rfl rfl dmV_X4_isHome ⟨Nat.le_of_ble_eq_true rfl, Nat.le_of_ble_eq_true rfl⟩)⟩
        · exact ⟨_, _, _, yX4_isHome, _, _, _, 0, 0, rfl, kX4_isHome hex h, Or.inr (Or.inl ⟨_, _, va_cwU 0 X.2.2.2.2.1 (lw_U q493 q496 q497 q494 q77 q502) rfl rfl rfl rfl dmU_X4_isHome0 ⟨Nat.le_of_ble_eq_true rfl, Nat.le_of_ble_eq_true rfl⟩⟩)⟩
        · exact ⟨_, _, _, yX4_isHome, _, _, _, 0, 0, rfl, kX4_isHome hex h, Or.inr (Or.inl ⟨_, _, va_cwU 0 X.2.2.2.2.1 (lw_U q493 q496 q499 q494 q77 q502) rfl rfl rfl rfl dmU_X4_isHome0 ⟨Nat.le_of_ble_eq_true rfl, Nat.le_of_ble_eq_true rfl⟩⟩)⟩
        · exact ⟨_, _, _, yX4_isHome, _, _, _, 0, 0, rfl, kX4_isHome hex h, Or.inr (Or.inl ⟨_, _, va_cwU 0 X.2.2.2.2.1 (lw_U q493 q496 q500 q494 q77 q502) rfl rfl rfl rfl dmU_X4_isHome0 ⟨Nat.le_of_ble_eq_true rfl, Nat.le_of_ble_eq_true rfl⟩⟩)⟩
        · exact ⟨_, _, _, yX4_isHome, _, _, _, 0, 0, rfl, kX4_isHome hex h, Or.inr (Or.inl ⟨_, _, va_cwU 0 X.2.2.2.2.1 (lw_U q493 q496 q501 q494 q77 q502) rfl rfl rfl rfl dmU_X4_isHome0 ⟨Nat.le_of_ble_eq_true rfl, Nat.le_of_ble_eq_true rfl⟩⟩)⟩
        · exact ⟨_, _, _, yX4_isHome, _, _, _, 0, 0, rfl, kX4_isHome hex h, Or.inr (Or.inl ⟨_, _, va_cwU 0 X.2.2.2.2.1 (lw_U q493 q496 q498 q494 q77 q502) rfl rfl rfl rfl dmU_X4_isHome0 ⟨Nat.le_of_ble_eq_true rfl, Nat.le_of_ble_eq_true rfl⟩⟩)⟩
      refine g_if_eq (pc := 30) X 37 dX1_homes_30 (by decide) ?_ ?_
      · refine g_iconst (pc := 37) X 0 dX1_homes_37 rfl ?_
        exact g_lv (pc := 38) (lv' := [(0, .ref h0), (2, .int x2)]) [0, 2] rfl (wX1_homes_38 hex X hr (fun a0 a1 a2 a3 => ih a0 a1 a2 a3) h0 x2 0 x1 t18)
      · refine g_iconst (pc := 33) X 1 dX1_homes_33 rfl ?_
        refine g_goto (pc := 34) X 38 dX1_homes_34 (by decide) ?_
        exact g_lv (pc := 38) (lv' := [(0, .ref h0), (2, .int x2)]) [0, 2] rfl (wX1_homes_38 hex X hr (fun a0 a1 a2 a3 => ih a0 a1 a2 a3) h0 x2 1 x1 t18)
noncomputable def fX1_homes (ex : Nat → Option Nat) (z : Nat) (h0 : Nat) (t : St) : Option (Int32 × St) := fX1_homes_4 ex z 1000 h0 0 0 t
set_option maxHeartbeats 4000000 in
theorem wX1_homes {rF : Int32} (hex : ex = Γ.2.2.2.2) (X : g_X Γ p s m args meth c cX1_homes 3 RX1) (hr : meth.sig.returnType = (some .int)) (h0 : Nat) (t : St) : Wf Γ p l e 3 64 s m args below meth c 3 (g_ι z) v_i rF tF 0 [(0, .ref h0)] [] t (fX1_homes ex z h0 t) := by
  unfold fX1_homes
  refine g_iconst (pc := 0) X 0 dX1_homes_0 rfl ?_
  refine g_istore_n (pc := 1) X (lv' := [(1, .int 0), (0, .ref h0)]) dX1_homes_1 rfl (by decide) rfl ?_
  refine g_iconst (pc := 2) X 0 dX1_homes_2 rfl ?_
  refine g_istore_n (pc := 3) X (lv' := [(2, .int 0), (1, .int 0), (0, .ref h0)]) dX1_homes_3 rfl (by decide) rfl ?_
  exact g_lv (pc := 4) (lv' := [(0, .ref h0), (1, .int 0), (2, .int 0)]) [2, 1, 0] rfl (wX1_homes_4 hex X hr 1000 h0 0 0 t)
theorem kX1_homes {ex : Nat → Option Nat} {z : Nat} {h0 : Nat} {σ : Sg} {r : Int32} {u : St} (hex : ex = Γ.2.2.2.2) (h : fX1_homes ex z h0 (σ, 0, 0) = some (r, u)) : g_C Γ l yX1_homes cX1_homes 3 (some .int) 3 64 [.ref h0] σ z v_i r (g_ι z u) :=
  g_met (ι := g_ι z) (t := (σ, 0, 0)) [.ref h0] (by decide) (Nat.le_of_ble_eq_true rfl) h rfl (fun p e s m args below meth c X hr hn => wX1_homes hex X hr h0 (σ, 0, 0))
end CP
abbrev cX1_ties : ByteArray := prog_12_method_15_code
def yX1_ties : MethodName := ⟨RX1, "ties", "()I"⟩
def dkwX1_ties_4 : List UInt8 := [132, 2, 1, 167, 255, 165, 27, 172]
abbrev dktX1_ties_4 : List UInt8 := dkwX1_ties_4 ++ []
def dkwX1_ties_3 : List UInt8 := [192, 0, 39, 182, 0, 129, 153, 0, 7, 3, 167, 0, 4, 4, 96, 60, 132, 3, 1, 167, 255, 184]
abbrev dktX1_ties_3 : List UInt8 := dkwX1_ties_3 ++ dktX1_ties_4
def dkwX1_ties_2 : List UInt8 := [154, 0, 31, 42, 180, 0, 22, 29, 182, 0, 35, 192, 0, 39, 42, 180, 0, 22, 28, 182, 0, 35]
abbrev dktX1_ties_2 : List UInt8 := dkwX1_ties_2 ++ dktX1_ties_3
def dkwX1_ties_1 : List UInt8 := [180, 0, 22, 28, 182, 0, 35, 192, 0, 39, 42, 180, 0, 22, 29, 182, 0, 35, 192, 0, 39, 182, 0, 129]
abbrev dktX1_ties_1 : List UInt8 := dkwX1_ties_1 ++ dktX1_ties_2
def dkwX1_ties_0 : List UInt8 := [3, 60, 3, 61, 28, 42, 180, 0, 22, 182, 0, 44, 162, 0, 86, 3, 62, 29, 28, 162, 0, 73, 27, 42]
abbrev dktX1_ties_0 : List UInt8 := dkwX1_ties_0 ++ dktX1_ties_1
theorem dksX1_ties_0 : cX1_ties.data.toList.drop 0 = dktX1_ties_0 := by decide +kernel
theorem dksX1_ties_1 : cX1_ties.data.toList.drop 24 = dktX1_ties_1 := dk_seg dksX1_ties_0 24 rfl rfl
theorem dksX1_ties_2 : cX1_ties.data.toList.drop 48 = dktX1_ties_2 := dk_seg dksX1_ties_1 24 rfl rfl
theorem dksX1_ties_3 : cX1_ties.data.toList.drop 70 = dktX1_ties_3 := dk_seg dksX1_ties_2 22 rfl rfl
theorem dksX1_ties_4 : cX1_ties.data.toList.drop 92 = dktX1_ties_4 := dk_seg dksX1_ties_3 22 rfl rfl
theorem dX1_ties_0 : decode cX1_ties 0 = .ok (.iconst 0, 1) := dk_3 (dk_at dksX1_ties_0 0 rfl rfl)
theorem dX1_ties_1 : decode cX1_ties 1 = .ok (.istore_n 1, 1) := dk_60 (dk_at dksX1_ties_0 1 rfl rfl)
theorem dX1_ties_2 : decode cX1_ties 2 = .ok (.iconst 0, 1) := dk_3 (dk_at dksX1_ties_0 2 rfl rfl)
theorem dX1_ties_3 : decode cX1_ties 3 = .ok (.istore_n 2, 1) := dk_61 (dk_at dksX1_ties_0 3 rfl rfl)
theorem dX1_ties_4 : decode cX1_ties 4 = .ok (.iload_n 2, 1) := dk_28 (dk_at dksX1_ties_0 4 rfl rfl)
theorem dX1_ties_5 : decode cX1_ties 5 = .ok (.aload_n 0, 1) := dk_42 (dk_at dksX1_ties_0 5 rfl rfl)
theorem dX1_ties_6 : decode cX1_ties 6 = .ok (.getfield 22, 3) := dk_180 0 22 (dk_at dksX1_ties_0 6 rfl rfl)
theorem dX1_ties_9 : decode cX1_ties 9 = .ok (.invokevirtual 44, 3) := dk_182 0 44 (dk_at dksX1_ties_0 9 rfl rfl)
theorem dX1_ties_12 : decode cX1_ties 12 = .ok (.if_icmp .ge 86, 3) := dk_162 0 86 (dk_at dksX1_ties_0 12 rfl rfl)
theorem dX1_ties_15 : decode cX1_ties 15 = .ok (.iconst 0, 1) := dk_3 (dk_at dksX1_ties_0 15 rfl rfl)
theorem dX1_ties_16 : decode cX1_ties 16 = .ok (.istore_n 3, 1) := dk_62 (dk_at dksX1_ties_0 16 rfl rfl)
theorem dX1_ties_17 : decode cX1_ties 17 = .ok (.iload_n 3, 1) := dk_29 (dk_at dksX1_ties_0 17 rfl rfl)
theorem dX1_ties_18 : decode cX1_ties 18 = .ok (.iload_n 2, 1) := dk_28 (dk_at dksX1_ties_0 18 rfl rfl)
theorem dX1_ties_19 : decode cX1_ties 19 = .ok (.if_icmp .ge 73, 3) := dk_162 0 73 (dk_at dksX1_ties_0 19 rfl rfl)
theorem dX1_ties_22 : decode cX1_ties 22 = .ok (.iload_n 1, 1) := dk_27 (dk_at dksX1_ties_0 22 rfl rfl)
theorem dX1_ties_23 : decode cX1_ties 23 = .ok (.aload_n 0, 1) := dk_42 (dk_at dksX1_ties_0 23 rfl rfl)
theorem dX1_ties_24 : decode cX1_ties 24 = .ok (.getfield 22, 3) := dk_180 0 22 (dk_at dksX1_ties_1 0 rfl rfl)
theorem dX1_ties_27 : decode cX1_ties 27 = .ok (.iload_n 2, 1) := dk_28 (dk_at dksX1_ties_1 3 rfl rfl)
theorem dX1_ties_28 : decode cX1_ties 28 = .ok (.invokevirtual 35, 3) := dk_182 0 35 (dk_at dksX1_ties_1 4 rfl rfl)
theorem dX1_ties_31 : decode cX1_ties 31 = .ok (.checkcast 39, 3) := dk_192 0 39 (dk_at dksX1_ties_1 7 rfl rfl)
theorem dX1_ties_34 : decode cX1_ties 34 = .ok (.aload_n 0, 1) := dk_42 (dk_at dksX1_ties_1 10 rfl rfl)
theorem dX1_ties_35 : decode cX1_ties 35 = .ok (.getfield 22, 3) := dk_180 0 22 (dk_at dksX1_ties_1 11 rfl rfl)
theorem dX1_ties_38 : decode cX1_ties 38 = .ok (.iload_n 3, 1) := dk_29 (dk_at dksX1_ties_1 14 rfl rfl)
theorem dX1_ties_39 : decode cX1_ties 39 = .ok (.invokevirtual 35, 3) := dk_182 0 35 (dk_at dksX1_ties_1 15 rfl rfl)
theorem dX1_ties_42 : decode cX1_ties 42 = .ok (.checkcast 39, 3) := dk_192 0 39 (dk_at dksX1_ties_1 18 rfl rfl)
theorem dX1_ties_45 : decode cX1_ties 45 = .ok (.invokevirtual 129, 3) := dk_182 0 129 (dk_at dksX1_ties_1 21 rfl rfl)
theorem dX1_ties_48 : decode cX1_ties 48 = .ok (.ifCond .ne 31, 3) := dk_154 0 31 (dk_at dksX1_ties_2 0 rfl rfl)
theorem dX1_ties_51 : decode cX1_ties 51 = .ok (.aload_n 0, 1) := dk_42 (dk_at dksX1_ties_2 3 rfl rfl)
theorem dX1_ties_52 : decode cX1_ties 52 = .ok (.getfield 22, 3) := dk_180 0 22 (dk_at dksX1_ties_2 4 rfl rfl)
theorem dX1_ties_55 : decode cX1_ties 55 = .ok (.iload_n 3, 1) := dk_29 (dk_at dksX1_ties_2 7 rfl rfl)
theorem dX1_ties_56 : decode cX1_ties 56 = .ok (.invokevirtual 35, 3) := dk_182 0 35 (dk_at dksX1_ties_2 8 rfl rfl)
theorem dX1_ties_59 : decode cX1_ties 59 = .ok (.checkcast 39, 3) := dk_192 0 39 (dk_at dksX1_ties_2 11 rfl rfl)
theorem dX1_ties_62 : decode cX1_ties 62 = .ok (.aload_n 0, 1) := dk_42 (dk_at dksX1_ties_2 14 rfl rfl)
theorem dX1_ties_63 : decode cX1_ties 63 = .ok (.getfield 22, 3) := dk_180 0 22 (dk_at dksX1_ties_2 15 rfl rfl)
theorem dX1_ties_66 : decode cX1_ties 66 = .ok (.iload_n 2, 1) := dk_28 (dk_at dksX1_ties_2 18 rfl rfl)
theorem dX1_ties_67 : decode cX1_ties 67 = .ok (.invokevirtual 35, 3) := dk_182 0 35 (dk_at dksX1_ties_2 19 rfl rfl)
theorem dX1_ties_70 : decode cX1_ties 70 = .ok (.checkcast 39, 3) := dk_192 0 39 (dk_at dksX1_ties_3 0 rfl rfl)
theorem dX1_ties_73 : decode cX1_ties 73 = .ok (.invokevirtual 129, 3) := dk_182 0 129 (dk_at dksX1_ties_3 3 rfl rfl)
theorem dX1_ties_76 : decode cX1_ties 76 = .ok (.ifCond .eq 7, 3) := dk_153 0 7 (dk_at dksX1_ties_3 6 rfl rfl)
theorem dX1_ties_79 : decode cX1_ties 79 = .ok (.iconst 0, 1) := dk_3 (dk_at dksX1_ties_3 9 rfl rfl)
theorem dX1_ties_80 : decode cX1_ties 80 = .ok (.goto 4, 3) := dk_167 0 4 (dk_at dksX1_ties_3 10 rfl rfl)
theorem dX1_ties_83 : decode cX1_ties 83 = .ok (.iconst 1, 1) := dk_4 (dk_at dksX1_ties_3 13 rfl rfl)
theorem dX1_ties_84 : decode cX1_ties 84 = .ok (.iadd, 1) := dk_96 (dk_at dksX1_ties_3 14 rfl rfl)
theorem dX1_ties_85 : decode cX1_ties 85 = .ok (.istore_n 1, 1) := dk_60 (dk_at dksX1_ties_3 15 rfl rfl)
theorem dX1_ties_86 : decode cX1_ties 86 = .ok (.iinc 3 1, 3) := dk_132 3 1 (dk_at dksX1_ties_3 16 rfl rfl)
theorem dX1_ties_89 : decode cX1_ties 89 = .ok (.goto (-72), 3) := dk_167 255 184 (dk_at dksX1_ties_3 19 rfl rfl)
theorem dX1_ties_92 : decode cX1_ties 92 = .ok (.iinc 2 1, 3) := dk_132 2 1 (dk_at dksX1_ties_4 0 rfl rfl)
theorem dX1_ties_95 : decode cX1_ties 95 = .ok (.goto (-91), 3) := dk_167 255 165 (dk_at dksX1_ties_4 3 rfl rfl)
theorem dX1_ties_98 : decode cX1_ties 98 = .ok (.iload_n 1, 1) := dk_27 (dk_at dksX1_ties_4 6 rfl rfl)
theorem dX1_ties_99 : decode cX1_ties 99 = .ok (.ireturn, 1) := dk_172 (dk_at dksX1_ties_4 7 rfl rfl)
theorem dmV_X4_isAhead : yX4_isAhead.cls = RX4 ∧ yX4_isAhead.cls ≠ "java/lang/invoke/MethodHandle" ∧ yX4_isAhead.cls ≠ "java/lang/invoke/VarHandle" ∧ (parseMethodDescriptor yX4_isAhead.desc).map (fun d => d.parameters.length) = some 1 := by decide +kernel
theorem dmU_X4_isAhead1 : "LameClocks$Plain" ≠ "java/lang/invoke/MethodHandle" ∧ "LameClocks$Plain" ≠ "java/lang/invoke/VarHandle" ∧ (parseMethodDescriptor "(LLameClocks$Plain;)Z").map (fun d => d.parameters.length) = some 1 := by decide +kernel
section CP
variable {Γ : Gc} {p : Program} {l : Launch} {e : Env} {s : State} {m : MethodId} {args : Array Value} {below : List Frame} {meth : Method} {c : Code} {ex : Nat → Option Nat} {z : Nat} {tF : St}
noncomputable def fX1_ties_84 (ex : Nat → Option Nat) (z : Nat) (kc4 : Nat → Int32 → Int32 → St → Option (Int32 × St)) (kc17 : Nat → Int32 → Int32 → Int32 → St → Option (Int32 × St)) (h0 : Nat) (x2 : Int32) (x3 : Int32) (s0 : Int32) (s1 : Int32) (t : St) : Option (Int32 × St) := lt (s1 + s0) fun y1 => kc17 h0 y1 x2 (x3 + 1) t
set_option maxHeartbeats 4000000 in
theorem wX1_ties_84 {rF : Int32} (hex : ex = Γ.2.2.2.2) (X : g_X Γ p s m args meth c cX1_ties 4 RX1) (hr : meth.sig.returnType = (some .int)) {kc4 : Nat → Int32 → Int32 → St → Option (Int32 × St)} (hk4 : ∀ (h0 : Nat) (x1 : Int32) (x2 : Int32) (t : St), Wf Γ p l e 3 64 s m args below meth c 4 (g_ι z) v_i rF tF 4 [(0, .ref h0), (1, .int x1), (2, .int x2)] [] t (kc4 h0 x1 x2 t)) {kc17 : Nat → Int32 → Int32 → Int32 → St → Option (Int32 × St)} (hk17 : ∀ (h0 : Nat) (x1 : Int32) (x2 : Int32) (x3 : Int32) (t : St), Wf Γ p l e 3 64 s m args below meth c 4 (g_ι z) v_i rF tF 17 [(0, .ref h0), (1, .int x1), (2, .int x2), (3, .int x3)] [] t (kc17 h0 x1 x2 x3 t)) (h0 : Nat) (x2 : Int32) (x3 : Int32) (s0 : Int32) (s1 : Int32) (t : St) : Wf Γ p l e 3 64 s m args below meth c 4 (g_ι z) v_i rF tF 84 [(0, .ref h0), (2, .int x2), (3, .int x3)] [.int s0, .int s1] t (fX1_ties_84 ex z kc4 kc17 h0 x2 x3 s0 s1 t) := by
  unfold fX1_ties_84
  refine g_iadd (pc := 84) X dX1_ties_84 ?_
  refine g_lti (pc := 85) (fun y1 => ?_)
  refine g_istore_n (pc := 85) X (lv' := [(1, .int y1), (0, .ref h0), (2, .int x2), (3, .int x3)]) dX1_ties_85 rfl (by decide) rfl ?_
  refine g_iinc (pc := 86) X 1 3 (lv' := [(3, .int (x3 + 1)), (1, .int y1), (0, .ref h0), (2, .int x2)]) dX1_ties_86 rfl rfl (by decide) rfl ?_
  refine g_goto (pc := 89) X 17 dX1_ties_89 (by decide) ?_
  exact g_lv (pc := 17) (lv' := [(0, .ref h0), (1, .int y1), (2, .int x2), (3, .int (x3 + 1))]) [2, 1, 3, 0] rfl (hk17 h0 y1 x2 (x3 + 1) t)
noncomputable def fX1_ties_79 (ex : Nat → Option Nat) (z : Nat) (kc4 : Nat → Int32 → Int32 → St → Option (Int32 × St)) (kc17 : Nat → Int32 → Int32 → Int32 → St → Option (Int32 × St)) (h0 : Nat) (x2 : Int32) (x3 : Int32) (s0 : Int32) (t : St) : Option (Int32 × St) := fX1_ties_84 ex z kc4 kc17 h0 x2 x3 0 s0 t
set_option maxHeartbeats 4000000 in
theorem wX1_ties_79 {rF : Int32} (hex : ex = Γ.2.2.2.2) (X : g_X Γ p s m args meth c cX1_ties 4 RX1) (hr : meth.sig.returnType = (some .int)) {kc4 : Nat → Int32 → Int32 → St → Option (Int32 × St)} (hk4 : ∀ (h0 : Nat) (x1 : Int32) (x2 : Int32) (t : St), Wf Γ p l e 3 64 s m args below meth c 4 (g_ι z) v_i rF tF 4 [(0, .ref h0), (1, .int x1), (2, .int x2)] [] t (kc4 h0 x1 x2 t)) {kc17 : Nat → Int32 → Int32 → Int32 → St → Option (Int32 × St)} (hk17 : ∀ (h0 : Nat) (x1 : Int32) (x2 : Int32) (x3 : Int32) (t : St), Wf Γ p l e 3 64 s m args below meth c 4 (g_ι z) v_i rF tF 17 [(0, .ref h0), (1, .int x1), (2, .int x2), (3, .int x3)] [] t (kc17 h0 x1 x2 x3 t)) (h0 : Nat) (x2 : Int32) (x3 : Int32) (s0 : Int32) (t : St) : Wf Γ p l e 3 64 s m args below meth c 4 (g_ι z) v_i rF tF 79 [(0, .ref h0), (2, .int x2), (3, .int x3)] [.int s0] t (fX1_ties_79 ex z kc4 kc17 h0 x2 x3 s0 t) := by
  unfold fX1_ties_79
  refine g_iconst (pc := 79) X 0 dX1_ties_79 rfl ?_
  refine g_goto (pc := 80) X 84 dX1_ties_80 (by decide) ?_
  exact g_lv (pc := 84) (lv' := [(0, .ref h0), (2, .int x2), (3, .int x3)]) [0, 1, 2] rfl (wX1_ties_84 hex X hr hk4 hk17 h0 x2 x3 0 s0 t)
noncomputable def fX1_ties_17 (ex : Nat → Option Nat) (z : Nat) (kc4 : Nat → Int32 → Int32 → St → Option (Int32 × St)) : Nat → Nat → Int32 → Int32 → Int32 → St → Option (Int32 × St)
  | 0, _, _, _, _, _ => none
  | n + 1, h0, x1, x2, x3, t => if x2 ≤ x3 then kc4 h0 x1 (x2 + 1) t else cgA [1] 2 t h0 fun v1 => ccast [15] t v1 (gb (fJ2_get ex (z + t.2.1) v1 x2 (t.1, 0, 0)) t fun r2 t3 => ccast [4, 5, 6, 7, 8, 9] t3 r2 (cgA [1] 2 t3 h0 fun v9 => ccast [15] t3 v9 (gb (fJ2_get ex (z + t3.2.1) v9 x3 (t3.1, 0, 0)) t3 fun r10 t11 => ccast [4, 5, 6, 7, 8, 9] t11 r10 (ccast [4, 5, 6, 7, 8, 9] t11 r2 (gb (fX4_isAhead ex (z + t11.2.1) r2 r10 (t11.1, 0, 0)) t11 fun r17 t18 => if r17 = 0 then cgA [1] 2 t18 h0 fun v24 => ccast [15] t18 v24 (gb (fJ2_get ex (z + t18.2.1) v24 x3 (t18.1, 0, 0)) t18 fun r25 t26 => ccast [4, 5, 6, 7, 8, 9] t26 r25 (cgA [1] 2 t26 h0 fun v32 => ccast [15] t26 v32 (gb (fJ2_get ex (z + t26.2.1) v32 x2 (t26.1, 0, 0)) t26 fun r33 t34 => ccast [4, 5, 6, 7, 8, 9] t34 r33 (ccast [4, 5, 6, 7, 8, 9] t34 r25 (gb (fX4_isAhead ex (z + t34.2.1) r25 r33 (t34.1, 0, 0)) t34 fun r40 t41 => if r40 = 0 then fX1_ties_84 ex z kc4 (fun a0 a1 a2 a3 a4 => fX1_ties_17 ex z kc4 n a0 a1 a2 a3 a4) h0 x2 x3 1 x1 t41 else fX1_ties_79 ex z kc4 (fun a0 a1 a2 a3 a4 => fX1_ties_17 ex z kc4 n a0 a1 a2 a3 a4) h0 x2 x3 x1 t41))))) else fX1_ties_79 ex z kc4 (fun a0 a1 a2 a3 a4 => fX1_ties_17 ex z kc4 n a0 a1 a2 a3 a4) h0 x2 x3 x1 t18)))))
set_option maxHeartbeats 4000000 in
theorem wX1_ties_17 {rF : Int32} (hex : ex = Γ.2.2.2.2) (X : g_X Γ p s m args meth c cX1_ties 4 RX1) (hr : meth.sig.returnType = (some .int)) {kc4 : Nat → Int32 → Int32 → St → Option (Int32 × St)} (hk4 : ∀ (h0 : Nat) (x1 : Int32) (x2 : Int32) (t : St), Wf Γ p l e 3 64 s m args below meth c 4 (g_ι z) v_i rF tF 4 [(0, .ref h0), (1, .int x1), (2, .int x2)] [] t (kc4 h0 x1 x2 t)) (n : Nat) : ∀ (h0 : Nat) (x1 : Int32) (x2 : Int32) (x3 : Int32) (t : St), Wf Γ p l e 3 64 s m args below meth c 4 (g_ι z) v_i rF tF 17 [(0, .ref h0), (1, .int x1), (2, .int x2), (3, .int x3)] [] t (fX1_ties_17 ex z kc4 n h0 x1 x2 x3 t) := by
  induction n with
  | zero => intro h0 x1 x2 x3 t; exact g_none
  | succ n ih =>
    intro h0 x1 x2 x3 t
    rw [fX1_ties_17]
    refine g_iload_n (pc := 17) X 3 dX1_ties_17 rfl rfl ?_
    refine g_iload_n (pc := 18) X 2 dX1_ties_18 rfl rfl ?_
    refine g_icmp_ge (pc := 19) X 92 dX1_ties_19 (by decide) ?_ ?_
    · refine g_iinc (pc := 92) X 1 2 (lv' := [(2, .int (x2 + 1)), (0, .ref h0), (1, .int x1), (3, .int x3)]) dX1_ties_92 rfl rfl (by decide) rfl ?_
      refine g_goto (pc := 95) X 4 dX1_ties_95 (by decide) ?_
      exact g_lv (pc := 4) (lv' := [(0, .ref h0), (1, .int x1), (2, .int (x2 + 1))]) [1, 2, 0] rfl (hk4 h0 x1 (x2 + 1) t)
    · refine g_iload_n (pc := 22) X 1 dX1_ties_22 rfl rfl ?_
      refine g_aload_n (pc := 23) X 0 dX1_ties_23 rfl rfl ?_
      refine cg_getA (pc := 24) X fo_X1_22 dX1_ties_24 (fun v1 => ?_)
      refine g_iload_n (pc := 27) X 2 dX1_ties_27 rfl rfl ?_
      refine g_bD_a (pc := 28) X (cs := [15]) (As := [.int x2]) (rest := [.int x1]) (b := v1) (n := 1) dX1_ties_28 rfl rfl (Nat.le_of_ble_eq_true rfl) (fun fl4 ci5 fs6 hs7 hci8 r u h => ?_) (fun r2 t3 => ?_)
      · obtain rfl := List.mem_singleton.mp hci8
        exact ⟨_, _, _, yJ2_get, _, _, _, 2, 43, rfl, kJ2_get hex h, Or.inl (cwV 1 X.2.2.2.2.1 (lw_V q377 q352 q353 q74 q354) rfl rfl rfl dmV_J2_get ⟨Nat.le_of_ble_eq_true rfl, Nat.le_of_ble_eq_true rfl⟩)⟩
      refine cg_cast (pc := 31) X (cs := [4, 5, 6, 7, 8, 9]) q378 cf_LameClocks_Plain_6 dX1_ties_31 ?_
      refine g_aload_n (pc := 34) X 0 dX1_ties_34 rfl rfl ?_
      refine cg_getA (pc := 35) X fo_X1_22 dX1_ties_35 (fun v9 => ?_)
      refine g_iload_n (pc := 38) X 3 dX1_ties_38 rfl rfl ?_
      refine g_bD_a (pc := 39) X (cs := [15]) (As := [.int x3]) (rest := [.ref r2, .int x1]) (b := v9) (n := 1) dX1_ties_39 rfl rfl (Nat.le_of_ble_eq_true rfl) (fun fl12 ci13 fs14 hs15 hci16 r u h => ?_) (fun r10 t11 => ?_)
      · obtain rfl := List.mem_singleton.mp hci16
        exact ⟨_, _, _, yJ2_get, _, _, _, 2, 43, rfl, kJ2_get hex h, Or.inl (cwV 1 X.2.2.2.2.1 (lw_V q377 q352 q353 q74 q354) rfl rfl rfl dmV_J2_get ⟨Nat.le_of_ble_eq_true rfl, Nat.le_of_ble_eq_true rfl⟩)⟩
      refine cg_cast (pc := 42) X (cs := [4, 5, 6, 7, 8, 9]) q378 cf_LameClocks_Plain_6 dX1_ties_42 ?_
      refine g_bD_i (pc := 45) X (cs := [4, 5, 6, 7, 8, 9]) (As := [.ref r10]) (rest := [.int x1]) (b := r2) (n := 1) dX1_ties_45 rfl rfl (Nat.le_of_ble_eq_true rfl) (fun fl19 ci20 fs21 hs22 hci23 r u h => ?_) (fun r17 t18 => ?_)
      · simp only [List.mem_cons, List.not_mem_nil, or_false] at hci23
        rcases hci23 with rfl | rfl | rfl | rfl | rfl | rfl
        · exact ⟨_, _, _, yX4_isAhead, _, _, _, 1, 20, rfl, kX4_isAhead hex h, Or.inl (cwV 1 X.2.2.2.2.1 (lw_V q507 q508 q509 q77 q516) rfl rfl rfl dmV_X4_isAhead ⟨Nat.le_of_ble_eq_true rfl, Nat.le_of_ble_eq_true rfl⟩)⟩
        · exact ⟨_, _, _, yX4_isAhead, _, _, _, 1, 20, rfl, kX4_isAhead hex h, Or.inr (Or.inl ⟨_, _, va_cwU 1 X.2.2.2.2.1 (lw_U q507 q510 q511 q508 q77 q516) rfl rfl rfl rfl dmU_X4_isAhead1 ⟨Nat.le_of_ble_eq_true rfl, Nat.le_of_ble_eq_true rfl⟩⟩)⟩
        · exact ⟨_, _, _, yX4_isAhead, _, _, _, 1, 20, rfl, kX4_isAhead hex h, Or.inr (Or.inl ⟨_, _, va_cwU 1 X.2.2.2.2.1 (lw_U q507 q510 q513 q508 q77 q516) rfl rfl rfl rfl dmU_X4_isAhead1 ⟨Nat.le_of_ble_eq_true rfl, Nat.le_of_ble_eq_true rfl⟩⟩)⟩
        · exact ⟨_, _, _, yX4_isAhead, _, _, _, 1, 20, rfl, kX4_isAhead hex h, Or.inr (Or.inl ⟨_, _, va_cwU 1 X.2.2.2.2.1 (lw_U q507 q510 q514 q508 q77 q516) rfl rfl rfl rfl dmU_X4_isAhead1 ⟨Nat.le_of_ble_eq_true rfl, Nat.le_of_ble_eq_true rfl⟩⟩)⟩
        · exact ⟨_, _, _, yX4_isAhead, _, _, _, 1, 20, rfl, kX4_isAhead hex h, Or.inr (Or.inl ⟨_, _, va_cwU 1 X.2.2.2.2.1 (lw_U q507 q510 q515 q508 q77 q516) rfl rfl rfl rfl dmU_X4_isAhead1 ⟨Nat.le_of_ble_eq_true rfl, Nat.le_of_ble_eq_true rfl⟩⟩)⟩
        · exact ⟨_, _, _, yX4_isAhead, _, _, _, 1, 20, rfl, kX4_isAhead hex h, Or.inr (Or.inl ⟨_, _, va_cwU 1 X.2.2.2.2.1 (lw_U q507 q510 q512 q508 q77 q516) rfl rfl rfl rfl dmU_X4_isAhead1 ⟨Nat.le_of_ble_eq_true rfl, Nat.le_of_ble_eq_true rfl⟩⟩)⟩
      refine g_if_ne (pc := 48) X 79 dX1_ties_48 (by decide) ?_ ?_
      · exact g_lv (pc := 79) (lv' := [(0, .ref h0), (2, .int x2), (3, .int x3)]) [0, 2, 3] rfl (wX1_ties_79 hex X hr hk4 (fun a0 a1 a2 a3 a4 => ih a0 a1 a2 a3 a4) h0 x2 x3 x1 t18)
      · refine g_aload_n (pc := 51) X 0 dX1_ties_51 rfl rfl ?_
        refine cg_getA (pc := 52) X fo_X1_22 dX1_ties_52 (fun v24 => ?_)
        refine g_iload_n (pc := 55) X 3 dX1_ties_55 rfl rfl ?_
        refine g_bD_a (pc := 56) X (cs := [15]) (As := [.int x3]) (rest := [.int x1]) (b := v24) (n := 1) dX1_ties_56 rfl rfl (Nat.le_of_ble_eq_true rfl) (fun fl27 ci28 fs29 hs30 hci31 r u h => ?_) (fun r25 t26 => ?_)
        · obtain rfl := List.mem_singleton.mp hci31
          exact ⟨_, _, _, yJ2_get, _, _, _, 2, 43, rfl, kJ2_get hex h, Or.inl (cwV 1 X.2.2.2.2.1 (lw_V q377 q352 q353 q74 q354) rfl rfl rfl dmV_J2_get ⟨Nat.le_of_ble_eq_true rfl, Nat.le_of_ble_eq_true rfl⟩)⟩
        refine cg_cast (pc := 59) X (cs := [4, 5, 6, 7, 8, 9]) q378 cf_LameClocks_Plain_6 dX1_ties_59 ?_
        refine g_aload_n (pc := 62) X 0 dX1_ties_62 rfl rfl ?_
        refine cg_getA (pc := 63) X fo_X1_22 dX1_ties_63 (fun v32 => ?_)
        refine g_iload_n (pc := 66) X 2 dX1_ties_66 rfl rfl ?_
        refine g_bD_a (pc := 67) X (cs := [15]) (As := [.int x2]) (rest := [.ref r25, .int x1]) (b := v32) (n := 1) dX1_ties_67 rfl rfl (Nat.le_of_ble_eq_true rfl) (fun fl35 ci36 fs37 hs38 hci39 r u h => ?_) (fun r33 t34 => ?_)
        · obtain rfl := List.mem_singleton.mp hci39
          exact ⟨_, _, _, yJ2_get, _, _, _, 2, 43, rfl, kJ2_get hex h, Or.inl (cwV 1 X.2.2.2.2.1 (lw_V q377 q352 q353 q74 q354) rfl rfl rfl dmV_J2_get ⟨Nat.le_of_ble_eq_true rfl, Nat.le_of_ble_eq_true rfl⟩)⟩
        refine cg_cast (pc := 70) X (cs := [4, 5, 6, 7, 8, 9]) q378 cf_LameClocks_Plain_6 dX1_ties_70 ?_
        refine g_bD_i (pc := 73) X (cs := [4, 5, 6, 7, 8, 9]) (As := [.ref r33]) (rest := [.int x1]) (b := r25) (n := 1) dX1_ties_73 rfl rfl (Nat.le_of_ble_eq_true rfl) (fun fl42 ci43 fs44 hs45 hci46 r u h => ?_) (fun r40 t41 => ?_)
        · simp only [List.mem_cons, List.not_mem_nil, or_false] at hci46
          rcases hci46 with rfl | rfl | rfl | rfl | rfl | rfl
          · exact ⟨_, _, _, yX4_isAhead, _, _, _, 1, 20, rfl, kX4_isAhead hex h, Or.inl (cwV 1 X.2.2.2.2.1 (lw_V q507 q508 q509 q77 q516) rfl rfl rfl dmV_X4_isAhead ⟨Nat.le_of_ble_eq_true rfl, Nat.le_of_ble_eq_true rfl⟩)⟩
          · exact ⟨_, _, _, yX4_isAhead, _, _, _, 1, 20, rfl, kX4_isAhead hex h, Or.inr (Or.inl ⟨_, _, va_cwU 1 X.2.2.2.2.1 (lw_U q507 q510 q511 q508 q77 q516) rfl rfl rfl rfl dmU_X4_isAhead1 ⟨Nat.le_of_ble_eq_true rfl, Nat.le_of_ble_eq_true rfl⟩⟩)⟩
          · exact ⟨_, _, _, yX4_isAhead, _, _, _, 1, 20, rfl, kX4_isAhead hex h, Or.inr (Or.inl ⟨_, _, va_cwU 1 X.2.2.2.2.1 (lw_U q507 q510 q513 q508 q77 q516) rfl rfl rfl rfl dmU_X4_isAhead1 ⟨Nat.le_of_ble_eq_true rfl, Nat.le_of_ble_eq_true rfl⟩⟩)⟩
          · exact ⟨_, _, _, yX4_isAhead, _, _, _, 1, 20, rfl, kX4_isAhead hex h, Or.inr (Or.inl ⟨_, _, va_cwU 1 X.2.2.2.2.1 (lw_U q507 q510 q514 q508 q77 q516) rfl rfl rfl rfl dmU_X4_isAhead1 ⟨Nat.le_of_ble_eq_true rfl, Nat.le_of_ble_eq_true rfl⟩⟩)⟩
          · exact ⟨_, _, _, yX4_isAhead, _, _, _, 1, 20, rfl, kX4_isAhead hex h, Or.inr (Or.inl ⟨_, _, va_cwU 1 X.2.2.2.2.1 (lw_U q507 q510 q515 q508 q77 q516) rfl rfl rfl rfl dmU_X4_isAhead1 ⟨Nat.le_of_ble_eq_true rfl, Nat.le_of_ble_eq_true rfl⟩⟩)⟩
          · exact ⟨_, _, _, yX4_isAhead, _, _, _, 1, 20, rfl, kX4_isAhead hex h, Or.inr (Or.inl ⟨_, _, va_cwU 1 X.2.2.2.2.1 (lw_U q507 q510 q512 q508 q77 q516) rfl rfl rfl rfl dmU_X4_isAhead1 ⟨Nat.le_of_ble_eq_true rfl, Nat.le_of_ble_eq_true rfl⟩⟩)⟩
        refine g_if_eq (pc := 76) X 83 dX1_ties_76 (by decide) ?_ ?_
        · refine g_iconst (pc := 83) X 1 dX1_ties_83 rfl ?_
          exact g_lv (pc := 84) (lv' := [(0, .ref h0), (2, .int x2), (3, .int x3)]) [0, 2, 3] rfl (wX1_ties_84 hex X hr hk4 (fun a0 a1 a2 a3 a4 => ih a0 a1 a2 a3 a4) h0 x2 x3 1 x1 t41)
        · exact g_lv (pc := 79) (lv' := [(0, .ref h0), (2, .int x2), (3, .int x3)]) [0, 2, 3] rfl (wX1_ties_79 hex X hr hk4 (fun a0 a1 a2 a3 a4 => ih a0 a1 a2 a3 a4) h0 x2 x3 x1 t41)
noncomputable def fX1_ties_4 (ex : Nat → Option Nat) (z : Nat) : Nat → Nat → Int32 → Int32 → St → Option (Int32 × St)
  | 0, _, _, _, _ => none
  | n + 1, h0, x1, x2, t => cgA [1] 2 t h0 fun v1 => ccast [15] t v1 (gb (fJ2_size ex (z + t.2.1) v1 (t.1, 0, 0)) t fun r2 t3 => if r2 ≤ x2 then some (x1, t3) else fX1_ties_17 ex z (fun a0 a1 a2 a3 => fX1_ties_4 ex z n a0 a1 a2 a3) 1000 h0 x1 x2 0 t3)
set_option maxHeartbeats 4000000 in
theorem wX1_ties_4 {rF : Int32} (hex : ex = Γ.2.2.2.2) (X : g_X Γ p s m args meth c cX1_ties 4 RX1) (hr : meth.sig.returnType = (some .int)) (n : Nat) : ∀ (h0 : Nat) (x1 : Int32) (x2 : Int32) (t : St), Wf Γ p l e 3 64 s m args below meth c 4 (g_ι z) v_i rF tF 4 [(0, .ref h0), (1, .int x1), (2, .int x2)] [] t (fX1_ties_4 ex z n h0 x1 x2 t) := by
  induction n with
  | zero => intro h0 x1 x2 t; exact g_none
  | succ n ih =>
    intro h0 x1 x2 t
    rw [fX1_ties_4]
    refine g_iload_n (pc := 4) X 2 dX1_ties_4 rfl rfl ?_
    refine g_aload_n (pc := 5) X 0 dX1_ties_5 rfl rfl ?_
    refine cg_getA (pc := 6) X fo_X1_22 dX1_ties_6 (fun v1 => ?_)
    refine g_bD_i (pc := 9) X (cs := [15]) (As := []) (rest := [.int x2]) (b := v1) (n := 0) dX1_ties_9 rfl rfl (Nat.le_of_ble_eq_true rfl) (fun fl4 ci5 fs6 hs7 hci8 r u h => ?_) (fun r2 t3 => ?_)
    · obtain rfl := List.mem_singleton.mp hci8
      exact ⟨_, _, _, yJ2_size, _, _, _, 0, 0, rfl, kJ2_size hex h, Or.inl (cwV 0 X.2.2.2.2.1 (lw_V q133 q134 q135 q74 q136) rfl rfl rfl dmV_J2_size ⟨Nat.le_of_ble_eq_true rfl, Nat.le_of_ble_eq_true rfl⟩)⟩
    refine g_icmp_ge (pc := 12) X 98 dX1_ties_12 (by decide) ?_ ?_
    · refine g_iload_n (pc := 98) X 1 dX1_ties_98 rfl rfl ?_
      exact g_iret (pc := 99) X hr dX1_ties_99
    · refine g_iconst (pc := 15) X 0 dX1_ties_15 rfl ?_
      refine g_istore_n (pc := 16) X (lv' := [(3, .int 0), (0, .ref h0), (1, .int x1), (2, .int x2)]) dX1_ties_16 rfl (by decide) rfl ?_
      exact g_lv (pc := 17) (lv' := [(0, .ref h0), (1, .int x1), (2, .int x2), (3, .int 0)]) [1, 2, 3, 0] rfl (wX1_ties_17 hex X hr (fun a0 a1 a2 a3 => ih a0 a1 a2 a3) 1000 h0 x1 x2 0 t3)
noncomputable def fX1_ties (ex : Nat → Option Nat) (z : Nat) (h0 : Nat) (t : St) : Option (Int32 × St) := fX1_ties_4 ex z 1000 h0 0 0 t
set_option maxHeartbeats 4000000 in
theorem wX1_ties {rF : Int32} (hex : ex = Γ.2.2.2.2) (X : g_X Γ p s m args meth c cX1_ties 4 RX1) (hr : meth.sig.returnType = (some .int)) (h0 : Nat) (t : St) : Wf Γ p l e 3 64 s m args below meth c 4 (g_ι z) v_i rF tF 0 [(0, .ref h0)] [] t (fX1_ties ex z h0 t) := by
  unfold fX1_ties
  refine g_iconst (pc := 0) X 0 dX1_ties_0 rfl ?_
  refine g_istore_n (pc := 1) X (lv' := [(1, .int 0), (0, .ref h0)]) dX1_ties_1 rfl (by decide) rfl ?_
  refine g_iconst (pc := 2) X 0 dX1_ties_2 rfl ?_
  refine g_istore_n (pc := 3) X (lv' := [(2, .int 0), (1, .int 0), (0, .ref h0)]) dX1_ties_3 rfl (by decide) rfl ?_
  exact g_lv (pc := 4) (lv' := [(0, .ref h0), (1, .int 0), (2, .int 0)]) [2, 1, 0] rfl (wX1_ties_4 hex X hr 1000 h0 0 0 t)
theorem kX1_ties {ex : Nat → Option Nat} {z : Nat} {h0 : Nat} {σ : Sg} {r : Int32} {u : St} (hex : ex = Γ.2.2.2.2) (h : fX1_ties ex z h0 (σ, 0, 0) = some (r, u)) : g_C Γ l yX1_ties cX1_ties 4 (some .int) 3 64 [.ref h0] σ z v_i r (g_ι z u) :=
  g_met (ι := g_ι z) (t := (σ, 0, 0)) [.ref h0] (by decide) (Nat.le_of_ble_eq_true rfl) h rfl (fun p e s m args below meth c X hr hn => wX1_ties hex X hr h0 (σ, 0, 0))
end CP
abbrev cX1_place : ByteArray := prog_12_method_13_code
def yX1_place : MethodName := ⟨RX1, "place", "(LLameClocks$Plain;)I"⟩
def dkwX1_place_2 : List UInt8 := [172]
abbrev dktX1_place_2 : List UInt8 := dkwX1_place_2 ++ []
def dkwX1_place_1 : List UInt8 := [192, 0, 39, 43, 182, 0, 129, 153, 0, 7, 4, 167, 0, 4, 3, 96, 61, 132, 3, 1, 167, 255, 216, 28]
abbrev dktX1_place_1 : List UInt8 := dkwX1_place_1 ++ dktX1_place_2
def dkwX1_place_0 : List UInt8 := [4, 61, 3, 62, 29, 42, 180, 0, 22, 182, 0, 44, 162, 0, 35, 28, 42, 180, 0, 22, 29, 182, 0, 35]
abbrev dktX1_place_0 : List UInt8 := dkwX1_place_0 ++ dktX1_place_1
theorem dksX1_place_0 : cX1_place.data.toList.drop 0 = dktX1_place_0 := by decide +kernel
theorem dksX1_place_1 : cX1_place.data.toList.drop 24 = dktX1_place_1 := dk_seg dksX1_place_0 24 rfl rfl
theorem dksX1_place_2 : cX1_place.data.toList.drop 48 = dktX1_place_2 := dk_seg dksX1_place_1 24 rfl rfl
theorem dX1_place_0 : decode cX1_place 0 = .ok (.iconst 1, 1) := dk_4 (dk_at dksX1_place_0 0 rfl rfl)
theorem dX1_place_1 : decode cX1_place 1 = .ok (.istore_n 2, 1) := dk_61 (dk_at dksX1_place_0 1 rfl rfl)
theorem dX1_place_2 : decode cX1_place 2 = .ok (.iconst 0, 1) := dk_3 (dk_at dksX1_place_0 2 rfl rfl)
theorem dX1_place_3 : decode cX1_place 3 = .ok (.istore_n 3, 1) := dk_62 (dk_at dksX1_place_0 3 rfl rfl)
theorem dX1_place_4 : decode cX1_place 4 = .ok (.iload_n 3, 1) := dk_29 (dk_at dksX1_place_0 4 rfl rfl)
theorem dX1_place_5 : decode cX1_place 5 = .ok (.aload_n 0, 1) := dk_42 (dk_at dksX1_place_0 5 rfl rfl)
theorem dX1_place_6 : decode cX1_place 6 = .ok (.getfield 22, 3) := dk_180 0 22 (dk_at dksX1_place_0 6 rfl rfl)
theorem dX1_place_9 : decode cX1_place 9 = .ok (.invokevirtual 44, 3) := dk_182 0 44 (dk_at dksX1_place_0 9 rfl rfl)
theorem dX1_place_12 : decode cX1_place 12 = .ok (.if_icmp .ge 35, 3) := dk_162 0 35 (dk_at dksX1_place_0 12 rfl rfl)
theorem dX1_place_15 : decode cX1_place 15 = .ok (.iload_n 2, 1) := dk_28 (dk_at dksX1_place_0 15 rfl rfl)
theorem dX1_place_16 : decode cX1_place 16 = .ok (.aload_n 0, 1) := dk_42 (dk_at dksX1_place_0 16 rfl rfl)
theorem dX1_place_17 : decode cX1_place 17 = .ok (.getfield 22, 3) := dk_180 0 22 (dk_at dksX1_place_0 17 rfl rfl)
theorem dX1_place_20 : decode cX1_place 20 = .ok (.iload_n 3, 1) := dk_29 (dk_at dksX1_place_0 20 rfl rfl)
theorem dX1_place_21 : decode cX1_place 21 = .ok (.invokevirtual 35, 3) := dk_182 0 35 (dk_at dksX1_place_0 21 rfl rfl)
theorem dX1_place_24 : decode cX1_place 24 = .ok (.checkcast 39, 3) := dk_192 0 39 (dk_at dksX1_place_1 0 rfl rfl)
theorem dX1_place_27 : decode cX1_place 27 = .ok (.aload_n 1, 1) := dk_43 (dk_at dksX1_place_1 3 rfl rfl)
theorem dX1_place_28 : decode cX1_place 28 = .ok (.invokevirtual 129, 3) := dk_182 0 129 (dk_at dksX1_place_1 4 rfl rfl)
theorem dX1_place_31 : decode cX1_place 31 = .ok (.ifCond .eq 7, 3) := dk_153 0 7 (dk_at dksX1_place_1 7 rfl rfl)
theorem dX1_place_34 : decode cX1_place 34 = .ok (.iconst 1, 1) := dk_4 (dk_at dksX1_place_1 10 rfl rfl)
theorem dX1_place_35 : decode cX1_place 35 = .ok (.goto 4, 3) := dk_167 0 4 (dk_at dksX1_place_1 11 rfl rfl)
theorem dX1_place_38 : decode cX1_place 38 = .ok (.iconst 0, 1) := dk_3 (dk_at dksX1_place_1 14 rfl rfl)
theorem dX1_place_39 : decode cX1_place 39 = .ok (.iadd, 1) := dk_96 (dk_at dksX1_place_1 15 rfl rfl)
theorem dX1_place_40 : decode cX1_place 40 = .ok (.istore_n 2, 1) := dk_61 (dk_at dksX1_place_1 16 rfl rfl)
theorem dX1_place_41 : decode cX1_place 41 = .ok (.iinc 3 1, 3) := dk_132 3 1 (dk_at dksX1_place_1 17 rfl rfl)
theorem dX1_place_44 : decode cX1_place 44 = .ok (.goto (-40), 3) := dk_167 255 216 (dk_at dksX1_place_1 20 rfl rfl)
theorem dX1_place_47 : decode cX1_place 47 = .ok (.iload_n 2, 1) := dk_28 (dk_at dksX1_place_1 23 rfl rfl)
theorem dX1_place_48 : decode cX1_place 48 = .ok (.ireturn, 1) := dk_172 (dk_at dksX1_place_2 0 rfl rfl)
section CP
variable {Γ : Gc} {p : Program} {l : Launch} {e : Env} {s : State} {m : MethodId} {args : Array Value} {below : List Frame} {meth : Method} {c : Code} {ex : Nat → Option Nat} {z : Nat} {tF : St}
noncomputable def fX1_place_39 (ex : Nat → Option Nat) (z : Nat) (kc4 : Nat → Nat → Int32 → Int32 → St → Option (Int32 × St)) (h0 : Nat) (h1 : Nat) (x3 : Int32) (s0 : Int32) (s1 : Int32) (t : St) : Option (Int32 × St) := lt (s1 + s0) fun y1 => kc4 h0 h1 y1 (x3 + 1) t
set_option maxHeartbeats 4000000 in
theorem wX1_place_39 {rF : Int32} (hex : ex = Γ.2.2.2.2) (X : g_X Γ p s m args meth c cX1_place 4 RX1) (hr : meth.sig.returnType = (some .int)) {kc4 : Nat → Nat → Int32 → Int32 → St → Option (Int32 × St)} (hk4 : ∀ (h0 : Nat) (h1 : Nat) (x2 : Int32) (x3 : Int32) (t : St), Wf Γ p l e 3 64 s m args below meth c 4 (g_ι z) v_i rF tF 4 [(0, .ref h0), (1, .ref h1), (2, .int x2), (3, .int x3)] [] t (kc4 h0 h1 x2 x3 t)) (h0 : Nat) (h1 : Nat) (x3 : Int32) (s0 : Int32) (s1 : Int32) (t : St) : Wf Γ p l e 3 64 s m args below meth c 4 (g_ι z) v_i rF tF 39 [(0, .ref h0), (1, .ref h1), (3, .int x3)] [.int s0, .int s1] t (fX1_place_39 ex z kc4 h0 h1 x3 s0 s1 t) := by
  unfold fX1_place_39
  refine g_iadd (pc := 39) X dX1_place_39 ?_
  refine g_lti (pc := 40) (fun y1 => ?_)
  refine g_istore_n (pc := 40) X (lv' := [(2, .int y1), (0, .ref h0), (1, .ref h1), (3, .int x3)]) dX1_place_40 rfl (by decide) rfl ?_
  refine g_iinc (pc := 41) X 1 3 (lv' := [(3, .int (x3 + 1)), (2, .int y1), (0, .ref h0), (1, .ref h1)]) dX1_place_41 rfl rfl (by decide) rfl ?_
  refine g_goto (pc := 44) X 4 dX1_place_44 (by decide) ?_
  exact g_lv (pc := 4) (lv' := [(0, .ref h0), (1, .ref h1), (2, .int y1), (3, .int (x3 + 1))]) [2, 3, 1, 0] rfl (hk4 h0 h1 y1 (x3 + 1) t)
noncomputable def fX1_place_4 (ex : Nat → Option Nat) (z : Nat) : Nat → Nat → Nat → Int32 → Int32 → St → Option (Int32 × St)
  | 0, _, _, _, _, _ => none
  | n + 1, h0, h1, x2, x3, t => cgA [1] 2 t h0 fun v1 => ccast [15] t v1 (gb (fJ2_size ex (z + t.2.1) v1 (t.1, 0, 0)) t fun r2 t3 => if r2 ≤ x3 then some (x2, t3) else cgA [1] 2 t3 h0 fun v9 => ccast [15] t3 v9 (gb (fJ2_get ex (z + t3.2.1) v9 x3 (t3.1, 0, 0)) t3 fun r10 t11 => ccast [4, 5, 6, 7, 8, 9] t11 r10 (ccast [4, 5, 6, 7, 8, 9] t11 r10 (gb (fX4_isAhead ex (z + t11.2.1) r10 h1 (t11.1, 0, 0)) t11 fun r17 t18 => if r17 = 0 then fX1_place_39 ex z (fun a0 a1 a2 a3 a4 => fX1_place_4 ex z n a0 a1 a2 a3 a4) h0 h1 x3 0 x2 t18 else fX1_place_39 ex z (fun a0 a1 a2 a3 a4 => fX1_place_4 ex z n a0 a1 a2 a3 a4) h0 h1 x3 1 x2 t18))))
set_option maxHeartbeats 4000000 in
theorem wX1_place_4 {rF : Int32} (hex : ex = Γ.2.2.2.2) (X : g_X Γ p s m args meth c cX1_place 4 RX1) (hr : meth.sig.returnType = (some .int)) (n : Nat) : ∀ (h0 : Nat) (h1 : Nat) (x2 : Int32) (x3 : Int32) (t : St), Wf Γ p l e 3 64 s m args below meth c 4 (g_ι z) v_i rF tF 4 [(0, .ref h0), (1, .ref h1), (2, .int x2), (3, .int x3)] [] t (fX1_place_4 ex z n h0 h1 x2 x3 t) := by
  induction n with
  | zero => intro h0 h1 x2 x3 t; exact g_none
  | succ n ih =>
    intro h0 h1 x2 x3 t
    rw [fX1_place_4]
    refine g_iload_n (pc := 4) X 3 dX1_place_4 rfl rfl ?_
    refine g_aload_n (pc := 5) X 0 dX1_place_5 rfl rfl ?_
    refine cg_getA (pc := 6) X fo_X1_22 dX1_place_6 (fun v1 => ?_)
    refine g_bD_i (pc := 9) X (cs := [15]) (As := []) (rest := [.int x3]) (b := v1) (n := 0) dX1_place_9 rfl rfl (Nat.le_of_ble_eq_true rfl) (fun fl4 ci5 fs6 hs7 hci8 r u h => ?_) (fun r2 t3 => ?_)
    · obtain rfl := List.mem_singleton.mp hci8
      exact ⟨_, _, _, yJ2_size, _, _, _, 0, 0, rfl, kJ2_size hex h, Or.inl (cwV 0 X.2.2.2.2.1 (lw_V q133 q134 q135 q74 q136) rfl rfl rfl dmV_J2_size ⟨Nat.le_of_ble_eq_true rfl, Nat.le_of_ble_eq_true rfl⟩)⟩
    refine g_icmp_ge (pc := 12) X 47 dX1_place_12 (by decide) ?_ ?_
    · refine g_iload_n (pc := 47) X 2 dX1_place_47 rfl rfl ?_
      exact g_iret (pc := 48) X hr dX1_place_48
    · refine g_iload_n (pc := 15) X 2 dX1_place_15 rfl rfl ?_
      refine g_aload_n (pc := 16) X 0 dX1_place_16 rfl rfl ?_
      refine cg_getA (pc := 17) X fo_X1_22 dX1_place_17 (fun v9 => ?_)
      refine g_iload_n (pc := 20) X 3 dX1_place_20 rfl rfl ?_
      refine g_bD_a (pc := 21) X (cs := [15]) (As := [.int x3]) (rest := [.int x2]) (b := v9) (n := 1) dX1_place_21 rfl rfl (Nat.le_of_ble_eq_true rfl) (fun fl12 ci13 fs14 hs15 hci16 r u h => ?_) (fun r10 t11 => ?_)
      · obtain rfl := List.mem_singleton.mp hci16
        exact ⟨_, _, _, yJ2_get, _, _, _, 2, 43, rfl, kJ2_get hex h, Or.inl (cwV 1 X.2.2.2.2.1 (lw_V q377 q352 q353 q74 q354) rfl rfl rfl dmV_J2_get ⟨Nat.le_of_ble_eq_true rfl, Nat.le_of_ble_eq_true rfl⟩)⟩
      refine cg_cast (pc := 24) X (cs := [4, 5, 6, 7, 8, 9]) q378 cf_LameClocks_Plain_6 dX1_place_24 ?_
      refine g_aload_n (pc := 27) X 1 dX1_place_27 rfl rfl ?_
      refine g_bD_i (pc := 28) X (cs := [4, 5, 6, 7, 8, 9]) (As := [.ref h1]) (rest := [.int x2]) (b := r10) (n := 1) dX1_place_28 rfl rfl (Nat.le_of_ble_eq_true rfl) (fun fl19 ci20 fs21 hs22 hci23 r u h => ?_) (fun r17 t18 => ?_)
      · simp only [List.mem_cons, List.not_mem_nil, or_false] at hci23
        rcases hci23 with rfl | rfl | rfl | rfl | rfl | rfl
        · exact ⟨_, _, _, yX4_isAhead, _, _, _, 1, 20, rfl, kX4_isAhead hex h, Or.inl (cwV 1 X.2.2.2.2.1 (lw_V q507 q508 q509 q77 q516) rfl rfl rfl dmV_X4_isAhead ⟨Nat.le_of_ble_eq_true rfl, Nat.le_of_ble_eq_true rfl⟩)⟩
        · exact ⟨_, _, _, yX4_isAhead, _, _, _, 1, 20, rfl, kX4_isAhead hex h, Or.inr (Or.inl ⟨_, _, va_cwU 1 X.2.2.2.2.1 (lw_U q507 q510 q511 q508 q77 q516) rfl rfl rfl rfl dmU_X4_isAhead1 ⟨Nat.le_of_ble_eq_true rfl, Nat.le_of_ble_eq_true rfl⟩⟩)⟩
        · exact ⟨_, _, _, yX4_isAhead, _, _, _, 1, 20, rfl, kX4_isAhead hex h, Or.inr (Or.inl ⟨_, _, va_cwU 1 X.2.2.2.2.1 (lw_U q507 q510 q513 q508 q77 q516) rfl rfl rfl rfl dmU_X4_isAhead1 ⟨Nat.le_of_ble_eq_true rfl, Nat.le_of_ble_eq_true rfl⟩⟩)⟩
        · exact ⟨_, _, _, yX4_isAhead, _, _, _, 1, 20, rfl, kX4_isAhead hex h, Or.inr (Or.inl ⟨_, _, va_cwU 1 X.2.2.2.2.1 (lw_U q507 q510 q514 q508 q77 q516) rfl rfl rfl rfl dmU_X4_isAhead1 ⟨Nat.le_of_ble_eq_true rfl, Nat.le_of_ble_eq_true rfl⟩⟩)⟩
        · exact ⟨_, _, _, yX4_isAhead, _, _, _, 1, 20, rfl, kX4_isAhead hex h, Or.inr (Or.inl ⟨_, _, va_cwU 1 X.2.2.2.2.1 (lw_U q507 q510 q515 q508 q77 q516) rfl rfl rfl rfl dmU_X4_isAhead1 ⟨Nat.le_of_ble_eq_true rfl, Nat.le_of_ble_eq_true rfl⟩⟩)⟩
        · exact ⟨_, _, _, yX4_isAhead, _, _, _, 1, 20, rfl, kX4_isAhead hex h, Or.inr (Or.inl ⟨_, _, va_cwU 1 X.2.2.2.2.1 (lw_U q507 q510 q512 q508 q77 q516) rfl rfl rfl rfl dmU_X4_isAhead1 ⟨Nat.le_of_ble_eq_true rfl, Nat.le_of_ble_eq_true rfl⟩⟩)⟩
      refine g_if_eq (pc := 31) X 38 dX1_place_31 (by decide) ?_ ?_
      · refine g_iconst (pc := 38) X 0 dX1_place_38 rfl ?_
        exact g_lv (pc := 39) (lv' := [(0, .ref h0), (1, .ref h1), (3, .int x3)]) [0, 1, 3] rfl (wX1_place_39 hex X hr (fun a0 a1 a2 a3 a4 => ih a0 a1 a2 a3 a4) h0 h1 x3 0 x2 t18)
      · refine g_iconst (pc := 34) X 1 dX1_place_34 rfl ?_
        refine g_goto (pc := 35) X 39 dX1_place_35 (by decide) ?_
        exact g_lv (pc := 39) (lv' := [(0, .ref h0), (1, .ref h1), (3, .int x3)]) [0, 1, 3] rfl (wX1_place_39 hex X hr (fun a0 a1 a2 a3 a4 => ih a0 a1 a2 a3 a4) h0 h1 x3 1 x2 t18)
noncomputable def fX1_place (ex : Nat → Option Nat) (z : Nat) (h0 : Nat) (h1 : Nat) (t : St) : Option (Int32 × St) := fX1_place_4 ex z 1000 h0 h1 1 0 t
set_option maxHeartbeats 4000000 in
theorem wX1_place {rF : Int32} (hex : ex = Γ.2.2.2.2) (X : g_X Γ p s m args meth c cX1_place 4 RX1) (hr : meth.sig.returnType = (some .int)) (h0 : Nat) (h1 : Nat) (t : St) : Wf Γ p l e 3 64 s m args below meth c 4 (g_ι z) v_i rF tF 0 [(0, .ref h0), (1, .ref h1)] [] t (fX1_place ex z h0 h1 t) := by
  unfold fX1_place
  refine g_iconst (pc := 0) X 1 dX1_place_0 rfl ?_
  refine g_istore_n (pc := 1) X (lv' := [(2, .int 1), (0, .ref h0), (1, .ref h1)]) dX1_place_1 rfl (by decide) rfl ?_
  refine g_iconst (pc := 2) X 0 dX1_place_2 rfl ?_
  refine g_istore_n (pc := 3) X (lv' := [(3, .int 0), (2, .int 1), (0, .ref h0), (1, .ref h1)]) dX1_place_3 rfl (by decide) rfl ?_
  exact g_lv (pc := 4) (lv' := [(0, .ref h0), (1, .ref h1), (2, .int 1), (3, .int 0)]) [2, 3, 1, 0] rfl (wX1_place_4 hex X hr 1000 h0 h1 1 0 t)
theorem kX1_place {ex : Nat → Option Nat} {z : Nat} {h0 : Nat} {h1 : Nat} {σ : Sg} {r : Int32} {u : St} (hex : ex = Γ.2.2.2.2) (h : fX1_place ex z h0 h1 (σ, 0, 0) = some (r, u)) : g_C Γ l yX1_place cX1_place 4 (some .int) 3 64 [.ref h0, .ref h1] σ z v_i r (g_ι z u) :=
  g_met (ι := g_ι z) (t := (σ, 0, 0)) [.ref h0, .ref h1] (by decide) (Nat.le_of_ble_eq_true rfl) h rfl (fun p e s m args below meth c X hr hn => wX1_place hex X hr h0 h1 (σ, 0, 0))
end CP
abbrev cX1_begins : ByteArray := prog_12_method_10_code
def yX1_begins : MethodName := ⟨RX1, "begins", "()I"⟩
def dkwX1_begins_2 : List UInt8 := [45, 16, 252, 181, 0, 92, 132, 2, 1, 167, 255, 204, 27, 172]
abbrev dktX1_begins_2 : List UInt8 := dkwX1_begins_2 ++ []
def dkwX1_begins_1 : List UInt8 := [192, 0, 39, 78, 27, 45, 182, 0, 85, 153, 0, 7, 4, 167, 0, 4, 3, 96, 60, 45, 3, 181, 0, 89]
abbrev dktX1_begins_1 : List UInt8 := dkwX1_begins_1 ++ dktX1_begins_2
def dkwX1_begins_0 : List UInt8 := [3, 60, 3, 61, 28, 42, 180, 0, 22, 182, 0, 44, 162, 0, 47, 42, 180, 0, 22, 28, 182, 0, 35]
abbrev dktX1_begins_0 : List UInt8 := dkwX1_begins_0 ++ dktX1_begins_1
theorem dksX1_begins_0 : cX1_begins.data.toList.drop 0 = dktX1_begins_0 := by decide +kernel
theorem dksX1_begins_1 : cX1_begins.data.toList.drop 23 = dktX1_begins_1 := dk_seg dksX1_begins_0 23 rfl rfl
theorem dksX1_begins_2 : cX1_begins.data.toList.drop 47 = dktX1_begins_2 := dk_seg dksX1_begins_1 24 rfl rfl
theorem dX1_begins_0 : decode cX1_begins 0 = .ok (.iconst 0, 1) := dk_3 (dk_at dksX1_begins_0 0 rfl rfl)
theorem dX1_begins_1 : decode cX1_begins 1 = .ok (.istore_n 1, 1) := dk_60 (dk_at dksX1_begins_0 1 rfl rfl)
theorem dX1_begins_2 : decode cX1_begins 2 = .ok (.iconst 0, 1) := dk_3 (dk_at dksX1_begins_0 2 rfl rfl)
theorem dX1_begins_3 : decode cX1_begins 3 = .ok (.istore_n 2, 1) := dk_61 (dk_at dksX1_begins_0 3 rfl rfl)
theorem dX1_begins_4 : decode cX1_begins 4 = .ok (.iload_n 2, 1) := dk_28 (dk_at dksX1_begins_0 4 rfl rfl)
theorem dX1_begins_5 : decode cX1_begins 5 = .ok (.aload_n 0, 1) := dk_42 (dk_at dksX1_begins_0 5 rfl rfl)
theorem dX1_begins_6 : decode cX1_begins 6 = .ok (.getfield 22, 3) := dk_180 0 22 (dk_at dksX1_begins_0 6 rfl rfl)
theorem dX1_begins_9 : decode cX1_begins 9 = .ok (.invokevirtual 44, 3) := dk_182 0 44 (dk_at dksX1_begins_0 9 rfl rfl)
theorem dX1_begins_12 : decode cX1_begins 12 = .ok (.if_icmp .ge 47, 3) := dk_162 0 47 (dk_at dksX1_begins_0 12 rfl rfl)
theorem dX1_begins_15 : decode cX1_begins 15 = .ok (.aload_n 0, 1) := dk_42 (dk_at dksX1_begins_0 15 rfl rfl)
theorem dX1_begins_16 : decode cX1_begins 16 = .ok (.getfield 22, 3) := dk_180 0 22 (dk_at dksX1_begins_0 16 rfl rfl)
theorem dX1_begins_19 : decode cX1_begins 19 = .ok (.iload_n 2, 1) := dk_28 (dk_at dksX1_begins_0 19 rfl rfl)
theorem dX1_begins_20 : decode cX1_begins 20 = .ok (.invokevirtual 35, 3) := dk_182 0 35 (dk_at dksX1_begins_0 20 rfl rfl)
theorem dX1_begins_23 : decode cX1_begins 23 = .ok (.checkcast 39, 3) := dk_192 0 39 (dk_at dksX1_begins_1 0 rfl rfl)
theorem dX1_begins_26 : decode cX1_begins 26 = .ok (.astore_n 3, 1) := dk_78 (dk_at dksX1_begins_1 3 rfl rfl)
theorem dX1_begins_27 : decode cX1_begins 27 = .ok (.iload_n 1, 1) := dk_27 (dk_at dksX1_begins_1 4 rfl rfl)
theorem dX1_begins_28 : decode cX1_begins 28 = .ok (.aload_n 3, 1) := dk_45 (dk_at dksX1_begins_1 5 rfl rfl)
theorem dX1_begins_29 : decode cX1_begins 29 = .ok (.invokevirtual 85, 3) := dk_182 0 85 (dk_at dksX1_begins_1 6 rfl rfl)
theorem dX1_begins_32 : decode cX1_begins 32 = .ok (.ifCond .eq 7, 3) := dk_153 0 7 (dk_at dksX1_begins_1 9 rfl rfl)
theorem dX1_begins_35 : decode cX1_begins 35 = .ok (.iconst 1, 1) := dk_4 (dk_at dksX1_begins_1 12 rfl rfl)
theorem dX1_begins_36 : decode cX1_begins 36 = .ok (.goto 4, 3) := dk_167 0 4 (dk_at dksX1_begins_1 13 rfl rfl)
theorem dX1_begins_39 : decode cX1_begins 39 = .ok (.iconst 0, 1) := dk_3 (dk_at dksX1_begins_1 16 rfl rfl)
theorem dX1_begins_40 : decode cX1_begins 40 = .ok (.iadd, 1) := dk_96 (dk_at dksX1_begins_1 17 rfl rfl)
theorem dX1_begins_41 : decode cX1_begins 41 = .ok (.istore_n 1, 1) := dk_60 (dk_at dksX1_begins_1 18 rfl rfl)
theorem dX1_begins_42 : decode cX1_begins 42 = .ok (.aload_n 3, 1) := dk_45 (dk_at dksX1_begins_1 19 rfl rfl)
theorem dX1_begins_43 : decode cX1_begins 43 = .ok (.iconst 0, 1) := dk_3 (dk_at dksX1_begins_1 20 rfl rfl)
theorem dX1_begins_44 : decode cX1_begins 44 = .ok (.putfield 89, 3) := dk_181 0 89 (dk_at dksX1_begins_1 21 rfl rfl)
theorem dX1_begins_47 : decode cX1_begins 47 = .ok (.aload_n 3, 1) := dk_45 (dk_at dksX1_begins_2 0 rfl rfl)
theorem dX1_begins_48 : decode cX1_begins 48 = .ok (.bipush (-4), 2) := dk_16 252 (dk_at dksX1_begins_2 1 rfl rfl)
theorem dX1_begins_50 : decode cX1_begins 50 = .ok (.putfield 92, 3) := dk_181 0 92 (dk_at dksX1_begins_2 3 rfl rfl)
theorem dX1_begins_53 : decode cX1_begins 53 = .ok (.iinc 2 1, 3) := dk_132 2 1 (dk_at dksX1_begins_2 6 rfl rfl)
theorem dX1_begins_56 : decode cX1_begins 56 = .ok (.goto (-52), 3) := dk_167 255 204 (dk_at dksX1_begins_2 9 rfl rfl)
theorem dX1_begins_59 : decode cX1_begins 59 = .ok (.iload_n 1, 1) := dk_27 (dk_at dksX1_begins_2 12 rfl rfl)
theorem dX1_begins_60 : decode cX1_begins 60 = .ok (.ireturn, 1) := dk_172 (dk_at dksX1_begins_2 13 rfl rfl)
theorem fp_X1_89 : g_fp RX1 89 [4, 5, 6, 7, 8, 9] 4 .int false := ⟨_, _, _, Or.inl q168, by decide +kernel, fun ci h => by
  simp only [List.mem_cons, List.not_mem_nil, or_false] at h; rcases h with rfl | rfl | rfl | rfl | rfl | rfl
  · exact ⟨_, _, _, tyX4, rfl, by decide, rfl, rfl, Or.inl rfl, in_X4, rfl, (fun h => by cases h), tyX4_ok, (by decide +kernel)⟩
  · exact ⟨_, _, _, tyX5, rfl, by decide, rfl, rfl, Or.inl rfl, in_X5, rfl, (fun h => by cases h), tyX5_ok, (by decide +kernel)⟩
  · exact ⟨_, _, _, tyX6, rfl, by decide, rfl, rfl, Or.inl rfl, in_X6, rfl, (fun h => by cases h), tyX6_ok, (by decide +kernel)⟩
  · exact ⟨_, _, _, tyX7, rfl, by decide, rfl, rfl, Or.inl rfl, in_X7, rfl, (fun h => by cases h), tyX7_ok, (by decide +kernel)⟩
  · exact ⟨_, _, _, tyX8, rfl, by decide, rfl, rfl, Or.inl rfl, in_X8, rfl, (fun h => by cases h), tyX8_ok, (by decide +kernel)⟩
  · exact ⟨_, _, _, tyX9, rfl, by decide, rfl, rfl, Or.inl rfl, in_X9, rfl, (fun h => by cases h), tyX9_ok, (by decide +kernel)⟩⟩
theorem fp_X1_92 : g_fp RX1 92 [4, 5, 6, 7, 8, 9] 5 .int false := ⟨_, _, _, Or.inl q171, by decide +kernel, fun ci h => by
  simp only [List.mem_cons, List.not_mem_nil, or_false] at h; rcases h with rfl | rfl | rfl | rfl | rfl | rfl
  · exact ⟨_, _, _, tyX4, rfl, by decide, rfl, rfl, Or.inl rfl, in_X4, rfl, (fun h => by cases h), tyX4_ok, (by decide +kernel)⟩
  · exact ⟨_, _, _, tyX5, rfl, by decide, rfl, rfl, Or.inl rfl, in_X5, rfl, (fun h => by cases h), tyX5_ok, (by decide +kernel)⟩
  · exact ⟨_, _, _, tyX6, rfl, by decide, rfl, rfl, Or.inl rfl, in_X6, rfl, (fun h => by cases h), tyX6_ok, (by decide +kernel)⟩
  · exact ⟨_, _, _, tyX7, rfl, by decide, rfl, rfl, Or.inl rfl, in_X7, rfl, (fun h => by cases h), tyX7_ok, (by decide +kernel)⟩
  · exact ⟨_, _, _, tyX8, rfl, by decide, rfl, rfl, Or.inl rfl, in_X8, rfl, (fun h => by cases h), tyX8_ok, (by decide +kernel)⟩
  · exact ⟨_, _, _, tyX9, rfl, by decide, rfl, rfl, Or.inl rfl, in_X9, rfl, (fun h => by cases h), tyX9_ok, (by decide +kernel)⟩⟩
section CP
variable {Γ : Gc} {p : Program} {l : Launch} {e : Env} {s : State} {m : MethodId} {args : Array Value} {below : List Frame} {meth : Method} {c : Code} {ex : Nat → Option Nat} {z : Nat} {tF : St}
noncomputable def fX1_begins_40 (ex : Nat → Option Nat) (z : Nat) (kc4 : Nat → Int32 → Int32 → St → Option (Int32 × St)) (h0 : Nat) (x2 : Int32) (h3 : Nat) (s0 : Int32) (s1 : Int32) (t : St) : Option (Int32 × St) := lt (s1 + s0) fun y1 => cput [4, 5, 6, 7, 8, 9] 4 t h3 (.int 0) fun t2 => cput [4, 5, 6, 7, 8, 9] 5 t2 h3 (.int (-4)) fun t3 => kc4 h0 y1 (x2 + 1) t3
set_option maxHeartbeats 4000000 in
theorem wX1_begins_40 {rF : Int32} (hex : ex = Γ.2.2.2.2) (X : g_X Γ p s m args meth c cX1_begins 4 RX1) (hr : meth.sig.returnType = (some .int)) {kc4 : Nat → Int32 → Int32 → St → Option (Int32 × St)} (hk4 : ∀ (h0 : Nat) (x1 : Int32) (x2 : Int32) (t : St), Wf Γ p l e 3 64 s m args below meth c 4 (g_ι z) v_i rF tF 4 [(0, .ref h0), (1, .int x1), (2, .int x2)] [] t (kc4 h0 x1 x2 t)) (h0 : Nat) (x2 : Int32) (h3 : Nat) (s0 : Int32) (s1 : Int32) (t : St) : Wf Γ p l e 3 64 s m args below meth c 4 (g_ι z) v_i rF tF 40 [(0, .ref h0), (2, .int x2), (3, .ref h3)] [.int s0, .int s1] t (fX1_begins_40 ex z kc4 h0 x2 h3 s0 s1 t) := by
  unfold fX1_begins_40
  refine g_iadd (pc := 40) X dX1_begins_40 ?_
  refine g_lti (pc := 41) (fun y1 => ?_)
  refine g_istore_n (pc := 41) X (lv' := [(1, .int y1), (0, .ref h0), (2, .int x2), (3, .ref h3)]) dX1_begins_41 rfl (by decide) rfl ?_
  refine g_aload_n (pc := 42) X 3 dX1_begins_42 rfl rfl ?_
  refine g_iconst (pc := 43) X 0 dX1_begins_43 rfl ?_
  refine cg_put (pc := 44) X fp_X1_89 dX1_begins_44 (fun h => by cases h) rfl rfl (fun t2 => ?_)
  refine g_aload_n (pc := 47) X 3 dX1_begins_47 rfl rfl ?_
  refine g_bipush (pc := 48) X (-4) dX1_begins_48 rfl ?_
  refine cg_put (pc := 50) X fp_X1_92 dX1_begins_50 (fun h => by cases h) rfl rfl (fun t3 => ?_)
  refine g_iinc (pc := 53) X 1 2 (lv' := [(2, .int (x2 + 1)), (1, .int y1), (0, .ref h0), (3, .ref h3)]) dX1_begins_53 rfl rfl (by decide) rfl ?_
  refine g_goto (pc := 56) X 4 dX1_begins_56 (by decide) ?_
  exact g_lv (pc := 4) (lv' := [(0, .ref h0), (1, .int y1), (2, .int (x2 + 1))]) [2, 1, 0] rfl (hk4 h0 y1 (x2 + 1) t3)
noncomputable def fX1_begins_4 (ex : Nat → Option Nat) (z : Nat) : Nat → Nat → Int32 → Int32 → St → Option (Int32 × St)
  | 0, _, _, _, _ => none
  | n + 1, h0, x1, x2, t => cgA [1] 2 t h0 fun v1 => ccast [15] t v1 (gb (fJ2_size ex (z + t.2.1) v1 (t.1, 0, 0)) t fun r2 t3 => if r2 ≤ x2 then some (x1, t3) else cgA [1] 2 t3 h0 fun v9 => ccast [15] t3 v9 (gb (fJ2_get ex (z + t3.2.1) v9 x2 (t3.1, 0, 0)) t3 fun r10 t11 => ccast [4, 5, 6, 7, 8, 9] t11 r10 (ccast [4, 5, 6, 7, 8, 9] t11 r10 (gb (fX4_isHome ex (z + t11.2.1) r10 (t11.1, 0, 0)) t11 fun r17 t18 => if r17 = 0 then fX1_begins_40 ex z (fun a0 a1 a2 a3 => fX1_begins_4 ex z n a0 a1 a2 a3) h0 x2 r10 0 x1 t18 else fX1_begins_40 ex z (fun a0 a1 a2 a3 => fX1_begins_4 ex z n a0 a1 a2 a3) h0 x2 r10 1 x1 t18))))
set_option maxHeartbeats 4000000 in
theorem wX1_begins_4 {rF : Int32} (hex : ex = Γ.2.2.2.2) (X : g_X Γ p s m args meth c cX1_begins 4 RX1) (hr : meth.sig.returnType = (some .int)) (n : Nat) : ∀ (h0 : Nat) (x1 : Int32) (x2 : Int32) (t : St), Wf Γ p l e 3 64 s m args below meth c 4 (g_ι z) v_i rF tF 4 [(0, .ref h0), (1, .int x1), (2, .int x2)] [] t (fX1_begins_4 ex z n h0 x1 x2 t) := by
  induction n with
  | zero => intro h0 x1 x2 t; exact g_none
  | succ n ih =>
    intro h0 x1 x2 t
    rw [fX1_begins_4]
    refine g_iload_n (pc := 4) X 2 dX1_begins_4 rfl rfl ?_
    refine g_aload_n (pc := 5) X 0 dX1_begins_5 rfl rfl ?_
    refine cg_getA (pc := 6) X fo_X1_22 dX1_begins_6 (fun v1 => ?_)
    refine g_bD_i (pc := 9) X (cs := [15]) (As := []) (rest := [.int x2]) (b := v1) (n := 0) dX1_begins_9 rfl rfl (Nat.le_of_ble_eq_true rfl) (fun fl4 ci5 fs6 hs7 hci8 r u h => ?_) (fun r2 t3 => ?_)
    · obtain rfl := List.mem_singleton.mp hci8
      exact ⟨_, _, _, yJ2_size, _, _, _, 0, 0, rfl, kJ2_size hex h, Or.inl (cwV 0 X.2.2.2.2.1 (lw_V q133 q134 q135 q74 q136) rfl rfl rfl dmV_J2_size ⟨Nat.le_of_ble_eq_true rfl, Nat.le_of_ble_eq_true rfl⟩)⟩
    refine g_icmp_ge (pc := 12) X 59 dX1_begins_12 (by decide) ?_ ?_
    · refine g_iload_n (pc := 59) X 1 dX1_begins_59 rfl rfl ?_
      exact g_iret (pc := 60) X hr dX1_begins_60
    · refine g_aload_n (pc := 15) X 0 dX1_begins_15 rfl rfl ?_
      refine cg_getA (pc := 16) X fo_X1_22 dX1_begins_16 (fun v9 => ?_)
      refine g_iload_n (pc := 19) X 2 dX1_begins_19 rfl rfl ?_
      refine g_bD_a (pc := 20) X (cs := [15]) (As := [.int x2]) (rest := []) (b := v9) (n := 1) dX1_begins_20 rfl rfl (Nat.le_of_ble_eq_true rfl) (fun fl12 ci13 fs14 hs15 hci16 r u h => ?_) (fun r10 t11 => ?_)
      · obtain rfl := List.mem_singleton.mp hci16
        exact ⟨_, _, _, yJ2_get, _, _, _, 2, 43, rfl, kJ2_get hex h, Or.inl (cwV 1 X.2.2.2.2.1 (lw_V q377 q352 q353 q74 q354) rfl rfl rfl dmV_J2_get ⟨Nat.le_of_ble_eq_true rfl, Nat.le_of_ble_eq_true rfl⟩)⟩
      refine cg_cast (pc := 23) X (cs := [4, 5, 6, 7, 8, 9]) q378 cf_LameClocks_Plain_6 dX1_begins_23 ?_
      refine g_astore_n (pc := 26) X (lv' := [(3, .ref r10), (0, .ref h0), (1, .int x1), (2, .int x2)]) dX1_begins_26 rfl (by decide) rfl ?_
      refine g_iload_n (pc := 27) X 2 dX1_begins_27 rfl rfl ?_
      refine g_aload_n (pc := 28) X 0 dX1_begins_28 rfl rfl ?_
      refine g_bD_i (pc := 29) X (cs := [4, 5, 6, 7, 8, 9]) (As := []) (rest := [.int x1]) (b := r10) (n := 0) dX1_begins_29 rfl rfl (Nat.le_of_ble_eq_true rfl) (fun fl19 ci20 fs21 hs22 hci23 r u h => ?_) (fun r17 t18 => ?_)
      · simp only [List.mem_cons, List.not_mem_nil, or_false] at hci23
        rcases hci23 with rfl | rfl | rfl | rfl | rfl | rfl
        · exact ⟨_, _, _, yX4_isHome, _, _, _, 0, 0, rfl, kX4_isHome hex h, Or.inl (cwV 0 X.2.2.2.2.1 (lw_V q493 q494 q495 q77 q502) rfl rfl rfl dmV_X4_isHome ⟨Nat.le_of_ble_eq_true rfl, Nat.le_of_ble_eq_true rfl⟩)⟩
        · exact ⟨_, _, _, yX4_isHome, _, _, _, 0, 0, rfl, kX4_isHome hex h, Or.inr (Or.inl ⟨_, _, va_cwU 0 X.2.2.2.2.1 (lw_U q493 q496 q497 q494 q77 q502) rfl rfl rfl rfl dmU_X4_isHome0 ⟨Nat.le_of_ble_eq_true rfl, Nat.le_of_ble_eq_true rfl⟩⟩)⟩
        · exact ⟨_, _, _, yX4_isHome, _, _, _, 0, 0, rfl, kX4_isHome hex h, Or.inr (Or.inl ⟨_, _, va_cwU 0 X.2.2.2.2.1 (lw_U q493 q496 q499 q494 q77 q502) rfl rfl rfl rfl dmU_X4_isHome0 ⟨Nat.le_of_ble_eq_true rfl, Nat.le_of_ble_eq_true rfl⟩⟩)⟩
        · exact ⟨_, _, _, yX4_isHome, _, _, _, 0, 0, rfl, kX4_isHome hex h, Or.inr (Or.inl ⟨_, _, va_cwU 0 X.2.2.2.2.1 (lw_U q493 q496 q500 q494 q77 q502) rfl rfl rfl rfl dmU_X4_isHome0 ⟨Nat.le_of_ble_eq_true rfl, Nat.le_of_ble_eq_true rfl⟩⟩)⟩
        · exact ⟨_, _, _, yX4_isHome, _, _, _, 0, 0, rfl, kX4_isHome hex h, Or.inr (Or.inl ⟨_, _, va_cwU 0 X.2.2.2.2.1 (lw_U q493 q496 q501 q494 q77 q502) rfl rfl rfl rfl dmU_X4_isHome0 ⟨Nat.le_of_ble_eq_true rfl, Nat.le_of_ble_eq_true rfl⟩⟩)⟩
        · exact ⟨_, _, _, yX4_isHome, _, _, _, 0, 0, rfl, kX4_isHome hex h, Or.inr (Or.inl ⟨_, _, va_cwU 0 X.2.2.2.2.1 (lw_U q493 q496 q498 q494 q77 q502) rfl rfl rfl rfl dmU_X4_isHome0 ⟨Nat.le_of_ble_eq_true rfl, Nat.le_of_ble_eq_true rfl⟩⟩)⟩
      refine g_if_eq (pc := 32) X 39 dX1_begins_32 (by decide) ?_ ?_
      · refine g_iconst (pc := 39) X 0 dX1_begins_39 rfl ?_
        exact g_lv (pc := 40) (lv' := [(0, .ref h0), (2, .int x2), (3, .ref r10)]) [1, 3, 0] rfl (wX1_begins_40 hex X hr (fun a0 a1 a2 a3 => ih a0 a1 a2 a3) h0 x2 r10 0 x1 t18)
      · refine g_iconst (pc := 35) X 1 dX1_begins_35 rfl ?_
        refine g_goto (pc := 36) X 40 dX1_begins_36 (by decide) ?_
        exact g_lv (pc := 40) (lv' := [(0, .ref h0), (2, .int x2), (3, .ref r10)]) [1, 3, 0] rfl (wX1_begins_40 hex X hr (fun a0 a1 a2 a3 => ih a0 a1 a2 a3) h0 x2 r10 1 x1 t18)
noncomputable def fX1_begins (ex : Nat → Option Nat) (z : Nat) (h0 : Nat) (t : St) : Option (Int32 × St) := fX1_begins_4 ex z 1000 h0 0 0 t
set_option maxHeartbeats 4000000 in
theorem wX1_begins {rF : Int32} (hex : ex = Γ.2.2.2.2) (X : g_X Γ p s m args meth c cX1_begins 4 RX1) (hr : meth.sig.returnType = (some .int)) (h0 : Nat) (t : St) : Wf Γ p l e 3 64 s m args below meth c 4 (g_ι z) v_i rF tF 0 [(0, .ref h0)] [] t (fX1_begins ex z h0 t) := by
  unfold fX1_begins
  refine g_iconst (pc := 0) X 0 dX1_begins_0 rfl ?_
  refine g_istore_n (pc := 1) X (lv' := [(1, .int 0), (0, .ref h0)]) dX1_begins_1 rfl (by decide) rfl ?_
  refine g_iconst (pc := 2) X 0 dX1_begins_2 rfl ?_
  refine g_istore_n (pc := 3) X (lv' := [(2, .int 0), (1, .int 0), (0, .ref h0)]) dX1_begins_3 rfl (by decide) rfl ?_
  exact g_lv (pc := 4) (lv' := [(0, .ref h0), (1, .int 0), (2, .int 0)]) [2, 1, 0] rfl (wX1_begins_4 hex X hr 1000 h0 0 0 t)
theorem kX1_begins {ex : Nat → Option Nat} {z : Nat} {h0 : Nat} {σ : Sg} {r : Int32} {u : St} (hex : ex = Γ.2.2.2.2) (h : fX1_begins ex z h0 (σ, 0, 0) = some (r, u)) : g_C Γ l yX1_begins cX1_begins 4 (some .int) 3 64 [.ref h0] σ z v_i r (g_ι z u) :=
  g_met (ι := g_ι z) (t := (σ, 0, 0)) [.ref h0] (by decide) (Nat.le_of_ble_eq_true rfl) h rfl (fun p e s m args below meth c X hr hn => wX1_begins hex X hr h0 (σ, 0, 0))
end CP
abbrev cX17_init : ByteArray := prog_18_method_1_code
def yX17_init : MethodName := ⟨RX17, "<init>", "(LLameClocks;I)V"⟩
def dkwX17_init_0 : List UInt8 := [42, 43, 181, 0, 1, 42, 43, 28, 43, 180, 0, 7, 28, 182, 0, 13, 180, 0, 19, 183, 0, 25, 177]
abbrev dktX17_init_0 : List UInt8 := dkwX17_init_0 ++ []
theorem dksX17_init_0 : cX17_init.data.toList.drop 0 = dktX17_init_0 := by decide +kernel
theorem dX17_init_0 : decode cX17_init 0 = .ok (.aload_n 0, 1) := dk_42 (dk_at dksX17_init_0 0 rfl rfl)
theorem dX17_init_1 : decode cX17_init 1 = .ok (.aload_n 1, 1) := dk_43 (dk_at dksX17_init_0 1 rfl rfl)
theorem dX17_init_2 : decode cX17_init 2 = .ok (.putfield 1, 3) := dk_181 0 1 (dk_at dksX17_init_0 2 rfl rfl)
theorem dX17_init_5 : decode cX17_init 5 = .ok (.aload_n 0, 1) := dk_42 (dk_at dksX17_init_0 5 rfl rfl)
theorem dX17_init_6 : decode cX17_init 6 = .ok (.aload_n 1, 1) := dk_43 (dk_at dksX17_init_0 6 rfl rfl)
theorem dX17_init_7 : decode cX17_init 7 = .ok (.iload_n 2, 1) := dk_28 (dk_at dksX17_init_0 7 rfl rfl)
theorem dX17_init_8 : decode cX17_init 8 = .ok (.aload_n 1, 1) := dk_43 (dk_at dksX17_init_0 8 rfl rfl)
theorem dX17_init_9 : decode cX17_init 9 = .ok (.getfield 7, 3) := dk_180 0 7 (dk_at dksX17_init_0 9 rfl rfl)
theorem dX17_init_12 : decode cX17_init 12 = .ok (.iload_n 2, 1) := dk_28 (dk_at dksX17_init_0 12 rfl rfl)
theorem dX17_init_13 : decode cX17_init 13 = .ok (.invokevirtual 13, 3) := dk_182 0 13 (dk_at dksX17_init_0 13 rfl rfl)
theorem dX17_init_16 : decode cX17_init 16 = .ok (.getfield 19, 3) := dk_180 0 19 (dk_at dksX17_init_0 16 rfl rfl)
theorem dX17_init_19 : decode cX17_init 19 = .ok (.invokespecial 25, 3) := dk_183 0 25 (dk_at dksX17_init_0 19 rfl rfl)
theorem dX17_init_22 : decode cX17_init 22 = .ok (.return_, 1) := dk_177 (dk_at dksX17_init_0 22 rfl rfl)
theorem fq_X17_1 : g_fq RX17 1 [17] 3 2 (.object "LameClocks") := ⟨_, _, q722, by decide +kernel, fun ci h => by
  simp only [List.mem_cons, List.not_mem_nil, or_false] at h; rcases h with rfl
  · exact ⟨_, _, _, tyX17, rfl, by decide, rfl, rfl, rfl, in_X17, rfl, tyX17_ok, by decide +kernel⟩⟩
theorem fo_X17_7 : g_fo RX17 7 [0] 0 := ⟨_, _, _, Or.inr ⟨_, q1612⟩, fun ci h => by
  simp only [List.mem_cons, List.not_mem_nil, or_false] at h; rcases h with rfl
  · exact ⟨_, _, _, rfl, by decide, rfl, rfl, Or.inl rfl, in_X0⟩⟩
theorem fo_X17_19 : g_fo RX17 19 [4, 5, 6, 7, 8, 9] 1 := ⟨_, _, _, Or.inl q155, fun ci h => by
  simp only [List.mem_cons, List.not_mem_nil, or_false] at h; rcases h with rfl | rfl | rfl | rfl | rfl | rfl
  · exact ⟨_, _, _, rfl, by decide, rfl, rfl, Or.inl rfl, in_X4⟩
  · exact ⟨_, _, _, rfl, by decide, rfl, rfl, Or.inl rfl, in_X5⟩
  · exact ⟨_, _, _, rfl, by decide, rfl, rfl, Or.inl rfl, in_X6⟩
  · exact ⟨_, _, _, rfl, by decide, rfl, rfl, Or.inl rfl, in_X7⟩
  · exact ⟨_, _, _, rfl, by decide, rfl, rfl, Or.inl rfl, in_X8⟩
  · exact ⟨_, _, _, rfl, by decide, rfl, rfl, Or.inl rfl, in_X9⟩⟩
theorem dmV_X1_clock : yX1_clock.cls = RX1 ∧ yX1_clock.cls ≠ "java/lang/invoke/MethodHandle" ∧ yX1_clock.cls ≠ "java/lang/invoke/VarHandle" ∧ (parseMethodDescriptor yX1_clock.desc).map (fun d => d.parameters.length) = some 1 := by decide +kernel
section CP
variable {Γ : Gc} {p : Program} {l : Launch} {e : Env} {s : State} {m : MethodId} {args : Array Value} {below : List Frame} {meth : Method} {c : Code} {ex : Nat → Option Nat} {z : Nat} {tF : St}
noncomputable def fX17_init (ex : Nat → Option Nat) (z : Nat) (h0 : Nat) (h1 : Nat) (x2 : Int32) (t : St) : Option (Unit × St) := cput2 [17] 3 2 t h0 (.ref h1) fun t1 => cgA [0] 0 t1 h1 fun v2 => ccast [1] t1 v2 (gb (fX1_clock ex (z + t1.2.1) v2 x2 (t1.1, 0, 0)) t1 fun r3 t4 => cgI [4, 5, 6, 7, 8, 9] 1 t4 r3 fun v10 => gb (fX15_init ex (z + t4.2.1) h0 h1 x2 v10 (t4.1, 0, 0)) t4 fun _ t12 => some ((), t12))
set_option maxHeartbeats 4000000 in
theorem wX17_init {rF : Unit} (hex : ex = Γ.2.2.2.2) (X : g_X Γ p s m args meth c cX17_init 3 RX17) (hr : meth.sig.returnType = none) (hin : meth.name = "<init>") (h0 : Nat) (h1 : Nat) (x2 : Int32) (t : St) : Wf Γ p l e 4 85 s m args below meth c 3 (g_ι z) v_v rF tF 0 [(0, .ref h0), (1, .ref h1), (2, .int x2)] [] t (fX17_init ex z h0 h1 x2 t) := by
  unfold fX17_init
  refine g_aload_n (pc := 0) X 0 dX17_init_0 rfl rfl ?_
  refine g_aload_n (pc := 1) X 1 dX17_init_1 rfl rfl ?_
  refine cg_put2 (pc := 2) X fq_X17_1 dX17_init_2 hin rfl rfl (fun t1 => ?_)
  refine g_aload_n (pc := 5) X 0 dX17_init_5 rfl rfl ?_
  refine g_aload_n (pc := 6) X 1 dX17_init_6 rfl rfl ?_
  refine g_iload_n (pc := 7) X 2 dX17_init_7 rfl rfl ?_
  refine g_aload_n (pc := 8) X 1 dX17_init_8 rfl rfl ?_
  refine cg_getA (pc := 9) X fo_X17_7 dX17_init_9 (fun v2 => ?_)
  refine g_iload_n (pc := 12) X 2 dX17_init_12 rfl rfl ?_
  refine g_bD_a (pc := 13) X (cs := [1]) (As := [.int x2]) (rest := [.int x2, .ref h1, .ref h0]) (b := v2) (n := 1) dX17_init_13 rfl rfl (Nat.le_of_ble_eq_true rfl) (fun fl5 ci6 fs7 hs8 hci9 r u h => ?_) (fun r3 t4 => ?_)
  · obtain rfl := List.mem_singleton.mp hci9
    exact ⟨_, _, _, yX1_clock, _, _, _, 3, 64, rfl, kX1_clock hex h, Or.inl (cwV 1 X.2.2.2.2.1 (lw_V q720 q374 q375 q71 q376) rfl rfl rfl dmV_X1_clock ⟨Nat.le_of_ble_eq_true rfl, Nat.le_of_ble_eq_true rfl⟩)⟩
  refine cg_getI (pc := 16) X fo_X17_19 dX17_init_16 (fun v10 => ?_)
  refine g_bI_v (pc := 19) X (y := yX15_init) (As := [.ref h1, .int x2, .int v10]) (rest := []) (b := h0) (fr' := 1) (lo' := 12) (fun _ => cwI 3 X.2.2.2.2.1 (lw_meth q660) rfl rfl rfl (X.2.2.2.2.1 _ q100) (X.2.2.2.2.1 _ q721) (X.2.2.2.2.1 _ q659) rfl dmS_X15_init ⟨Nat.le_of_ble_eq_true rfl, Nat.le_of_ble_eq_true rfl⟩) dX17_init_19 rfl rfl (Nat.le_of_ble_eq_true rfl) (fun r u h => kX15_init hex h) (fun r11 t12 => ?_)
  exact g_vret (pc := 22) X hr dX17_init_22
theorem kX17_init {ex : Nat → Option Nat} {z : Nat} {h0 : Nat} {h1 : Nat} {x2 : Int32} {σ : Sg} {r : Unit} {u : St} (hex : ex = Γ.2.2.2.2) (h : fX17_init ex z h0 h1 x2 (σ, 0, 0) = some (r, u)) : g_C Γ l yX17_init cX17_init 3 none 4 85 [.ref h0, .ref h1, .int x2] σ z v_v r (g_ι z u) :=
  g_met (ι := g_ι z) (t := (σ, 0, 0)) [.ref h0, .ref h1, .int x2] (by decide) (Nat.le_of_ble_eq_true rfl) h rfl (fun p e s m args below meth c X hr hn => wX17_init hex X hr hn h0 h1 x2 (σ, 0, 0))
end CP
abbrev cX17_undoes : ByteArray := prog_18_method_2_code
def yX17_undoes : MethodName := ⟨RX17, "undoes", "()V"⟩
def dkwX17_undoes_0 : List UInt8 := [42, 180, 0, 1, 180, 0, 7, 42, 180, 0, 31, 182, 0, 13, 42, 180, 0, 34, 181, 0, 19, 177]
abbrev dktX17_undoes_0 : List UInt8 := dkwX17_undoes_0 ++ []
theorem dksX17_undoes_0 : cX17_undoes.data.toList.drop 0 = dktX17_undoes_0 := by decide +kernel
theorem dX17_undoes_0 : decode cX17_undoes 0 = .ok (.aload_n 0, 1) := dk_42 (dk_at dksX17_undoes_0 0 rfl rfl)
theorem dX17_undoes_1 : decode cX17_undoes 1 = .ok (.getfield 1, 3) := dk_180 0 1 (dk_at dksX17_undoes_0 1 rfl rfl)
theorem dX17_undoes_4 : decode cX17_undoes 4 = .ok (.getfield 7, 3) := dk_180 0 7 (dk_at dksX17_undoes_0 4 rfl rfl)
theorem dX17_undoes_7 : decode cX17_undoes 7 = .ok (.aload_n 0, 1) := dk_42 (dk_at dksX17_undoes_0 7 rfl rfl)
theorem dX17_undoes_8 : decode cX17_undoes 8 = .ok (.getfield 31, 3) := dk_180 0 31 (dk_at dksX17_undoes_0 8 rfl rfl)
theorem dX17_undoes_11 : decode cX17_undoes 11 = .ok (.invokevirtual 13, 3) := dk_182 0 13 (dk_at dksX17_undoes_0 11 rfl rfl)
theorem dX17_undoes_14 : decode cX17_undoes 14 = .ok (.aload_n 0, 1) := dk_42 (dk_at dksX17_undoes_0 14 rfl rfl)
theorem dX17_undoes_15 : decode cX17_undoes 15 = .ok (.getfield 34, 3) := dk_180 0 34 (dk_at dksX17_undoes_0 15 rfl rfl)
theorem dX17_undoes_18 : decode cX17_undoes 18 = .ok (.putfield 19, 3) := dk_181 0 19 (dk_at dksX17_undoes_0 18 rfl rfl)
theorem dX17_undoes_21 : decode cX17_undoes 21 = .ok (.return_, 1) := dk_177 (dk_at dksX17_undoes_0 21 rfl rfl)
theorem fo_X17_1 : g_fo RX17 1 [17] 3 := ⟨_, _, _, Or.inl q722, fun ci h => by
  simp only [List.mem_cons, List.not_mem_nil, or_false] at h; rcases h with rfl
  · exact ⟨_, _, _, rfl, by decide, rfl, rfl, Or.inl rfl, in_X17⟩⟩
theorem fo_X17_31 : g_fo RX17 31 [16, 17, 18, 19] 0 := ⟨_, _, _, Or.inl q666, fun ci h => by
  simp only [List.mem_cons, List.not_mem_nil, or_false] at h; rcases h with rfl | rfl | rfl | rfl
  · exact ⟨_, _, _, rfl, by decide, rfl, rfl, Or.inr q667, in_X16⟩
  · exact ⟨_, _, _, rfl, by decide, rfl, rfl, Or.inr q667, in_X17⟩
  · exact ⟨_, _, _, rfl, by decide, rfl, rfl, Or.inr q667, in_X18⟩
  · exact ⟨_, _, _, rfl, by decide, rfl, rfl, Or.inr q667, in_X19⟩⟩
theorem fo_X17_34 : g_fo RX17 34 [16, 17, 18, 19] 1 := ⟨_, _, _, Or.inl q677, fun ci h => by
  simp only [List.mem_cons, List.not_mem_nil, or_false] at h; rcases h with rfl | rfl | rfl | rfl
  · exact ⟨_, _, _, rfl, by decide, rfl, rfl, Or.inr q678, in_X16⟩
  · exact ⟨_, _, _, rfl, by decide, rfl, rfl, Or.inr q678, in_X17⟩
  · exact ⟨_, _, _, rfl, by decide, rfl, rfl, Or.inr q678, in_X18⟩
  · exact ⟨_, _, _, rfl, by decide, rfl, rfl, Or.inr q678, in_X19⟩⟩
theorem fp_X17_19 : g_fp RX17 19 [4, 5, 6, 7, 8, 9] 1 .int false := ⟨_, _, _, Or.inl q155, by decide +kernel, fun ci h => by
  simp only [List.mem_cons, List.not_mem_nil, or_false] at h; rcases h with rfl | rfl | rfl | rfl | rfl | rfl
  · exact ⟨_, _, _, tyX4, rfl, by decide, rfl, rfl, Or.inl rfl, in_X4, rfl, (fun h => by cases h), tyX4_ok, (by decide +kernel)⟩
  · exact ⟨_, _, _, tyX5, rfl, by decide, rfl, rfl, Or.inl rfl, in_X5, rfl, (fun h => by cases h), tyX5_ok, (by decide +kernel)⟩
  · exact ⟨_, _, _, tyX6, rfl, by decide, rfl, rfl, Or.inl rfl, in_X6, rfl, (fun h => by cases h), tyX6_ok, (by decide +kernel)⟩
  · exact ⟨_, _, _, tyX7, rfl, by decide, rfl, rfl, Or.inl rfl, in_X7, rfl, (fun h => by cases h), tyX7_ok, (by decide +kernel)⟩
  · exact ⟨_, _, _, tyX8, rfl, by decide, rfl, rfl, Or.inl rfl, in_X8, rfl, (fun h => by cases h), tyX8_ok, (by decide +kernel)⟩
  · exact ⟨_, _, _, tyX9, rfl, by decide, rfl, rfl, Or.inl rfl, in_X9, rfl, (fun h => by cases h), tyX9_ok, (by decide +kernel)⟩⟩
section CP
variable {Γ : Gc} {p : Program} {l : Launch} {e : Env} {s : State} {m : MethodId} {args : Array Value} {below : List Frame} {meth : Method} {c : Code} {ex : Nat → Option Nat} {z : Nat} {tF : St}
noncomputable def fX17_undoes (ex : Nat → Option Nat) (z : Nat) (h0 : Nat) (t : St) : Option (Unit × St) := cgA [17] 3 t h0 fun v1 => cgA [0] 0 t v1 fun v2 => cgI [16, 17, 18, 19] 0 t h0 fun v3 => ccast [1] t v2 (gb (fX1_clock ex (z + t.2.1) v2 v3 (t.1, 0, 0)) t fun r4 t5 => cgI [16, 17, 18, 19] 1 t5 h0 fun v11 => cput [4, 5, 6, 7, 8, 9] 1 t5 r4 (.int v11) fun t12 => some ((), t12))
set_option maxHeartbeats 4000000 in
theorem wX17_undoes {rF : Unit} (hex : ex = Γ.2.2.2.2) (X : g_X Γ p s m args meth c cX17_undoes 1 RX17) (hr : meth.sig.returnType = none) (h0 : Nat) (t : St) : Wf Γ p l e 4 85 s m args below meth c 1 (g_ι z) v_v rF tF 0 [(0, .ref h0)] [] t (fX17_undoes ex z h0 t) := by
  unfold fX17_undoes
  refine g_aload_n (pc := 0) X 0 dX17_undoes_0 rfl rfl ?_
  refine cg_getA (pc := 1) X fo_X17_1 dX17_undoes_1 (fun v1 => ?_)
  refine cg_getA (pc := 4) X fo_X17_7 dX17_undoes_4 (fun v2 => ?_)
  refine g_aload_n (pc := 7) X 0 dX17_undoes_7 rfl rfl ?_
  refine cg_getI (pc := 8) X fo_X17_31 dX17_undoes_8 (fun v3 => ?_)
  refine g_bD_a (pc := 11) X (cs := [1]) (As := [.int v3]) (rest := []) (b := v2) (n := 1) dX17_undoes_11 rfl rfl (Nat.le_of_ble_eq_true rfl) (fun fl6 ci7 fs8 hs9 hci10 r u h => ?_) (fun r4 t5 => ?_)
  · obtain rfl := List.mem_singleton.mp hci10
    exact ⟨_, _, _, yX1_clock, _, _, _, 3, 64, rfl, kX1_clock hex h, Or.inl (cwV 1 X.2.2.2.2.1 (lw_V q720 q374 q375 q71 q376) rfl rfl rfl dmV_X1_clock ⟨Nat.le_of_ble_eq_true rfl, Nat.le_of_ble_eq_true rfl⟩)⟩
  refine g_aload_n (pc := 14) X 0 dX17_undoes_14 rfl rfl ?_
  refine cg_getI (pc := 15) X fo_X17_34 dX17_undoes_15 (fun v11 => ?_)
  refine cg_put (pc := 18) X fp_X17_19 dX17_undoes_18 (fun h => by cases h) rfl rfl (fun t12 => ?_)
  exact g_vret (pc := 21) X hr dX17_undoes_21
theorem kX17_undoes {ex : Nat → Option Nat} {z : Nat} {h0 : Nat} {σ : Sg} {r : Unit} {u : St} (hex : ex = Γ.2.2.2.2) (h : fX17_undoes ex z h0 (σ, 0, 0) = some (r, u)) : g_C Γ l yX17_undoes cX17_undoes 1 none 4 85 [.ref h0] σ z v_v r (g_ι z u) :=
  g_met (ι := g_ι z) (t := (σ, 0, 0)) [.ref h0] (by decide) (Nat.le_of_ble_eq_true rfl) h rfl (fun p e s m args below meth c X hr hn => wX17_undoes hex X hr h0 (σ, 0, 0))
end CP
abbrev cX18_init : ByteArray := prog_22_method_1_code
def yX18_init : MethodName := ⟨RX18, "<init>", "(LLameClocks;I)V"⟩
def dkwX18_init_0 : List UInt8 := [42, 43, 181, 0, 1, 42, 43, 28, 43, 180, 0, 7, 28, 182, 0, 13, 180, 0, 19, 183, 0, 25, 177]
abbrev dktX18_init_0 : List UInt8 := dkwX18_init_0 ++ []
theorem dksX18_init_0 : cX18_init.data.toList.drop 0 = dktX18_init_0 := by decide +kernel
theorem dX18_init_0 : decode cX18_init 0 = .ok (.aload_n 0, 1) := dk_42 (dk_at dksX18_init_0 0 rfl rfl)
theorem dX18_init_1 : decode cX18_init 1 = .ok (.aload_n 1, 1) := dk_43 (dk_at dksX18_init_0 1 rfl rfl)
theorem dX18_init_2 : decode cX18_init 2 = .ok (.putfield 1, 3) := dk_181 0 1 (dk_at dksX18_init_0 2 rfl rfl)
theorem dX18_init_5 : decode cX18_init 5 = .ok (.aload_n 0, 1) := dk_42 (dk_at dksX18_init_0 5 rfl rfl)
theorem dX18_init_6 : decode cX18_init 6 = .ok (.aload_n 1, 1) := dk_43 (dk_at dksX18_init_0 6 rfl rfl)
theorem dX18_init_7 : decode cX18_init 7 = .ok (.iload_n 2, 1) := dk_28 (dk_at dksX18_init_0 7 rfl rfl)
theorem dX18_init_8 : decode cX18_init 8 = .ok (.aload_n 1, 1) := dk_43 (dk_at dksX18_init_0 8 rfl rfl)
theorem dX18_init_9 : decode cX18_init 9 = .ok (.getfield 7, 3) := dk_180 0 7 (dk_at dksX18_init_0 9 rfl rfl)
theorem dX18_init_12 : decode cX18_init 12 = .ok (.iload_n 2, 1) := dk_28 (dk_at dksX18_init_0 12 rfl rfl)
theorem dX18_init_13 : decode cX18_init 13 = .ok (.invokevirtual 13, 3) := dk_182 0 13 (dk_at dksX18_init_0 13 rfl rfl)
theorem dX18_init_16 : decode cX18_init 16 = .ok (.getfield 19, 3) := dk_180 0 19 (dk_at dksX18_init_0 16 rfl rfl)
theorem dX18_init_19 : decode cX18_init 19 = .ok (.invokespecial 25, 3) := dk_183 0 25 (dk_at dksX18_init_0 19 rfl rfl)
theorem dX18_init_22 : decode cX18_init 22 = .ok (.return_, 1) := dk_177 (dk_at dksX18_init_0 22 rfl rfl)
theorem fq_X18_1 : g_fq RX18 1 [18] 3 2 (.object "LameClocks") := ⟨_, _, q662, by decide +kernel, fun ci h => by
  simp only [List.mem_cons, List.not_mem_nil, or_false] at h; rcases h with rfl
  · exact ⟨_, _, _, tyX18, rfl, by decide, rfl, rfl, rfl, in_X18, rfl, tyX18_ok, by decide +kernel⟩⟩
theorem fo_X18_7 : g_fo RX18 7 [0] 0 := ⟨_, _, _, Or.inr ⟨_, q1613⟩, fun ci h => by
  simp only [List.mem_cons, List.not_mem_nil, or_false] at h; rcases h with rfl
  · exact ⟨_, _, _, rfl, by decide, rfl, rfl, Or.inl rfl, in_X0⟩⟩
theorem fo_X18_19 : g_fo RX18 19 [4, 5, 6, 7, 8, 9] 3 := ⟨_, _, _, Or.inl q161, fun ci h => by
  simp only [List.mem_cons, List.not_mem_nil, or_false] at h; rcases h with rfl | rfl | rfl | rfl | rfl | rfl
  · exact ⟨_, _, _, rfl, by decide, rfl, rfl, Or.inl rfl, in_X4⟩
  · exact ⟨_, _, _, rfl, by decide, rfl, rfl, Or.inl rfl, in_X5⟩
  · exact ⟨_, _, _, rfl, by decide, rfl, rfl, Or.inl rfl, in_X6⟩
  · exact ⟨_, _, _, rfl, by decide, rfl, rfl, Or.inl rfl, in_X7⟩
  · exact ⟨_, _, _, rfl, by decide, rfl, rfl, Or.inl rfl, in_X8⟩
  · exact ⟨_, _, _, rfl, by decide, rfl, rfl, Or.inl rfl, in_X9⟩⟩
section CP
variable {Γ : Gc} {p : Program} {l : Launch} {e : Env} {s : State} {m : MethodId} {args : Array Value} {below : List Frame} {meth : Method} {c : Code} {ex : Nat → Option Nat} {z : Nat} {tF : St}
noncomputable def fX18_init (ex : Nat → Option Nat) (z : Nat) (h0 : Nat) (h1 : Nat) (x2 : Int32) (t : St) : Option (Unit × St) := cput2 [18] 3 2 t h0 (.ref h1) fun t1 => cgA [0] 0 t1 h1 fun v2 => ccast [1] t1 v2 (gb (fX1_clock ex (z + t1.2.1) v2 x2 (t1.1, 0, 0)) t1 fun r3 t4 => cgI [4, 5, 6, 7, 8, 9] 3 t4 r3 fun v10 => gb (fX15_init ex (z + t4.2.1) h0 h1 x2 v10 (t4.1, 0, 0)) t4 fun _ t12 => some ((), t12))
set_option maxHeartbeats 4000000 in
theorem wX18_init {rF : Unit} (hex : ex = Γ.2.2.2.2) (X : g_X Γ p s m args meth c cX18_init 3 RX18) (hr : meth.sig.returnType = none) (hin : meth.name = "<init>") (h0 : Nat) (h1 : Nat) (x2 : Int32) (t : St) : Wf Γ p l e 4 85 s m args below meth c 3 (g_ι z) v_v rF tF 0 [(0, .ref h0), (1, .ref h1), (2, .int x2)] [] t (fX18_init ex z h0 h1 x2 t) := by
  unfold fX18_init
  refine g_aload_n (pc := 0) X 0 dX18_init_0 rfl rfl ?_
  refine g_aload_n (pc := 1) X 1 dX18_init_1 rfl rfl ?_
  refine cg_put2 (pc := 2) X fq_X18_1 dX18_init_2 hin rfl rfl (fun t1 => ?_)
  refine g_aload_n (pc := 5) X 0 dX18_init_5 rfl rfl ?_
  refine g_aload_n (pc := 6) X 1 dX18_init_6 rfl rfl ?_
  refine g_iload_n (pc := 7) X 2 dX18_init_7 rfl rfl ?_
  refine g_aload_n (pc := 8) X 1 dX18_init_8 rfl rfl ?_
  refine cg_getA (pc := 9) X fo_X18_7 dX18_init_9 (fun v2 => ?_)
  refine g_iload_n (pc := 12) X 2 dX18_init_12 rfl rfl ?_
  refine g_bD_a (pc := 13) X (cs := [1]) (As := [.int x2]) (rest := [.int x2, .ref h1, .ref h0]) (b := v2) (n := 1) dX18_init_13 rfl rfl (Nat.le_of_ble_eq_true rfl) (fun fl5 ci6 fs7 hs8 hci9 r u h => ?_) (fun r3 t4 => ?_)
  · obtain rfl := List.mem_singleton.mp hci9
    exact ⟨_, _, _, yX1_clock, _, _, _, 3, 64, rfl, kX1_clock hex h, Or.inl (cwV 1 X.2.2.2.2.1 (lw_V q657 q374 q375 q71 q376) rfl rfl rfl dmV_X1_clock ⟨Nat.le_of_ble_eq_true rfl, Nat.le_of_ble_eq_true rfl⟩)⟩
  refine cg_getI (pc := 16) X fo_X18_19 dX18_init_16 (fun v10 => ?_)
  refine g_bI_v (pc := 19) X (y := yX15_init) (As := [.ref h1, .int x2, .int v10]) (rest := []) (b := h0) (fr' := 1) (lo' := 12) (fun _ => cwI 3 X.2.2.2.2.1 (lw_meth q660) rfl rfl rfl (X.2.2.2.2.1 _ q100) (X.2.2.2.2.1 _ q658) (X.2.2.2.2.1 _ q659) rfl dmS_X15_init ⟨Nat.le_of_ble_eq_true rfl, Nat.le_of_ble_eq_true rfl⟩) dX18_init_19 rfl rfl (Nat.le_of_ble_eq_true rfl) (fun r u h => kX15_init hex h) (fun r11 t12 => ?_)
  exact g_vret (pc := 22) X hr dX18_init_22
theorem kX18_init {ex : Nat → Option Nat} {z : Nat} {h0 : Nat} {h1 : Nat} {x2 : Int32} {σ : Sg} {r : Unit} {u : St} (hex : ex = Γ.2.2.2.2) (h : fX18_init ex z h0 h1 x2 (σ, 0, 0) = some (r, u)) : g_C Γ l yX18_init cX18_init 3 none 4 85 [.ref h0, .ref h1, .int x2] σ z v_v r (g_ι z u) :=
  g_met (ι := g_ι z) (t := (σ, 0, 0)) [.ref h0, .ref h1, .int x2] (by decide) (Nat.le_of_ble_eq_true rfl) h rfl (fun p e s m args below meth c X hr hn => wX18_init hex X hr hn h0 h1 x2 (σ, 0, 0))
end CP
