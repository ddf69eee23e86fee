/-! the component, its methods: X1_hour, X1_home, X1_dial, X1_sky, X1_init, X11_init, X12_init, X13_init, X14_init, X15_init, X16_init, X16_undoes, X2_init, X20_init, X20_isIn, X21_truth, X21_isHome, X4_init, X4_kind, X4_shown, X4_isHome, X4_isAhead, X4_far, X4_isRunning, X4_winds (printed by gen/cmain.py) -/
set_option maxRecDepth 100000
theorem q71 : (Jvm.Cond.initialized "LameClocks$Race") ∈ lw_all := lw_g (lw_at lw_m1 2 rfl) rfl
theorem q77 : (Jvm.Cond.initialized "LameClocks$Plain") ∈ lw_all := lw_g (lw_at lw_m1 8 rfl) rfl
theorem q100 : (Jvm.Cond.initialized "LameClocks$Repair") ∈ lw_all := lw_g (lw_at lw_m1 31 rfl) rfl
theorem q147 : (Jvm.Cond.code ({ cls := "LameClocks$Plain", name := "<init>", desc := "()V" } : Jvm.MethodName) prog_11_method_1_code (1 : Nat) (Option.none : Option Jvm.ClassFile.FieldType)) ∈ lw_all := lw_g (lw_at lw_m1 78 rfl) rfl
theorem q148 : (Jvm.Cond.methodLink "LameClocks$Plain" (3 : Nat) ({ cls := "java/lang/Object", name := "<init>", desc := "()V" } : Jvm.MethodName)) ∈ lw_all := lw_g (lw_at lw_m1 79 rfl) rfl
theorem q156 : (Jvm.Cond.fieldLink "LameClocks$Plain" (15 : Nat) "LameClocks$Plain" "hands" "I") ∈ lw_all := lw_g (lw_at lw_m1 87 rfl) rfl
theorem q165 : (Jvm.Cond.fieldLink "LameClocks$Plain" (34 : Nat) "LameClocks$Plain" "spring" "I") ∈ lw_all := lw_g (lw_at lw_m1 96 rfl) rfl
theorem q166 : (Jvm.Cond.fieldLink "LameClocks$Plain" (25 : Nat) "LameClocks$Plain" "window" "I") ∈ lw_all := lw_g (lw_at lw_m1 97 rfl) rfl
theorem q169 : (Jvm.Cond.fieldLink "LameClocks$Plain" (9 : Nat) "LameClocks$Plain" "finish" "I") ∈ lw_all := lw_g (lw_at lw_m1 100 rfl) rfl
theorem q261 : (Jvm.Cond.instantiable "java/util/ArrayList" (3 : Nat)) ∈ lw_all := lw_g (lw_at lw_m1 192 rfl) rfl
theorem q403 : (Jvm.Cond.code ({ cls := "LameClocks$Plain", name := "kind", desc := "()I" } : Jvm.MethodName) prog_11_method_2_code (1 : Nat) (Option.some Jvm.ClassFile.FieldType.int)) ∈ lw_all := lw_g (lw_at lw_m2 94 rfl) rfl
theorem q418 : (Jvm.Cond.castable "LameClocks$Race" "LameClocks$Street") ∈ lw_tbl := lw_at lw_m2 109 rfl
theorem q422 : (Jvm.Cond.code ({ cls := "LameClocks$Street", name := "truth", desc := "()I" } : Jvm.MethodName) prog_15_method_6_code (1 : Nat) (Option.some Jvm.ClassFile.FieldType.int)) ∈ lw_all := lw_g (lw_at lw_m2 113 rfl) rfl
theorem q424 : (Jvm.Cond.methodLink "LameClocks$Street" (3 : Nat) ({ cls := "LameClocks$Street", name := "hour", desc := "()I" } : Jvm.MethodName)) ∈ lw_all := lw_g (lw_at lw_m2 115 rfl) rfl
theorem q425 : (Jvm.Cond.interfaceMethod "LameClocks$Street" "LameClocks$Street" "hour" "()I") ∈ lw_tbl := lw_at lw_m2 116 rfl
theorem q426 : (Jvm.Cond.declares ({ cls := "LameClocks$Street", name := "hour", desc := "()I" } : Jvm.MethodName)) ∈ lw_tbl := lw_at lw_m2 117 rfl
theorem q427 : (Jvm.Cond.selects "LameClocks$Race" ({ cls := "LameClocks$Street", name := "hour", desc := "()I" } : Jvm.MethodName) ({ cls := "LameClocks$Race", name := "hour", desc := "()I" } : Jvm.MethodName)) ∈ lw_all := lw_g (lw_at lw_m2 118 rfl) rfl
theorem q428 : (Jvm.Cond.unhidden "LameClocks$Race" "hour" "()I") ∈ lw_tbl := lw_at lw_m2 119 rfl
theorem q429 : (Jvm.Cond.instanceMethod ({ cls := "LameClocks$Race", name := "hour", desc := "()I" } : Jvm.MethodName)) ∈ lw_all := lw_g (lw_at lw_m2 120 rfl) rfl
theorem q430 : (Jvm.Cond.publicMethod ({ cls := "LameClocks$Race", name := "hour", desc := "()I" } : Jvm.MethodName)) ∈ lw_tbl := lw_at lw_m2 121 rfl
theorem q431 : (Jvm.Cond.code ({ cls := "LameClocks$Race", name := "hour", desc := "()I" } : Jvm.MethodName) prog_12_method_3_code (1 : Nat) (Option.some Jvm.ClassFile.FieldType.int)) ∈ lw_all := lw_g (lw_at lw_m2 122 rfl) rfl
theorem q443 : (Jvm.Cond.code ({ cls := "LameClocks$Plain", name := "shown", desc := "(LLameClocks$Street;)I" } : Jvm.MethodName) prog_11_method_3_code (2 : Nat) (Option.some Jvm.ClassFile.FieldType.int)) ∈ lw_all := lw_g (lw_at lw_m2 134 rfl) rfl
theorem q468 : (Jvm.Cond.instanceMethod ({ cls := "LameClocks$Race", name := "home", desc := "()I" } : Jvm.MethodName)) ∈ lw_all := lw_g (lw_at lw_m2 159 rfl) rfl
theorem q470 : (Jvm.Cond.code ({ cls := "LameClocks$Race", name := "home", desc := "()I" } : Jvm.MethodName) prog_12_method_6_code (1 : Nat) (Option.some Jvm.ClassFile.FieldType.int)) ∈ lw_all := lw_g (lw_at lw_m2 161 rfl) rfl
theorem q474 : (Jvm.Cond.code ({ cls := "LameClocks$Race", name := "dial", desc := "(I)I" } : Jvm.MethodName) prog_12_method_5_code (2 : Nat) (Option.some Jvm.ClassFile.FieldType.int)) ∈ lw_all := lw_g (lw_at lw_m2 165 rfl) rfl
theorem q494 : (Jvm.Cond.instanceMethod ({ cls := "LameClocks$Plain", name := "isHome", desc := "()Z" } : Jvm.MethodName)) ∈ lw_all := lw_g (lw_at lw_m2 185 rfl) rfl
theorem q495 : (Jvm.Cond.selects "LameClocks$Plain" ({ cls := "LameClocks$Plain", name := "isHome", desc := "()Z" } : Jvm.MethodName) ({ cls := "LameClocks$Plain", name := "isHome", desc := "()Z" } : Jvm.MethodName)) ∈ lw_all := lw_g (lw_at lw_m2 186 rfl) rfl
theorem q496 : (Jvm.Cond.sameMethod "LameClocks$Plain" "LameClocks$Plain" "isHome" "()Z") ∈ lw_all := lw_g (lw_at lw_m2 187 rfl) rfl
theorem q497 : (Jvm.Cond.selects "LameClocks$Cuckoo" ({ cls := "LameClocks$Plain", name := "isHome", desc := "()Z" } : Jvm.MethodName) ({ cls := "LameClocks$Plain", name := "isHome", desc := "()Z" } : Jvm.MethodName)) ∈ lw_all := lw_g (lw_at lw_m2 188 rfl) rfl
theorem q498 : (Jvm.Cond.selects "LameClocks$Mayor" ({ cls := "LameClocks$Plain", name := "isHome", desc := "()Z" } : Jvm.MethodName) ({ cls := "LameClocks$Plain", name := "isHome", desc := "()Z" } : Jvm.MethodName)) ∈ lw_all := lw_g (lw_at lw_m2 189 rfl) rfl
theorem q499 : (Jvm.Cond.selects "LameClocks$Stopped" ({ cls := "LameClocks$Plain", name := "isHome", desc := "()Z" } : Jvm.MethodName) ({ cls := "LameClocks$Plain", name := "isHome", desc := "()Z" } : Jvm.MethodName)) ∈ lw_all := lw_g (lw_at lw_m2 190 rfl) rfl
theorem q500 : (Jvm.Cond.selects "LameClocks$Sundial" ({ cls := "LameClocks$Plain", name := "isHome", desc := "()Z" } : Jvm.MethodName) ({ cls := "LameClocks$Plain", name := "isHome", desc := "()Z" } : Jvm.MethodName)) ∈ lw_all := lw_g (lw_at lw_m2 191 rfl) rfl
theorem q501 : (Jvm.Cond.selects "LameClocks$Twin" ({ cls := "LameClocks$Plain", name := "isHome", desc := "()Z" } : Jvm.MethodName) ({ cls := "LameClocks$Plain", name := "isHome", desc := "()Z" } : Jvm.MethodName)) ∈ lw_all := lw_g (lw_at lw_m2 192 rfl) rfl
theorem q502 : (Jvm.Cond.code ({ cls := "LameClocks$Plain", name := "isHome", desc := "()Z" } : Jvm.MethodName) prog_11_method_12_code (1 : Nat) (Option.some Jvm.ClassFile.FieldType.boolean)) ∈ lw_all := lw_g (lw_at lw_m2 193 rfl) rfl
theorem q516 : (Jvm.Cond.code ({ cls := "LameClocks$Plain", name := "isAhead", desc := "(LLameClocks$Plain;)Z" } : Jvm.MethodName) prog_11_method_13_code (2 : Nat) (Option.some Jvm.ClassFile.FieldType.boolean)) ∈ lw_all := lw_g (lw_at lw_m2 207 rfl) rfl
theorem q517 : (Jvm.Cond.methodLink "LameClocks$Plain" (53 : Nat) ({ cls := "LameClocks$Plain", name := "isHome", desc := "()Z" } : Jvm.MethodName)) ∈ lw_all := lw_g (lw_at lw_m2 208 rfl) rfl
theorem q561 : (Jvm.Cond.code ({ cls := "LameClocks$Race", name := "sky", desc := "()I" } : Jvm.MethodName) prog_12_method_4_code (1 : Nat) (Option.some Jvm.ClassFile.FieldType.int)) ∈ lw_all := lw_g (lw_at lw_m3 12 rfl) rfl
theorem q596 : (Jvm.Cond.code ({ cls := "LameClocks$Plain", name := "far", desc := "(LLameClocks$Street;)I" } : Jvm.MethodName) prog_11_method_7_code (2 : Nat) (Option.some Jvm.ClassFile.FieldType.int)) ∈ lw_all := lw_g (lw_at lw_m3 47 rfl) rfl
theorem q603 : (Jvm.Cond.code ({ cls := "LameClocks$Street", name := "isHome", desc := "(I)Z" } : Jvm.MethodName) prog_15_method_7_code (2 : Nat) (Option.some Jvm.ClassFile.FieldType.boolean)) ∈ lw_all := lw_g (lw_at lw_m3 54 rfl) rfl
theorem q605 : (Jvm.Cond.methodLink "LameClocks$Street" (9 : Nat) ({ cls := "LameClocks$Street", name := "home", desc := "()I" } : Jvm.MethodName)) ∈ lw_all := lw_g (lw_at lw_m3 56 rfl) rfl
theorem q606 : (Jvm.Cond.interfaceMethod "LameClocks$Street" "LameClocks$Street" "home" "()I") ∈ lw_tbl := lw_at lw_m3 57 rfl
theorem q607 : (Jvm.Cond.declares ({ cls := "LameClocks$Street", name := "home", desc := "()I" } : Jvm.MethodName)) ∈ lw_tbl := lw_at lw_m3 58 rfl
theorem q608 : (Jvm.Cond.selects "LameClocks$Race" ({ cls := "LameClocks$Street", name := "home", desc := "()I" } : Jvm.MethodName) ({ cls := "LameClocks$Race", name := "home", desc := "()I" } : Jvm.MethodName)) ∈ lw_all := lw_g (lw_at lw_m3 59 rfl) rfl
theorem q609 : (Jvm.Cond.unhidden "LameClocks$Race" "home" "()I") ∈ lw_tbl := lw_at lw_m3 60 rfl
theorem q610 : (Jvm.Cond.publicMethod ({ cls := "LameClocks$Race", name := "home", desc := "()I" } : Jvm.MethodName)) ∈ lw_tbl := lw_at lw_m3 61 rfl
theorem q644 : (Jvm.Cond.code ({ cls := "LameClocks$Plain", name := "isRunning", desc := "()Z" } : Jvm.MethodName) prog_11_method_8_code (1 : Nat) (Option.some Jvm.ClassFile.FieldType.boolean)) ∈ lw_all := lw_g (lw_at lw_m3 95 rfl) rfl
theorem q659 : (Jvm.Cond.instanceMethod ({ cls := "LameClocks$Repair", name := "<init>", desc := "(LLameClocks;II)V" } : Jvm.MethodName)) ∈ lw_all := lw_g (lw_at lw_m3 110 rfl) rfl
theorem q660 : (Jvm.Cond.code ({ cls := "LameClocks$Repair", name := "<init>", desc := "(LLameClocks;II)V" } : Jvm.MethodName) prog_13_method_1_code (4 : Nat) (Option.none : Option Jvm.ClassFile.FieldType)) ∈ lw_all := lw_g (lw_at lw_m3 111 rfl) rfl
theorem q661 : (Jvm.Cond.methodLink "LameClocks$Repair" (9 : Nat) ({ cls := "java/lang/Object", name := "<init>", desc := "()V" } : Jvm.MethodName)) ∈ lw_all := lw_g (lw_at lw_m3 112 rfl) rfl
theorem q663 : (Jvm.Cond.fieldLink "LameClocks$Repair" (15 : Nat) "LameClocks$Repair" "what" "I") ∈ lw_all := lw_g (lw_at lw_m3 114 rfl) rfl
theorem q670 : (Jvm.Cond.fieldLink "LameClocks$Breathed" (25 : Nat) "LameClocks$Breathed" "what" "I") ∈ lw_all := lw_g (lw_at lw_m3 121 rfl) rfl
theorem q671 : (Jvm.Cond.sameField "LameClocks$Breathed" "LameClocks$Repair" "what" "I") ∈ lw_all := lw_g (lw_at lw_m3 122 rfl) rfl
theorem q672 : (Jvm.Cond.fieldLink "LameClocks$Repair" (19 : Nat) "LameClocks$Repair" "was" "I") ∈ lw_all := lw_g (lw_at lw_m3 123 rfl) rfl
theorem q673 : (Jvm.Cond.fieldLink "LameClocks$Breathed" (29 : Nat) "LameClocks$Breathed" "was" "I") ∈ lw_all := lw_g (lw_at lw_m3 124 rfl) rfl
theorem q674 : (Jvm.Cond.sameField "LameClocks$Breathed" "LameClocks$Repair" "was" "I") ∈ lw_all := lw_g (lw_at lw_m3 125 rfl) rfl
theorem q681 : (Jvm.Cond.fieldLink "LameClocks$Repair" (3 : Nat) "LameClocks$Repair" "this$0" "LLameClocks;") ∈ lw_all := lw_g (lw_at lw_m3 132 rfl) rfl
theorem q709 : (Jvm.Cond.code ({ cls := "LameClocks$Plain", name := "winds", desc := "(I)V" } : Jvm.MethodName) prog_11_method_11_code (2 : Nat) (Option.none : Option Jvm.ClassFile.FieldType)) ∈ lw_all := lw_g (lw_at lw_m3 160 rfl) rfl
theorem q710 : (Jvm.Cond.methodLink "LameClocks$Plain" (50 : Nat) ({ cls := "java/lang/Math", name := "min", desc := "(II)I" } : Jvm.MethodName)) ∈ lw_all := lw_g (lw_at lw_m3 161 rfl) rfl
theorem q771 : (Jvm.Cond.code ({ cls := "LameClocks$Breathed", name := "<init>", desc := "(LLameClocks;I)V" } : Jvm.MethodName) prog_4_method_1_code (3 : Nat) (Option.none : Option Jvm.ClassFile.FieldType)) ∈ lw_all := lw_g (lw_at lw_m3 222 rfl) rfl
theorem q772 : (Jvm.Cond.methodLink "LameClocks$Breathed" (19 : Nat) ({ cls := "LameClocks$Repair", name := "<init>", desc := "(LLameClocks;II)V" } : Jvm.MethodName)) ∈ lw_all := lw_g (lw_at lw_m3 223 rfl) rfl
theorem q773 : (Jvm.Cond.fieldLink "LameClocks$Breathed" (1 : Nat) "LameClocks$Breathed" "this$0" "LLameClocks;") ∈ lw_all := lw_g (lw_at lw_m3 224 rfl) rfl
theorem q797 : (Jvm.Cond.code ({ cls := "LameClocks$Breathed", name := "undoes", desc := "()V" } : Jvm.MethodName) prog_4_method_2_code (1 : Nat) (Option.none : Option Jvm.ClassFile.FieldType)) ∈ lw_all := lw_g (lw_at lw_m4 8 rfl) rfl
theorem q955 : (Jvm.Cond.code ({ cls := "LameClocks$Bet", name := "<init>", desc := "(II)V" } : Jvm.MethodName) prog_3_method_1_code (3 : Nat) (Option.none : Option Jvm.ClassFile.FieldType)) ∈ lw_all := lw_g (lw_at lw_m4 166 rfl) rfl
theorem q956 : (Jvm.Cond.methodLink "LameClocks$Bet" (1 : Nat) ({ cls := "java/lang/Object", name := "<init>", desc := "()V" } : Jvm.MethodName)) ∈ lw_all := lw_g (lw_at lw_m4 167 rfl) rfl
theorem q957 : (Jvm.Cond.fieldLink "LameClocks$Bet" (7 : Nat) "LameClocks$Bet" "clock" "I") ∈ lw_all := lw_g (lw_at lw_m4 168 rfl) rfl
theorem q959 : (Jvm.Cond.fieldLink "LameClocks$Bet" (13 : Nat) "LameClocks$Bet" "stake" "I") ∈ lw_all := lw_g (lw_at lw_m4 170 rfl) rfl
theorem q1062 : (Jvm.Cond.code ({ cls := "LameClocks$Bet", name := "isIn", desc := "(I)Z" } : Jvm.MethodName) prog_3_method_2_code (2 : Nat) (Option.some Jvm.ClassFile.FieldType.boolean)) ∈ lw_all := lw_g (lw_at lw_m5 33 rfl) rfl
theorem q1249 : (Jvm.Cond.code ({ cls := "LameClocks$Passing", name := "<init>", desc := "(LLameClocks;)V" } : Jvm.MethodName) prog_10_method_1_code (2 : Nat) (Option.none : Option Jvm.ClassFile.FieldType)) ∈ lw_all := lw_g (lw_at lw_m5 220 rfl) rfl
theorem q1250 : (Jvm.Cond.methodLink "LameClocks$Passing" (7 : Nat) ({ cls := "java/lang/Object", name := "<init>", desc := "()V" } : Jvm.MethodName)) ∈ lw_all := lw_g (lw_at lw_m5 221 rfl) rfl
theorem q1251 : (Jvm.Cond.fieldLink "LameClocks$Passing" (1 : Nat) "LameClocks$Passing" "this$0" "LLameClocks;") ∈ lw_all := lw_g (lw_at lw_m5 222 rfl) rfl
theorem q1259 : (Jvm.Cond.code ({ cls := "LameClocks$Breathing", name := "<init>", desc := "(LLameClocks;I)V" } : Jvm.MethodName) prog_5_method_1_code (3 : Nat) (Option.none : Option Jvm.ClassFile.FieldType)) ∈ lw_all := lw_g (lw_at lw_m5 230 rfl) rfl
theorem q1260 : (Jvm.Cond.methodLink "LameClocks$Breathing" (7 : Nat) ({ cls := "java/lang/Object", name := "<init>", desc := "()V" } : Jvm.MethodName)) ∈ lw_all := lw_g (lw_at lw_m5 231 rfl) rfl
theorem q1261 : (Jvm.Cond.fieldLink "LameClocks$Breathing" (13 : Nat) "LameClocks$Breathing" "window" "I") ∈ lw_all := lw_g (lw_at lw_m5 232 rfl) rfl
theorem q1262 : (Jvm.Cond.fieldLink "LameClocks$Breathing" (1 : Nat) "LameClocks$Breathing" "this$0" "LLameClocks;") ∈ lw_all := lw_g (lw_at lw_m5 233 rfl) rfl
theorem q1280 : (Jvm.Cond.code ({ cls := "LameClocks$Winding", name := "<init>", desc := "(LLameClocks;II)V" } : Jvm.MethodName) prog_21_method_1_code (4 : Nat) (Option.none : Option Jvm.ClassFile.FieldType)) ∈ lw_all := lw_g (lw_at lw_m6 11 rfl) rfl
theorem q1281 : (Jvm.Cond.methodLink "LameClocks$Winding" (7 : Nat) ({ cls := "java/lang/Object", name := "<init>", desc := "()V" } : Jvm.MethodName)) ∈ lw_all := lw_g (lw_at lw_m6 12 rfl) rfl
theorem q1282 : (Jvm.Cond.fieldLink "LameClocks$Winding" (13 : Nat) "LameClocks$Winding" "clock" "I") ∈ lw_all := lw_g (lw_at lw_m6 13 rfl) rfl
theorem q1283 : (Jvm.Cond.fieldLink "LameClocks$Winding" (17 : Nat) "LameClocks$Winding" "n" "I") ∈ lw_all := lw_g (lw_at lw_m6 14 rfl) rfl
theorem q1284 : (Jvm.Cond.fieldLink "LameClocks$Winding" (1 : Nat) "LameClocks$Winding" "this$0" "LLameClocks;") ∈ lw_all := lw_g (lw_at lw_m6 15 rfl) rfl
theorem q1296 : (Jvm.Cond.code ({ cls := "LameClocks$Turning", name := "<init>", desc := "(LLameClocks;II)V" } : Jvm.MethodName) prog_19_method_1_code (4 : Nat) (Option.none : Option Jvm.ClassFile.FieldType)) ∈ lw_all := lw_g (lw_at lw_m6 27 rfl) rfl
theorem q1297 : (Jvm.Cond.methodLink "LameClocks$Turning" (7 : Nat) ({ cls := "java/lang/Object", name := "<init>", desc := "()V" } : Jvm.MethodName)) ∈ lw_all := lw_g (lw_at lw_m6 28 rfl) rfl
theorem q1298 : (Jvm.Cond.fieldLink "LameClocks$Turning" (13 : Nat) "LameClocks$Turning" "clock" "I") ∈ lw_all := lw_g (lw_at lw_m6 29 rfl) rfl
theorem q1299 : (Jvm.Cond.fieldLink "LameClocks$Turning" (17 : Nat) "LameClocks$Turning" "n" "I") ∈ lw_all := lw_g (lw_at lw_m6 30 rfl) rfl
theorem q1300 : (Jvm.Cond.fieldLink "LameClocks$Turning" (1 : Nat) "LameClocks$Turning" "this$0" "LLameClocks;") ∈ lw_all := lw_g (lw_at lw_m6 31 rfl) rfl
theorem q1534 : (Jvm.Cond.code ({ cls := "LameClocks$Race", name := "<init>", desc := "()V" } : Jvm.MethodName) prog_12_method_1_code (2 : Nat) (Option.none : Option Jvm.ClassFile.FieldType)) ∈ lw_all := lw_g (lw_at lw_m7 25 rfl) rfl
theorem q1535 : (Jvm.Cond.methodLink "LameClocks$Race" (3 : Nat) ({ cls := "java/lang/Object", name := "<init>", desc := "()V" } : Jvm.MethodName)) ∈ lw_all := lw_g (lw_at lw_m7 26 rfl) rfl
theorem q1536 : (Jvm.Cond.classLink "LameClocks$Race" (19 : Nat) "java/util/ArrayList") ∈ lw_all := lw_g (lw_at lw_m7 27 rfl) rfl
theorem q1537 : (Jvm.Cond.methodLink "LameClocks$Race" (21 : Nat) ({ cls := "java/util/ArrayList", name := "<init>", desc := "()V" } : Jvm.MethodName)) ∈ lw_all := lw_g (lw_at lw_m7 28 rfl) rfl
theorem q1538 : (Jvm.Cond.instanceMethod ({ cls := "java/util/ArrayList", name := "<init>", desc := "()V" } : Jvm.MethodName)) ∈ lw_all := lw_g (lw_at lw_m7 29 rfl) rfl
theorem q1559 : (Jvm.Cond.fieldLink "LameClocks$Race" (9 : Nat) "LameClocks$Race" "windows" "I") ∈ lw_all := lw_g (lw_at lw_m7 50 rfl) rfl
theorem q1561 : (Jvm.Cond.fieldLinkNest "LameClocks$Breathed" (13 : Nat) "LameClocks$Race" "dials" "[B" "LameClocks") ∈ lw_tbl := lw_at lw_m7 52 rfl
theorem q1562 : (Jvm.Cond.fieldLink "LameClocks$Race" (15 : Nat) "LameClocks$Race" "dials" "[B") ∈ lw_all := lw_g (lw_at lw_m7 53 rfl) rfl
theorem q1566 : (Jvm.Cond.fieldLink "LameClocks$Race" (41 : Nat) "LameClocks$Race" "hour" "I") ∈ lw_all := lw_g (lw_at lw_m7 57 rfl) rfl
theorem q1568 : (Jvm.Cond.fieldLink "LameClocks$Race" (26 : Nat) "LameClocks$Race" "skies" "[B") ∈ lw_all := lw_g (lw_at lw_m7 59 rfl) rfl
theorem q1570 : (Jvm.Cond.fieldLink "LameClocks$Race" (29 : Nat) "LameClocks$Race" "many" "I") ∈ lw_all := lw_g (lw_at lw_m7 61 rfl) rfl
theorem q1572 : (Jvm.Cond.fieldLink "LameClocks$Race" (32 : Nat) "LameClocks$Race" "always" "I") ∈ lw_all := lw_g (lw_at lw_m7 63 rfl) rfl
theorem q1605 : (Jvm.Cond.code ({ cls := "LameClocks$Held", name := "<init>", desc := "()V" } : Jvm.MethodName) prog_8_method_1_code (1 : Nat) (Option.none : Option Jvm.ClassFile.FieldType)) ∈ lw_all := lw_g (lw_at lw_m7 96 rfl) rfl
theorem q1606 : (Jvm.Cond.methodLink "LameClocks$Held" (1 : Nat) ({ cls := "java/lang/Object", name := "<init>", desc := "()V" } : Jvm.MethodName)) ∈ lw_all := lw_g (lw_at lw_m7 97 rfl) rfl
theorem q1611 : (Jvm.Cond.fieldLinkNest "LameClocks$Breathed" (7 : Nat) "LameClocks" "race" "LLameClocks$Race;" "LameClocks") ∈ lw_tbl := lw_at lw_m7 102 rfl
abbrev cX1_hour : ByteArray := prog_12_method_3_code
def yX1_hour : MethodName := ⟨RX1, "hour", "()I"⟩
theorem dX1_hour_0 : decode cX1_hour 0 = .ok (.aload_n 0, 1) := by decide +kernel
theorem dX1_hour_1 : decode cX1_hour 1 = .ok (.getfield 41, 3) := by decide +kernel
theorem dX1_hour_4 : decode cX1_hour 4 = .ok (.ireturn, 1) := by decide +kernel
theorem fo_X1_41 : g_fo RX1 41 [1] 3 := ⟨_, _, _, Or.inl q1566, fun ci h => by
  simp only [List.mem_cons, List.not_mem_nil, or_false] at h; rcases h with rfl
  · exact ⟨_, _, _, rfl, by decide, rfl, rfl, Or.inl rfl, in_X1⟩⟩
section CP
variable {Γ : Gc} {p : Program} {l : Launch} {e : Env} {s : State} {m : MethodId} {args : Array Value} {below : List Frame} {meth : Method} {c : Code} {ex : Nat → Option Nat} {z : Nat} {tF : St}
noncomputable def fX1_hour (ex : Nat → Option Nat) (z : Nat) (h0 : Nat) (t : St) : Option (Int32 × St) := cgI [1] 3 t h0 fun v1 => some (v1, t)
set_option maxHeartbeats 4000000 in
theorem wX1_hour {rF : Int32} (hex : ex = Γ.2.2.2.2) (X : g_X Γ p s m args meth c cX1_hour 1 RX1) (hr : meth.sig.returnType = (some .int)) (h0 : Nat) (t : St) : Wf Γ p l e 0 0 s m args below meth c 1 (g_ι z) v_i rF tF 0 [(0, .ref h0)] [] t (fX1_hour ex z h0 t) := by
  unfold fX1_hour
  refine g_aload_n (pc := 0) X 0 dX1_hour_0 rfl rfl ?_
  refine cg_getI (pc := 1) X fo_X1_41 dX1_hour_1 (fun v1 => ?_)
  exact g_iret (pc := 4) X hr dX1_hour_4
theorem kX1_hour {ex : Nat → Option Nat} {z : Nat} {h0 : Nat} {σ : Sg} {r : Int32} {u : St} (hex : ex = Γ.2.2.2.2) (h : fX1_hour ex z h0 (σ, 0, 0) = some (r, u)) : g_C Γ l yX1_hour cX1_hour 1 (some .int) 0 0 [.ref h0] σ z v_i r (g_ι z u) :=
  g_met (ι := g_ι z) (t := (σ, 0, 0)) [.ref h0] (by decide) (Nat.le_of_ble_eq_true rfl) h rfl (fun p e s m args below meth c X hr hn => wX1_hour hex X hr h0 (σ, 0, 0))
end CP
abbrev cX1_home : ByteArray := prog_12_method_6_code
def yX1_home : MethodName := ⟨RX1, "home", "()I"⟩
def dkwX1_home_0 : List UInt8 := [42, 180, 0, 9, 4, 100, 172]
abbrev dktX1_home_0 : List UInt8 := dkwX1_home_0 ++ []
theorem dksX1_home_0 : cX1_home.data.toList.drop 0 = dktX1_home_0 := by decide +kernel
theorem dX1_home_0 : decode cX1_home 0 = .ok (.aload_n 0, 1) := dk_42 (dk_at dksX1_home_0 0 rfl rfl)
theorem dX1_home_1 : decode cX1_home 1 = .ok (.getfield 9, 3) := dk_180 0 9 (dk_at dksX1_home_0 1 rfl rfl)
theorem dX1_home_4 : decode cX1_home 4 = .ok (.iconst 1, 1) := dk_4 (dk_at dksX1_home_0 4 rfl rfl)
theorem dX1_home_5 : decode cX1_home 5 = .ok (.isub, 1) := dk_100 (dk_at dksX1_home_0 5 rfl rfl)
theorem dX1_home_6 : decode cX1_home 6 = .ok (.ireturn, 1) := dk_172 (dk_at dksX1_home_0 6 rfl rfl)
theorem fo_X1_9 : g_fo RX1 9 [1] 0 := ⟨_, _, _, Or.inl q1559, fun ci h => by
  simp only [List.mem_cons, List.not_mem_nil, or_false] at h; rcases h with rfl
  · exact ⟨_, _, _, rfl, by decide, rfl, rfl, Or.inl rfl, in_X1⟩⟩
section CP
variable {Γ : Gc} {p : Program} {l : Launch} {e : Env} {s : State} {m : MethodId} {args : Array Value} {below : List Frame} {meth : Method} {c : Code} {ex : Nat → Option Nat} {z : Nat} {tF : St}
noncomputable def fX1_home (ex : Nat → Option Nat) (z : Nat) (h0 : Nat) (t : St) : Option (Int32 × St) := cgI [1] 0 t h0 fun v1 => some (v1 - 1, t)
set_option maxHeartbeats 4000000 in
theorem wX1_home {rF : Int32} (hex : ex = Γ.2.2.2.2) (X : g_X Γ p s m args meth c cX1_home 1 RX1) (hr : meth.sig.returnType = (some .int)) (h0 : Nat) (t : St) : Wf Γ p l e 0 0 s m args below meth c 1 (g_ι z) v_i rF tF 0 [(0, .ref h0)] [] t (fX1_home ex z h0 t) := by
  unfold fX1_home
  refine g_aload_n (pc := 0) X 0 dX1_home_0 rfl rfl ?_
  refine cg_getI (pc := 1) X fo_X1_9 dX1_home_1 (fun v1 => ?_)
  refine g_iconst (pc := 4) X 1 dX1_home_4 rfl ?_
  refine g_isub (pc := 5) X dX1_home_5 ?_
  exact g_iret (pc := 6) X hr dX1_home_6
theorem kX1_home {ex : Nat → Option Nat} {z : Nat} {h0 : Nat} {σ : Sg} {r : Int32} {u : St} (hex : ex = Γ.2.2.2.2) (h : fX1_home ex z h0 (σ, 0, 0) = some (r, u)) : g_C Γ l yX1_home cX1_home 1 (some .int) 0 0 [.ref h0] σ z v_i r (g_ι z u) :=
  g_met (ι := g_ι z) (t := (σ, 0, 0)) [.ref h0] (by decide) (Nat.le_of_ble_eq_true rfl) h rfl (fun p e s m args below meth c X hr hn => wX1_home hex X hr h0 (σ, 0, 0))
end CP
abbrev cX1_dial : ByteArray := prog_12_method_5_code
def yX1_dial : MethodName := ⟨RX1, "dial", "(I)I"⟩
def dkwX1_dial_0 : List UInt8 := [42, 180, 0, 15, 27, 51, 172]
abbrev dktX1_dial_0 : List UInt8 := dkwX1_dial_0 ++ []
theorem dksX1_dial_0 : cX1_dial.data.toList.drop 0 = dktX1_dial_0 := by decide +kernel
theorem dX1_dial_0 : decode cX1_dial 0 = .ok (.aload_n 0, 1) := dk_42 (dk_at dksX1_dial_0 0 rfl rfl)
theorem dX1_dial_1 : decode cX1_dial 1 = .ok (.getfield 15, 3) := dk_180 0 15 (dk_at dksX1_dial_0 1 rfl rfl)
theorem dX1_dial_4 : decode cX1_dial 4 = .ok (.iload_n 1, 1) := dk_27 (dk_at dksX1_dial_0 4 rfl rfl)
theorem dX1_dial_5 : decode cX1_dial 5 = .ok (.baload, 1) := dk_51 (dk_at dksX1_dial_0 5 rfl rfl)
theorem dX1_dial_6 : decode cX1_dial 6 = .ok (.ireturn, 1) := dk_172 (dk_at dksX1_dial_0 6 rfl rfl)
theorem fo_X1_15 : g_fo RX1 15 [1] 1 := ⟨_, _, _, Or.inl q1562, fun ci h => by
  simp only [List.mem_cons, List.not_mem_nil, or_false] at h; rcases h with rfl
  · exact ⟨_, _, _, rfl, by decide, rfl, rfl, Or.inl rfl, in_X1⟩⟩
section CP
variable {Γ : Gc} {p : Program} {l : Launch} {e : Env} {s : State} {m : MethodId} {args : Array Value} {below : List Frame} {meth : Method} {c : Code} {ex : Nat → Option Nat} {z : Nat} {tF : St}
noncomputable def fX1_dial (ex : Nat → Option Nat) (z : Nat) (h0 : Nat) (x1 : Int32) (t : St) : Option (Int32 × St) := cgA [1] 1 t h0 fun v1 => cald 0 t v1 x1 fun v2 => some (v2, t)
set_option maxHeartbeats 4000000 in
theorem wX1_dial {rF : Int32} (hex : ex = Γ.2.2.2.2) (X : g_X Γ p s m args meth c cX1_dial 2 RX1) (hr : meth.sig.returnType = (some .int)) (h0 : Nat) (x1 : Int32) (t : St) : Wf Γ p l e 0 0 s m args below meth c 2 (g_ι z) v_i rF tF 0 [(0, .ref h0), (1, .int x1)] [] t (fX1_dial ex z h0 x1 t) := by
  unfold fX1_dial
  refine g_aload_n (pc := 0) X 0 dX1_dial_0 rfl rfl ?_
  refine cg_getA (pc := 1) X fo_X1_15 dX1_dial_1 (fun v1 => ?_)
  refine g_iload_n (pc := 4) X 1 dX1_dial_4 rfl rfl ?_
  refine cg_bald (pc := 5) X dX1_dial_5 (fun v2 => ?_)
  exact g_iret (pc := 6) X hr dX1_dial_6
theorem kX1_dial {ex : Nat → Option Nat} {z : Nat} {h0 : Nat} {x1 : Int32} {σ : Sg} {r : Int32} {u : St} (hex : ex = Γ.2.2.2.2) (h : fX1_dial ex z h0 x1 (σ, 0, 0) = some (r, u)) : g_C Γ l yX1_dial cX1_dial 2 (some .int) 0 0 [.ref h0, .int x1] σ z v_i r (g_ι z u) :=
  g_met (ι := g_ι z) (t := (σ, 0, 0)) [.ref h0, .int x1] (by decide) (Nat.le_of_ble_eq_true rfl) h rfl (fun p e s m args below meth c X hr hn => wX1_dial hex X hr h0 x1 (σ, 0, 0))
end CP
abbrev cX1_sky : ByteArray := prog_12_method_4_code
def yX1_sky : MethodName := ⟨RX1, "sky", "()I"⟩
def dkwX1_sky_1 : List UInt8 := [167, 0, 7, 42, 180, 0, 32, 172]
abbrev dktX1_sky_1 : List UInt8 := dkwX1_sky_1 ++ []
def dkwX1_sky_0 : List UInt8 := [42, 180, 0, 32, 16, 252, 160, 0, 20, 42, 180, 0, 26, 42, 180, 0, 41, 42, 180, 0, 29, 112, 51]
abbrev dktX1_sky_0 : List UInt8 := dkwX1_sky_0 ++ dktX1_sky_1
theorem dksX1_sky_0 : cX1_sky.data.toList.drop 0 = dktX1_sky_0 := by decide +kernel
theorem dksX1_sky_1 : cX1_sky.data.toList.drop 23 = dktX1_sky_1 := dk_seg dksX1_sky_0 23 rfl rfl
theorem dX1_sky_0 : decode cX1_sky 0 = .ok (.aload_n 0, 1) := dk_42 (dk_at dksX1_sky_0 0 rfl rfl)
theorem dX1_sky_1 : decode cX1_sky 1 = .ok (.getfield 32, 3) := dk_180 0 32 (dk_at dksX1_sky_0 1 rfl rfl)
theorem dX1_sky_4 : decode cX1_sky 4 = .ok (.bipush (-4), 2) := dk_16 252 (dk_at dksX1_sky_0 4 rfl rfl)
theorem dX1_sky_6 : decode cX1_sky 6 = .ok (.if_icmp .ne 20, 3) := dk_160 0 20 (dk_at dksX1_sky_0 6 rfl rfl)
theorem dX1_sky_9 : decode cX1_sky 9 = .ok (.aload_n 0, 1) := dk_42 (dk_at dksX1_sky_0 9 rfl rfl)
theorem dX1_sky_10 : decode cX1_sky 10 = .ok (.getfield 26, 3) := dk_180 0 26 (dk_at dksX1_sky_0 10 rfl rfl)
theorem dX1_sky_13 : decode cX1_sky 13 = .ok (.aload_n 0, 1) := dk_42 (dk_at dksX1_sky_0 13 rfl rfl)
theorem dX1_sky_14 : decode cX1_sky 14 = .ok (.getfield 41, 3) := dk_180 0 41 (dk_at dksX1_sky_0 14 rfl rfl)
theorem dX1_sky_17 : decode cX1_sky 17 = .ok (.aload_n 0, 1) := dk_42 (dk_at dksX1_sky_0 17 rfl rfl)
theorem dX1_sky_18 : decode cX1_sky 18 = .ok (.getfield 29, 3) := dk_180 0 29 (dk_at dksX1_sky_0 18 rfl rfl)
theorem dX1_sky_21 : decode cX1_sky 21 = .ok (.irem, 1) := dk_112 (dk_at dksX1_sky_0 21 rfl rfl)
theorem dX1_sky_22 : decode cX1_sky 22 = .ok (.baload, 1) := dk_51 (dk_at dksX1_sky_0 22 rfl rfl)
theorem dX1_sky_23 : decode cX1_sky 23 = .ok (.goto 7, 3) := dk_167 0 7 (dk_at dksX1_sky_1 0 rfl rfl)
theorem dX1_sky_26 : decode cX1_sky 26 = .ok (.aload_n 0, 1) := dk_42 (dk_at dksX1_sky_1 3 rfl rfl)
theorem dX1_sky_27 : decode cX1_sky 27 = .ok (.getfield 32, 3) := dk_180 0 32 (dk_at dksX1_sky_1 4 rfl rfl)
theorem dX1_sky_30 : decode cX1_sky 30 = .ok (.ireturn, 1) := dk_172 (dk_at dksX1_sky_1 7 rfl rfl)
theorem fo_X1_32 : g_fo RX1 32 [1] 6 := ⟨_, _, _, Or.inl q1572, fun ci h => by
  simp only [List.mem_cons, List.not_mem_nil, or_false] at h; rcases h with rfl
  · exact ⟨_, _, _, rfl, by decide, rfl, rfl, Or.inl rfl, in_X1⟩⟩
theorem fo_X1_26 : g_fo RX1 26 [1] 4 := ⟨_, _, _, Or.inl q1568, fun ci h => by
  simp only [List.mem_cons, List.not_mem_nil, or_false] at h; rcases h with rfl
  · exact ⟨_, _, _, rfl, by decide, rfl, rfl, Or.inl rfl, in_X1⟩⟩
theorem fo_X1_29 : g_fo RX1 29 [1] 5 := ⟨_, _, _, Or.inl q1570, fun ci h => by
  simp only [List.mem_cons, List.not_mem_nil, or_false] at h; rcases h with rfl
  · exact ⟨_, _, _, rfl, by decide, rfl, rfl, Or.inl rfl, in_X1⟩⟩
section CP
variable {Γ : Gc} {p : Program} {l : Launch} {e : Env} {s : State} {m : MethodId} {args : Array Value} {below : List Frame} {meth : Method} {c : Code} {ex : Nat → Option Nat} {z : Nat} {tF : St}
noncomputable def fX1_sky (ex : Nat → Option Nat) (z : Nat) (h0 : Nat) (t : St) : Option (Int32 × St) := cgI [1] 6 t h0 fun v1 => if v1 = (-4) then cgA [1] 4 t h0 fun v3 => cgI [1] 3 t h0 fun v4 => cgI [1] 5 t h0 fun v5 => if v5 = 0 then none else cald 0 t v3 (v4 - v4 / v5 * v5) fun v7 => some (v7, t) else cgI [1] 6 t h0 fun v2 => some (v2, t)
set_option maxHeartbeats 4000000 in
theorem wX1_sky {rF : Int32} (hex : ex = Γ.2.2.2.2) (X : g_X Γ p s m args meth c cX1_sky 1 RX1) (hr : meth.sig.returnType = (some .int)) (h0 : Nat) (t : St) : Wf Γ p l e 0 0 s m args below meth c 1 (g_ι z) v_i rF tF 0 [(0, .ref h0)] [] t (fX1_sky ex z h0 t) := by
  unfold fX1_sky
  refine g_aload_n (pc := 0) X 0 dX1_sky_0 rfl rfl ?_
  refine cg_getI (pc := 1) X fo_X1_32 dX1_sky_1 (fun v1 => ?_)
  refine g_bipush (pc := 4) X (-4) dX1_sky_4 rfl ?_
  refine g_icmp_ne (pc := 6) X 26 dX1_sky_6 (by decide) ?_ ?_
  · refine g_aload_n (pc := 26) X 0 dX1_sky_26 rfl rfl ?_
    refine cg_getI (pc := 27) X fo_X1_32 dX1_sky_27 (fun v2 => ?_)
    exact g_iret (pc := 30) X hr dX1_sky_30
  · refine g_aload_n (pc := 9) X 0 dX1_sky_9 rfl rfl ?_
    refine cg_getA (pc := 10) X fo_X1_26 dX1_sky_10 (fun v3 => ?_)
    refine g_aload_n (pc := 13) X 0 dX1_sky_13 rfl rfl ?_
    refine cg_getI (pc := 14) X fo_X1_41 dX1_sky_14 (fun v4 => ?_)
    refine g_aload_n (pc := 17) X 0 dX1_sky_17 rfl rfl ?_
    refine cg_getI (pc := 18) X fo_X1_29 dX1_sky_18 (fun v5 => ?_)
    refine g_no (pc := 21) (fun hn6 => ?_)
    refine g_irem (pc := 21) X dX1_sky_21 hn6 ?_
    refine cg_bald (pc := 22) X dX1_sky_22 (fun v7 => ?_)
    refine g_goto (pc := 23) X 30 dX1_sky_23 (by decide) ?_
    exact g_iret (pc := 30) X hr dX1_sky_30
theorem kX1_sky {ex : Nat → Option Nat} {z : Nat} {h0 : Nat} {σ : Sg} {r : Int32} {u : St} (hex : ex = Γ.2.2.2.2) (h : fX1_sky ex z h0 (σ, 0, 0) = some (r, u)) : g_C Γ l yX1_sky cX1_sky 1 (some .int) 0 0 [.ref h0] σ z v_i r (g_ι z u) :=
  g_met (ι := g_ι z) (t := (σ, 0, 0)) [.ref h0] (by decide) (Nat.le_of_ble_eq_true rfl) h rfl (fun p e s m args below meth c X hr hn => wX1_sky hex X hr h0 (σ, 0, 0))
end CP
abbrev cX1_init : ByteArray := prog_12_method_1_code
def yX1_init : MethodName := ⟨RX1, "<init>", "()V"⟩
def dkwX1_init_3 : List UInt8 := [167, 255, 239, 177]
abbrev dktX1_init_3 : List UInt8 := dkwX1_init_3 ++ []
def dkwX1_init_2 : List UInt8 := [181, 0, 32, 3, 60, 27, 16, 24, 162, 0, 17, 42, 180, 0, 15, 27, 16, 12, 84, 132, 1, 1]
abbrev dktX1_init_2 : List UInt8 := dkwX1_init_2 ++ dktX1_init_3
def dkwX1_init_1 : List UInt8 := [183, 0, 21, 181, 0, 22, 42, 16, 12, 188, 8, 181, 0, 26, 42, 4, 181, 0, 29, 42, 16, 252]
abbrev dktX1_init_1 : List UInt8 := dkwX1_init_1 ++ dktX1_init_2
def dkwX1_init_0 : List UInt8 := [42, 183, 0, 3, 42, 16, 8, 181, 0, 9, 42, 16, 24, 188, 8, 181, 0, 15, 42, 187, 0, 19, 89]
abbrev dktX1_init_0 : List UInt8 := dkwX1_init_0 ++ dktX1_init_1
theorem dksX1_init_0 : cX1_init.data.toList.drop 0 = dktX1_init_0 := by decide +kernel
theorem dksX1_init_1 : cX1_init.data.toList.drop 23 = dktX1_init_1 := dk_seg dksX1_init_0 23 rfl rfl
theorem dksX1_init_2 : cX1_init.data.toList.drop 45 = dktX1_init_2 := dk_seg dksX1_init_1 22 rfl rfl
theorem dksX1_init_3 : cX1_init.data.toList.drop 67 = dktX1_init_3 := dk_seg dksX1_init_2 22 rfl rfl
theorem dX1_init_0 : decode cX1_init 0 = .ok (.aload_n 0, 1) := dk_42 (dk_at dksX1_init_0 0 rfl rfl)
theorem dX1_init_1 : decode cX1_init 1 = .ok (.invokespecial 3, 3) := dk_183 0 3 (dk_at dksX1_init_0 1 rfl rfl)
theorem dX1_init_4 : decode cX1_init 4 = .ok (.aload_n 0, 1) := dk_42 (dk_at dksX1_init_0 4 rfl rfl)
theorem dX1_init_5 : decode cX1_init 5 = .ok (.bipush 8, 2) := dk_16 8 (dk_at dksX1_init_0 5 rfl rfl)
theorem dX1_init_7 : decode cX1_init 7 = .ok (.putfield 9, 3) := dk_181 0 9 (dk_at dksX1_init_0 7 rfl rfl)
theorem dX1_init_10 : decode cX1_init 10 = .ok (.aload_n 0, 1) := dk_42 (dk_at dksX1_init_0 10 rfl rfl)
theorem dX1_init_11 : decode cX1_init 11 = .ok (.bipush 24, 2) := dk_16 24 (dk_at dksX1_init_0 11 rfl rfl)
theorem dX1_init_13 : decode cX1_init 13 = .ok (.newarray .byte, 2) := dk_188_8 (dk_at dksX1_init_0 13 rfl rfl)
theorem dX1_init_15 : decode cX1_init 15 = .ok (.putfield 15, 3) := dk_181 0 15 (dk_at dksX1_init_0 15 rfl rfl)
theorem dX1_init_18 : decode cX1_init 18 = .ok (.aload_n 0, 1) := dk_42 (dk_at dksX1_init_0 18 rfl rfl)
theorem dX1_init_19 : decode cX1_init 19 = .ok (.new 19, 3) := dk_187 0 19 (dk_at dksX1_init_0 19 rfl rfl)
theorem dX1_init_22 : decode cX1_init 22 = .ok (.dup, 1) := dk_89 (dk_at dksX1_init_0 22 rfl rfl)
theorem dX1_init_23 : decode cX1_init 23 = .ok (.invokespecial 21, 3) := dk_183 0 21 (dk_at dksX1_init_1 0 rfl rfl)
theorem dX1_init_26 : decode cX1_init 26 = .ok (.putfield 22, 3) := dk_181 0 22 (dk_at dksX1_init_1 3 rfl rfl)
theorem dX1_init_29 : decode cX1_init 29 = .ok (.aload_n 0, 1) := dk_42 (dk_at dksX1_init_1 6 rfl rfl)
theorem dX1_init_30 : decode cX1_init 30 = .ok (.bipush 12, 2) := dk_16 12 (dk_at dksX1_init_1 7 rfl rfl)
theorem dX1_init_32 : decode cX1_init 32 = .ok (.newarray .byte, 2) := dk_188_8 (dk_at dksX1_init_1 9 rfl rfl)
theorem dX1_init_34 : decode cX1_init 34 = .ok (.putfield 26, 3) := dk_181 0 26 (dk_at dksX1_init_1 11 rfl rfl)
theorem dX1_init_37 : decode cX1_init 37 = .ok (.aload_n 0, 1) := dk_42 (dk_at dksX1_init_1 14 rfl rfl)
theorem dX1_init_38 : decode cX1_init 38 = .ok (.iconst 1, 1) := dk_4 (dk_at dksX1_init_1 15 rfl rfl)
theorem dX1_init_39 : decode cX1_init 39 = .ok (.putfield 29, 3) := dk_181 0 29 (dk_at dksX1_init_1 16 rfl rfl)
theorem dX1_init_42 : decode cX1_init 42 = .ok (.aload_n 0, 1) := dk_42 (dk_at dksX1_init_1 19 rfl rfl)
theorem dX1_init_43 : decode cX1_init 43 = .ok (.bipush (-4), 2) := dk_16 252 (dk_at dksX1_init_1 20 rfl rfl)
theorem dX1_init_45 : decode cX1_init 45 = .ok (.putfield 32, 3) := dk_181 0 32 (dk_at dksX1_init_2 0 rfl rfl)
theorem dX1_init_48 : decode cX1_init 48 = .ok (.iconst 0, 1) := dk_3 (dk_at dksX1_init_2 3 rfl rfl)
theorem dX1_init_49 : decode cX1_init 49 = .ok (.istore_n 1, 1) := dk_60 (dk_at dksX1_init_2 4 rfl rfl)
theorem dX1_init_50 : decode cX1_init 50 = .ok (.iload_n 1, 1) := dk_27 (dk_at dksX1_init_2 5 rfl rfl)
theorem dX1_init_51 : decode cX1_init 51 = .ok (.bipush 24, 2) := dk_16 24 (dk_at dksX1_init_2 6 rfl rfl)
theorem dX1_init_53 : decode cX1_init 53 = .ok (.if_icmp .ge 17, 3) := dk_162 0 17 (dk_at dksX1_init_2 8 rfl rfl)
theorem dX1_init_56 : decode cX1_init 56 = .ok (.aload_n 0, 1) := dk_42 (dk_at dksX1_init_2 11 rfl rfl)
theorem dX1_init_57 : decode cX1_init 57 = .ok (.getfield 15, 3) := dk_180 0 15 (dk_at dksX1_init_2 12 rfl rfl)
theorem dX1_init_60 : decode cX1_init 60 = .ok (.iload_n 1, 1) := dk_27 (dk_at dksX1_init_2 15 rfl rfl)
theorem dX1_init_61 : decode cX1_init 61 = .ok (.bipush 12, 2) := dk_16 12 (dk_at dksX1_init_2 16 rfl rfl)
theorem dX1_init_63 : decode cX1_init 63 = .ok (.bastore, 1) := dk_84 (dk_at dksX1_init_2 18 rfl rfl)
theorem dX1_init_64 : decode cX1_init 64 = .ok (.iinc 1 1, 3) := dk_132 1 1 (dk_at dksX1_init_2 19 rfl rfl)
theorem dX1_init_67 : decode cX1_init 67 = .ok (.goto (-17), 3) := dk_167 255 239 (dk_at dksX1_init_3 0 rfl rfl)
theorem dX1_init_70 : decode cX1_init 70 = .ok (.return_, 1) := dk_177 (dk_at dksX1_init_3 3 rfl rfl)
theorem fp_X1_9 : g_fp RX1 9 [1] 0 .int false := ⟨_, _, _, Or.inl q1559, by decide +kernel, fun ci h => by
  simp only [List.mem_cons, List.not_mem_nil, or_false] at h; rcases h with rfl
  · exact ⟨_, _, _, tyX1, rfl, by decide, rfl, rfl, Or.inl rfl, in_X1, rfl, (fun h => by cases h), tyX1_ok, (by decide +kernel)⟩⟩
theorem fp_X1_15 : g_fp RX1 15 [1] 1 (.array .byte) true := ⟨_, _, _, Or.inl q1562, by decide +kernel, fun ci h => by
  simp only [List.mem_cons, List.not_mem_nil, or_false] at h; rcases h with rfl
  · exact ⟨_, _, _, tyX1, rfl, by decide, rfl, rfl, Or.inl rfl, in_X1, rfl, (fun _ => rfl), tyX1_ok, (by decide +kernel)⟩⟩
theorem nw_X1_19 : g_nw RX1 19 15 [.int 0, .null, .int 0] 3 := ⟨_, _, _, tyJ2, rfl, q1536, q261, q74, in_J2, tyJ2_ok, fun j hj => by
  match j, hj with
  | 0, _ => rfl
  | 1, _ => rfl
  | 2, _ => rfl⟩
theorem fp_X1_22 : g_fp RX1 22 [1] 2 (.object "java/util/ArrayList") true := ⟨_, _, _, Or.inl q1564, by decide +kernel, fun ci h => by
  simp only [List.mem_cons, List.not_mem_nil, or_false] at h; rcases h with rfl
  · exact ⟨_, _, _, tyX1, rfl, by decide, rfl, rfl, Or.inl rfl, in_X1, rfl, (fun _ => rfl), tyX1_ok, (by decide +kernel)⟩⟩
theorem fp_X1_26 : g_fp RX1 26 [1] 4 (.array .byte) true := ⟨_, _, _, Or.inl q1568, by decide +kernel, fun ci h => by
  simp only [List.mem_cons, List.not_mem_nil, or_false] at h; rcases h with rfl
  · exact ⟨_, _, _, tyX1, rfl, by decide, rfl, rfl, Or.inl rfl, in_X1, rfl, (fun _ => rfl), tyX1_ok, (by decide +kernel)⟩⟩
theorem fp_X1_29 : g_fp RX1 29 [1] 5 .int false := ⟨_, _, _, Or.inl q1570, by decide +kernel, fun ci h => by
  simp only [List.mem_cons, List.not_mem_nil, or_false] at h; rcases h with rfl
  · exact ⟨_, _, _, tyX1, rfl, by decide, rfl, rfl, Or.inl rfl, in_X1, rfl, (fun h => by cases h), tyX1_ok, (by decide +kernel)⟩⟩
theorem fp_X1_32 : g_fp RX1 32 [1] 6 .int false := ⟨_, _, _, Or.inl q1572, by decide +kernel, fun ci h => by
  simp only [List.mem_cons, List.not_mem_nil, or_false] at h; rcases h with rfl
  · exact ⟨_, _, _, tyX1, rfl, by decide, rfl, rfl, Or.inl rfl, in_X1, rfl, (fun h => by cases h), tyX1_ok, (by decide +kernel)⟩⟩
theorem dmS_J2_init : yJ2_init.cls ≠ "java/lang/invoke/MethodHandle" ∧ yJ2_init.cls ≠ "java/lang/invoke/VarHandle" ∧ (parseMethodDescriptor yJ2_init.desc).map (fun d => d.parameters.length) = some 0 := by decide +kernel
section CP
variable {Γ : Gc} {p : Program} {l : Launch} {e : Env} {s : State} {m : MethodId} {args : Array Value} {below : List Frame} {meth : Method} {c : Code} {ex : Nat → Option Nat} {z : Nat} {tF : St}
noncomputable def fX1_init_50 (ex : Nat → Option Nat) (z : Nat) : Nat → Nat → Int32 → St → Option (Unit × St)
  | 0, _, _, _ => none
  | n + 1, h0, x1, t => if 24 ≤ x1 then some ((), t) else cgA [1] 1 t h0 fun v1 => cast_ 0 (vp_nar .byte) t v1 x1 12 fun t2 => fX1_init_50 ex z n h0 (x1 + 1) t2
set_option maxHeartbeats 4000000 in
theorem wX1_init_50 {rF : Unit} (hex : ex = Γ.2.2.2.2) (X : g_X Γ p s m args meth c cX1_init 2 RX1) (hr : meth.sig.returnType = none) (hin : meth.name = "<init>") (n : Nat) : ∀ (h0 : Nat) (x1 : Int32) (t : St), Wf Γ p l e 4 72 s m args below meth c 2 (g_ι z) v_v rF tF 50 [(0, .ref h0), (1, .int x1)] [] t (fX1_init_50 ex z n h0 x1 t) := by
  induction n with
  | zero => intro h0 x1 t; exact g_none
  | succ n ih =>
    intro h0 x1 t
    rw [fX1_init_50]
    refine g_iload_n (pc := 50) X 1 dX1_init_50 rfl rfl ?_
    refine g_bipush (pc := 51) X 24 dX1_init_51 rfl ?_
    refine g_icmp_ge (pc := 53) X 70 dX1_init_53 (by decide) ?_ ?_
    · exact g_vret (pc := 70) X hr dX1_init_70
    · refine g_aload_n (pc := 56) X 0 dX1_init_56 rfl rfl ?_
      refine cg_getA (pc := 57) X fo_X1_15 dX1_init_57 (fun v1 => ?_)
      refine g_iload_n (pc := 60) X 1 dX1_init_60 rfl rfl ?_
      refine g_bipush (pc := 61) X 12 dX1_init_61 rfl ?_
      refine cg_bast (pc := 63) X dX1_init_63 (fun t2 => ?_)
      refine g_iinc (pc := 64) X 1 1 (lv' := [(1, .int (x1 + 1)), (0, .ref h0)]) dX1_init_64 rfl rfl (by decide) rfl ?_
      refine g_goto (pc := 67) X 50 dX1_init_67 (by decide) ?_
      exact g_lv (pc := 50) (lv' := [(0, .ref h0), (1, .int (x1 + 1))]) [1, 0] rfl (ih h0 (x1 + 1) t2)
noncomputable def fX1_init (ex : Nat → Option Nat) (z : Nat) (h0 : Nat) (t : St) : Option (Unit × St) := cput [1] 0 t h0 (.int 8) fun t1 => cnewa z 0 24 t1 fun a2 t3 => cput [1] 1 t3 h0 (.ref a2) fun t4 => cnew z 15 [.int 0, .null, .int 0] 3 t4 fun a5 t6 => gb (fJ2_init ex (z + t6.2.1) a5 (t6.1, 0, 0)) t6 fun _ t8 => cput [1] 2 t8 h0 (.ref a5) fun t9 => cnewa z 0 12 t9 fun a10 t11 => cput [1] 4 t11 h0 (.ref a10) fun t12 => cput [1] 5 t12 h0 (.int 1) fun t13 => cput [1] 6 t13 h0 (.int (-4)) fun t14 => fX1_init_50 ex z 1000 h0 0 t14
set_option maxHeartbeats 4000000 in
theorem wX1_init {rF : Unit} (hex : ex = Γ.2.2.2.2) (X : g_X Γ p s m args meth c cX1_init 2 RX1) (hr : meth.sig.returnType = none) (hin : meth.name = "<init>") (h0 : Nat) (t : St) : Wf Γ p l e 4 72 s m args below meth c 2 (g_ι z) v_v rF tF 0 [(0, .ref h0)] [] t (fX1_init ex z h0 t) := by
  unfold fX1_init
  refine g_aload_n (pc := 0) X 0 dX1_init_0 rfl rfl ?_
  refine cg_obj (pc := 1) X dX1_init_1 q1535 q149 q150 (Nat.le_of_ble_eq_true rfl) (Nat.le_of_ble_eq_true rfl) ?_
  refine g_aload_n (pc := 4) X 0 dX1_init_4 rfl rfl ?_
  refine g_bipush (pc := 5) X 8 dX1_init_5 rfl ?_
  refine cg_put (pc := 7) X fp_X1_9 dX1_init_7 (fun h => by cases h) rfl rfl (fun t1 => ?_)
  refine g_aload_n (pc := 10) X 0 dX1_init_10 rfl rfl ?_
  refine g_bipush (pc := 11) X 24 dX1_init_11 rfl ?_
  refine cg_newa (pc := 13) X (j := 0) dX1_init_13 (by decide) rfl rfl (fun _ _ => rfl) (by decide) q1054 (fun a2 t3 => ?_)
  refine cg_put (pc := 15) X fp_X1_15 dX1_init_15 (fun _ => hin) rfl rfl (fun t4 => ?_)
  refine g_aload_n (pc := 18) X 0 dX1_init_18 rfl rfl ?_
  refine cg_new (pc := 19) X nw_X1_19 dX1_init_19 (fun a5 t6 => ?_)
  refine g_dup (pc := 22) X dX1_init_22 rfl ?_
  refine g_bI_v (pc := 23) X (y := yJ2_init) (As := []) (rest := [.ref a5, .ref h0]) (b := a5) (fr' := 3) (lo' := 52) (fun _ => cwI 0 X.2.2.2.2.1 (lw_meth q1539) rfl rfl rfl (X.2.2.2.2.1 _ q74) (X.2.2.2.2.1 _ q1537) (X.2.2.2.2.1 _ q1538) rfl dmS_J2_init ⟨Nat.le_of_ble_eq_true rfl, Nat.le_of_ble_eq_true rfl⟩) dX1_init_23 rfl rfl (Nat.le_of_ble_eq_true rfl) (fun r u h => kJ2_init hex h) (fun r7 t8 => ?_)
  refine cg_put (pc := 26) X fp_X1_22 dX1_init_26 (fun _ => hin) rfl rfl (fun t9 => ?_)
  refine g_aload_n (pc := 29) X 0 dX1_init_29 rfl rfl ?_
  refine g_bipush (pc := 30) X 12 dX1_init_30 rfl ?_
  refine cg_newa (pc := 32) X (j := 0) dX1_init_32 (by decide) rfl rfl (fun _ _ => rfl) (by decide) q1054 (fun a10 t11 => ?_)
  refine cg_put (pc := 34) X fp_X1_26 dX1_init_34 (fun _ => hin) rfl rfl (fun t12 => ?_)
  refine g_aload_n (pc := 37) X 0 dX1_init_37 rfl rfl ?_
  refine g_iconst (pc := 38) X 1 dX1_init_38 rfl ?_
  refine cg_put (pc := 39) X fp_X1_29 dX1_init_39 (fun h => by cases h) rfl rfl (fun t13 => ?_)
  refine g_aload_n (pc := 42) X 0 dX1_init_42 rfl rfl ?_
  refine g_bipush (pc := 43) X (-4) dX1_init_43 rfl ?_
  refine cg_put (pc := 45) X fp_X1_32 dX1_init_45 (fun h => by cases h) rfl rfl (fun t14 => ?_)
  refine g_iconst (pc := 48) X 0 dX1_init_48 rfl ?_
  refine g_istore_n (pc := 49) X (lv' := [(1, .int 0), (0, .ref h0)]) dX1_init_49 rfl (by decide) rfl ?_
  exact g_lv (pc := 50) (lv' := [(0, .ref h0), (1, .int 0)]) [1, 0] rfl (wX1_init_50 hex X hr hin 1000 h0 0 t14)
theorem kX1_init {ex : Nat → Option Nat} {z : Nat} {h0 : Nat} {σ : Sg} {r : Unit} {u : St} (hex : ex = Γ.2.2.2.2) (h : fX1_init ex z h0 (σ, 0, 0) = some (r, u)) : g_C Γ l yX1_init cX1_init 2 none 4 72 [.ref h0] σ z v_v r (g_ι z u) :=
  g_met (ι := g_ι z) (t := (σ, 0, 0)) [.ref h0] (by decide) (Nat.le_of_ble_eq_true rfl) h rfl (fun p e s m args below meth c X hr hn => wX1_init hex X hr hn h0 (σ, 0, 0))
end CP
abbrev cX11_init : ByteArray := prog_10_method_1_code
def yX11_init : MethodName := ⟨RX11, "<init>", "(LLameClocks;)V"⟩
def dkwX11_init_0 : List UInt8 := [42, 43, 181, 0, 1, 42, 183, 0, 7, 177]
abbrev dktX11_init_0 : List UInt8 := dkwX11_init_0 ++ []
theorem dksX11_init_0 : cX11_init.data.toList.drop 0 = dktX11_init_0 := by decide +kernel
theorem dX11_init_0 : decode cX11_init 0 = .ok (.aload_n 0, 1) := dk_42 (dk_at dksX11_init_0 0 rfl rfl)
theorem dX11_init_1 : decode cX11_init 1 = .ok (.aload_n 1, 1) := dk_43 (dk_at dksX11_init_0 1 rfl rfl)
theorem dX11_init_2 : decode cX11_init 2 = .ok (.putfield 1, 3) := dk_181 0 1 (dk_at dksX11_init_0 2 rfl rfl)
theorem dX11_init_5 : decode cX11_init 5 = .ok (.aload_n 0, 1) := dk_42 (dk_at dksX11_init_0 5 rfl rfl)
theorem dX11_init_6 : decode cX11_init 6 = .ok (.invokespecial 7, 3) := dk_183 0 7 (dk_at dksX11_init_0 6 rfl rfl)
theorem dX11_init_9 : decode cX11_init 9 = .ok (.return_, 1) := dk_177 (dk_at dksX11_init_0 9 rfl rfl)
theorem fp_X11_1 : g_fp RX11 1 [11] 0 (.object "LameClocks") true := ⟨_, _, _, Or.inl q1251, by decide +kernel, fun ci h => by
  simp only [List.mem_cons, List.not_mem_nil, or_false] at h; rcases h with rfl
  · exact ⟨_, _, _, tyX11, rfl, by decide, rfl, rfl, Or.inl rfl, in_X11, rfl, (fun _ => rfl), tyX11_ok, (by decide +kernel)⟩⟩
section CP
variable {Γ : Gc} {p : Program} {l : Launch} {e : Env} {s : State} {m : MethodId} {args : Array Value} {below : List Frame} {meth : Method} {c : Code} {ex : Nat → Option Nat} {z : Nat} {tF : St}
noncomputable def fX11_init (ex : Nat → Option Nat) (z : Nat) (h0 : Nat) (h1 : Nat) (t : St) : Option (Unit × St) := cput [11] 0 t h0 (.ref h1) fun t1 => some ((), t1)
set_option maxHeartbeats 4000000 in
theorem wX11_init {rF : Unit} (hex : ex = Γ.2.2.2.2) (X : g_X Γ p s m args meth c cX11_init 2 RX11) (hr : meth.sig.returnType = none) (hin : meth.name = "<init>") (h0 : Nat) (h1 : Nat) (t : St) : Wf Γ p l e 1 12 s m args below meth c 2 (g_ι z) v_v rF tF 0 [(0, .ref h0), (1, .ref h1)] [] t (fX11_init ex z h0 h1 t) := by
  unfold fX11_init
  refine g_aload_n (pc := 0) X 0 dX11_init_0 rfl rfl ?_
  refine g_aload_n (pc := 1) X 1 dX11_init_1 rfl rfl ?_
  refine cg_put (pc := 2) X fp_X11_1 dX11_init_2 (fun _ => hin) rfl rfl (fun t1 => ?_)
  refine g_aload_n (pc := 5) X 0 dX11_init_5 rfl rfl ?_
  refine cg_obj (pc := 6) X dX11_init_6 q1250 q149 q150 (Nat.le_of_ble_eq_true rfl) (Nat.le_of_ble_eq_true rfl) ?_
  exact g_vret (pc := 9) X hr dX11_init_9
theorem kX11_init {ex : Nat → Option Nat} {z : Nat} {h0 : Nat} {h1 : Nat} {σ : Sg} {r : Unit} {u : St} (hex : ex = Γ.2.2.2.2) (h : fX11_init ex z h0 h1 (σ, 0, 0) = some (r, u)) : g_C Γ l yX11_init cX11_init 2 none 1 12 [.ref h0, .ref h1] σ z v_v r (g_ι z u) :=
  g_met (ι := g_ι z) (t := (σ, 0, 0)) [.ref h0, .ref h1] (by decide) (Nat.le_of_ble_eq_true rfl) h rfl (fun p e s m args below meth c X hr hn => wX11_init hex X hr hn h0 h1 (σ, 0, 0))
end CP
abbrev cX12_init : ByteArray := prog_5_method_1_code
def yX12_init : MethodName := ⟨RX12, "<init>", "(LLameClocks;I)V"⟩
def dkwX12_init_0 : List UInt8 := [42, 43, 181, 0, 1, 42, 183, 0, 7, 42, 28, 181, 0, 13, 177]
abbrev dktX12_init_0 : List UInt8 := dkwX12_init_0 ++ []
theorem dksX12_init_0 : cX12_init.data.toList.drop 0 = dktX12_init_0 := by decide +kernel
theorem dX12_init_0 : decode cX12_init 0 = .ok (.aload_n 0, 1) := dk_42 (dk_at dksX12_init_0 0 rfl rfl)
theorem dX12_init_1 : decode cX12_init 1 = .ok (.aload_n 1, 1) := dk_43 (dk_at dksX12_init_0 1 rfl rfl)
theorem dX12_init_2 : decode cX12_init 2 = .ok (.putfield 1, 3) := dk_181 0 1 (dk_at dksX12_init_0 2 rfl rfl)
theorem dX12_init_5 : decode cX12_init 5 = .ok (.aload_n 0, 1) := dk_42 (dk_at dksX12_init_0 5 rfl rfl)
theorem dX12_init_6 : decode cX12_init 6 = .ok (.invokespecial 7, 3) := dk_183 0 7 (dk_at dksX12_init_0 6 rfl rfl)
theorem dX12_init_9 : decode cX12_init 9 = .ok (.aload_n 0, 1) := dk_42 (dk_at dksX12_init_0 9 rfl rfl)
theorem dX12_init_10 : decode cX12_init 10 = .ok (.iload_n 2, 1) := dk_28 (dk_at dksX12_init_0 10 rfl rfl)
theorem dX12_init_11 : decode cX12_init 11 = .ok (.putfield 13, 3) := dk_181 0 13 (dk_at dksX12_init_0 11 rfl rfl)
theorem dX12_init_14 : decode cX12_init 14 = .ok (.return_, 1) := dk_177 (dk_at dksX12_init_0 14 rfl rfl)
theorem fp_X12_1 : g_fp RX12 1 [12] 1 (.object "LameClocks") true := ⟨_, _, _, Or.inl q1262, by decide +kernel, fun ci h => by
  simp only [List.mem_cons, List.not_mem_nil, or_false] at h; rcases h with rfl
  · exact ⟨_, _, _, tyX12, rfl, by decide, rfl, rfl, Or.inl rfl, in_X12, rfl, (fun _ => rfl), tyX12_ok, (by decide +kernel)⟩⟩
theorem fp_X12_13 : g_fp RX12 13 [12] 0 .int true := ⟨_, _, _, Or.inl q1261, by decide +kernel, fun ci h => by
  simp only [List.mem_cons, List.not_mem_nil, or_false] at h; rcases h with rfl
  · exact ⟨_, _, _, tyX12, rfl, by decide, rfl, rfl, Or.inl rfl, in_X12, rfl, (fun _ => rfl), tyX12_ok, (by decide +kernel)⟩⟩
section CP
variable {Γ : Gc} {p : Program} {l : Launch} {e : Env} {s : State} {m : MethodId} {args : Array Value} {below : List Frame} {meth : Method} {c : Code} {ex : Nat → Option Nat} {z : Nat} {tF : St}
noncomputable def fX12_init (ex : Nat → Option Nat) (z : Nat) (h0 : Nat) (h1 : Nat) (x2 : Int32) (t : St) : Option (Unit × St) := cput [12] 1 t h0 (.ref h1) fun t1 => cput [12] 0 t1 h0 (.int x2) fun t2 => some ((), t2)
set_option maxHeartbeats 4000000 in
theorem wX12_init {rF : Unit} (hex : ex = Γ.2.2.2.2) (X : g_X Γ p s m args meth c cX12_init 3 RX12) (hr : meth.sig.returnType = none) (hin : meth.name = "<init>") (h0 : Nat) (h1 : Nat) (x2 : Int32) (t : St) : Wf Γ p l e 1 12 s m args below meth c 3 (g_ι z) v_v rF tF 0 [(0, .ref h0), (1, .ref h1), (2, .int x2)] [] t (fX12_init ex z h0 h1 x2 t) := by
  unfold fX12_init
  refine g_aload_n (pc := 0) X 0 dX12_init_0 rfl rfl ?_
  refine g_aload_n (pc := 1) X 1 dX12_init_1 rfl rfl ?_
  refine cg_put (pc := 2) X fp_X12_1 dX12_init_2 (fun _ => hin) rfl rfl (fun t1 => ?_)
  refine g_aload_n (pc := 5) X 0 dX12_init_5 rfl rfl ?_
  refine cg_obj (pc := 6) X dX12_init_6 q1260 q149 q150 (Nat.le_of_ble_eq_true rfl) (Nat.le_of_ble_eq_true rfl) ?_
  refine g_aload_n (pc := 9) X 0 dX12_init_9 rfl rfl ?_
  refine g_iload_n (pc := 10) X 2 dX12_init_10 rfl rfl ?_
  refine cg_put (pc := 11) X fp_X12_13 dX12_init_11 (fun _ => hin) rfl rfl (fun t2 => ?_)
  exact g_vret (pc := 14) X hr dX12_init_14
theorem kX12_init {ex : Nat → Option Nat} {z : Nat} {h0 : Nat} {h1 : Nat} {x2 : Int32} {σ : Sg} {r : Unit} {u : St} (hex : ex = Γ.2.2.2.2) (h : fX12_init ex z h0 h1 x2 (σ, 0, 0) = some (r, u)) : g_C Γ l yX12_init cX12_init 3 none 1 12 [.ref h0, .ref h1, .int x2] σ z v_v r (g_ι z u) :=
  g_met (ι := g_ι z) (t := (σ, 0, 0)) [.ref h0, .ref h1, .int x2] (by decide) (Nat.le_of_ble_eq_true rfl) h rfl (fun p e s m args below meth c X hr hn => wX12_init hex X hr hn h0 h1 x2 (σ, 0, 0))
end CP
abbrev cX13_init : ByteArray := prog_21_method_1_code
def yX13_init : MethodName := ⟨RX13, "<init>", "(LLameClocks;II)V"⟩
def dkwX13_init_0 : List UInt8 := [42, 43, 181, 0, 1, 42, 183, 0, 7, 42, 28, 181, 0, 13, 42, 29, 181, 0, 17, 177]
abbrev dktX13_init_0 : List UInt8 := dkwX13_init_0 ++ []
theorem dksX13_init_0 : cX13_init.data.toList.drop 0 = dktX13_init_0 := by decide +kernel
theorem dX13_init_0 : decode cX13_init 0 = .ok (.aload_n 0, 1) := dk_42 (dk_at dksX13_init_0 0 rfl rfl)
theorem dX13_init_1 : decode cX13_init 1 = .ok (.aload_n 1, 1) := dk_43 (dk_at dksX13_init_0 1 rfl rfl)
theorem dX13_init_2 : decode cX13_init 2 = .ok (.putfield 1, 3) := dk_181 0 1 (dk_at dksX13_init_0 2 rfl rfl)
theorem dX13_init_5 : decode cX13_init 5 = .ok (.aload_n 0, 1) := dk_42 (dk_at dksX13_init_0 5 rfl rfl)
theorem dX13_init_6 : decode cX13_init 6 = .ok (.invokespecial 7, 3) := dk_183 0 7 (dk_at dksX13_init_0 6 rfl rfl)
theorem dX13_init_9 : decode cX13_init 9 = .ok (.aload_n 0, 1) := dk_42 (dk_at dksX13_init_0 9 rfl rfl)
theorem dX13_init_10 : decode cX13_init 10 = .ok (.iload_n 2, 1) := dk_28 (dk_at dksX13_init_0 10 rfl rfl)
theorem dX13_init_11 : decode cX13_init 11 = .ok (.putfield 13, 3) := dk_181 0 13 (dk_at dksX13_init_0 11 rfl rfl)
theorem dX13_init_14 : decode cX13_init 14 = .ok (.aload_n 0, 1) := dk_42 (dk_at dksX13_init_0 14 rfl rfl)
theorem dX13_init_15 : decode cX13_init 15 = .ok (.iload_n 3, 1) := dk_29 (dk_at dksX13_init_0 15 rfl rfl)
theorem dX13_init_16 : decode cX13_init 16 = .ok (.putfield 17, 3) := dk_181 0 17 (dk_at dksX13_init_0 16 rfl rfl)
theorem dX13_init_19 : decode cX13_init 19 = .ok (.return_, 1) := dk_177 (dk_at dksX13_init_0 19 rfl rfl)
theorem fp_X13_1 : g_fp RX13 1 [13] 2 (.object "LameClocks") true := ⟨_, _, _, Or.inl q1284, by decide +kernel, fun ci h => by
  simp only [List.mem_cons, List.not_mem_nil, or_false] at h; rcases h with rfl
  · exact ⟨_, _, _, tyX13, rfl, by decide, rfl, rfl, Or.inl rfl, in_X13, rfl, (fun _ => rfl), tyX13_ok, (by decide +kernel)⟩⟩
theorem fp_X13_13 : g_fp RX13 13 [13] 0 .int true := ⟨_, _, _, Or.inl q1282, by decide +kernel, fun ci h => by
  simp only [List.mem_cons, List.not_mem_nil, or_false] at h; rcases h with rfl
  · exact ⟨_, _, _, tyX13, rfl, by decide, rfl, rfl, Or.inl rfl, in_X13, rfl, (fun _ => rfl), tyX13_ok, (by decide +kernel)⟩⟩
theorem fp_X13_17 : g_fp RX13 17 [13] 1 .int true := ⟨_, _, _, Or.inl q1283, by decide +kernel, fun ci h => by
  simp only [List.mem_cons, List.not_mem_nil, or_false] at h; rcases h with rfl
  · exact ⟨_, _, _, tyX13, rfl, by decide, rfl, rfl, Or.inl rfl, in_X13, rfl, (fun _ => rfl), tyX13_ok, (by decide +kernel)⟩⟩
section CP
variable {Γ : Gc} {p : Program} {l : Launch} {e : Env} {s : State} {m : MethodId} {args : Array Value} {below : List Frame} {meth : Method} {c : Code} {ex : Nat → Option Nat} {z : Nat} {tF : St}
noncomputable def fX13_init (ex : Nat → Option Nat) (z : Nat) (h0 : Nat) (h1 : Nat) (x2 : Int32) (x3 : Int32) (t : St) : Option (Unit × St) := cput [13] 2 t h0 (.ref h1) fun t1 => cput [13] 0 t1 h0 (.int x2) fun t2 => cput [13] 1 t2 h0 (.int x3) fun t3 => some ((), t3)
set_option maxHeartbeats 4000000 in
theorem wX13_init {rF : Unit} (hex : ex = Γ.2.2.2.2) (X : g_X Γ p s m args meth c cX13_init 4 RX13) (hr : meth.sig.returnType = none) (hin : meth.name = "<init>") (h0 : Nat) (h1 : Nat) (x2 : Int32) (x3 : Int32) (t : St) : Wf Γ p l e 1 12 s m args below meth c 4 (g_ι z) v_v rF tF 0 [(0, .ref h0), (1, .ref h1), (2, .int x2), (3, .int x3)] [] t (fX13_init ex z h0 h1 x2 x3 t) := by
  unfold fX13_init
  refine g_aload_n (pc := 0) X 0 dX13_init_0 rfl rfl ?_
  refine g_aload_n (pc := 1) X 1 dX13_init_1 rfl rfl ?_
  refine cg_put (pc := 2) X fp_X13_1 dX13_init_2 (fun _ => hin) rfl rfl (fun t1 => ?_)
  refine g_aload_n (pc := 5) X 0 dX13_init_5 rfl rfl ?_
  refine cg_obj (pc := 6) X dX13_init_6 q1281 q149 q150 (Nat.le_of_ble_eq_true rfl) (Nat.le_of_ble_eq_true rfl) ?_
  refine g_aload_n (pc := 9) X 0 dX13_init_9 rfl rfl ?_
  refine g_iload_n (pc := 10) X 2 dX13_init_10 rfl rfl ?_
  refine cg_put (pc := 11) X fp_X13_13 dX13_init_11 (fun _ => hin) rfl rfl (fun t2 => ?_)
  refine g_aload_n (pc := 14) X 0 dX13_init_14 rfl rfl ?_
  refine g_iload_n (pc := 15) X 3 dX13_init_15 rfl rfl ?_
  refine cg_put (pc := 16) X fp_X13_17 dX13_init_16 (fun _ => hin) rfl rfl (fun t3 => ?_)
  exact g_vret (pc := 19) X hr dX13_init_19
theorem kX13_init {ex : Nat → Option Nat} {z : Nat} {h0 : Nat} {h1 : Nat} {x2 : Int32} {x3 : Int32} {σ : Sg} {r : Unit} {u : St} (hex : ex = Γ.2.2.2.2) (h : fX13_init ex z h0 h1 x2 x3 (σ, 0, 0) = some (r, u)) : g_C Γ l yX13_init cX13_init 4 none 1 12 [.ref h0, .ref h1, .int x2, .int x3] σ z v_v r (g_ι z u) :=
  g_met (ι := g_ι z) (t := (σ, 0, 0)) [.ref h0, .ref h1, .int x2, .int x3] (by decide) (Nat.le_of_ble_eq_true rfl) h rfl (fun p e s m args below meth c X hr hn => wX13_init hex X hr hn h0 h1 x2 x3 (σ, 0, 0))
end CP
abbrev cX14_init : ByteArray := prog_19_method_1_code
def yX14_init : MethodName := ⟨RX14, "<init>", "(LLameClocks;II)V"⟩
def dkwX14_init_0 : List UInt8 := [42, 43, 181, 0, 1, 42, 183, 0, 7, 42, 28, 181, 0, 13, 42, 29, 181, 0, 17, 177]
abbrev dktX14_init_0 : List UInt8 := dkwX14_init_0 ++ []
theorem dksX14_init_0 : cX14_init.data.toList.drop 0 = dktX14_init_0 := by decide +kernel
theorem dX14_init_0 : decode cX14_init 0 = .ok (.aload_n 0, 1) := dk_42 (dk_at dksX14_init_0 0 rfl rfl)
theorem dX14_init_1 : decode cX14_init 1 = .ok (.aload_n 1, 1) := dk_43 (dk_at dksX14_init_0 1 rfl rfl)
theorem dX14_init_2 : decode cX14_init 2 = .ok (.putfield 1, 3) := dk_181 0 1 (dk_at dksX14_init_0 2 rfl rfl)
theorem dX14_init_5 : decode cX14_init 5 = .ok (.aload_n 0, 1) := dk_42 (dk_at dksX14_init_0 5 rfl rfl)
theorem dX14_init_6 : decode cX14_init 6 = .ok (.invokespecial 7, 3) := dk_183 0 7 (dk_at dksX14_init_0 6 rfl rfl)
theorem dX14_init_9 : decode cX14_init 9 = .ok (.aload_n 0, 1) := dk_42 (dk_at dksX14_init_0 9 rfl rfl)
theorem dX14_init_10 : decode cX14_init 10 = .ok (.iload_n 2, 1) := dk_28 (dk_at dksX14_init_0 10 rfl rfl)
theorem dX14_init_11 : decode cX14_init 11 = .ok (.putfield 13, 3) := dk_181 0 13 (dk_at dksX14_init_0 11 rfl rfl)
theorem dX14_init_14 : decode cX14_init 14 = .ok (.aload_n 0, 1) := dk_42 (dk_at dksX14_init_0 14 rfl rfl)
theorem dX14_init_15 : decode cX14_init 15 = .ok (.iload_n 3, 1) := dk_29 (dk_at dksX14_init_0 15 rfl rfl)
theorem dX14_init_16 : decode cX14_init 16 = .ok (.putfield 17, 3) := dk_181 0 17 (dk_at dksX14_init_0 16 rfl rfl)
theorem dX14_init_19 : decode cX14_init 19 = .ok (.return_, 1) := dk_177 (dk_at dksX14_init_0 19 rfl rfl)
theorem fp_X14_1 : g_fp RX14 1 [14] 2 (.object "LameClocks") true := ⟨_, _, _, Or.inl q1300, by decide +kernel, fun ci h => by
  simp only [List.mem_cons, List.not_mem_nil, or_false] at h; rcases h with rfl
  · exact ⟨_, _, _, tyX14, rfl, by decide, rfl, rfl, Or.inl rfl, in_X14, rfl, (fun _ => rfl), tyX14_ok, (by decide +kernel)⟩⟩
theorem fp_X14_13 : g_fp RX14 13 [14] 0 .int true := ⟨_, _, _, Or.inl q1298, by decide +kernel, fun ci h => by
  simp only [List.mem_cons, List.not_mem_nil, or_false] at h; rcases h with rfl
  · exact ⟨_, _, _, tyX14, rfl, by decide, rfl, rfl, Or.inl rfl, in_X14, rfl, (fun _ => rfl), tyX14_ok, (by decide +kernel)⟩⟩
theorem fp_X14_17 : g_fp RX14 17 [14] 1 .int true := ⟨_, _, _, Or.inl q1299, by decide +kernel, fun ci h => by
  simp only [List.mem_cons, List.not_mem_nil, or_false] at h; rcases h with rfl
  · exact ⟨_, _, _, tyX14, rfl, by decide, rfl, rfl, Or.inl rfl, in_X14, rfl, (fun _ => rfl), tyX14_ok, (by decide +kernel)⟩⟩
section CP
variable {Γ : Gc} {p : Program} {l : Launch} {e : Env} {s : State} {m : MethodId} {args : Array Value} {below : List Frame} {meth : Method} {c : Code} {ex : Nat → Option Nat} {z : Nat} {tF : St}
noncomputable def fX14_init (ex : Nat → Option Nat) (z : Nat) (h0 : Nat) (h1 : Nat) (x2 : Int32) (x3 : Int32) (t : St) : Option (Unit × St) := cput [14] 2 t h0 (.ref h1) fun t1 => cput [14] 0 t1 h0 (.int x2) fun t2 => cput [14] 1 t2 h0 (.int x3) fun t3 => some ((), t3)
set_option maxHeartbeats 4000000 in
theorem wX14_init {rF : Unit} (hex : ex = Γ.2.2.2.2) (X : g_X Γ p s m args meth c cX14_init 4 RX14) (hr : meth.sig.returnType = none) (hin : meth.name = "<init>") (h0 : Nat) (h1 : Nat) (x2 : Int32) (x3 : Int32) (t : St) : Wf Γ p l e 1 12 s m args below meth c 4 (g_ι z) v_v rF tF 0 [(0, .ref h0), (1, .ref h1), (2, .int x2), (3, .int x3)] [] t (fX14_init ex z h0 h1 x2 x3 t) := by
  unfold fX14_init
  refine g_aload_n (pc := 0) X 0 dX14_init_0 rfl rfl ?_
  refine g_aload_n (pc := 1) X 1 dX14_init_1 rfl rfl ?_
  refine cg_put (pc := 2) X fp_X14_1 dX14_init_2 (fun _ => hin) rfl rfl (fun t1 => ?_)
  refine g_aload_n (pc := 5) X 0 dX14_init_5 rfl rfl ?_
  refine cg_obj (pc := 6) X dX14_init_6 q1297 q149 q150 (Nat.le_of_ble_eq_true rfl) (Nat.le_of_ble_eq_true rfl) ?_
  refine g_aload_n (pc := 9) X 0 dX14_init_9 rfl rfl ?_
  refine g_iload_n (pc := 10) X 2 dX14_init_10 rfl rfl ?_
  refine cg_put (pc := 11) X fp_X14_13 dX14_init_11 (fun _ => hin) rfl rfl (fun t2 => ?_)
  refine g_aload_n (pc := 14) X 0 dX14_init_14 rfl rfl ?_
  refine g_iload_n (pc := 15) X 3 dX14_init_15 rfl rfl ?_
  refine cg_put (pc := 16) X fp_X14_17 dX14_init_16 (fun _ => hin) rfl rfl (fun t3 => ?_)
  exact g_vret (pc := 19) X hr dX14_init_19
theorem kX14_init {ex : Nat → Option Nat} {z : Nat} {h0 : Nat} {h1 : Nat} {x2 : Int32} {x3 : Int32} {σ : Sg} {r : Unit} {u : St} (hex : ex = Γ.2.2.2.2) (h : fX14_init ex z h0 h1 x2 x3 (σ, 0, 0) = some (r, u)) : g_C Γ l yX14_init cX14_init 4 none 1 12 [.ref h0, .ref h1, .int x2, .int x3] σ z v_v r (g_ι z u) :=
  g_met (ι := g_ι z) (t := (σ, 0, 0)) [.ref h0, .ref h1, .int x2, .int x3] (by decide) (Nat.le_of_ble_eq_true rfl) h rfl (fun p e s m args below meth c X hr hn => wX14_init hex X hr hn h0 h1 x2 x3 (σ, 0, 0))
end CP
abbrev cX15_init : ByteArray := prog_13_method_1_code
def yX15_init : MethodName := ⟨RX15, "<init>", "(LLameClocks;II)V"⟩
def dkwX15_init_0 : List UInt8 := [42, 43, 181, 0, 3, 42, 183, 0, 9, 42, 28, 181, 0, 15, 42, 29, 181, 0, 19, 177]
abbrev dktX15_init_0 : List UInt8 := dkwX15_init_0 ++ []
theorem dksX15_init_0 : cX15_init.data.toList.drop 0 = dktX15_init_0 := by decide +kernel
theorem dX15_init_0 : decode cX15_init 0 = .ok (.aload_n 0, 1) := dk_42 (dk_at dksX15_init_0 0 rfl rfl)
theorem dX15_init_1 : decode cX15_init 1 = .ok (.aload_n 1, 1) := dk_43 (dk_at dksX15_init_0 1 rfl rfl)
theorem dX15_init_2 : decode cX15_init 2 = .ok (.putfield 3, 3) := dk_181 0 3 (dk_at dksX15_init_0 2 rfl rfl)
theorem dX15_init_5 : decode cX15_init 5 = .ok (.aload_n 0, 1) := dk_42 (dk_at dksX15_init_0 5 rfl rfl)
theorem dX15_init_6 : decode cX15_init 6 = .ok (.invokespecial 9, 3) := dk_183 0 9 (dk_at dksX15_init_0 6 rfl rfl)
theorem dX15_init_9 : decode cX15_init 9 = .ok (.aload_n 0, 1) := dk_42 (dk_at dksX15_init_0 9 rfl rfl)
theorem dX15_init_10 : decode cX15_init 10 = .ok (.iload_n 2, 1) := dk_28 (dk_at dksX15_init_0 10 rfl rfl)
theorem dX15_init_11 : decode cX15_init 11 = .ok (.putfield 15, 3) := dk_181 0 15 (dk_at dksX15_init_0 11 rfl rfl)
theorem dX15_init_14 : decode cX15_init 14 = .ok (.aload_n 0, 1) := dk_42 (dk_at dksX15_init_0 14 rfl rfl)
theorem dX15_init_15 : decode cX15_init 15 = .ok (.iload_n 3, 1) := dk_29 (dk_at dksX15_init_0 15 rfl rfl)
theorem dX15_init_16 : decode cX15_init 16 = .ok (.putfield 19, 3) := dk_181 0 19 (dk_at dksX15_init_0 16 rfl rfl)
theorem dX15_init_19 : decode cX15_init 19 = .ok (.return_, 1) := dk_177 (dk_at dksX15_init_0 19 rfl rfl)
theorem fq_X15_3 : g_fq RX15 3 [16, 17, 18, 19] 2 3 (.object "LameClocks") := ⟨_, _, q681, by decide +kernel, fun ci h => by
  simp only [List.mem_cons, List.not_mem_nil, or_false] at h; rcases h with rfl | rfl | rfl | rfl
  · exact ⟨_, _, _, tyX16, rfl, by decide, rfl, rfl, rfl, in_X16, rfl, tyX16_ok, by decide +kernel⟩
  · exact ⟨_, _, _, tyX17, rfl, by decide, rfl, rfl, rfl, in_X17, rfl, tyX17_ok, by decide +kernel⟩
  · exact ⟨_, _, _, tyX18, rfl, by decide, rfl, rfl, rfl, in_X18, rfl, tyX18_ok, by decide +kernel⟩
  · exact ⟨_, _, _, tyX19, rfl, by decide, rfl, rfl, rfl, in_X19, rfl, tyX19_ok, by decide +kernel⟩⟩
theorem fp_X15_15 : g_fp RX15 15 [16, 17, 18, 19] 0 .int true := ⟨_, _, _, Or.inl q663, by decide +kernel, fun ci h => by
  simp only [List.mem_cons, List.not_mem_nil, or_false] at h; rcases h with rfl | rfl | rfl | rfl
  · exact ⟨_, _, _, tyX16, rfl, by decide, rfl, rfl, Or.inl rfl, in_X16, rfl, (fun _ => rfl), tyX16_ok, (by decide +kernel)⟩
  · exact ⟨_, _, _, tyX17, rfl, by decide, rfl, rfl, Or.inl rfl, in_X17, rfl, (fun _ => rfl), tyX17_ok, (by decide +kernel)⟩
  · exact ⟨_, _, _, tyX18, rfl, by decide, rfl, rfl, Or.inl rfl, in_X18, rfl, (fun _ => rfl), tyX18_ok, (by decide +kernel)⟩
  · exact ⟨_, _, _, tyX19, rfl, by decide, rfl, rfl, Or.inl rfl, in_X19, rfl, (fun _ => rfl), tyX19_ok, (by decide +kernel)⟩⟩
theorem fp_X15_19 : g_fp RX15 19 [16, 17, 18, 19] 1 .int true := ⟨_, _, _, Or.inl q672, by decide +kernel, fun ci h => by
  simp only [List.mem_cons, List.not_mem_nil, or_false] at h; rcases h with rfl | rfl | rfl | rfl
  · exact ⟨_, _, _, tyX16, rfl, by decide, rfl, rfl, Or.inl rfl, in_X16, rfl, (fun _ => rfl), tyX16_ok, (by decide +kernel)⟩
  · exact ⟨_, _, _, tyX17, rfl, by decide, rfl, rfl, Or.inl rfl, in_X17, rfl, (fun _ => rfl), tyX17_ok, (by decide +kernel)⟩
  · exact ⟨_, _, _, tyX18, rfl, by decide, rfl, rfl, Or.inl rfl, in_X18, rfl, (fun _ => rfl), tyX18_ok, (by decide +kernel)⟩
  · exact ⟨_, _, _, tyX19, rfl, by decide, rfl, rfl, Or.inl rfl, in_X19, rfl, (fun _ => rfl), tyX19_ok, (by decide +kernel)⟩⟩
section CP
variable {Γ : Gc} {p : Program} {l : Launch} {e : Env} {s : State} {m : MethodId} {args : Array Value} {below : List Frame} {meth : Method} {c : Code} {ex : Nat → Option Nat} {z : Nat} {tF : St}
noncomputable def fX15_init (ex : Nat → Option Nat) (z : Nat) (h0 : Nat) (h1 : Nat) (x2 : Int32) (x3 : Int32) (t : St) : Option (Unit × St) := cput2 [16, 17, 18, 19] 2 3 t h0 (.ref h1) fun t1 => cput [16, 17, 18, 19] 0 t1 h0 (.int x2) fun t2 => cput [16, 17, 18, 19] 1 t2 h0 (.int x3) fun t3 => some ((), t3)
set_option maxHeartbeats 4000000 in
theorem wX15_init {rF : Unit} (hex : ex = Γ.2.2.2.2) (X : g_X Γ p s m args meth c cX15_init 4 RX15) (hr : meth.sig.returnType = none) (hin : meth.name = "<init>") (h0 : Nat) (h1 : Nat) (x2 : Int32) (x3 : Int32) (t : St) : Wf Γ p l e 1 12 s m args below meth c 4 (g_ι z) v_v rF tF 0 [(0, .ref h0), (1, .ref h1), (2, .int x2), (3, .int x3)] [] t (fX15_init ex z h0 h1 x2 x3 t) := by
  unfold fX15_init
  refine g_aload_n (pc := 0) X 0 dX15_init_0 rfl rfl ?_
  refine g_aload_n (pc := 1) X 1 dX15_init_1 rfl rfl ?_
  refine cg_put2 (pc := 2) X fq_X15_3 dX15_init_2 hin rfl rfl (fun t1 => ?_)
  refine g_aload_n (pc := 5) X 0 dX15_init_5 rfl rfl ?_
  refine cg_obj (pc := 6) X dX15_init_6 q661 q149 q150 (Nat.le_of_ble_eq_true rfl) (Nat.le_of_ble_eq_true rfl) ?_
  refine g_aload_n (pc := 9) X 0 dX15_init_9 rfl rfl ?_
  refine g_iload_n (pc := 10) X 2 dX15_init_10 rfl rfl ?_
  refine cg_put (pc := 11) X fp_X15_15 dX15_init_11 (fun _ => hin) rfl rfl (fun t2 => ?_)
  refine g_aload_n (pc := 14) X 0 dX15_init_14 rfl rfl ?_
  refine g_iload_n (pc := 15) X 3 dX15_init_15 rfl rfl ?_
  refine cg_put (pc := 16) X fp_X15_19 dX15_init_16 (fun _ => hin) rfl rfl (fun t3 => ?_)
  exact g_vret (pc := 19) X hr dX15_init_19
theorem kX15_init {ex : Nat → Option Nat} {z : Nat} {h0 : Nat} {h1 : Nat} {x2 : Int32} {x3 : Int32} {σ : Sg} {r : Unit} {u : St} (hex : ex = Γ.2.2.2.2) (h : fX15_init ex z h0 h1 x2 x3 (σ, 0, 0) = some (r, u)) : g_C Γ l yX15_init cX15_init 4 none 1 12 [.ref h0, .ref h1, .int x2, .int x3] σ z v_v r (g_ι z u) :=
  g_met (ι := g_ι z) (t := (σ, 0, 0)) [.ref h0, .ref h1, .int x2, .int x3] (by decide) (Nat.le_of_ble_eq_true rfl) h rfl (fun p e s m args below meth c X hr hn => wX15_init hex X hr hn h0 h1 x2 x3 (σ, 0, 0))
end CP
abbrev cX16_init : ByteArray := prog_4_method_1_code
def yX16_init : MethodName := ⟨RX16, "<init>", "(LLameClocks;I)V"⟩
def dkwX16_init_0 : List UInt8 := [42, 43, 181, 0, 1, 42, 43, 28, 43, 180, 0, 7, 180, 0, 13, 28, 51, 183, 0, 19, 177]
abbrev dktX16_init_0 : List UInt8 := dkwX16_init_0 ++ []
theorem dksX16_init_0 : cX16_init.data.toList.drop 0 = dktX16_init_0 := by decide +kernel
theorem dX16_init_0 : decode cX16_init 0 = .ok (.aload_n 0, 1) := dk_42 (dk_at dksX16_init_0 0 rfl rfl)
theorem dX16_init_1 : decode cX16_init 1 = .ok (.aload_n 1, 1) := dk_43 (dk_at dksX16_init_0 1 rfl rfl)
theorem dX16_init_2 : decode cX16_init 2 = .ok (.putfield 1, 3) := dk_181 0 1 (dk_at dksX16_init_0 2 rfl rfl)
theorem dX16_init_5 : decode cX16_init 5 = .ok (.aload_n 0, 1) := dk_42 (dk_at dksX16_init_0 5 rfl rfl)
theorem dX16_init_6 : decode cX16_init 6 = .ok (.aload_n 1, 1) := dk_43 (dk_at dksX16_init_0 6 rfl rfl)
theorem dX16_init_7 : decode cX16_init 7 = .ok (.iload_n 2, 1) := dk_28 (dk_at dksX16_init_0 7 rfl rfl)
theorem dX16_init_8 : decode cX16_init 8 = .ok (.aload_n 1, 1) := dk_43 (dk_at dksX16_init_0 8 rfl rfl)
theorem dX16_init_9 : decode cX16_init 9 = .ok (.getfield 7, 3) := dk_180 0 7 (dk_at dksX16_init_0 9 rfl rfl)
theorem dX16_init_12 : decode cX16_init 12 = .ok (.getfield 13, 3) := dk_180 0 13 (dk_at dksX16_init_0 12 rfl rfl)
theorem dX16_init_15 : decode cX16_init 15 = .ok (.iload_n 2, 1) := dk_28 (dk_at dksX16_init_0 15 rfl rfl)
theorem dX16_init_16 : decode cX16_init 16 = .ok (.baload, 1) := dk_51 (dk_at dksX16_init_0 16 rfl rfl)
theorem dX16_init_17 : decode cX16_init 17 = .ok (.invokespecial 19, 3) := dk_183 0 19 (dk_at dksX16_init_0 17 rfl rfl)
theorem dX16_init_20 : decode cX16_init 20 = .ok (.return_, 1) := dk_177 (dk_at dksX16_init_0 20 rfl rfl)
theorem fq_X16_1 : g_fq RX16 1 [16] 3 2 (.object "LameClocks") := ⟨_, _, q773, by decide +kernel, fun ci h => by
  simp only [List.mem_cons, List.not_mem_nil, or_false] at h; rcases h with rfl
  · exact ⟨_, _, _, tyX16, rfl, by decide, rfl, rfl, rfl, in_X16, rfl, tyX16_ok, by decide +kernel⟩⟩
theorem fo_X16_7 : g_fo RX16 7 [0] 0 := ⟨_, _, _, Or.inr ⟨_, q1611⟩, fun ci h => by
  simp only [List.mem_cons, List.not_mem_nil, or_false] at h; rcases h with rfl
  · exact ⟨_, _, _, rfl, by decide, rfl, rfl, Or.inl rfl, in_X0⟩⟩
theorem fo_X16_13 : g_fo RX16 13 [1] 1 := ⟨_, _, _, Or.inr ⟨_, q1561⟩, fun ci h => by
  simp only [List.mem_cons, List.not_mem_nil, or_false] at h; rcases h with rfl
  · exact ⟨_, _, _, rfl, by decide, rfl, rfl, Or.inl rfl, in_X1⟩⟩
theorem dmS_X15_init : yX15_init.cls ≠ "java/lang/invoke/MethodHandle" ∧ yX15_init.cls ≠ "java/lang/invoke/VarHandle" ∧ (parseMethodDescriptor yX15_init.desc).map (fun d => d.parameters.length) = some 3 := by decide +kernel
section CP
variable {Γ : Gc} {p : Program} {l : Launch} {e : Env} {s : State} {m : MethodId} {args : Array Value} {below : List Frame} {meth : Method} {c : Code} {ex : Nat → Option Nat} {z : Nat} {tF : St}
noncomputable def fX16_init (ex : Nat → Option Nat) (z : Nat) (h0 : Nat) (h1 : Nat) (x2 : Int32) (t : St) : Option (Unit × St) := cput2 [16] 3 2 t h0 (.ref h1) fun t1 => cgA [0] 0 t1 h1 fun v2 => cgA [1] 1 t1 v2 fun v3 => cald 0 t1 v3 x2 fun v4 => gb (fX15_init ex (z + t1.2.1) h0 h1 x2 v4 (t1.1, 0, 0)) t1 fun _ t6 => some ((), t6)
set_option maxHeartbeats 4000000 in
theorem wX16_init {rF : Unit} (hex : ex = Γ.2.2.2.2) (X : g_X Γ p s m args meth c cX16_init 3 RX16) (hr : meth.sig.returnType = none) (hin : meth.name = "<init>") (h0 : Nat) (h1 : Nat) (x2 : Int32) (t : St) : Wf Γ p l e 2 35 s m args below meth c 3 (g_ι z) v_v rF tF 0 [(0, .ref h0), (1, .ref h1), (2, .int x2)] [] t (fX16_init ex z h0 h1 x2 t) := by
  unfold fX16_init
  refine g_aload_n (pc := 0) X 0 dX16_init_0 rfl rfl ?_
  refine g_aload_n (pc := 1) X 1 dX16_init_1 rfl rfl ?_
  refine cg_put2 (pc := 2) X fq_X16_1 dX16_init_2 hin rfl rfl (fun t1 => ?_)
  refine g_aload_n (pc := 5) X 0 dX16_init_5 rfl rfl ?_
  refine g_aload_n (pc := 6) X 1 dX16_init_6 rfl rfl ?_
  refine g_iload_n (pc := 7) X 2 dX16_init_7 rfl rfl ?_
  refine g_aload_n (pc := 8) X 1 dX16_init_8 rfl rfl ?_
  refine cg_getA (pc := 9) X fo_X16_7 dX16_init_9 (fun v2 => ?_)
  refine cg_getA (pc := 12) X fo_X16_13 dX16_init_12 (fun v3 => ?_)
  refine g_iload_n (pc := 15) X 2 dX16_init_15 rfl rfl ?_
  refine cg_bald (pc := 16) X dX16_init_16 (fun v4 => ?_)
  refine g_bI_v (pc := 17) X (y := yX15_init) (As := [.ref h1, .int x2, .int v4]) (rest := []) (b := h0) (fr' := 1) (lo' := 12) (fun _ => cwI 3 X.2.2.2.2.1 (lw_meth q660) rfl rfl rfl (X.2.2.2.2.1 _ q100) (X.2.2.2.2.1 _ q772) (X.2.2.2.2.1 _ q659) rfl dmS_X15_init ⟨Nat.le_of_ble_eq_true rfl, Nat.le_of_ble_eq_true rfl⟩) dX16_init_17 rfl rfl (Nat.le_of_ble_eq_true rfl) (fun r u h => kX15_init hex h) (fun r5 t6 => ?_)
  exact g_vret (pc := 20) X hr dX16_init_20
theorem kX16_init {ex : Nat → Option Nat} {z : Nat} {h0 : Nat} {h1 : Nat} {x2 : Int32} {σ : Sg} {r : Unit} {u : St} (hex : ex = Γ.2.2.2.2) (h : fX16_init ex z h0 h1 x2 (σ, 0, 0) = some (r, u)) : g_C Γ l yX16_init cX16_init 3 none 2 35 [.ref h0, .ref h1, .int x2] σ z v_v r (g_ι z u) :=
  g_met (ι := g_ι z) (t := (σ, 0, 0)) [.ref h0, .ref h1, .int x2] (by decide) (Nat.le_of_ble_eq_true rfl) h rfl (fun p e s m args below meth c X hr hn => wX16_init hex X hr hn h0 h1 x2 (σ, 0, 0))
end CP
abbrev cX16_undoes : ByteArray := prog_4_method_2_code
def yX16_undoes : MethodName := ⟨RX16, "undoes", "()V"⟩
def dkwX16_undoes_0 : List UInt8 := [42, 180, 0, 1, 180, 0, 7, 180, 0, 13, 42, 180, 0, 25, 42, 180, 0, 29, 145, 84, 177]
abbrev dktX16_undoes_0 : List UInt8 := dkwX16_undoes_0 ++ []
theorem dksX16_undoes_0 : cX16_undoes.data.toList.drop 0 = dktX16_undoes_0 := by decide +kernel
theorem dX16_undoes_0 : decode cX16_undoes 0 = .ok (.aload_n 0, 1) := dk_42 (dk_at dksX16_undoes_0 0 rfl rfl)
theorem dX16_undoes_1 : decode cX16_undoes 1 = .ok (.getfield 1, 3) := dk_180 0 1 (dk_at dksX16_undoes_0 1 rfl rfl)
theorem dX16_undoes_4 : decode cX16_undoes 4 = .ok (.getfield 7, 3) := dk_180 0 7 (dk_at dksX16_undoes_0 4 rfl rfl)
theorem dX16_undoes_7 : decode cX16_undoes 7 = .ok (.getfield 13, 3) := dk_180 0 13 (dk_at dksX16_undoes_0 7 rfl rfl)
theorem dX16_undoes_10 : decode cX16_undoes 10 = .ok (.aload_n 0, 1) := dk_42 (dk_at dksX16_undoes_0 10 rfl rfl)
theorem dX16_undoes_11 : decode cX16_undoes 11 = .ok (.getfield 25, 3) := dk_180 0 25 (dk_at dksX16_undoes_0 11 rfl rfl)
theorem dX16_undoes_14 : decode cX16_undoes 14 = .ok (.aload_n 0, 1) := dk_42 (dk_at dksX16_undoes_0 14 rfl rfl)
theorem dX16_undoes_15 : decode cX16_undoes 15 = .ok (.getfield 29, 3) := dk_180 0 29 (dk_at dksX16_undoes_0 15 rfl rfl)
theorem dX16_undoes_18 : decode cX16_undoes 18 = .ok (.i2b, 1) := dk_145 (dk_at dksX16_undoes_0 18 rfl rfl)
theorem dX16_undoes_19 : decode cX16_undoes 19 = .ok (.bastore, 1) := dk_84 (dk_at dksX16_undoes_0 19 rfl rfl)
theorem dX16_undoes_20 : decode cX16_undoes 20 = .ok (.return_, 1) := dk_177 (dk_at dksX16_undoes_0 20 rfl rfl)
theorem fo_X16_1 : g_fo RX16 1 [16] 3 := ⟨_, _, _, Or.inl q773, fun ci h => by
  simp only [List.mem_cons, List.not_mem_nil, or_false] at h; rcases h with rfl
  · exact ⟨_, _, _, rfl, by decide, rfl, rfl, Or.inl rfl, in_X16⟩⟩
theorem fo_X16_25 : g_fo RX16 25 [16, 17, 18, 19] 0 := ⟨_, _, _, Or.inl q670, fun ci h => by
  simp only [List.mem_cons, List.not_mem_nil, or_false] at h; rcases h with rfl | rfl | rfl | rfl
  · exact ⟨_, _, _, rfl, by decide, rfl, rfl, Or.inr q671, in_X16⟩
  · exact ⟨_, _, _, rfl, by decide, rfl, rfl, Or.inr q671, in_X17⟩
  · exact ⟨_, _, _, rfl, by decide, rfl, rfl, Or.inr q671, in_X18⟩
  · exact ⟨_, _, _, rfl, by decide, rfl, rfl, Or.inr q671, in_X19⟩⟩
theorem fo_X16_29 : g_fo RX16 29 [16, 17, 18, 19] 1 := ⟨_, _, _, Or.inl q673, fun ci h => by
  simp only [List.mem_cons, List.not_mem_nil, or_false] at h; rcases h with rfl | rfl | rfl | rfl
  · exact ⟨_, _, _, rfl, by decide, rfl, rfl, Or.inr q674, in_X16⟩
  · exact ⟨_, _, _, rfl, by decide, rfl, rfl, Or.inr q674, in_X17⟩
  · exact ⟨_, _, _, rfl, by decide, rfl, rfl, Or.inr q674, in_X18⟩
  · exact ⟨_, _, _, rfl, by decide, rfl, rfl, Or.inr q674, in_X19⟩⟩
section CP
variable {Γ : Gc} {p : Program} {l : Launch} {e : Env} {s : State} {m : MethodId} {args : Array Value} {below : List Frame} {meth : Method} {c : Code} {ex : Nat → Option Nat} {z : Nat} {tF : St}
noncomputable def fX16_undoes (ex : Nat → Option Nat) (z : Nat) (h0 : Nat) (t : St) : Option (Unit × St) := cgA [16] 3 t h0 fun v1 => cgA [0] 0 t v1 fun v2 => cgA [1] 1 t v2 fun v3 => cgI [16, 17, 18, 19] 0 t h0 fun v4 => cgI [16, 17, 18, 19] 1 t h0 fun v5 => cast_ 0 (vp_nar .byte) t v3 v4 v5.toInt8.toInt32 fun t6 => some ((), t6)
set_option maxHeartbeats 4000000 in
theorem wX16_undoes {rF : Unit} (hex : ex = Γ.2.2.2.2) (X : g_X Γ p s m args meth c cX16_undoes 1 RX16) (hr : meth.sig.returnType = none) (h0 : Nat) (t : St) : Wf Γ p l e 0 0 s m args below meth c 1 (g_ι z) v_v rF tF 0 [(0, .ref h0)] [] t (fX16_undoes ex z h0 t) := by
  unfold fX16_undoes
  refine g_aload_n (pc := 0) X 0 dX16_undoes_0 rfl rfl ?_
  refine cg_getA (pc := 1) X fo_X16_1 dX16_undoes_1 (fun v1 => ?_)
  refine cg_getA (pc := 4) X fo_X16_7 dX16_undoes_4 (fun v2 => ?_)
  refine cg_getA (pc := 7) X fo_X16_13 dX16_undoes_7 (fun v3 => ?_)
  refine g_aload_n (pc := 10) X 0 dX16_undoes_10 rfl rfl ?_
  refine cg_getI (pc := 11) X fo_X16_25 dX16_undoes_11 (fun v4 => ?_)
  refine g_aload_n (pc := 14) X 0 dX16_undoes_14 rfl rfl ?_
  refine cg_getI (pc := 15) X fo_X16_29 dX16_undoes_15 (fun v5 => ?_)
  refine g_i2b (pc := 18) X dX16_undoes_18 ?_
  refine cg_bast (pc := 19) X dX16_undoes_19 (fun t6 => ?_)
  exact g_vret (pc := 20) X hr dX16_undoes_20
theorem kX16_undoes {ex : Nat → Option Nat} {z : Nat} {h0 : Nat} {σ : Sg} {r : Unit} {u : St} (hex : ex = Γ.2.2.2.2) (h : fX16_undoes ex z h0 (σ, 0, 0) = some (r, u)) : g_C Γ l yX16_undoes cX16_undoes 1 none 0 0 [.ref h0] σ z v_v r (g_ι z u) :=
  g_met (ι := g_ι z) (t := (σ, 0, 0)) [.ref h0] (by decide) (Nat.le_of_ble_eq_true rfl) h rfl (fun p e s m args below meth c X hr hn => wX16_undoes hex X hr h0 (σ, 0, 0))
end CP
abbrev cX2_init : ByteArray := prog_8_method_1_code
def yX2_init : MethodName := ⟨RX2, "<init>", "()V"⟩
theorem dX2_init_0 : decode cX2_init 0 = .ok (.aload_n 0, 1) := by decide +kernel
theorem dX2_init_1 : decode cX2_init 1 = .ok (.invokespecial 1, 3) := by decide +kernel
theorem dX2_init_4 : decode cX2_init 4 = .ok (.return_, 1) := by decide +kernel
section CP
variable {Γ : Gc} {p : Program} {l : Launch} {e : Env} {s : State} {m : MethodId} {args : Array Value} {below : List Frame} {meth : Method} {c : Code} {ex : Nat → Option Nat} {z : Nat} {tF : St}
noncomputable def fX2_init (ex : Nat → Option Nat) (z : Nat) (h0 : Nat) (t : St) : Option (Unit × St) := some ((), t)
set_option maxHeartbeats 4000000 in
theorem wX2_init {rF : Unit} (hex : ex = Γ.2.2.2.2) (X : g_X Γ p s m args meth c cX2_init 1 RX2) (hr : meth.sig.returnType = none) (hin : meth.name = "<init>") (h0 : Nat) (t : St) : Wf Γ p l e 1 12 s m args below meth c 1 (g_ι z) v_v rF tF 0 [(0, .ref h0)] [] t (fX2_init ex z h0 t) := by
  unfold fX2_init
  refine g_aload_n (pc := 0) X 0 dX2_init_0 rfl rfl ?_
  refine cg_obj (pc := 1) X dX2_init_1 q1606 q149 q150 (Nat.le_of_ble_eq_true rfl) (Nat.le_of_ble_eq_true rfl) ?_
  exact g_vret (pc := 4) X hr dX2_init_4
theorem kX2_init {ex : Nat → Option Nat} {z : Nat} {h0 : Nat} {σ : Sg} {r : Unit} {u : St} (hex : ex = Γ.2.2.2.2) (h : fX2_init ex z h0 (σ, 0, 0) = some (r, u)) : g_C Γ l yX2_init cX2_init 1 none 1 12 [.ref h0] σ z v_v r (g_ι z u) :=
  g_met (ι := g_ι z) (t := (σ, 0, 0)) [.ref h0] (by decide) (Nat.le_of_ble_eq_true rfl) h rfl (fun p e s m args below meth c X hr hn => wX2_init hex X hr hn h0 (σ, 0, 0))
end CP
abbrev cX20_init : ByteArray := prog_3_method_1_code
def yX20_init : MethodName := ⟨RX20, "<init>", "(II)V"⟩
def dkwX20_init_0 : List UInt8 := [42, 183, 0, 1, 42, 27, 181, 0, 7, 42, 28, 181, 0, 13, 177]
abbrev dktX20_init_0 : List UInt8 := dkwX20_init_0 ++ []
theorem dksX20_init_0 : cX20_init.data.toList.drop 0 = dktX20_init_0 := by decide +kernel
theorem dX20_init_0 : decode cX20_init 0 = .ok (.aload_n 0, 1) := dk_42 (dk_at dksX20_init_0 0 rfl rfl)
theorem dX20_init_1 : decode cX20_init 1 = .ok (.invokespecial 1, 3) := dk_183 0 1 (dk_at dksX20_init_0 1 rfl rfl)
theorem dX20_init_4 : decode cX20_init 4 = .ok (.aload_n 0, 1) := dk_42 (dk_at dksX20_init_0 4 rfl rfl)
theorem dX20_init_5 : decode cX20_init 5 = .ok (.iload_n 1, 1) := dk_27 (dk_at dksX20_init_0 5 rfl rfl)
theorem dX20_init_6 : decode cX20_init 6 = .ok (.putfield 7, 3) := dk_181 0 7 (dk_at dksX20_init_0 6 rfl rfl)
theorem dX20_init_9 : decode cX20_init 9 = .ok (.aload_n 0, 1) := dk_42 (dk_at dksX20_init_0 9 rfl rfl)
theorem dX20_init_10 : decode cX20_init 10 = .ok (.iload_n 2, 1) := dk_28 (dk_at dksX20_init_0 10 rfl rfl)
theorem dX20_init_11 : decode cX20_init 11 = .ok (.putfield 13, 3) := dk_181 0 13 (dk_at dksX20_init_0 11 rfl rfl)
theorem dX20_init_14 : decode cX20_init 14 = .ok (.return_, 1) := dk_177 (dk_at dksX20_init_0 14 rfl rfl)
theorem fp_X20_7 : g_fp RX20 7 [20] 0 .int true := ⟨_, _, _, Or.inl q957, by decide +kernel, fun ci h => by
  simp only [List.mem_cons, List.not_mem_nil, or_false] at h; rcases h with rfl
  · exact ⟨_, _, _, tyX20, rfl, by decide, rfl, rfl, Or.inl rfl, in_X20, rfl, (fun _ => rfl), tyX20_ok, (by decide +kernel)⟩⟩
theorem fp_X20_13 : g_fp RX20 13 [20] 1 .int true := ⟨_, _, _, Or.inl q959, by decide +kernel, fun ci h => by
  simp only [List.mem_cons, List.not_mem_nil, or_false] at h; rcases h with rfl
  · exact ⟨_, _, _, tyX20, rfl, by decide, rfl, rfl, Or.inl rfl, in_X20, rfl, (fun _ => rfl), tyX20_ok, (by decide +kernel)⟩⟩
section CP
variable {Γ : Gc} {p : Program} {l : Launch} {e : Env} {s : State} {m : MethodId} {args : Array Value} {below : List Frame} {meth : Method} {c : Code} {ex : Nat → Option Nat} {z : Nat} {tF : St}
noncomputable def fX20_init (ex : Nat → Option Nat) (z : Nat) (h0 : Nat) (x1 : Int32) (x2 : Int32) (t : St) : Option (Unit × St) := cput [20] 0 t h0 (.int x1) fun t1 => cput [20] 1 t1 h0 (.int x2) fun t2 => some ((), t2)
set_option maxHeartbeats 4000000 in
theorem wX20_init {rF : Unit} (hex : ex = Γ.2.2.2.2) (X : g_X Γ p s m args meth c cX20_init 3 RX20) (hr : meth.sig.returnType = none) (hin : meth.name = "<init>") (h0 : Nat) (x1 : Int32) (x2 : Int32) (t : St) : Wf Γ p l e 1 12 s m args below meth c 3 (g_ι z) v_v rF tF 0 [(0, .ref h0), (1, .int x1), (2, .int x2)] [] t (fX20_init ex z h0 x1 x2 t) := by
  unfold fX20_init
  refine g_aload_n (pc := 0) X 0 dX20_init_0 rfl rfl ?_
  refine cg_obj (pc := 1) X dX20_init_1 q956 q149 q150 (Nat.le_of_ble_eq_true rfl) (Nat.le_of_ble_eq_true rfl) ?_
  refine g_aload_n (pc := 4) X 0 dX20_init_4 rfl rfl ?_
  refine g_iload_n (pc := 5) X 1 dX20_init_5 rfl rfl ?_
  refine cg_put (pc := 6) X fp_X20_7 dX20_init_6 (fun _ => hin) rfl rfl (fun t1 => ?_)
  refine g_aload_n (pc := 9) X 0 dX20_init_9 rfl rfl ?_
  refine g_iload_n (pc := 10) X 2 dX20_init_10 rfl rfl ?_
  refine cg_put (pc := 11) X fp_X20_13 dX20_init_11 (fun _ => hin) rfl rfl (fun t2 => ?_)
  exact g_vret (pc := 14) X hr dX20_init_14
theorem kX20_init {ex : Nat → Option Nat} {z : Nat} {h0 : Nat} {x1 : Int32} {x2 : Int32} {σ : Sg} {r : Unit} {u : St} (hex : ex = Γ.2.2.2.2) (h : fX20_init ex z h0 x1 x2 (σ, 0, 0) = some (r, u)) : g_C Γ l yX20_init cX20_init 3 none 1 12 [.ref h0, .int x1, .int x2] σ z v_v r (g_ι z u) :=
  g_met (ι := g_ι z) (t := (σ, 0, 0)) [.ref h0, .int x1, .int x2] (by decide) (Nat.le_of_ble_eq_true rfl) h rfl (fun p e s m args below meth c X hr hn => wX20_init hex X hr hn h0 x1 x2 (σ, 0, 0))
end CP
abbrev cX20_isIn : ByteArray := prog_3_method_2_code
def yX20_isIn : MethodName := ⟨RX20, "isIn", "(I)Z"⟩
def dkwX20_isIn_0 : List UInt8 := [27, 42, 180, 0, 7, 122, 4, 126, 4, 160, 0, 7, 4, 167, 0, 4, 3, 172]
abbrev dktX20_isIn_0 : List UInt8 := dkwX20_isIn_0 ++ []
theorem dksX20_isIn_0 : cX20_isIn.data.toList.drop 0 = dktX20_isIn_0 := by decide +kernel
theorem dX20_isIn_0 : decode cX20_isIn 0 = .ok (.iload_n 1, 1) := dk_27 (dk_at dksX20_isIn_0 0 rfl rfl)
theorem dX20_isIn_1 : decode cX20_isIn 1 = .ok (.aload_n 0, 1) := dk_42 (dk_at dksX20_isIn_0 1 rfl rfl)
theorem dX20_isIn_2 : decode cX20_isIn 2 = .ok (.getfield 7, 3) := dk_180 0 7 (dk_at dksX20_isIn_0 2 rfl rfl)
theorem dX20_isIn_5 : decode cX20_isIn 5 = .ok (.ishr, 1) := dk_122 (dk_at dksX20_isIn_0 5 rfl rfl)
theorem dX20_isIn_6 : decode cX20_isIn 6 = .ok (.iconst 1, 1) := dk_4 (dk_at dksX20_isIn_0 6 rfl rfl)
theorem dX20_isIn_7 : decode cX20_isIn 7 = .ok (.iand, 1) := dk_126 (dk_at dksX20_isIn_0 7 rfl rfl)
theorem dX20_isIn_8 : decode cX20_isIn 8 = .ok (.iconst 1, 1) := dk_4 (dk_at dksX20_isIn_0 8 rfl rfl)
theorem dX20_isIn_9 : decode cX20_isIn 9 = .ok (.if_icmp .ne 7, 3) := dk_160 0 7 (dk_at dksX20_isIn_0 9 rfl rfl)
theorem dX20_isIn_12 : decode cX20_isIn 12 = .ok (.iconst 1, 1) := dk_4 (dk_at dksX20_isIn_0 12 rfl rfl)
theorem dX20_isIn_13 : decode cX20_isIn 13 = .ok (.goto 4, 3) := dk_167 0 4 (dk_at dksX20_isIn_0 13 rfl rfl)
theorem dX20_isIn_16 : decode cX20_isIn 16 = .ok (.iconst 0, 1) := dk_3 (dk_at dksX20_isIn_0 16 rfl rfl)
theorem dX20_isIn_17 : decode cX20_isIn 17 = .ok (.ireturn, 1) := dk_172 (dk_at dksX20_isIn_0 17 rfl rfl)
theorem fo_X20_7 : g_fo RX20 7 [20] 0 := ⟨_, _, _, Or.inl q957, fun ci h => by
  simp only [List.mem_cons, List.not_mem_nil, or_false] at h; rcases h with rfl
  · exact ⟨_, _, _, rfl, by decide, rfl, rfl, Or.inl rfl, in_X20⟩⟩
section CP
variable {Γ : Gc} {p : Program} {l : Launch} {e : Env} {s : State} {m : MethodId} {args : Array Value} {below : List Frame} {meth : Method} {c : Code} {ex : Nat → Option Nat} {z : Nat} {tF : St}
noncomputable def fX20_isIn (ex : Nat → Option Nat) (z : Nat) (h0 : Nat) (x1 : Int32) (t : St) : Option (Int32 × St) := cgI [20] 0 t h0 fun v1 => if (x1 >>> (v1 &&& 31)) &&& 1 = 1 then some (1, t) else some (0, t)
set_option maxHeartbeats 4000000 in
theorem wX20_isIn {rF : Int32} (hex : ex = Γ.2.2.2.2) (X : g_X Γ p s m args meth c cX20_isIn 2 RX20) (hr : meth.sig.returnType = (some .boolean)) (h0 : Nat) (x1 : Int32) (t : St) : Wf Γ p l e 0 0 s m args below meth c 2 (g_ι z) v_i rF tF 0 [(0, .ref h0), (1, .int x1)] [] t (fX20_isIn ex z h0 x1 t) := by
  unfold fX20_isIn
  refine g_iload_n (pc := 0) X 1 dX20_isIn_0 rfl rfl ?_
  refine g_aload_n (pc := 1) X 0 dX20_isIn_1 rfl rfl ?_
  refine cg_getI (pc := 2) X fo_X20_7 dX20_isIn_2 (fun v1 => ?_)
  refine g_ishr (pc := 5) X dX20_isIn_5 ?_
  refine g_iconst (pc := 6) X 1 dX20_isIn_6 rfl ?_
  refine g_iand (pc := 7) X dX20_isIn_7 ?_
  refine g_iconst (pc := 8) X 1 dX20_isIn_8 rfl ?_
  refine g_icmp_ne (pc := 9) X 16 dX20_isIn_9 (by decide) ?_ ?_
  · refine g_iconst (pc := 16) X 0 dX20_isIn_16 rfl ?_
    exact g_zret (pc := 17) X hr rfl dX20_isIn_17
  · refine g_iconst (pc := 12) X 1 dX20_isIn_12 rfl ?_
    refine g_goto (pc := 13) X 17 dX20_isIn_13 (by decide) ?_
    exact g_zret (pc := 17) X hr rfl dX20_isIn_17
theorem kX20_isIn {ex : Nat → Option Nat} {z : Nat} {h0 : Nat} {x1 : Int32} {σ : Sg} {r : Int32} {u : St} (hex : ex = Γ.2.2.2.2) (h : fX20_isIn ex z h0 x1 (σ, 0, 0) = some (r, u)) : g_C Γ l yX20_isIn cX20_isIn 2 (some .boolean) 0 0 [.ref h0, .int x1] σ z v_i r (g_ι z u) :=
  g_met (ι := g_ι z) (t := (σ, 0, 0)) [.ref h0, .int x1] (by decide) (Nat.le_of_ble_eq_true rfl) h rfl (fun p e s m args below meth c X hr hn => wX20_isIn hex X hr h0 x1 (σ, 0, 0))
end CP
abbrev cX21_truth : ByteArray := prog_15_method_6_code
def yX21_truth : MethodName := ⟨RX21, "truth", "()I"⟩
def dkwX21_truth_0 : List UInt8 := [16, 60, 42, 185, 0, 3, 1, 0, 104, 17, 2, 208, 112, 172]
abbrev dktX21_truth_0 : List UInt8 := dkwX21_truth_0 ++ []
theorem dksX21_truth_0 : cX21_truth.data.toList.drop 0 = dktX21_truth_0 := by decide +kernel
theorem dX21_truth_0 : decode cX21_truth 0 = .ok (.bipush 60, 2) := dk_16 60 (dk_at dksX21_truth_0 0 rfl rfl)
theorem dX21_truth_2 : decode cX21_truth 2 = .ok (.aload_n 0, 1) := dk_42 (dk_at dksX21_truth_0 2 rfl rfl)
theorem dX21_truth_3 : decode cX21_truth 3 = .ok (.invokeinterface 3 1, 5) := by decide +kernel
theorem dX21_truth_8 : decode cX21_truth 8 = .ok (.imul, 1) := dk_104 (dk_at dksX21_truth_0 8 rfl rfl)
theorem dX21_truth_9 : decode cX21_truth 9 = .ok (.sipush 720, 3) := dk_17 2 208 (dk_at dksX21_truth_0 9 rfl rfl)
theorem dX21_truth_12 : decode cX21_truth 12 = .ok (.irem, 1) := dk_112 (dk_at dksX21_truth_0 12 rfl rfl)
theorem dX21_truth_13 : decode cX21_truth 13 = .ok (.ireturn, 1) := dk_172 (dk_at dksX21_truth_0 13 rfl rfl)
theorem dmF_X21_hour0 : (⟨"LameClocks$Street", "hour", "()I"⟩ : MethodName).cls ≠ "java/lang/invoke/MethodHandle" ∧ (⟨"LameClocks$Street", "hour", "()I"⟩ : MethodName).cls ≠ "java/lang/invoke/VarHandle" ∧ (parseMethodDescriptor (⟨"LameClocks$Street", "hour", "()I"⟩ : MethodName).desc).map (fun d => d.parameters.length) = some 0 := by decide +kernel
section CP
variable {Γ : Gc} {p : Program} {l : Launch} {e : Env} {s : State} {m : MethodId} {args : Array Value} {below : List Frame} {meth : Method} {c : Code} {ex : Nat → Option Nat} {z : Nat} {tF : St}
noncomputable def fX21_truth (ex : Nat → Option Nat) (z : Nat) (h0 : Nat) (t : St) : Option (Int32 × St) := ccast [1] t h0 (gb (fX1_hour ex (z + t.2.1) h0 (t.1, 0, 0)) t fun r1 t2 => some ((60 * r1) - (60 * r1) / 720 * 720, t2))
set_option maxHeartbeats 4000000 in
theorem wX21_truth {rF : Int32} (hex : ex = Γ.2.2.2.2) (X : g_X Γ p s m args meth c cX21_truth 1 RX21) (hr : meth.sig.returnType = (some .int)) (h0 : Nat) (t : St) : Wf Γ p l e 1 20 s m args below meth c 1 (g_ι z) v_i rF tF 0 [(0, .ref h0)] [] t (fX21_truth ex z h0 t) := by
  unfold fX21_truth
  refine g_bipush (pc := 0) X 60 dX21_truth_0 rfl ?_
  refine g_aload_n (pc := 2) X 0 dX21_truth_2 rfl rfl ?_
  refine g_bDF_i (pc := 3) X (cs := [1]) (As := []) (rest := [.int 60]) (b := h0) (n := 0) dX21_truth_3 rfl rfl (Nat.le_of_ble_eq_true rfl) (fun fl3 ci4 fs5 hs6 hci7 r u h => ?_) (fun r1 t2 => ?_)
  · obtain rfl := List.mem_singleton.mp hci7
    exact ⟨_, _, _, yX1_hour, _, _, _, 0, 0, rfl, kX1_hour hex h, ⟨_, va_cwF 0 X.2.2.2.2.1 (lw_F q424 q427 q429 q71 q431) rfl rfl rfl (X.2.2.2.2.2.2.1.fw ⟨by decide, by decide⟩ q426 q425 q430 q428 q418) dmF_X21_hour0 ⟨Nat.le_of_ble_eq_true rfl, Nat.le_of_ble_eq_true rfl⟩⟩⟩
  refine g_imul (pc := 8) X dX21_truth_8 ?_
  refine g_sipush (pc := 9) X 720 dX21_truth_9 rfl ?_
  refine g_irem (pc := 12) X dX21_truth_12 (by decide) ?_
  exact g_iret (pc := 13) X hr dX21_truth_13
theorem kX21_truth {ex : Nat → Option Nat} {z : Nat} {h0 : Nat} {σ : Sg} {r : Int32} {u : St} (hex : ex = Γ.2.2.2.2) (h : fX21_truth ex z h0 (σ, 0, 0) = some (r, u)) : g_C Γ l yX21_truth cX21_truth 1 (some .int) 1 20 [.ref h0] σ z v_i r (g_ι z u) :=
  g_met (ι := g_ι z) (t := (σ, 0, 0)) [.ref h0] (by decide) (Nat.le_of_ble_eq_true rfl) h rfl (fun p e s m args below meth c X hr hn => wX21_truth hex X hr h0 (σ, 0, 0))
end CP
abbrev cX21_isHome : ByteArray := prog_15_method_7_code
def yX21_isHome : MethodName := ⟨RX21, "isHome", "(I)Z"⟩
def dkwX21_isHome_0 : List UInt8 := [27, 42, 185, 0, 9, 1, 0, 160, 0, 7, 4, 167, 0, 4, 3, 172]
abbrev dktX21_isHome_0 : List UInt8 := dkwX21_isHome_0 ++ []
theorem dksX21_isHome_0 : cX21_isHome.data.toList.drop 0 = dktX21_isHome_0 := by decide +kernel
theorem dX21_isHome_0 : decode cX21_isHome 0 = .ok (.iload_n 1, 1) := dk_27 (dk_at dksX21_isHome_0 0 rfl rfl)
theorem dX21_isHome_1 : decode cX21_isHome 1 = .ok (.aload_n 0, 1) := dk_42 (dk_at dksX21_isHome_0 1 rfl rfl)
theorem dX21_isHome_2 : decode cX21_isHome 2 = .ok (.invokeinterface 9 1, 5) := by decide +kernel
theorem dX21_isHome_7 : decode cX21_isHome 7 = .ok (.if_icmp .ne 7, 3) := dk_160 0 7 (dk_at dksX21_isHome_0 7 rfl rfl)
theorem dX21_isHome_10 : decode cX21_isHome 10 = .ok (.iconst 1, 1) := dk_4 (dk_at dksX21_isHome_0 10 rfl rfl)
theorem dX21_isHome_11 : decode cX21_isHome 11 = .ok (.goto 4, 3) := dk_167 0 4 (dk_at dksX21_isHome_0 11 rfl rfl)
theorem dX21_isHome_14 : decode cX21_isHome 14 = .ok (.iconst 0, 1) := dk_3 (dk_at dksX21_isHome_0 14 rfl rfl)
theorem dX21_isHome_15 : decode cX21_isHome 15 = .ok (.ireturn, 1) := dk_172 (dk_at dksX21_isHome_0 15 rfl rfl)
theorem dmF_X21_home0 : (⟨"LameClocks$Street", "home", "()I"⟩ : MethodName).cls ≠ "java/lang/invoke/MethodHandle" ∧ (⟨"LameClocks$Street", "home", "()I"⟩ : MethodName).cls ≠ "java/lang/invoke/VarHandle" ∧ (parseMethodDescriptor (⟨"LameClocks$Street", "home", "()I"⟩ : MethodName).desc).map (fun d => d.parameters.length) = some 0 := by decide +kernel
section CP
variable {Γ : Gc} {p : Program} {l : Launch} {e : Env} {s : State} {m : MethodId} {args : Array Value} {below : List Frame} {meth : Method} {c : Code} {ex : Nat → Option Nat} {z : Nat} {tF : St}
noncomputable def fX21_isHome (ex : Nat → Option Nat) (z : Nat) (h0 : Nat) (x1 : Int32) (t : St) : Option (Int32 × St) := ccast [1] t h0 (gb (fX1_home ex (z + t.2.1) h0 (t.1, 0, 0)) t fun r1 t2 => if x1 = r1 then some (1, t2) else some (0, t2))
set_option maxHeartbeats 4000000 in
theorem wX21_isHome {rF : Int32} (hex : ex = Γ.2.2.2.2) (X : g_X Γ p s m args meth c cX21_isHome 2 RX21) (hr : meth.sig.returnType = (some .boolean)) (h0 : Nat) (x1 : Int32) (t : St) : Wf Γ p l e 1 20 s m args below meth c 2 (g_ι z) v_i rF tF 0 [(0, .ref h0), (1, .int x1)] [] t (fX21_isHome ex z h0 x1 t) := by
  unfold fX21_isHome
  refine g_iload_n (pc := 0) X 1 dX21_isHome_0 rfl rfl ?_
  refine g_aload_n (pc := 1) X 0 dX21_isHome_1 rfl rfl ?_
  refine g_bDF_i (pc := 2) X (cs := [1]) (As := []) (rest := [.int x1]) (b := h0) (n := 0) dX21_isHome_2 rfl rfl (Nat.le_of_ble_eq_true rfl) (fun fl3 ci4 fs5 hs6 hci7 r u h => ?_) (fun r1 t2 => ?_)
  · obtain rfl := List.mem_singleton.mp hci7
    exact ⟨_, _, _, yX1_home, _, _, _, 0, 0, rfl, kX1_home hex h, ⟨_, va_cwF 0 X.2.2.2.2.1 (lw_F q605 q608 q468 q71 q470) rfl rfl rfl (X.2.2.2.2.2.2.1.fw ⟨by decide, by decide⟩ q607 q606 q610 q609 q418) dmF_X21_home0 ⟨Nat.le_of_ble_eq_true rfl, Nat.le_of_ble_eq_true rfl⟩⟩⟩
  refine g_icmp_ne (pc := 7) X 14 dX21_isHome_7 (by decide) ?_ ?_
  · refine g_iconst (pc := 14) X 0 dX21_isHome_14 rfl ?_
    exact g_zret (pc := 15) X hr rfl dX21_isHome_15
  · refine g_iconst (pc := 10) X 1 dX21_isHome_10 rfl ?_
    refine g_goto (pc := 11) X 15 dX21_isHome_11 (by decide) ?_
    exact g_zret (pc := 15) X hr rfl dX21_isHome_15
theorem kX21_isHome {ex : Nat → Option Nat} {z : Nat} {h0 : Nat} {x1 : Int32} {σ : Sg} {r : Int32} {u : St} (hex : ex = Γ.2.2.2.2) (h : fX21_isHome ex z h0 x1 (σ, 0, 0) = some (r, u)) : g_C Γ l yX21_isHome cX21_isHome 2 (some .boolean) 1 20 [.ref h0, .int x1] σ z v_i r (g_ι z u) :=
  g_met (ι := g_ι z) (t := (σ, 0, 0)) [.ref h0, .int x1] (by decide) (Nat.le_of_ble_eq_true rfl) h rfl (fun p e s m args below meth c X hr hn => wX21_isHome hex X hr h0 x1 (σ, 0, 0))
end CP
abbrev cX4_init : ByteArray := prog_11_method_1_code
def yX4_init : MethodName := ⟨RX4, "<init>", "()V"⟩
def dkwX4_init_0 : List UInt8 := [42, 183, 0, 3, 42, 16, 252, 181, 0, 9, 177]
abbrev dktX4_init_0 : List UInt8 := dkwX4_init_0 ++ []
theorem dksX4_init_0 : cX4_init.data.toList.drop 0 = dktX4_init_0 := by decide +kernel
theorem dX4_init_0 : decode cX4_init 0 = .ok (.aload_n 0, 1) := dk_42 (dk_at dksX4_init_0 0 rfl rfl)
theorem dX4_init_1 : decode cX4_init 1 = .ok (.invokespecial 3, 3) := dk_183 0 3 (dk_at dksX4_init_0 1 rfl rfl)
theorem dX4_init_4 : decode cX4_init 4 = .ok (.aload_n 0, 1) := dk_42 (dk_at dksX4_init_0 4 rfl rfl)
theorem dX4_init_5 : decode cX4_init 5 = .ok (.bipush (-4), 2) := dk_16 252 (dk_at dksX4_init_0 5 rfl rfl)
theorem dX4_init_7 : decode cX4_init 7 = .ok (.putfield 9, 3) := dk_181 0 9 (dk_at dksX4_init_0 7 rfl rfl)
theorem dX4_init_10 : decode cX4_init 10 = .ok (.return_, 1) := dk_177 (dk_at dksX4_init_0 10 rfl rfl)
theorem fp_X4_9 : g_fp RX4 9 [4, 5, 6, 7, 8, 9] 5 .int false := ⟨_, _, _, Or.inl q169, by decide +kernel, fun ci h => by
  simp only [List.mem_cons, List.not_mem_nil, or_false] at h; rcases h with rfl | rfl | rfl | rfl | rfl | rfl
  · exact ⟨_, _, _, tyX4, rfl, by decide, rfl, rfl, Or.inl rfl, in_X4, rfl, (fun h => by cases h), tyX4_ok, (by decide +kernel)⟩
  · exact ⟨_, _, _, tyX5, rfl, by decide, rfl, rfl, Or.inl rfl, in_X5, rfl, (fun h => by cases h), tyX5_ok, (by decide +kernel)⟩
  · exact ⟨_, _, _, tyX6, rfl, by decide, rfl, rfl, Or.inl rfl, in_X6, rfl, (fun h => by cases h), tyX6_ok, (by decide +kernel)⟩
  · exact ⟨_, _, _, tyX7, rfl, by decide, rfl, rfl, Or.inl rfl, in_X7, rfl, (fun h => by cases h), tyX7_ok, (by decide +kernel)⟩
  · exact ⟨_, _, _, tyX8, rfl, by decide, rfl, rfl, Or.inl rfl, in_X8, rfl, (fun h => by cases h), tyX8_ok, (by decide +kernel)⟩
  · exact ⟨_, _, _, tyX9, rfl, by decide, rfl, rfl, Or.inl rfl, in_X9, rfl, (fun h => by cases h), tyX9_ok, (by decide +kernel)⟩⟩
section CP
variable {Γ : Gc} {p : Program} {l : Launch} {e : Env} {s : State} {m : MethodId} {args : Array Value} {below : List Frame} {meth : Method} {c : Code} {ex : Nat → Option Nat} {z : Nat} {tF : St}
noncomputable def fX4_init (ex : Nat → Option Nat) (z : Nat) (h0 : Nat) (t : St) : Option (Unit × St) := cput [4, 5, 6, 7, 8, 9] 5 t h0 (.int (-4)) fun t1 => some ((), t1)
set_option maxHeartbeats 4000000 in
theorem wX4_init {rF : Unit} (hex : ex = Γ.2.2.2.2) (X : g_X Γ p s m args meth c cX4_init 1 RX4) (hr : meth.sig.returnType = none) (hin : meth.name = "<init>") (h0 : Nat) (t : St) : Wf Γ p l e 1 12 s m args below meth c 1 (g_ι z) v_v rF tF 0 [(0, .ref h0)] [] t (fX4_init ex z h0 t) := by
  unfold fX4_init
  refine g_aload_n (pc := 0) X 0 dX4_init_0 rfl rfl ?_
  refine cg_obj (pc := 1) X dX4_init_1 q148 q149 q150 (Nat.le_of_ble_eq_true rfl) (Nat.le_of_ble_eq_true rfl) ?_
  refine g_aload_n (pc := 4) X 0 dX4_init_4 rfl rfl ?_
  refine g_bipush (pc := 5) X (-4) dX4_init_5 rfl ?_
  refine cg_put (pc := 7) X fp_X4_9 dX4_init_7 (fun h => by cases h) rfl rfl (fun t1 => ?_)
  exact g_vret (pc := 10) X hr dX4_init_10
theorem kX4_init {ex : Nat → Option Nat} {z : Nat} {h0 : Nat} {σ : Sg} {r : Unit} {u : St} (hex : ex = Γ.2.2.2.2) (h : fX4_init ex z h0 (σ, 0, 0) = some (r, u)) : g_C Γ l yX4_init cX4_init 1 none 1 12 [.ref h0] σ z v_v r (g_ι z u) :=
  g_met (ι := g_ι z) (t := (σ, 0, 0)) [.ref h0] (by decide) (Nat.le_of_ble_eq_true rfl) h rfl (fun p e s m args below meth c X hr hn => wX4_init hex X hr hn h0 (σ, 0, 0))
end CP
abbrev cX4_kind : ByteArray := prog_11_method_2_code
def yX4_kind : MethodName := ⟨RX4, "kind", "()I"⟩
theorem dX4_kind_0 : decode cX4_kind 0 = .ok (.iconst 0, 1) := by decide +kernel
theorem dX4_kind_1 : decode cX4_kind 1 = .ok (.ireturn, 1) := by decide +kernel
section CP
variable {Γ : Gc} {p : Program} {l : Launch} {e : Env} {s : State} {m : MethodId} {args : Array Value} {below : List Frame} {meth : Method} {c : Code} {ex : Nat → Option Nat} {z : Nat} {tF : St}
noncomputable def fX4_kind (ex : Nat → Option Nat) (z : Nat) (h0 : Nat) (t : St) : Option (Int32 × St) := some (0, t)
set_option maxHeartbeats 4000000 in
theorem wX4_kind {rF : Int32} (hex : ex = Γ.2.2.2.2) (X : g_X Γ p s m args meth c cX4_kind 1 RX4) (hr : meth.sig.returnType = (some .int)) (h0 : Nat) (t : St) : Wf Γ p l e 0 0 s m args below meth c 1 (g_ι z) v_i rF tF 0 [(0, .ref h0)] [] t (fX4_kind ex z h0 t) := by
  unfold fX4_kind
  refine g_iconst (pc := 0) X 0 dX4_kind_0 rfl ?_
  exact g_iret (pc := 1) X hr dX4_kind_1
theorem kX4_kind {ex : Nat → Option Nat} {z : Nat} {h0 : Nat} {σ : Sg} {r : Int32} {u : St} (hex : ex = Γ.2.2.2.2) (h : fX4_kind ex z h0 (σ, 0, 0) = some (r, u)) : g_C Γ l yX4_kind cX4_kind 1 (some .int) 0 0 [.ref h0] σ z v_i r (g_ι z u) :=
  g_met (ι := g_ι z) (t := (σ, 0, 0)) [.ref h0] (by decide) (Nat.le_of_ble_eq_true rfl) h rfl (fun p e s m args below meth c X hr hn => wX4_kind hex X hr h0 (σ, 0, 0))
end CP
abbrev cX4_shown : ByteArray := prog_11_method_3_code
def yX4_shown : MethodName := ⟨RX4, "shown", "(LLameClocks$Street;)I"⟩
theorem dX4_shown_0 : decode cX4_shown 0 = .ok (.aload_n 0, 1) := by decide +kernel
theorem dX4_shown_1 : decode cX4_shown 1 = .ok (.getfield 15, 3) := by decide +kernel
theorem dX4_shown_4 : decode cX4_shown 4 = .ok (.ireturn, 1) := by decide +kernel
theorem fo_X4_15 : g_fo RX4 15 [4, 5, 6, 7, 8, 9] 1 := ⟨_, _, _, Or.inl q156, fun ci h => by
  simp only [List.mem_cons, List.not_mem_nil, or_false] at h; rcases h with rfl | rfl | rfl | rfl | rfl | rfl
  · exact ⟨_, _, _, rfl, by decide, rfl, rfl, Or.inl rfl, in_X4⟩
  · exact ⟨_, _, _, rfl, by decide, rfl, rfl, Or.inl rfl, in_X5⟩
  · exact ⟨_, _, _, rfl, by decide, rfl, rfl, Or.inl rfl, in_X6⟩
  · exact ⟨_, _, _, rfl, by decide, rfl, rfl, Or.inl rfl, in_X7⟩
  · exact ⟨_, _, _, rfl, by decide, rfl, rfl, Or.inl rfl, in_X8⟩
  · exact ⟨_, _, _, rfl, by decide, rfl, rfl, Or.inl rfl, in_X9⟩⟩
section CP
variable {Γ : Gc} {p : Program} {l : Launch} {e : Env} {s : State} {m : MethodId} {args : Array Value} {below : List Frame} {meth : Method} {c : Code} {ex : Nat → Option Nat} {z : Nat} {tF : St}
noncomputable def fX4_shown (ex : Nat → Option Nat) (z : Nat) (h0 : Nat) (h1 : Nat) (t : St) : Option (Int32 × St) := cgI [4, 5, 6, 7, 8, 9] 1 t h0 fun v1 => some (v1, t)
set_option maxHeartbeats 4000000 in
theorem wX4_shown {rF : Int32} (hex : ex = Γ.2.2.2.2) (X : g_X Γ p s m args meth c cX4_shown 2 RX4) (hr : meth.sig.returnType = (some .int)) (h0 : Nat) (h1 : Nat) (t : St) : Wf Γ p l e 0 0 s m args below meth c 2 (g_ι z) v_i rF tF 0 [(0, .ref h0), (1, .ref h1)] [] t (fX4_shown ex z h0 h1 t) := by
  unfold fX4_shown
  refine g_aload_n (pc := 0) X 0 dX4_shown_0 rfl rfl ?_
  refine cg_getI (pc := 1) X fo_X4_15 dX4_shown_1 (fun v1 => ?_)
  exact g_iret (pc := 4) X hr dX4_shown_4
theorem kX4_shown {ex : Nat → Option Nat} {z : Nat} {h0 : Nat} {h1 : Nat} {σ : Sg} {r : Int32} {u : St} (hex : ex = Γ.2.2.2.2) (h : fX4_shown ex z h0 h1 (σ, 0, 0) = some (r, u)) : g_C Γ l yX4_shown cX4_shown 2 (some .int) 0 0 [.ref h0, .ref h1] σ z v_i r (g_ι z u) :=
  g_met (ι := g_ι z) (t := (σ, 0, 0)) [.ref h0, .ref h1] (by decide) (Nat.le_of_ble_eq_true rfl) h rfl (fun p e s m args below meth c X hr hn => wX4_shown hex X hr h0 h1 (σ, 0, 0))
end CP
abbrev cX4_isHome : ByteArray := prog_11_method_12_code
def yX4_isHome : MethodName := ⟨RX4, "isHome", "()Z"⟩
def dkwX4_isHome_0 : List UInt8 := [42, 180, 0, 9, 16, 252, 159, 0, 7, 4, 167, 0, 4, 3, 172]
abbrev dktX4_isHome_0 : List UInt8 := dkwX4_isHome_0 ++ []
theorem dksX4_isHome_0 : cX4_isHome.data.toList.drop 0 = dktX4_isHome_0 := by decide +kernel
theorem dX4_isHome_0 : decode cX4_isHome 0 = .ok (.aload_n 0, 1) := dk_42 (dk_at dksX4_isHome_0 0 rfl rfl)
theorem dX4_isHome_1 : decode cX4_isHome 1 = .ok (.getfield 9, 3) := dk_180 0 9 (dk_at dksX4_isHome_0 1 rfl rfl)
theorem dX4_isHome_4 : decode cX4_isHome 4 = .ok (.bipush (-4), 2) := dk_16 252 (dk_at dksX4_isHome_0 4 rfl rfl)
theorem dX4_isHome_6 : decode cX4_isHome 6 = .ok (.if_icmp .eq 7, 3) := dk_159 0 7 (dk_at dksX4_isHome_0 6 rfl rfl)
theorem dX4_isHome_9 : decode cX4_isHome 9 = .ok (.iconst 1, 1) := dk_4 (dk_at dksX4_isHome_0 9 rfl rfl)
theorem dX4_isHome_10 : decode cX4_isHome 10 = .ok (.goto 4, 3) := dk_167 0 4 (dk_at dksX4_isHome_0 10 rfl rfl)
theorem dX4_isHome_13 : decode cX4_isHome 13 = .ok (.iconst 0, 1) := dk_3 (dk_at dksX4_isHome_0 13 rfl rfl)
theorem dX4_isHome_14 : decode cX4_isHome 14 = .ok (.ireturn, 1) := dk_172 (dk_at dksX4_isHome_0 14 rfl rfl)
theorem fo_X4_9 : g_fo RX4 9 [4, 5, 6, 7, 8, 9] 5 := ⟨_, _, _, Or.inl q169, fun ci h => by
  simp only [List.mem_cons, List.not_mem_nil, or_false] at h; rcases h with rfl | rfl | rfl | rfl | rfl | rfl
  · exact ⟨_, _, _, rfl, by decide, rfl, rfl, Or.inl rfl, in_X4⟩
  · exact ⟨_, _, _, rfl, by decide, rfl, rfl, Or.inl rfl, in_X5⟩
  · exact ⟨_, _, _, rfl, by decide, rfl, rfl, Or.inl rfl, in_X6⟩
  · exact ⟨_, _, _, rfl, by decide, rfl, rfl, Or.inl rfl, in_X7⟩
  · exact ⟨_, _, _, rfl, by decide, rfl, rfl, Or.inl rfl, in_X8⟩
  · exact ⟨_, _, _, rfl, by decide, rfl, rfl, Or.inl rfl, in_X9⟩⟩
section CP
variable {Γ : Gc} {p : Program} {l : Launch} {e : Env} {s : State} {m : MethodId} {args : Array Value} {below : List Frame} {meth : Method} {c : Code} {ex : Nat → Option Nat} {z : Nat} {tF : St}
noncomputable def fX4_isHome (ex : Nat → Option Nat) (z : Nat) (h0 : Nat) (t : St) : Option (Int32 × St) := cgI [4, 5, 6, 7, 8, 9] 5 t h0 fun v1 => if v1 = (-4) then some (0, t) else some (1, t)
set_option maxHeartbeats 4000000 in
theorem wX4_isHome {rF : Int32} (hex : ex = Γ.2.2.2.2) (X : g_X Γ p s m args meth c cX4_isHome 1 RX4) (hr : meth.sig.returnType = (some .boolean)) (h0 : Nat) (t : St) : Wf Γ p l e 0 0 s m args below meth c 1 (g_ι z) v_i rF tF 0 [(0, .ref h0)] [] t (fX4_isHome ex z h0 t) := by
  unfold fX4_isHome
  refine g_aload_n (pc := 0) X 0 dX4_isHome_0 rfl rfl ?_
  refine cg_getI (pc := 1) X fo_X4_9 dX4_isHome_1 (fun v1 => ?_)
  refine g_bipush (pc := 4) X (-4) dX4_isHome_4 rfl ?_
  refine g_icmp_eq (pc := 6) X 13 dX4_isHome_6 (by decide) ?_ ?_
  · refine g_iconst (pc := 13) X 0 dX4_isHome_13 rfl ?_
    exact g_zret (pc := 14) X hr rfl dX4_isHome_14
  · refine g_iconst (pc := 9) X 1 dX4_isHome_9 rfl ?_
    refine g_goto (pc := 10) X 14 dX4_isHome_10 (by decide) ?_
    exact g_zret (pc := 14) X hr rfl dX4_isHome_14
theorem kX4_isHome {ex : Nat → Option Nat} {z : Nat} {h0 : Nat} {σ : Sg} {r : Int32} {u : St} (hex : ex = Γ.2.2.2.2) (h : fX4_isHome ex z h0 (σ, 0, 0) = some (r, u)) : g_C Γ l yX4_isHome cX4_isHome 1 (some .boolean) 0 0 [.ref h0] σ z v_i r (g_ι z u) :=
  g_met (ι := g_ι z) (t := (σ, 0, 0)) [.ref h0] (by decide) (Nat.le_of_ble_eq_true rfl) h rfl (fun p e s m args below meth c X hr hn => wX4_isHome hex X hr h0 (σ, 0, 0))
end CP
abbrev cX4_isAhead : ByteArray := prog_11_method_13_code
def yX4_isAhead : MethodName := ⟨RX4, "isAhead", "(LLameClocks$Plain;)Z"⟩
def dkwX4_isAhead_2 : List UInt8 := [180, 0, 25, 43, 180, 0, 25, 164, 0, 7, 4, 167, 0, 4, 3, 172]
abbrev dktX4_isAhead_2 : List UInt8 := dkwX4_isAhead_2 ++ []
def dkwX4_isAhead_1 : List UInt8 := [162, 0, 7, 4, 167, 0, 4, 3, 172, 42, 182, 0, 53, 154, 0, 21, 43, 182, 0, 53, 154, 0, 18, 42]
abbrev dktX4_isAhead_1 : List UInt8 := dkwX4_isAhead_1 ++ dktX4_isAhead_2
def dkwX4_isAhead_0 : List UInt8 := [42, 182, 0, 53, 153, 0, 27, 43, 182, 0, 53, 153, 0, 20, 42, 180, 0, 9, 43, 180, 0, 9]
abbrev dktX4_isAhead_0 : List UInt8 := dkwX4_isAhead_0 ++ dktX4_isAhead_1
theorem dksX4_isAhead_0 : cX4_isAhead.data.toList.drop 0 = dktX4_isAhead_0 := by decide +kernel
theorem dksX4_isAhead_1 : cX4_isAhead.data.toList.drop 22 = dktX4_isAhead_1 := dk_seg dksX4_isAhead_0 22 rfl rfl
theorem dksX4_isAhead_2 : cX4_isAhead.data.toList.drop 46 = dktX4_isAhead_2 := dk_seg dksX4_isAhead_1 24 rfl rfl
theorem dX4_isAhead_0 : decode cX4_isAhead 0 = .ok (.aload_n 0, 1) := dk_42 (dk_at dksX4_isAhead_0 0 rfl rfl)
theorem dX4_isAhead_1 : decode cX4_isAhead 1 = .ok (.invokevirtual 53, 3) := dk_182 0 53 (dk_at dksX4_isAhead_0 1 rfl rfl)
theorem dX4_isAhead_4 : decode cX4_isAhead 4 = .ok (.ifCond .eq 27, 3) := dk_153 0 27 (dk_at dksX4_isAhead_0 4 rfl rfl)
theorem dX4_isAhead_7 : decode cX4_isAhead 7 = .ok (.aload_n 1, 1) := dk_43 (dk_at dksX4_isAhead_0 7 rfl rfl)
theorem dX4_isAhead_8 : decode cX4_isAhead 8 = .ok (.invokevirtual 53, 3) := dk_182 0 53 (dk_at dksX4_isAhead_0 8 rfl rfl)
theorem dX4_isAhead_11 : decode cX4_isAhead 11 = .ok (.ifCond .eq 20, 3) := dk_153 0 20 (dk_at dksX4_isAhead_0 11 rfl rfl)
theorem dX4_isAhead_14 : decode cX4_isAhead 14 = .ok (.aload_n 0, 1) := dk_42 (dk_at dksX4_isAhead_0 14 rfl rfl)
theorem dX4_isAhead_15 : decode cX4_isAhead 15 = .ok (.getfield 9, 3) := dk_180 0 9 (dk_at dksX4_isAhead_0 15 rfl rfl)
theorem dX4_isAhead_18 : decode cX4_isAhead 18 = .ok (.aload_n 1, 1) := dk_43 (dk_at dksX4_isAhead_0 18 rfl rfl)
theorem dX4_isAhead_19 : decode cX4_isAhead 19 = .ok (.getfield 9, 3) := dk_180 0 9 (dk_at dksX4_isAhead_0 19 rfl rfl)
theorem dX4_isAhead_22 : decode cX4_isAhead 22 = .ok (.if_icmp .ge 7, 3) := dk_162 0 7 (dk_at dksX4_isAhead_1 0 rfl rfl)
theorem dX4_isAhead_25 : decode cX4_isAhead 25 = .ok (.iconst 1, 1) := dk_4 (dk_at dksX4_isAhead_1 3 rfl rfl)
theorem dX4_isAhead_26 : decode cX4_isAhead 26 = .ok (.goto 4, 3) := dk_167 0 4 (dk_at dksX4_isAhead_1 4 rfl rfl)
theorem dX4_isAhead_29 : decode cX4_isAhead 29 = .ok (.iconst 0, 1) := dk_3 (dk_at dksX4_isAhead_1 7 rfl rfl)
theorem dX4_isAhead_30 : decode cX4_isAhead 30 = .ok (.ireturn, 1) := dk_172 (dk_at dksX4_isAhead_1 8 rfl rfl)
theorem dX4_isAhead_31 : decode cX4_isAhead 31 = .ok (.aload_n 0, 1) := dk_42 (dk_at dksX4_isAhead_1 9 rfl rfl)
theorem dX4_isAhead_32 : decode cX4_isAhead 32 = .ok (.invokevirtual 53, 3) := dk_182 0 53 (dk_at dksX4_isAhead_1 10 rfl rfl)
theorem dX4_isAhead_35 : decode cX4_isAhead 35 = .ok (.ifCond .ne 21, 3) := dk_154 0 21 (dk_at dksX4_isAhead_1 13 rfl rfl)
theorem dX4_isAhead_38 : decode cX4_isAhead 38 = .ok (.aload_n 1, 1) := dk_43 (dk_at dksX4_isAhead_1 16 rfl rfl)
theorem dX4_isAhead_39 : decode cX4_isAhead 39 = .ok (.invokevirtual 53, 3) := dk_182 0 53 (dk_at dksX4_isAhead_1 17 rfl rfl)
theorem dX4_isAhead_42 : decode cX4_isAhead 42 = .ok (.ifCond .ne 18, 3) := dk_154 0 18 (dk_at dksX4_isAhead_1 20 rfl rfl)
theorem dX4_isAhead_45 : decode cX4_isAhead 45 = .ok (.aload_n 0, 1) := dk_42 (dk_at dksX4_isAhead_1 23 rfl rfl)
theorem dX4_isAhead_46 : decode cX4_isAhead 46 = .ok (.getfield 25, 3) := dk_180 0 25 (dk_at dksX4_isAhead_2 0 rfl rfl)
theorem dX4_isAhead_49 : decode cX4_isAhead 49 = .ok (.aload_n 1, 1) := dk_43 (dk_at dksX4_isAhead_2 3 rfl rfl)
theorem dX4_isAhead_50 : decode cX4_isAhead 50 = .ok (.getfield 25, 3) := dk_180 0 25 (dk_at dksX4_isAhead_2 4 rfl rfl)
theorem dX4_isAhead_53 : decode cX4_isAhead 53 = .ok (.if_icmp .le 7, 3) := dk_164 0 7 (dk_at dksX4_isAhead_2 7 rfl rfl)
theorem dX4_isAhead_56 : decode cX4_isAhead 56 = .ok (.iconst 1, 1) := dk_4 (dk_at dksX4_isAhead_2 10 rfl rfl)
theorem dX4_isAhead_57 : decode cX4_isAhead 57 = .ok (.goto 4, 3) := dk_167 0 4 (dk_at dksX4_isAhead_2 11 rfl rfl)
theorem dX4_isAhead_60 : decode cX4_isAhead 60 = .ok (.iconst 0, 1) := dk_3 (dk_at dksX4_isAhead_2 14 rfl rfl)
theorem dX4_isAhead_61 : decode cX4_isAhead 61 = .ok (.ireturn, 1) := dk_172 (dk_at dksX4_isAhead_2 15 rfl rfl)
theorem fo_X4_25 : g_fo RX4 25 [4, 5, 6, 7, 8, 9] 4 := ⟨_, _, _, Or.inl q166, fun ci h => by
  simp only [List.mem_cons, List.not_mem_nil, or_false] at h; rcases h with rfl | rfl | rfl | rfl | rfl | rfl
  · exact ⟨_, _, _, rfl, by decide, rfl, rfl, Or.inl rfl, in_X4⟩
  · exact ⟨_, _, _, rfl, by decide, rfl, rfl, Or.inl rfl, in_X5⟩
  · exact ⟨_, _, _, rfl, by decide, rfl, rfl, Or.inl rfl, in_X6⟩
  · exact ⟨_, _, _, rfl, by decide, rfl, rfl, Or.inl rfl, in_X7⟩
  · exact ⟨_, _, _, rfl, by decide, rfl, rfl, Or.inl rfl, in_X8⟩
  · exact ⟨_, _, _, rfl, by decide, rfl, rfl, Or.inl rfl, in_X9⟩⟩
theorem dmV_X4_isHome : yX4_isHome.cls = RX4 ∧ yX4_isHome.cls ≠ "java/lang/invoke/MethodHandle" ∧ yX4_isHome.cls ≠ "java/lang/invoke/VarHandle" ∧ (parseMethodDescriptor yX4_isHome.desc).map (fun d => d.parameters.length) = some 0 := by decide +kernel
theorem dmU_X4_isHome0 : "LameClocks$Plain" ≠ "java/lang/invoke/MethodHandle" ∧ "LameClocks$Plain" ≠ "java/lang/invoke/VarHandle" ∧ (parseMethodDescriptor "()Z").map (fun d => d.parameters.length) = some 0 := by decide +kernel
section CP
variable {Γ : Gc} {p : Program} {l : Launch} {e : Env} {s : State} {m : MethodId} {args : Array Value} {below : List Frame} {meth : Method} {c : Code} {ex : Nat → Option Nat} {z : Nat} {tF : St}
noncomputable def fX4_isAhead_31 (ex : Nat → Option Nat) (z : Nat) (h0 : Nat) (h1 : Nat) (t : St) : Option (Int32 × St) := ccast [4, 5, 6, 7, 8, 9] t h0 (gb (fX4_isHome ex (z + t.2.1) h0 (t.1, 0, 0)) t fun r1 t2 => if r1 = 0 then ccast [4, 5, 6, 7, 8, 9] t2 h1 (gb (fX4_isHome ex (z + t2.2.1) h1 (t2.1, 0, 0)) t2 fun r8 t9 => if r8 = 0 then cgI [4, 5, 6, 7, 8, 9] 4 t9 h0 fun v15 => cgI [4, 5, 6, 7, 8, 9] 4 t9 h1 fun v16 => if v15 ≤ v16 then some (0, t9) else some (1, t9) else some (0, t9)) else some (1, t2))
set_option maxHeartbeats 4000000 in
theorem wX4_isAhead_31 {rF : Int32} (hex : ex = Γ.2.2.2.2) (X : g_X Γ p s m args meth c cX4_isAhead 2 RX4) (hr : meth.sig.returnType = (some .boolean)) (h0 : Nat) (h1 : Nat) (t : St) : Wf Γ p l e 1 20 s m args below meth c 2 (g_ι z) v_i rF tF 31 [(0, .ref h0), (1, .ref h1)] [] t (fX4_isAhead_31 ex z h0 h1 t) := by
  unfold fX4_isAhead_31
  refine g_aload_n (pc := 31) X 0 dX4_isAhead_31 rfl rfl ?_
  refine g_bD_i (pc := 32) X (cs := [4, 5, 6, 7, 8, 9]) (As := []) (rest := []) (b := h0) (n := 0) dX4_isAhead_32 rfl rfl (Nat.le_of_ble_eq_true rfl) (fun fl3 ci4 fs5 hs6 hci7 r u h => ?_) (fun r1 t2 => ?_)
  · simp only [List.mem_cons, List.not_mem_nil, or_false] at hci7
    rcases hci7 with rfl | rfl | rfl | rfl | rfl | rfl
    · exact ⟨_, _, _, yX4_isHome, _, _, _, 0, 0, rfl, kX4_isHome hex h, Or.inl (cwV 0 X.2.2.2.2.1 (lw_V q517 q494 q495 q77 q502) rfl rfl rfl dmV_X4_isHome ⟨Nat.le_of_ble_eq_true rfl, Nat.le_of_ble_eq_true rfl⟩)⟩
    · exact ⟨_, _, _, yX4_isHome, _, _, _, 0, 0, rfl, kX4_isHome hex h, Or.inr (Or.inl ⟨_, _, va_cwU 0 X.2.2.2.2.1 (lw_U q517 q496 q497 q494 q77 q502) rfl rfl rfl rfl dmU_X4_isHome0 ⟨Nat.le_of_ble_eq_true rfl, Nat.le_of_ble_eq_true rfl⟩⟩)⟩
    · exact ⟨_, _, _, yX4_isHome, _, _, _, 0, 0, rfl, kX4_isHome hex h, Or.inr (Or.inl ⟨_, _, va_cwU 0 X.2.2.2.2.1 (lw_U q517 q496 q499 q494 q77 q502) rfl rfl rfl rfl dmU_X4_isHome0 ⟨Nat.le_of_ble_eq_true rfl, Nat.le_of_ble_eq_true rfl⟩⟩)⟩
    · exact ⟨_, _, _, yX4_isHome, _, _, _, 0, 0, rfl, kX4_isHome hex h, Or.inr (Or.inl ⟨_, _, va_cwU 0 X.2.2.2.2.1 (lw_U q517 q496 q500 q494 q77 q502) rfl rfl rfl rfl dmU_X4_isHome0 ⟨Nat.le_of_ble_eq_true rfl, Nat.le_of_ble_eq_true rfl⟩⟩)⟩
    · exact ⟨_, _, _, yX4_isHome, _, _, _, 0, 0, rfl, kX4_isHome hex h, Or.inr (Or.inl ⟨_, _, va_cwU 0 X.2.2.2.2.1 (lw_U q517 q496 q501 q494 q77 q502) rfl rfl rfl rfl dmU_X4_isHome0 ⟨Nat.le_of_ble_eq_true rfl, Nat.le_of_ble_eq_true rfl⟩⟩)⟩
    · exact ⟨_, _, _, yX4_isHome, _, _, _, 0, 0, rfl, kX4_isHome hex h, Or.inr (Or.inl ⟨_, _, va_cwU 0 X.2.2.2.2.1 (lw_U q517 q496 q498 q494 q77 q502) rfl rfl rfl rfl dmU_X4_isHome0 ⟨Nat.le_of_ble_eq_true rfl, Nat.le_of_ble_eq_true rfl⟩⟩)⟩
  refine g_if_ne (pc := 35) X 56 dX4_isAhead_35 (by decide) ?_ ?_
  · refine g_iconst (pc := 56) X 1 dX4_isAhead_56 rfl ?_
    refine g_goto (pc := 57) X 61 dX4_isAhead_57 (by decide) ?_
    exact g_zret (pc := 61) X hr rfl dX4_isAhead_61
  · refine g_aload_n (pc := 38) X 1 dX4_isAhead_38 rfl rfl ?_
    refine g_bD_i (pc := 39) X (cs := [4, 5, 6, 7, 8, 9]) (As := []) (rest := []) (b := h1) (n := 0) dX4_isAhead_39 rfl rfl (Nat.le_of_ble_eq_true rfl) (fun fl10 ci11 fs12 hs13 hci14 r u h => ?_) (fun r8 t9 => ?_)
    · simp only [List.mem_cons, List.not_mem_nil, or_false] at hci14
      rcases hci14 with rfl | rfl | rfl | rfl | rfl | rfl
      · exact ⟨_, _, _, yX4_isHome, _, _, _, 0, 0, rfl, kX4_isHome hex h, Or.inl (cwV 0 X.2.2.2.2.1 (lw_V q517 q494 q495 q77 q502) rfl rfl rfl dmV_X4_isHome ⟨Nat.le_of_ble_eq_true rfl, Nat.le_of_ble_eq_true rfl⟩)⟩
      · exact ⟨_, _, _, yX4_isHome, _, _, _, 0, 0, rfl, kX4_isHome hex h, Or.inr (Or.inl ⟨_, _, va_cwU 0 X.2.2.2.2.1 (lw_U q517 q496 q497 q494 q77 q502) rfl rfl rfl rfl dmU_X4_isHome0 ⟨Nat.le_of_ble_eq_true rfl, Nat.le_of_ble_eq_true rfl⟩⟩)⟩
      · exact ⟨_, _, _, yX4_isHome, _, _, _, 0, 0, rfl, kX4_isHome hex h, Or.inr (Or.inl ⟨_, _, va_cwU 0 X.2.2.2.2.1 (lw_U q517 q496 q499 q494 q77 q502) rfl rfl rfl rfl dmU_X4_isHome0 ⟨Nat.le_of_ble_eq_true rfl, Nat.le_of_ble_eq_true rfl⟩⟩)⟩
      · exact ⟨_, _, _, yX4_isHome, _, _, _, 0, 0, rfl, kX4_isHome hex h, Or.inr (Or.inl ⟨_, _, va_cwU 0 X.2.2.2.2.1 (lw_U q517 q496 q500 q494 q77 q502) rfl rfl rfl rfl dmU_X4_isHome0 ⟨Nat.le_of_ble_eq_true rfl, Nat.le_of_ble_eq_true rfl⟩⟩)⟩
      · exact ⟨_, _, _, yX4_isHome, _, _, _, 0, 0, rfl, kX4_isHome hex h, Or.inr (Or.inl ⟨_, _, va_cwU 0 X.2.2.2.2.1 (lw_U q517 q496 q501 q494 q77 q502) rfl rfl rfl rfl dmU_X4_isHome0 ⟨Nat.le_of_ble_eq_true rfl, Nat.le_of_ble_eq_true rfl⟩⟩)⟩
      · exact ⟨_, _, _, yX4_isHome, _, _, _, 0, 0, rfl, kX4_isHome hex h, Or.inr (Or.inl ⟨_, _, va_cwU 0 X.2.2.2.2.1 (lw_U q517 q496 q498 q494 q77 q502) rfl rfl rfl rfl dmU_X4_isHome0 ⟨Nat.le_of_ble_eq_true rfl, Nat.le_of_ble_eq_true rfl⟩⟩)⟩
    refine g_if_ne (pc := 42) X 60 dX4_isAhead_42 (by decide) ?_ ?_
    · refine g_iconst (pc := 60) X 0 dX4_isAhead_60 rfl ?_
      exact g_zret (pc := 61) X hr rfl dX4_isAhead_61
    · refine g_aload_n (pc := 45) X 0 dX4_isAhead_45 rfl rfl ?_
      refine cg_getI (pc := 46) X fo_X4_25 dX4_isAhead_46 (fun v15 => ?_)
      refine g_aload_n (pc := 49) X 1 dX4_isAhead_49 rfl rfl ?_
      refine cg_getI (pc := 50) X fo_X4_25 dX4_isAhead_50 (fun v16 => ?_)
      refine g_icmp_le (pc := 53) X 60 dX4_isAhead_53 (by decide) ?_ ?_
      · refine g_iconst (pc := 60) X 0 dX4_isAhead_60 rfl ?_
        exact g_zret (pc := 61) X hr rfl dX4_isAhead_61
      · refine g_iconst (pc := 56) X 1 dX4_isAhead_56 rfl ?_
        refine g_goto (pc := 57) X 61 dX4_isAhead_57 (by decide) ?_
        exact g_zret (pc := 61) X hr rfl dX4_isAhead_61
noncomputable def fX4_isAhead (ex : Nat → Option Nat) (z : Nat) (h0 : Nat) (h1 : Nat) (t : St) : Option (Int32 × St) := ccast [4, 5, 6, 7, 8, 9] t h0 (gb (fX4_isHome ex (z + t.2.1) h0 (t.1, 0, 0)) t fun r1 t2 => if r1 = 0 then fX4_isAhead_31 ex z h0 h1 t2 else ccast [4, 5, 6, 7, 8, 9] t2 h1 (gb (fX4_isHome ex (z + t2.2.1) h1 (t2.1, 0, 0)) t2 fun r8 t9 => if r8 = 0 then fX4_isAhead_31 ex z h0 h1 t9 else cgI [4, 5, 6, 7, 8, 9] 5 t9 h0 fun v15 => cgI [4, 5, 6, 7, 8, 9] 5 t9 h1 fun v16 => if v16 ≤ v15 then some (0, t9) else some (1, t9)))
set_option maxHeartbeats 4000000 in
theorem wX4_isAhead {rF : Int32} (hex : ex = Γ.2.2.2.2) (X : g_X Γ p s m args meth c cX4_isAhead 2 RX4) (hr : meth.sig.returnType = (some .boolean)) (h0 : Nat) (h1 : Nat) (t : St) : Wf Γ p l e 1 20 s m args below meth c 2 (g_ι z) v_i rF tF 0 [(0, .ref h0), (1, .ref h1)] [] t (fX4_isAhead ex z h0 h1 t) := by
  unfold fX4_isAhead
  refine g_aload_n (pc := 0) X 0 dX4_isAhead_0 rfl rfl ?_
  refine g_bD_i (pc := 1) X (cs := [4, 5, 6, 7, 8, 9]) (As := []) (rest := []) (b := h0) (n := 0) dX4_isAhead_1 rfl rfl (Nat.le_of_ble_eq_true rfl) (fun fl3 ci4 fs5 hs6 hci7 r u h => ?_) (fun r1 t2 => ?_)
  · simp only [List.mem_cons, List.not_mem_nil, or_false] at hci7
    rcases hci7 with rfl | rfl | rfl | rfl | rfl | rfl
    · exact ⟨_, _, _, yX4_isHome, _, _, _, 0, 0, rfl, kX4_isHome hex h, Or.inl (cwV 0 X.2.2.2.2.1 (lw_V q517 q494 q495 q77 q502) rfl rfl rfl dmV_X4_isHome ⟨Nat.le_of_ble_eq_true rfl, Nat.le_of_ble_eq_true rfl⟩)⟩
    · exact ⟨_, _, _, yX4_isHome, _, _, _, 0, 0, rfl, kX4_isHome hex h, Or.inr (Or.inl ⟨_, _, va_cwU 0 X.2.2.2.2.1 (lw_U q517 q496 q497 q494 q77 q502) rfl rfl rfl rfl dmU_X4_isHome0 ⟨Nat.le_of_ble_eq_true rfl, Nat.le_of_ble_eq_true rfl⟩⟩)⟩
    · exact ⟨_, _, _, yX4_isHome, _, _, _, 0, 0, rfl, kX4_isHome hex h, Or.inr (Or.inl ⟨_, _, va_cwU 0 X.2.2.2.2.1 (lw_U q517 q496 q499 q494 q77 q502) rfl rfl rfl rfl dmU_X4_isHome0 ⟨Nat.le_of_ble_eq_true rfl, Nat.le_of_ble_eq_true rfl⟩⟩)⟩
    · exact ⟨_, _, _, yX4_isHome, _, _, _, 0, 0, rfl, kX4_isHome hex h, Or.inr (Or.inl ⟨_, _, va_cwU 0 X.2.2.2.2.1 (lw_U q517 q496 q500 q494 q77 q502) rfl rfl rfl rfl dmU_X4_isHome0 ⟨Nat.le_of_ble_eq_true rfl, Nat.le_of_ble_eq_true rfl⟩⟩)⟩
    · exact ⟨_, _, _, yX4_isHome, _, _, _, 0, 0, rfl, kX4_isHome hex h, Or.inr (Or.inl ⟨_, _, va_cwU 0 X.2.2.2.2.1 (lw_U q517 q496 q501 q494 q77 q502) rfl rfl rfl rfl dmU_X4_isHome0 ⟨Nat.le_of_ble_eq_true rfl, Nat.le_of_ble_eq_true rfl⟩⟩)⟩
    · exact ⟨_, _, _, yX4_isHome, _, _, _, 0, 0, rfl, kX4_isHome hex h, Or.inr (Or.inl ⟨_, _, va_cwU 0 X.2.2.2.2.1 (lw_U q517 q496 q498 q494 q77 q502) rfl rfl rfl rfl dmU_X4_isHome0 ⟨Nat.le_of_ble_eq_true rfl, Nat.le_of_ble_eq_true rfl⟩⟩)⟩
  refine g_if_eq (pc := 4) X 31 dX4_isAhead_4 (by decide) ?_ ?_
  · exact g_lv (pc := 31) (lv' := [(0, .ref h0), (1, .ref h1)]) [0, 1] rfl (wX4_isAhead_31 hex X hr h0 h1 t2)
  · refine g_aload_n (pc := 7) X 1 dX4_isAhead_7 rfl rfl ?_
    refine g_bD_i (pc := 8) X (cs := [4, 5, 6, 7, 8, 9]) (As := []) (rest := []) (b := h1) (n := 0) dX4_isAhead_8 rfl rfl (Nat.le_of_ble_eq_true rfl) (fun fl10 ci11 fs12 hs13 hci14 r u h => ?_) (fun r8 t9 => ?_)
    · simp only [List.mem_cons, List.not_mem_nil, or_false] at hci14
      rcases hci14 with rfl | rfl | rfl | rfl | rfl | rfl
      · exact ⟨_, _, _, yX4_isHome, _, _, _, 0, 0, rfl, kX4_isHome hex h, Or.inl (cwV 0 X.2.2.2.2.1 (lw_V q517 q494 q495 q77 q502) rfl rfl rfl dmV_X4_isHome ⟨Nat.le_of_ble_eq_true rfl, Nat.le_of_ble_eq_true rfl⟩)⟩
      · exact ⟨_, _, _, yX4_isHome, _, _, _, 0, 0, rfl, kX4_isHome hex h, Or.inr (Or.inl ⟨_, _, va_cwU 0 X.2.2.2.2.1 (lw_U q517 q496 q497 q494 q77 q502) rfl rfl rfl rfl dmU_X4_isHome0 ⟨Nat.le_of_ble_eq_true rfl, Nat.le_of_ble_eq_true rfl⟩⟩)⟩
      · exact ⟨_, _, _, yX4_isHome, _, _, _, 0, 0, rfl, kX4_isHome hex h, Or.inr (Or.inl ⟨_, _, va_cwU 0 X.2.2.2.2.1 (lw_U q517 q496 q499 q494 q77 q502) rfl rfl rfl rfl dmU_X4_isHome0 ⟨Nat.le_of_ble_eq_true rfl, Nat.le_of_ble_eq_true rfl⟩⟩)⟩
      · exact ⟨_, _, _, yX4_isHome, _, _, _, 0, 0, rfl, kX4_isHome hex h, Or.inr (Or.inl ⟨_, _, va_cwU 0 X.2.2.2.2.1 (lw_U q517 q496 q500 q494 q77 q502) rfl rfl rfl rfl dmU_X4_isHome0 ⟨Nat.le_of_ble_eq_true rfl, Nat.le_of_ble_eq_true rfl⟩⟩)⟩
      · exact ⟨_, _, _, yX4_isHome, _, _, _, 0, 0, rfl, kX4_isHome hex h, Or.inr (Or.inl ⟨_, _, va_cwU 0 X.2.2.2.2.1 (lw_U q517 q496 q501 q494 q77 q502) rfl rfl rfl rfl dmU_X4_isHome0 ⟨Nat.le_of_ble_eq_true rfl, Nat.le_of_ble_eq_true rfl⟩⟩)⟩
      · exact ⟨_, _, _, yX4_isHome, _, _, _, 0, 0, rfl, kX4_isHome hex h, Or.inr (Or.inl ⟨_, _, va_cwU 0 X.2.2.2.2.1 (lw_U q517 q496 q498 q494 q77 q502) rfl rfl rfl rfl dmU_X4_isHome0 ⟨Nat.le_of_ble_eq_true rfl, Nat.le_of_ble_eq_true rfl⟩⟩)⟩
    refine g_if_eq (pc := 11) X 31 dX4_isAhead_11 (by decide) ?_ ?_
    · exact g_lv (pc := 31) (lv' := [(0, .ref h0), (1, .ref h1)]) [0, 1] rfl (wX4_isAhead_31 hex X hr h0 h1 t9)
    · refine g_aload_n (pc := 14) X 0 dX4_isAhead_14 rfl rfl ?_
      refine cg_getI (pc := 15) X fo_X4_9 dX4_isAhead_15 (fun v15 => ?_)
      refine g_aload_n (pc := 18) X 1 dX4_isAhead_18 rfl rfl ?_
      refine cg_getI (pc := 19) X fo_X4_9 dX4_isAhead_19 (fun v16 => ?_)
      refine g_icmp_ge (pc := 22) X 29 dX4_isAhead_22 (by decide) ?_ ?_
      · refine g_iconst (pc := 29) X 0 dX4_isAhead_29 rfl ?_
        exact g_zret (pc := 30) X hr rfl dX4_isAhead_30
      · refine g_iconst (pc := 25) X 1 dX4_isAhead_25 rfl ?_
        refine g_goto (pc := 26) X 30 dX4_isAhead_26 (by decide) ?_
        exact g_zret (pc := 30) X hr rfl dX4_isAhead_30
theorem kX4_isAhead {ex : Nat → Option Nat} {z : Nat} {h0 : Nat} {h1 : Nat} {σ : Sg} {r : Int32} {u : St} (hex : ex = Γ.2.2.2.2) (h : fX4_isAhead ex z h0 h1 (σ, 0, 0) = some (r, u)) : g_C Γ l yX4_isAhead cX4_isAhead 2 (some .boolean) 1 20 [.ref h0, .ref h1] σ z v_i r (g_ι z u) :=
  g_met (ι := g_ι z) (t := (σ, 0, 0)) [.ref h0, .ref h1] (by decide) (Nat.le_of_ble_eq_true rfl) h rfl (fun p e s m args below meth c X hr hn => wX4_isAhead hex X hr h0 h1 (σ, 0, 0))
end CP
abbrev cX4_far : ByteArray := prog_11_method_7_code
def yX4_far : MethodName := ⟨RX4, "far", "(LLameClocks$Street;)I"⟩
theorem dX4_far_0 : decode cX4_far 0 = .ok (.iconst 1, 1) := by decide +kernel
theorem dX4_far_1 : decode cX4_far 1 = .ok (.ireturn, 1) := by decide +kernel
section CP
variable {Γ : Gc} {p : Program} {l : Launch} {e : Env} {s : State} {m : MethodId} {args : Array Value} {below : List Frame} {meth : Method} {c : Code} {ex : Nat → Option Nat} {z : Nat} {tF : St}
noncomputable def fX4_far (ex : Nat → Option Nat) (z : Nat) (h0 : Nat) (h1 : Nat) (t : St) : Option (Int32 × St) := some (1, t)
set_option maxHeartbeats 4000000 in
theorem wX4_far {rF : Int32} (hex : ex = Γ.2.2.2.2) (X : g_X Γ p s m args meth c cX4_far 2 RX4) (hr : meth.sig.returnType = (some .int)) (h0 : Nat) (h1 : Nat) (t : St) : Wf Γ p l e 0 0 s m args below meth c 2 (g_ι z) v_i rF tF 0 [(0, .ref h0), (1, .ref h1)] [] t (fX4_far ex z h0 h1 t) := by
  unfold fX4_far
  refine g_iconst (pc := 0) X 1 dX4_far_0 rfl ?_
  exact g_iret (pc := 1) X hr dX4_far_1
theorem kX4_far {ex : Nat → Option Nat} {z : Nat} {h0 : Nat} {h1 : Nat} {σ : Sg} {r : Int32} {u : St} (hex : ex = Γ.2.2.2.2) (h : fX4_far ex z h0 h1 (σ, 0, 0) = some (r, u)) : g_C Γ l yX4_far cX4_far 2 (some .int) 0 0 [.ref h0, .ref h1] σ z v_i r (g_ι z u) :=
  g_met (ι := g_ι z) (t := (σ, 0, 0)) [.ref h0, .ref h1] (by decide) (Nat.le_of_ble_eq_true rfl) h rfl (fun p e s m args below meth c X hr hn => wX4_far hex X hr h0 h1 (σ, 0, 0))
end CP
abbrev cX4_isRunning : ByteArray := prog_11_method_8_code
def yX4_isRunning : MethodName := ⟨RX4, "isRunning", "()Z"⟩
def dkwX4_isRunning_0 : List UInt8 := [42, 180, 0, 34, 158, 0, 7, 4, 167, 0, 4, 3, 172]
abbrev dktX4_isRunning_0 : List UInt8 := dkwX4_isRunning_0 ++ []
theorem dksX4_isRunning_0 : cX4_isRunning.data.toList.drop 0 = dktX4_isRunning_0 := by decide +kernel
theorem dX4_isRunning_0 : decode cX4_isRunning 0 = .ok (.aload_n 0, 1) := dk_42 (dk_at dksX4_isRunning_0 0 rfl rfl)
theorem dX4_isRunning_1 : decode cX4_isRunning 1 = .ok (.getfield 34, 3) := dk_180 0 34 (dk_at dksX4_isRunning_0 1 rfl rfl)
theorem dX4_isRunning_4 : decode cX4_isRunning 4 = .ok (.ifCond .le 7, 3) := dk_158 0 7 (dk_at dksX4_isRunning_0 4 rfl rfl)
theorem dX4_isRunning_7 : decode cX4_isRunning 7 = .ok (.iconst 1, 1) := dk_4 (dk_at dksX4_isRunning_0 7 rfl rfl)
theorem dX4_isRunning_8 : decode cX4_isRunning 8 = .ok (.goto 4, 3) := dk_167 0 4 (dk_at dksX4_isRunning_0 8 rfl rfl)
theorem dX4_isRunning_11 : decode cX4_isRunning 11 = .ok (.iconst 0, 1) := dk_3 (dk_at dksX4_isRunning_0 11 rfl rfl)
theorem dX4_isRunning_12 : decode cX4_isRunning 12 = .ok (.ireturn, 1) := dk_172 (dk_at dksX4_isRunning_0 12 rfl rfl)
theorem fo_X4_34 : g_fo RX4 34 [4, 5, 6, 7, 8, 9] 3 := ⟨_, _, _, Or.inl q165, fun ci h => by
  simp only [List.mem_cons, List.not_mem_nil, or_false] at h; rcases h with rfl | rfl | rfl | rfl | rfl | rfl
  · exact ⟨_, _, _, rfl, by decide, rfl, rfl, Or.inl rfl, in_X4⟩
  · exact ⟨_, _, _, rfl, by decide, rfl, rfl, Or.inl rfl, in_X5⟩
  · exact ⟨_, _, _, rfl, by decide, rfl, rfl, Or.inl rfl, in_X6⟩
  · exact ⟨_, _, _, rfl, by decide, rfl, rfl, Or.inl rfl, in_X7⟩
  · exact ⟨_, _, _, rfl, by decide, rfl, rfl, Or.inl rfl, in_X8⟩
  · exact ⟨_, _, _, rfl, by decide, rfl, rfl, Or.inl rfl, in_X9⟩⟩
section CP
variable {Γ : Gc} {p : Program} {l : Launch} {e : Env} {s : State} {m : MethodId} {args : Array Value} {below : List Frame} {meth : Method} {c : Code} {ex : Nat → Option Nat} {z : Nat} {tF : St}
noncomputable def fX4_isRunning (ex : Nat → Option Nat) (z : Nat) (h0 : Nat) (t : St) : Option (Int32 × St) := cgI [4, 5, 6, 7, 8, 9] 3 t h0 fun v1 => if v1 ≤ 0 then some (0, t) else some (1, t)
set_option maxHeartbeats 4000000 in
theorem wX4_isRunning {rF : Int32} (hex : ex = Γ.2.2.2.2) (X : g_X Γ p s m args meth c cX4_isRunning 1 RX4) (hr : meth.sig.returnType = (some .boolean)) (h0 : Nat) (t : St) : Wf Γ p l e 0 0 s m args below meth c 1 (g_ι z) v_i rF tF 0 [(0, .ref h0)] [] t (fX4_isRunning ex z h0 t) := by
  unfold fX4_isRunning
  refine g_aload_n (pc := 0) X 0 dX4_isRunning_0 rfl rfl ?_
  refine cg_getI (pc := 1) X fo_X4_34 dX4_isRunning_1 (fun v1 => ?_)
  refine g_if_le (pc := 4) X 11 dX4_isRunning_4 (by decide) ?_ ?_
  · refine g_iconst (pc := 11) X 0 dX4_isRunning_11 rfl ?_
    exact g_zret (pc := 12) X hr rfl dX4_isRunning_12
  · refine g_iconst (pc := 7) X 1 dX4_isRunning_7 rfl ?_
    refine g_goto (pc := 8) X 12 dX4_isRunning_8 (by decide) ?_
    exact g_zret (pc := 12) X hr rfl dX4_isRunning_12
theorem kX4_isRunning {ex : Nat → Option Nat} {z : Nat} {h0 : Nat} {σ : Sg} {r : Int32} {u : St} (hex : ex = Γ.2.2.2.2) (h : fX4_isRunning ex z h0 (σ, 0, 0) = some (r, u)) : g_C Γ l yX4_isRunning cX4_isRunning 1 (some .boolean) 0 0 [.ref h0] σ z v_i r (g_ι z u) :=
  g_met (ι := g_ι z) (t := (σ, 0, 0)) [.ref h0] (by decide) (Nat.le_of_ble_eq_true rfl) h rfl (fun p e s m args below meth c X hr hn => wX4_isRunning hex X hr h0 (σ, 0, 0))
end CP
abbrev cX4_winds : ByteArray := prog_11_method_11_code
def yX4_winds : MethodName := ⟨RX4, "winds", "(I)V"⟩
def dkwX4_winds_0 : List UInt8 := [42, 16, 99, 42, 180, 0, 34, 27, 96, 184, 0, 50, 181, 0, 34, 177]
abbrev dktX4_winds_0 : List UInt8 := dkwX4_winds_0 ++ []
theorem dksX4_winds_0 : cX4_winds.data.toList.drop 0 = dktX4_winds_0 := by decide +kernel
theorem dX4_winds_0 : decode cX4_winds 0 = .ok (.aload_n 0, 1) := dk_42 (dk_at dksX4_winds_0 0 rfl rfl)
theorem dX4_winds_1 : decode cX4_winds 1 = .ok (.bipush 99, 2) := dk_16 99 (dk_at dksX4_winds_0 1 rfl rfl)
theorem dX4_winds_3 : decode cX4_winds 3 = .ok (.aload_n 0, 1) := dk_42 (dk_at dksX4_winds_0 3 rfl rfl)
theorem dX4_winds_4 : decode cX4_winds 4 = .ok (.getfield 34, 3) := dk_180 0 34 (dk_at dksX4_winds_0 4 rfl rfl)
theorem dX4_winds_7 : decode cX4_winds 7 = .ok (.iload_n 1, 1) := dk_27 (dk_at dksX4_winds_0 7 rfl rfl)
theorem dX4_winds_8 : decode cX4_winds 8 = .ok (.iadd, 1) := dk_96 (dk_at dksX4_winds_0 8 rfl rfl)
theorem dX4_winds_9 : decode cX4_winds 9 = .ok (.invokestatic 50, 3) := dk_184 0 50 (dk_at dksX4_winds_0 9 rfl rfl)
theorem dX4_winds_12 : decode cX4_winds 12 = .ok (.putfield 34, 3) := dk_181 0 34 (dk_at dksX4_winds_0 12 rfl rfl)
theorem dX4_winds_15 : decode cX4_winds 15 = .ok (.return_, 1) := dk_177 (dk_at dksX4_winds_0 15 rfl rfl)
theorem fp_X4_34 : g_fp RX4 34 [4, 5, 6, 7, 8, 9] 3 .int false := ⟨_, _, _, Or.inl q165, by decide +kernel, fun ci h => by
  simp only [List.mem_cons, List.not_mem_nil, or_false] at h; rcases h with rfl | rfl | rfl | rfl | rfl | rfl
  · exact ⟨_, _, _, tyX4, rfl, by decide, rfl, rfl, Or.inl rfl, in_X4, rfl, (fun h => by cases h), tyX4_ok, (by decide +kernel)⟩
  · exact ⟨_, _, _, tyX5, rfl, by decide, rfl, rfl, Or.inl rfl, in_X5, rfl, (fun h => by cases h), tyX5_ok, (by decide +kernel)⟩
  · exact ⟨_, _, _, tyX6, rfl, by decide, rfl, rfl, Or.inl rfl, in_X6, rfl, (fun h => by cases h), tyX6_ok, (by decide +kernel)⟩
  · exact ⟨_, _, _, tyX7, rfl, by decide, rfl, rfl, Or.inl rfl, in_X7, rfl, (fun h => by cases h), tyX7_ok, (by decide +kernel)⟩
  · exact ⟨_, _, _, tyX8, rfl, by decide, rfl, rfl, Or.inl rfl, in_X8, rfl, (fun h => by cases h), tyX8_ok, (by decide +kernel)⟩
  · exact ⟨_, _, _, tyX9, rfl, by decide, rfl, rfl, Or.inl rfl, in_X9, rfl, (fun h => by cases h), tyX9_ok, (by decide +kernel)⟩⟩
section CP
variable {Γ : Gc} {p : Program} {l : Launch} {e : Env} {s : State} {m : MethodId} {args : Array Value} {below : List Frame} {meth : Method} {c : Code} {ex : Nat → Option Nat} {z : Nat} {tF : St}
noncomputable def fX4_winds (ex : Nat → Option Nat) (z : Nat) (h0 : Nat) (x1 : Int32) (t : St) : Option (Unit × St) := cgI [4, 5, 6, 7, 8, 9] 3 t h0 fun v1 => gb (fJ4_min ex (z + t.2.1) 99 (v1 + x1) (t.1, 0, 0)) t fun r2 t3 => cput [4, 5, 6, 7, 8, 9] 3 t3 h0 (.int r2) fun t4 => some ((), t4)
set_option maxHeartbeats 4000000 in
theorem wX4_winds {rF : Unit} (hex : ex = Γ.2.2.2.2) (X : g_X Γ p s m args meth c cX4_winds 2 RX4) (hr : meth.sig.returnType = none) (h0 : Nat) (x1 : Int32) (t : St) : Wf Γ p l e 1 21 s m args below meth c 2 (g_ι z) v_v rF tF 0 [(0, .ref h0), (1, .int x1)] [] t (fX4_winds ex z h0 x1 t) := by
  unfold fX4_winds
  refine g_aload_n (pc := 0) X 0 dX4_winds_0 rfl rfl ?_
  refine g_bipush (pc := 1) X 99 dX4_winds_1 rfl ?_
  refine g_aload_n (pc := 3) X 0 dX4_winds_3 rfl rfl ?_
  refine cg_getI (pc := 4) X fo_X4_34 dX4_winds_4 (fun v1 => ?_)
  refine g_iload_n (pc := 7) X 1 dX4_winds_7 rfl rfl ?_
  refine g_iadd (pc := 8) X dX4_winds_8 ?_
  refine g_bS_i (pc := 9) X (y := yJ4_min) (As := [.int 99, .int (v1 + x1)]) (rest := [.ref h0]) (fr' := 0) (lo' := 0) (fun _ => va_cwS 2 X.2.2.2.2.1 (lw_S q710 q324 q84 q325) rfl rfl rfl dmS_J4_min ⟨Nat.le_of_ble_eq_true rfl, Nat.le_of_ble_eq_true rfl⟩) dX4_winds_9 rfl rfl (Nat.le_of_ble_eq_true rfl) (fun r u h => kJ4_min hex h) (fun r2 t3 => ?_)
  refine cg_put (pc := 12) X fp_X4_34 dX4_winds_12 (fun h => by cases h) rfl rfl (fun t4 => ?_)
  exact g_vret (pc := 15) X hr dX4_winds_15
theorem kX4_winds {ex : Nat → Option Nat} {z : Nat} {h0 : Nat} {x1 : Int32} {σ : Sg} {r : Unit} {u : St} (hex : ex = Γ.2.2.2.2) (h : fX4_winds ex z h0 x1 (σ, 0, 0) = some (r, u)) : g_C Γ l yX4_winds cX4_winds 2 none 1 21 [.ref h0, .int x1] σ z v_v r (g_ι z u) :=
  g_met (ι := g_ι z) (t := (σ, 0, 0)) [.ref h0, .int x1] (by decide) (Nat.le_of_ble_eq_true rfl) h rfl (fun p e s m args below meth c X hr hn => wX4_winds hex X hr h0 x1 (σ, 0, 0))
end CP
