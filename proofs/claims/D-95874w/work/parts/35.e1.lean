/-! the component, its methods: X0_strokesOf, X1_moves, X0_struck, X1_goes, X0_hour, X0_goOn (printed by gen/cmain.py) -/
set_option maxRecDepth 100000
theorem q533 : (Jvm.Cond.code ({ cls := "LameClocks", name := "hour", desc := "()I" } : Jvm.MethodName) prog_1_method_17_code (1 : Nat) (Option.some Jvm.ClassFile.FieldType.int)) ∈ lw_all := lw_g (lw_at lw_m2 224 rfl) rfl
theorem q534 : (Jvm.Cond.methodLink "LameClocks" (169 : Nat) ({ cls := "LameClocks$Race", name := "goes", desc := "()I" } : Jvm.MethodName)) ∈ lw_all := lw_g (lw_at lw_m2 225 rfl) rfl
theorem q535 : (Jvm.Cond.instanceMethod ({ cls := "LameClocks$Race", name := "goes", desc := "()I" } : Jvm.MethodName)) ∈ lw_all := lw_g (lw_at lw_m2 226 rfl) rfl
theorem q536 : (Jvm.Cond.selects "LameClocks$Race" ({ cls := "LameClocks$Race", name := "goes", desc := "()I" } : Jvm.MethodName) ({ cls := "LameClocks$Race", name := "goes", desc := "()I" } : Jvm.MethodName)) ∈ lw_all := lw_g (lw_at lw_m2 227 rfl) rfl
theorem q537 : (Jvm.Cond.code ({ cls := "LameClocks$Race", name := "goes", desc := "()I" } : Jvm.MethodName) prog_12_method_12_code (4 : Nat) (Option.some Jvm.ClassFile.FieldType.int)) ∈ lw_all := lw_g (lw_at lw_m2 228 rfl) rfl
theorem q538 : (Jvm.Cond.methodLink "LameClocks$Race" (119 : Nat) ({ cls := "LameClocks$Plain", name := "goes", desc := "(LLameClocks$Street;)Z" } : Jvm.MethodName)) ∈ lw_all := lw_g (lw_at lw_m2 229 rfl) rfl
theorem q540 : (Jvm.Cond.selects "LameClocks$Plain" ({ cls := "LameClocks$Plain", name := "goes", desc := "(LLameClocks$Street;)Z" } : Jvm.MethodName) ({ cls := "LameClocks$Plain", name := "goes", desc := "(LLameClocks$Street;)Z" } : Jvm.MethodName)) ∈ lw_all := lw_g (lw_at lw_m2 231 rfl) rfl
theorem q542 : (Jvm.Cond.selects "LameClocks$Cuckoo" ({ cls := "LameClocks$Plain", name := "goes", desc := "(LLameClocks$Street;)Z" } : Jvm.MethodName) ({ cls := "LameClocks$Plain", name := "goes", desc := "(LLameClocks$Street;)Z" } : Jvm.MethodName)) ∈ lw_all := lw_g (lw_at lw_m2 233 rfl) rfl
theorem q543 : (Jvm.Cond.selects "LameClocks$Mayor" ({ cls := "LameClocks$Plain", name := "goes", desc := "(LLameClocks$Street;)Z" } : Jvm.MethodName) ({ cls := "LameClocks$Mayor", name := "goes", desc := "(LLameClocks$Street;)Z" } : Jvm.MethodName)) ∈ lw_all := lw_g (lw_at lw_m2 234 rfl) rfl
theorem q544 : (Jvm.Cond.instanceMethod ({ cls := "LameClocks$Mayor", name := "goes", desc := "(LLameClocks$Street;)Z" } : Jvm.MethodName)) ∈ lw_all := lw_g (lw_at lw_m2 235 rfl) rfl
theorem q549 : (Jvm.Cond.selects "LameClocks$Stopped" ({ cls := "LameClocks$Plain", name := "goes", desc := "(LLameClocks$Street;)Z" } : Jvm.MethodName) ({ cls := "LameClocks$Plain", name := "goes", desc := "(LLameClocks$Street;)Z" } : Jvm.MethodName)) ∈ lw_all := lw_g (lw_at lw_m3 0 rfl) rfl
theorem q550 : (Jvm.Cond.selects "LameClocks$Sundial" ({ cls := "LameClocks$Plain", name := "goes", desc := "(LLameClocks$Street;)Z" } : Jvm.MethodName) ({ cls := "LameClocks$Sundial", name := "goes", desc := "(LLameClocks$Street;)Z" } : Jvm.MethodName)) ∈ lw_all := lw_g (lw_at lw_m3 1 rfl) rfl
theorem q551 : (Jvm.Cond.instanceMethod ({ cls := "LameClocks$Sundial", name := "goes", desc := "(LLameClocks$Street;)Z" } : Jvm.MethodName)) ∈ lw_all := lw_g (lw_at lw_m3 2 rfl) rfl
theorem q565 : (Jvm.Cond.selects "LameClocks$Twin" ({ cls := "LameClocks$Plain", name := "goes", desc := "(LLameClocks$Street;)Z" } : Jvm.MethodName) ({ cls := "LameClocks$Plain", name := "goes", desc := "(LLameClocks$Street;)Z" } : Jvm.MethodName)) ∈ lw_all := lw_g (lw_at lw_m3 16 rfl) rfl
theorem q575 : (Jvm.Cond.methodLink "LameClocks$Race" (123 : Nat) ({ cls := "LameClocks$Race", name := "moves", desc := "(LLameClocks$Plain;)V" } : Jvm.MethodName)) ∈ lw_all := lw_g (lw_at lw_m3 26 rfl) rfl
theorem q577 : (Jvm.Cond.instanceMethod ({ cls := "LameClocks$Race", name := "moves", desc := "(LLameClocks$Plain;)V" } : Jvm.MethodName)) ∈ lw_all := lw_g (lw_at lw_m3 28 rfl) rfl
theorem q579 : (Jvm.Cond.code ({ cls := "LameClocks$Race", name := "moves", desc := "(LLameClocks$Plain;)V" } : Jvm.MethodName) prog_12_method_11_code (2 : Nat) (Option.none : Option Jvm.ClassFile.FieldType)) ∈ lw_all := lw_g (lw_at lw_m3 30 rfl) rfl
theorem q580 : (Jvm.Cond.methodLink "LameClocks$Race" (95 : Nat) ({ cls := "LameClocks$Plain", name := "strikes", desc := "(LLameClocks$Street;)I" } : Jvm.MethodName)) ∈ lw_all := lw_g (lw_at lw_m3 31 rfl) rfl
theorem q581 : (Jvm.Cond.methodLink "LameClocks$Race" (99 : Nat) ({ cls := "LameClocks$Race", name := "home", desc := "()I" } : Jvm.MethodName)) ∈ lw_all := lw_g (lw_at lw_m3 32 rfl) rfl
theorem q582 : (Jvm.Cond.methodLink "LameClocks$Race" (102 : Nat) ({ cls := "LameClocks$Plain", name := "far", desc := "(LLameClocks$Street;)I" } : Jvm.MethodName)) ∈ lw_all := lw_g (lw_at lw_m3 33 rfl) rfl
theorem q584 : (Jvm.Cond.selects "LameClocks$Plain" ({ cls := "LameClocks$Plain", name := "far", desc := "(LLameClocks$Street;)I" } : Jvm.MethodName) ({ cls := "LameClocks$Plain", name := "far", desc := "(LLameClocks$Street;)I" } : Jvm.MethodName)) ∈ lw_all := lw_g (lw_at lw_m3 35 rfl) rfl
theorem q586 : (Jvm.Cond.selects "LameClocks$Cuckoo" ({ cls := "LameClocks$Plain", name := "far", desc := "(LLameClocks$Street;)I" } : Jvm.MethodName) ({ cls := "LameClocks$Cuckoo", name := "far", desc := "(LLameClocks$Street;)I" } : Jvm.MethodName)) ∈ lw_all := lw_g (lw_at lw_m3 37 rfl) rfl
theorem q587 : (Jvm.Cond.instanceMethod ({ cls := "LameClocks$Cuckoo", name := "far", desc := "(LLameClocks$Street;)I" } : Jvm.MethodName)) ∈ lw_all := lw_g (lw_at lw_m3 38 rfl) rfl
theorem q592 : (Jvm.Cond.selects "LameClocks$Mayor" ({ cls := "LameClocks$Plain", name := "far", desc := "(LLameClocks$Street;)I" } : Jvm.MethodName) ({ cls := "LameClocks$Plain", name := "far", desc := "(LLameClocks$Street;)I" } : Jvm.MethodName)) ∈ lw_all := lw_g (lw_at lw_m3 43 rfl) rfl
theorem q593 : (Jvm.Cond.selects "LameClocks$Stopped" ({ cls := "LameClocks$Plain", name := "far", desc := "(LLameClocks$Street;)I" } : Jvm.MethodName) ({ cls := "LameClocks$Plain", name := "far", desc := "(LLameClocks$Street;)I" } : Jvm.MethodName)) ∈ lw_all := lw_g (lw_at lw_m3 44 rfl) rfl
theorem q594 : (Jvm.Cond.selects "LameClocks$Sundial" ({ cls := "LameClocks$Plain", name := "far", desc := "(LLameClocks$Street;)I" } : Jvm.MethodName) ({ cls := "LameClocks$Plain", name := "far", desc := "(LLameClocks$Street;)I" } : Jvm.MethodName)) ∈ lw_all := lw_g (lw_at lw_m3 45 rfl) rfl
theorem q595 : (Jvm.Cond.selects "LameClocks$Twin" ({ cls := "LameClocks$Plain", name := "far", desc := "(LLameClocks$Street;)I" } : Jvm.MethodName) ({ cls := "LameClocks$Plain", name := "far", desc := "(LLameClocks$Street;)I" } : Jvm.MethodName)) ∈ lw_all := lw_g (lw_at lw_m3 46 rfl) rfl
theorem q597 : (Jvm.Cond.methodLink "LameClocks$Race" (105 : Nat) ({ cls := "java/lang/Math", name := "min", desc := "(II)I" } : Jvm.MethodName)) ∈ lw_all := lw_g (lw_at lw_m3 48 rfl) rfl
theorem q601 : (Jvm.Cond.instanceMethod ({ cls := "LameClocks$Street", name := "isHome", desc := "(I)Z" } : Jvm.MethodName)) ∈ lw_all := lw_g (lw_at lw_m3 52 rfl) rfl
theorem q611 : (Jvm.Cond.methodLink "LameClocks$Race" (114 : Nat) ({ cls := "LameClocks$Race", name := "sky", desc := "()I" } : Jvm.MethodName)) ∈ lw_all := lw_g (lw_at lw_m3 62 rfl) rfl
theorem q612 : (Jvm.Cond.methodLink "LameClocks$Race" (117 : Nat) ({ cls := "LameClocks$Plain", name := "strokes", desc := "(LLameClocks$Street;)I" } : Jvm.MethodName)) ∈ lw_all := lw_g (lw_at lw_m3 63 rfl) rfl
theorem q613 : (Jvm.Cond.instanceMethod ({ cls := "LameClocks$Plain", name := "strokes", desc := "(LLameClocks$Street;)I" } : Jvm.MethodName)) ∈ lw_all := lw_g (lw_at lw_m3 64 rfl) rfl
theorem q614 : (Jvm.Cond.selects "LameClocks$Plain" ({ cls := "LameClocks$Plain", name := "strokes", desc := "(LLameClocks$Street;)I" } : Jvm.MethodName) ({ cls := "LameClocks$Plain", name := "strokes", desc := "(LLameClocks$Street;)I" } : Jvm.MethodName)) ∈ lw_all := lw_g (lw_at lw_m3 65 rfl) rfl
theorem q615 : (Jvm.Cond.sameMethod "LameClocks$Plain" "LameClocks$Plain" "strokes" "(LLameClocks$Street;)I") ∈ lw_all := lw_g (lw_at lw_m3 66 rfl) rfl
theorem q616 : (Jvm.Cond.selects "LameClocks$Cuckoo" ({ cls := "LameClocks$Plain", name := "strokes", desc := "(LLameClocks$Street;)I" } : Jvm.MethodName) ({ cls := "LameClocks$Plain", name := "strokes", desc := "(LLameClocks$Street;)I" } : Jvm.MethodName)) ∈ lw_all := lw_g (lw_at lw_m3 67 rfl) rfl
theorem q617 : (Jvm.Cond.selects "LameClocks$Mayor" ({ cls := "LameClocks$Plain", name := "strokes", desc := "(LLameClocks$Street;)I" } : Jvm.MethodName) ({ cls := "LameClocks$Plain", name := "strokes", desc := "(LLameClocks$Street;)I" } : Jvm.MethodName)) ∈ lw_all := lw_g (lw_at lw_m3 68 rfl) rfl
theorem q618 : (Jvm.Cond.selects "LameClocks$Stopped" ({ cls := "LameClocks$Plain", name := "strokes", desc := "(LLameClocks$Street;)I" } : Jvm.MethodName) ({ cls := "LameClocks$Plain", name := "strokes", desc := "(LLameClocks$Street;)I" } : Jvm.MethodName)) ∈ lw_all := lw_g (lw_at lw_m3 69 rfl) rfl
theorem q619 : (Jvm.Cond.selects "LameClocks$Sundial" ({ cls := "LameClocks$Plain", name := "strokes", desc := "(LLameClocks$Street;)I" } : Jvm.MethodName) ({ cls := "LameClocks$Plain", name := "strokes", desc := "(LLameClocks$Street;)I" } : Jvm.MethodName)) ∈ lw_all := lw_g (lw_at lw_m3 70 rfl) rfl
theorem q620 : (Jvm.Cond.selects "LameClocks$Twin" ({ cls := "LameClocks$Plain", name := "strokes", desc := "(LLameClocks$Street;)I" } : Jvm.MethodName) ({ cls := "LameClocks$Plain", name := "strokes", desc := "(LLameClocks$Street;)I" } : Jvm.MethodName)) ∈ lw_all := lw_g (lw_at lw_m3 71 rfl) rfl
theorem q622 : (Jvm.Cond.methodLink "LameClocks$Race" (126 : Nat) ({ cls := "LameClocks$Plain", name := "runs", desc := "()V" } : Jvm.MethodName)) ∈ lw_all := lw_g (lw_at lw_m3 73 rfl) rfl
theorem q623 : (Jvm.Cond.instanceMethod ({ cls := "LameClocks$Plain", name := "runs", desc := "()V" } : Jvm.MethodName)) ∈ lw_all := lw_g (lw_at lw_m3 74 rfl) rfl
theorem q624 : (Jvm.Cond.selects "LameClocks$Plain" ({ cls := "LameClocks$Plain", name := "runs", desc := "()V" } : Jvm.MethodName) ({ cls := "LameClocks$Plain", name := "runs", desc := "()V" } : Jvm.MethodName)) ∈ lw_all := lw_g (lw_at lw_m3 75 rfl) rfl
theorem q625 : (Jvm.Cond.sameMethod "LameClocks$Plain" "LameClocks$Plain" "runs" "()V") ∈ lw_all := lw_g (lw_at lw_m3 76 rfl) rfl
theorem q626 : (Jvm.Cond.selects "LameClocks$Cuckoo" ({ cls := "LameClocks$Plain", name := "runs", desc := "()V" } : Jvm.MethodName) ({ cls := "LameClocks$Plain", name := "runs", desc := "()V" } : Jvm.MethodName)) ∈ lw_all := lw_g (lw_at lw_m3 77 rfl) rfl
theorem q627 : (Jvm.Cond.selects "LameClocks$Mayor" ({ cls := "LameClocks$Plain", name := "runs", desc := "()V" } : Jvm.MethodName) ({ cls := "LameClocks$Plain", name := "runs", desc := "()V" } : Jvm.MethodName)) ∈ lw_all := lw_g (lw_at lw_m3 78 rfl) rfl
theorem q628 : (Jvm.Cond.selects "LameClocks$Stopped" ({ cls := "LameClocks$Plain", name := "runs", desc := "()V" } : Jvm.MethodName) ({ cls := "LameClocks$Plain", name := "runs", desc := "()V" } : Jvm.MethodName)) ∈ lw_all := lw_g (lw_at lw_m3 79 rfl) rfl
theorem q629 : (Jvm.Cond.selects "LameClocks$Sundial" ({ cls := "LameClocks$Plain", name := "runs", desc := "()V" } : Jvm.MethodName) ({ cls := "LameClocks$Plain", name := "runs", desc := "()V" } : Jvm.MethodName)) ∈ lw_all := lw_g (lw_at lw_m3 80 rfl) rfl
theorem q630 : (Jvm.Cond.selects "LameClocks$Twin" ({ cls := "LameClocks$Plain", name := "runs", desc := "()V" } : Jvm.MethodName) ({ cls := "LameClocks$Plain", name := "runs", desc := "()V" } : Jvm.MethodName)) ∈ lw_all := lw_g (lw_at lw_m3 81 rfl) rfl
theorem q864 : (Jvm.Cond.code ({ cls := "LameClocks", name := "goOn", desc := "(I)V" } : Jvm.MethodName) prog_1_method_25_code (3 : Nat) (Option.none : Option Jvm.ClassFile.FieldType)) ∈ lw_all := lw_g (lw_at lw_m4 75 rfl) rfl
theorem q932 : (Jvm.Cond.code ({ cls := "LameClocks", name := "struck", desc := "(III)I" } : Jvm.MethodName) prog_1_method_46_code (8 : Nat) (Option.some Jvm.ClassFile.FieldType.int)) ∈ lw_all := lw_g (lw_at lw_m4 143 rfl) rfl
theorem q933 : (Jvm.Cond.methodLink "LameClocks" (273 : Nat) ({ cls := "LameClocks", name := "areClocks", desc := "(I)Z" } : Jvm.MethodName)) ∈ lw_all := lw_g (lw_at lw_m4 144 rfl) rfl
theorem q935 : (Jvm.Cond.instanceMethod ({ cls := "LameClocks", name := "areClocks", desc := "(I)Z" } : Jvm.MethodName)) ∈ lw_all := lw_g (lw_at lw_m4 146 rfl) rfl
theorem q937 : (Jvm.Cond.constantLong "LameClocks" (276 : Nat) (108 : Int64)) ∈ lw_all := lw_g (lw_at lw_m4 148 rfl) rfl
theorem q938 : (Jvm.Cond.constantLong "LameClocks" (278 : Nat) (2 : Int64)) ∈ lw_all := lw_g (lw_at lw_m4 149 rfl) rfl
theorem q939 : (Jvm.Cond.methodLink "LameClocks" (280 : Nat) ({ cls := "LameClocks", name := "strokesOf", desc := "(I)I" } : Jvm.MethodName)) ∈ lw_all := lw_g (lw_at lw_m4 150 rfl) rfl
theorem q941 : (Jvm.Cond.instanceMethod ({ cls := "LameClocks", name := "strokesOf", desc := "(I)I" } : Jvm.MethodName)) ∈ lw_all := lw_g (lw_at lw_m4 152 rfl) rfl
theorem q942 : (Jvm.Cond.code ({ cls := "LameClocks", name := "strokesOf", desc := "(I)I" } : Jvm.MethodName) prog_1_method_44_code (4 : Nat) (Option.some Jvm.ClassFile.FieldType.int)) ∈ lw_all := lw_g (lw_at lw_m4 153 rfl) rfl
theorem q943 : (Jvm.Cond.methodLink "LameClocks" (268 : Nat) ({ cls := "LameClocks", name := "lowest", desc := "(I)I" } : Jvm.MethodName)) ∈ lw_all := lw_g (lw_at lw_m4 154 rfl) rfl
theorem q944 : (Jvm.Cond.static ({ cls := "LameClocks", name := "lowest", desc := "(I)I" } : Jvm.MethodName)) ∈ lw_all := lw_g (lw_at lw_m4 155 rfl) rfl
theorem q946 : (Jvm.Cond.methodLink "LameClocks" (271 : Nat) ({ cls := "LameClocks$Plain", name := "strokes", desc := "(LLameClocks$Street;)I" } : Jvm.MethodName)) ∈ lw_all := lw_g (lw_at lw_m4 157 rfl) rfl
theorem q2171 : (Jvm.Cond.selects "LameClocks$Race" ({ cls := "LameClocks$Race", name := "sky", desc := "()I" } : Jvm.MethodName) ({ cls := "LameClocks$Race", name := "sky", desc := "()I" } : Jvm.MethodName)) ∈ lw_all := lw_g (lw_at lw_m9 182 rfl) rfl
abbrev cX0_strokesOf : ByteArray := prog_1_method_44_code
def yX0_strokesOf : MethodName := ⟨RX0, "strokesOf", "(I)I"⟩
def dkwX0_strokesOf_1 : List UInt8 := [182, 1, 15, 96, 61, 29, 29, 4, 100, 126, 62, 167, 255, 225, 28, 172]
abbrev dktX0_strokesOf_1 : List UInt8 := dkwX0_strokesOf_1 ++ []
def dkwX0_strokesOf_0 : List UInt8 := [3, 61, 27, 62, 29, 153, 0, 33, 28, 42, 180, 0, 38, 29, 184, 1, 12, 182, 0, 111, 42, 180, 0, 38]
abbrev dktX0_strokesOf_0 : List UInt8 := dkwX0_strokesOf_0 ++ dktX0_strokesOf_1
theorem dksX0_strokesOf_0 : cX0_strokesOf.data.toList.drop 0 = dktX0_strokesOf_0 := by decide +kernel
theorem dksX0_strokesOf_1 : cX0_strokesOf.data.toList.drop 24 = dktX0_strokesOf_1 := dk_seg dksX0_strokesOf_0 24 rfl rfl
theorem dX0_strokesOf_0 : decode cX0_strokesOf 0 = .ok (.iconst 0, 1) := dk_3 (dk_at dksX0_strokesOf_0 0 rfl rfl)
theorem dX0_strokesOf_1 : decode cX0_strokesOf 1 = .ok (.istore_n 2, 1) := dk_61 (dk_at dksX0_strokesOf_0 1 rfl rfl)
theorem dX0_strokesOf_2 : decode cX0_strokesOf 2 = .ok (.iload_n 1, 1) := dk_27 (dk_at dksX0_strokesOf_0 2 rfl rfl)
theorem dX0_strokesOf_3 : decode cX0_strokesOf 3 = .ok (.istore_n 3, 1) := dk_62 (dk_at dksX0_strokesOf_0 3 rfl rfl)
theorem dX0_strokesOf_4 : decode cX0_strokesOf 4 = .ok (.iload_n 3, 1) := dk_29 (dk_at dksX0_strokesOf_0 4 rfl rfl)
theorem dX0_strokesOf_5 : decode cX0_strokesOf 5 = .ok (.ifCond .eq 33, 3) := dk_153 0 33 (dk_at dksX0_strokesOf_0 5 rfl rfl)
theorem dX0_strokesOf_8 : decode cX0_strokesOf 8 = .ok (.iload_n 2, 1) := dk_28 (dk_at dksX0_strokesOf_0 8 rfl rfl)
theorem dX0_strokesOf_9 : decode cX0_strokesOf 9 = .ok (.aload_n 0, 1) := dk_42 (dk_at dksX0_strokesOf_0 9 rfl rfl)
theorem dX0_strokesOf_10 : decode cX0_strokesOf 10 = .ok (.getfield 38, 3) := dk_180 0 38 (dk_at dksX0_strokesOf_0 10 rfl rfl)
theorem dX0_strokesOf_13 : decode cX0_strokesOf 13 = .ok (.iload_n 3, 1) := dk_29 (dk_at dksX0_strokesOf_0 13 rfl rfl)
theorem dX0_strokesOf_14 : decode cX0_strokesOf 14 = .ok (.invokestatic 268, 3) := dk_184 1 12 (dk_at dksX0_strokesOf_0 14 rfl rfl)
theorem dX0_strokesOf_17 : decode cX0_strokesOf 17 = .ok (.invokevirtual 111, 3) := dk_182 0 111 (dk_at dksX0_strokesOf_0 17 rfl rfl)
theorem dX0_strokesOf_20 : decode cX0_strokesOf 20 = .ok (.aload_n 0, 1) := dk_42 (dk_at dksX0_strokesOf_0 20 rfl rfl)
theorem dX0_strokesOf_21 : decode cX0_strokesOf 21 = .ok (.getfield 38, 3) := dk_180 0 38 (dk_at dksX0_strokesOf_0 21 rfl rfl)
theorem dX0_strokesOf_24 : decode cX0_strokesOf 24 = .ok (.invokevirtual 271, 3) := dk_182 1 15 (dk_at dksX0_strokesOf_1 0 rfl rfl)
theorem dX0_strokesOf_27 : decode cX0_strokesOf 27 = .ok (.iadd, 1) := dk_96 (dk_at dksX0_strokesOf_1 3 rfl rfl)
theorem dX0_strokesOf_28 : decode cX0_strokesOf 28 = .ok (.istore_n 2, 1) := dk_61 (dk_at dksX0_strokesOf_1 4 rfl rfl)
theorem dX0_strokesOf_29 : decode cX0_strokesOf 29 = .ok (.iload_n 3, 1) := dk_29 (dk_at dksX0_strokesOf_1 5 rfl rfl)
theorem dX0_strokesOf_30 : decode cX0_strokesOf 30 = .ok (.iload_n 3, 1) := dk_29 (dk_at dksX0_strokesOf_1 6 rfl rfl)
theorem dX0_strokesOf_31 : decode cX0_strokesOf 31 = .ok (.iconst 1, 1) := dk_4 (dk_at dksX0_strokesOf_1 7 rfl rfl)
theorem dX0_strokesOf_32 : decode cX0_strokesOf 32 = .ok (.isub, 1) := dk_100 (dk_at dksX0_strokesOf_1 8 rfl rfl)
theorem dX0_strokesOf_33 : decode cX0_strokesOf 33 = .ok (.iand, 1) := dk_126 (dk_at dksX0_strokesOf_1 9 rfl rfl)
theorem dX0_strokesOf_34 : decode cX0_strokesOf 34 = .ok (.istore_n 3, 1) := dk_62 (dk_at dksX0_strokesOf_1 10 rfl rfl)
theorem dX0_strokesOf_35 : decode cX0_strokesOf 35 = .ok (.goto (-31), 3) := dk_167 255 225 (dk_at dksX0_strokesOf_1 11 rfl rfl)
theorem dX0_strokesOf_38 : decode cX0_strokesOf 38 = .ok (.iload_n 2, 1) := dk_28 (dk_at dksX0_strokesOf_1 14 rfl rfl)
theorem dX0_strokesOf_39 : decode cX0_strokesOf 39 = .ok (.ireturn, 1) := dk_172 (dk_at dksX0_strokesOf_1 15 rfl rfl)
theorem dmS_X0_lowest : yX0_lowest.cls ≠ "java/lang/invoke/MethodHandle" ∧ yX0_lowest.cls ≠ "java/lang/invoke/VarHandle" ∧ (parseMethodDescriptor yX0_lowest.desc).map (fun d => d.parameters.length) = some 1 := by decide +kernel
theorem dmV_X4_strokes : yX4_strokes.cls = RX4 ∧ yX4_strokes.cls ≠ "java/lang/invoke/MethodHandle" ∧ yX4_strokes.cls ≠ "java/lang/invoke/VarHandle" ∧ (parseMethodDescriptor yX4_strokes.desc).map (fun d => d.parameters.length) = some 1 := by decide +kernel
theorem dmU_X4_strokes1 : "LameClocks$Plain" ≠ "java/lang/invoke/MethodHandle" ∧ "LameClocks$Plain" ≠ "java/lang/invoke/VarHandle" ∧ (parseMethodDescriptor "(LLameClocks$Street;)I").map (fun d => d.parameters.length) = some 1 := by decide +kernel
section CP
variable {Γ : Gc} {p : Program} {l : Launch} {e : Env} {s : State} {m : MethodId} {args : Array Value} {below : List Frame} {meth : Method} {c : Code} {ex : Nat → Option Nat} {z : Nat} {tF : St}
noncomputable def fX0_strokesOf_4 (ex : Nat → Option Nat) (z : Nat) : Nat → Nat → Int32 → Int32 → St → Option (Int32 × St)
  | 0, _, _, _, _ => none
  | n + 1, h0, x2, x3, t => if x3 = 0 then some (x2, t) else cgA [0] 0 t h0 fun v1 => gb (fX0_lowest ex (z + t.2.1) x3 (t.1, 0, 0)) t fun r2 t3 => ccast [1] t3 v1 (gb (fX1_clock ex (z + t3.2.1) v1 r2 (t3.1, 0, 0)) t3 fun r4 t5 => cgA [0] 0 t5 h0 fun v11 => ccast [4, 5, 6, 7, 8, 9] t5 r4 (gb (fX4_strokes ex (z + t5.2.1) r4 v11 (t5.1, 0, 0)) t5 fun r12 t13 => lt (x2 + r12) fun y19 => lt (x3 &&& (x3 - 1)) fun y20 => fX0_strokesOf_4 ex z n h0 y19 y20 t13))
set_option maxHeartbeats 4000000 in
theorem wX0_strokesOf_4 {rF : Int32} (hex : ex = Γ.2.2.2.2) (X : g_X Γ p s m args meth c cX0_strokesOf 4 RX0) (hr : meth.sig.returnType = (some .int)) (n : Nat) : ∀ (h0 : Nat) (x2 : Int32) (x3 : Int32) (t : St), Wf Γ p l e 17 358 s m args below meth c 4 (g_ι z) v_i rF tF 4 [(0, .ref h0), (2, .int x2), (3, .int x3)] [] t (fX0_strokesOf_4 ex z n h0 x2 x3 t) := by
  induction n with
  | zero => intro h0 x2 x3 t; exact g_none
  | succ n ih =>
    intro h0 x2 x3 t
    rw [fX0_strokesOf_4]
    refine g_iload_n (pc := 4) X 2 dX0_strokesOf_4 rfl rfl ?_
    refine g_if_eq (pc := 5) X 38 dX0_strokesOf_5 (by decide) ?_ ?_
    · refine g_iload_n (pc := 38) X 1 dX0_strokesOf_38 rfl rfl ?_
      exact g_iret (pc := 39) X hr dX0_strokesOf_39
    · refine g_iload_n (pc := 8) X 1 dX0_strokesOf_8 rfl rfl ?_
      refine g_aload_n (pc := 9) X 0 dX0_strokesOf_9 rfl rfl ?_
      refine cg_getA (pc := 10) X fo_X0_38 dX0_strokesOf_10 (fun v1 => ?_)
      refine g_iload_n (pc := 13) X 2 dX0_strokesOf_13 rfl rfl ?_
      refine g_bS_i (pc := 14) X (y := yX0_lowest) (As := [.int x3]) (rest := [.ref v1, .int x2]) (fr' := 0) (lo' := 0) (fun _ => va_cwS 1 X.2.2.2.2.1 (lw_S q943 q944 q70 q945) rfl rfl rfl dmS_X0_lowest ⟨Nat.le_of_ble_eq_true rfl, Nat.le_of_ble_eq_true rfl⟩) dX0_strokesOf_14 rfl rfl (Nat.le_of_ble_eq_true rfl) (fun r u h => kX0_lowest hex h) (fun r2 t3 => ?_)
      refine g_bD_a (pc := 17) X (cs := [1]) (As := [.int r2]) (rest := [.int x2]) (b := v1) (n := 1) dX0_strokesOf_17 rfl rfl (Nat.le_of_ble_eq_true rfl) (fun fl6 ci7 fs8 hs9 hci10 r u h => ?_) (fun r4 t5 => ?_)
      · obtain rfl := List.mem_singleton.mp hci10
        exact ⟨_, _, _, yX1_clock, _, _, _, 3, 64, rfl, kX1_clock hex h, Or.inl (cwV 1 X.2.2.2.2.1 (lw_V q373 q374 q375 q71 q376) rfl rfl rfl dmV_X1_clock ⟨Nat.le_of_ble_eq_true rfl, Nat.le_of_ble_eq_true rfl⟩)⟩
      refine g_aload_n (pc := 20) X 0 dX0_strokesOf_20 rfl rfl ?_
      refine cg_getA (pc := 21) X fo_X0_38 dX0_strokesOf_21 (fun v11 => ?_)
      refine g_bD_i (pc := 24) X (cs := [4, 5, 6, 7, 8, 9]) (As := [.ref v11]) (rest := [.int x2]) (b := r4) (n := 1) dX0_strokesOf_24 rfl rfl (Nat.le_of_ble_eq_true rfl) (fun fl14 ci15 fs16 hs17 hci18 r u h => ?_) (fun r12 t13 => ?_)
      · simp only [List.mem_cons, List.not_mem_nil, or_false] at hci18
        rcases hci18 with rfl | rfl | rfl | rfl | rfl | rfl
        · exact ⟨_, _, _, yX4_strokes, _, _, _, 16, 337, rfl, kX4_strokes hex h, Or.inl (cwV 1 X.2.2.2.2.1 (lw_V q946 q613 q614 q77 q621) rfl rfl rfl dmV_X4_strokes ⟨Nat.le_of_ble_eq_true rfl, Nat.le_of_ble_eq_true rfl⟩)⟩
        · exact ⟨_, _, _, yX4_strokes, _, _, _, 16, 337, rfl, kX4_strokes hex h, Or.inr (Or.inl ⟨_, _, va_cwU 1 X.2.2.2.2.1 (lw_U q946 q615 q616 q613 q77 q621) rfl rfl rfl rfl dmU_X4_strokes1 ⟨Nat.le_of_ble_eq_true rfl, Nat.le_of_ble_eq_true rfl⟩⟩)⟩
        · exact ⟨_, _, _, yX4_strokes, _, _, _, 16, 337, rfl, kX4_strokes hex h, Or.inr (Or.inl ⟨_, _, va_cwU 1 X.2.2.2.2.1 (lw_U q946 q615 q618 q613 q77 q621) rfl rfl rfl rfl dmU_X4_strokes1 ⟨Nat.le_of_ble_eq_true rfl, Nat.le_of_ble_eq_true rfl⟩⟩)⟩
        · exact ⟨_, _, _, yX4_strokes, _, _, _, 16, 337, rfl, kX4_strokes hex h, Or.inr (Or.inl ⟨_, _, va_cwU 1 X.2.2.2.2.1 (lw_U q946 q615 q619 q613 q77 q621) rfl rfl rfl rfl dmU_X4_strokes1 ⟨Nat.le_of_ble_eq_true rfl, Nat.le_of_ble_eq_true rfl⟩⟩)⟩
        · exact ⟨_, _, _, yX4_strokes, _, _, _, 16, 337, rfl, kX4_strokes hex h, Or.inr (Or.inl ⟨_, _, va_cwU 1 X.2.2.2.2.1 (lw_U q946 q615 q620 q613 q77 q621) rfl rfl rfl rfl dmU_X4_strokes1 ⟨Nat.le_of_ble_eq_true rfl, Nat.le_of_ble_eq_true rfl⟩⟩)⟩
        · exact ⟨_, _, _, yX4_strokes, _, _, _, 16, 337, rfl, kX4_strokes hex h, Or.inr (Or.inl ⟨_, _, va_cwU 1 X.2.2.2.2.1 (lw_U q946 q615 q617 q613 q77 q621) rfl rfl rfl rfl dmU_X4_strokes1 ⟨Nat.le_of_ble_eq_true rfl, Nat.le_of_ble_eq_true rfl⟩⟩)⟩
      refine g_iadd (pc := 27) X dX0_strokesOf_27 ?_
      refine g_lti (pc := 28) (fun y19 => ?_)
      refine g_istore_n (pc := 28) X (lv' := [(2, .int y19), (0, .ref h0), (3, .int x3)]) dX0_strokesOf_28 rfl (by decide) rfl ?_
      refine g_iload_n (pc := 29) X 2 dX0_strokesOf_29 rfl rfl ?_
      refine g_iload_n (pc := 30) X 2 dX0_strokesOf_30 rfl rfl ?_
      refine g_iconst (pc := 31) X 1 dX0_strokesOf_31 rfl ?_
      refine g_isub (pc := 32) X dX0_strokesOf_32 ?_
      refine g_iand (pc := 33) X dX0_strokesOf_33 ?_
      refine g_lti (pc := 34) (fun y20 => ?_)
      refine g_istore_n (pc := 34) X (lv' := [(3, .int y20), (2, .int y19), (0, .ref h0)]) dX0_strokesOf_34 rfl (by decide) rfl ?_
      refine g_goto (pc := 35) X 4 dX0_strokesOf_35 (by decide) ?_
      exact g_lv (pc := 4) (lv' := [(0, .ref h0), (2, .int y19), (3, .int y20)]) [2, 1, 0] rfl (ih h0 y19 y20 t13)
noncomputable def fX0_strokesOf (ex : Nat → Option Nat) (z : Nat) (h0 : Nat) (x1 : Int32) (t : St) : Option (Int32 × St) := fX0_strokesOf_4 ex z 1000 h0 0 x1 t
set_option maxHeartbeats 4000000 in
theorem wX0_strokesOf {rF : Int32} (hex : ex = Γ.2.2.2.2) (X : g_X Γ p s m args meth c cX0_strokesOf 4 RX0) (hr : meth.sig.returnType = (some .int)) (h0 : Nat) (x1 : Int32) (t : St) : Wf Γ p l e 17 358 s m args below meth c 4 (g_ι z) v_i rF tF 0 [(0, .ref h0), (1, .int x1)] [] t (fX0_strokesOf ex z h0 x1 t) := by
  unfold fX0_strokesOf
  refine g_iconst (pc := 0) X 0 dX0_strokesOf_0 rfl ?_
  refine g_istore_n (pc := 1) X (lv' := [(2, .int 0), (0, .ref h0), (1, .int x1)]) dX0_strokesOf_1 rfl (by decide) rfl ?_
  refine g_iload_n (pc := 2) X 2 dX0_strokesOf_2 rfl rfl ?_
  refine g_istore_n (pc := 3) X (lv' := [(3, .int x1), (2, .int 0), (0, .ref h0), (1, .int x1)]) dX0_strokesOf_3 rfl (by decide) rfl ?_
  exact g_lv (pc := 4) (lv' := [(0, .ref h0), (2, .int 0), (3, .int x1)]) [2, 1, 0] rfl (wX0_strokesOf_4 hex X hr 1000 h0 0 x1 t)
theorem kX0_strokesOf {ex : Nat → Option Nat} {z : Nat} {h0 : Nat} {x1 : Int32} {σ : Sg} {r : Int32} {u : St} (hex : ex = Γ.2.2.2.2) (h : fX0_strokesOf ex z h0 x1 (σ, 0, 0) = some (r, u)) : g_C Γ l yX0_strokesOf cX0_strokesOf 4 (some .int) 17 358 [.ref h0, .int x1] σ z v_i r (g_ι z u) :=
  g_met (ι := g_ι z) (t := (σ, 0, 0)) [.ref h0, .int x1] (by decide) (Nat.le_of_ble_eq_true rfl) h rfl (fun p e s m args below meth c X hr hn => wX0_strokesOf hex X hr h0 x1 (σ, 0, 0))
end CP
abbrev cX1_moves : ByteArray := prog_12_method_11_code
def yX1_moves : MethodName := ⟨RX1, "moves", "(LLameClocks$Plain;)V"⟩
def dkwX1_moves_3 : List UInt8 := [43, 180, 0, 48, 120, 128, 181, 0, 61, 42, 89, 180, 0, 64, 43, 42, 182, 0, 117, 96, 181, 0, 64, 177]
abbrev dktX1_moves_3 : List UInt8 := dkwX1_moves_3 ++ []
def dkwX1_moves_2 : List UInt8 := [42, 180, 0, 41, 4, 96, 181, 0, 92, 42, 182, 0, 114, 5, 160, 0, 4, 177, 42, 89, 180, 0, 61, 4]
abbrev dktX1_moves_2 : List UInt8 := dkwX1_moves_2 ++ dktX1_moves_3
def dkwX1_moves_1 : List UInt8 := [43, 42, 182, 0, 102, 96, 184, 0, 105, 181, 0, 89, 42, 43, 180, 0, 89, 182, 0, 111, 153, 0, 13, 43]
abbrev dktX1_moves_1 : List UInt8 := dkwX1_moves_1 ++ dktX1_moves_2
def dkwX1_moves_0 : List UInt8 := [42, 180, 0, 15, 43, 180, 0, 89, 43, 42, 182, 0, 95, 145, 84, 43, 42, 182, 0, 99, 43, 180, 0, 89]
abbrev dktX1_moves_0 : List UInt8 := dkwX1_moves_0 ++ dktX1_moves_1
theorem dksX1_moves_0 : cX1_moves.data.toList.drop 0 = dktX1_moves_0 := by decide +kernel
theorem dksX1_moves_1 : cX1_moves.data.toList.drop 24 = dktX1_moves_1 := dk_seg dksX1_moves_0 24 rfl rfl
theorem dksX1_moves_2 : cX1_moves.data.toList.drop 48 = dktX1_moves_2 := dk_seg dksX1_moves_1 24 rfl rfl
theorem dksX1_moves_3 : cX1_moves.data.toList.drop 72 = dktX1_moves_3 := dk_seg dksX1_moves_2 24 rfl rfl
theorem dX1_moves_0 : decode cX1_moves 0 = .ok (.aload_n 0, 1) := dk_42 (dk_at dksX1_moves_0 0 rfl rfl)
theorem dX1_moves_1 : decode cX1_moves 1 = .ok (.getfield 15, 3) := dk_180 0 15 (dk_at dksX1_moves_0 1 rfl rfl)
theorem dX1_moves_4 : decode cX1_moves 4 = .ok (.aload_n 1, 1) := dk_43 (dk_at dksX1_moves_0 4 rfl rfl)
theorem dX1_moves_5 : decode cX1_moves 5 = .ok (.getfield 89, 3) := dk_180 0 89 (dk_at dksX1_moves_0 5 rfl rfl)
theorem dX1_moves_8 : decode cX1_moves 8 = .ok (.aload_n 1, 1) := dk_43 (dk_at dksX1_moves_0 8 rfl rfl)
theorem dX1_moves_9 : decode cX1_moves 9 = .ok (.aload_n 0, 1) := dk_42 (dk_at dksX1_moves_0 9 rfl rfl)
theorem dX1_moves_10 : decode cX1_moves 10 = .ok (.invokevirtual 95, 3) := dk_182 0 95 (dk_at dksX1_moves_0 10 rfl rfl)
theorem dX1_moves_13 : decode cX1_moves 13 = .ok (.i2b, 1) := dk_145 (dk_at dksX1_moves_0 13 rfl rfl)
theorem dX1_moves_14 : decode cX1_moves 14 = .ok (.bastore, 1) := dk_84 (dk_at dksX1_moves_0 14 rfl rfl)
theorem dX1_moves_15 : decode cX1_moves 15 = .ok (.aload_n 1, 1) := dk_43 (dk_at dksX1_moves_0 15 rfl rfl)
theorem dX1_moves_16 : decode cX1_moves 16 = .ok (.aload_n 0, 1) := dk_42 (dk_at dksX1_moves_0 16 rfl rfl)
theorem dX1_moves_17 : decode cX1_moves 17 = .ok (.invokevirtual 99, 3) := dk_182 0 99 (dk_at dksX1_moves_0 17 rfl rfl)
theorem dX1_moves_20 : decode cX1_moves 20 = .ok (.aload_n 1, 1) := dk_43 (dk_at dksX1_moves_0 20 rfl rfl)
theorem dX1_moves_21 : decode cX1_moves 21 = .ok (.getfield 89, 3) := dk_180 0 89 (dk_at dksX1_moves_0 21 rfl rfl)
theorem dX1_moves_24 : decode cX1_moves 24 = .ok (.aload_n 1, 1) := dk_43 (dk_at dksX1_moves_1 0 rfl rfl)
theorem dX1_moves_25 : decode cX1_moves 25 = .ok (.aload_n 0, 1) := dk_42 (dk_at dksX1_moves_1 1 rfl rfl)
theorem dX1_moves_26 : decode cX1_moves 26 = .ok (.invokevirtual 102, 3) := dk_182 0 102 (dk_at dksX1_moves_1 2 rfl rfl)
theorem dX1_moves_29 : decode cX1_moves 29 = .ok (.iadd, 1) := dk_96 (dk_at dksX1_moves_1 5 rfl rfl)
theorem dX1_moves_30 : decode cX1_moves 30 = .ok (.invokestatic 105, 3) := dk_184 0 105 (dk_at dksX1_moves_1 6 rfl rfl)
theorem dX1_moves_33 : decode cX1_moves 33 = .ok (.putfield 89, 3) := dk_181 0 89 (dk_at dksX1_moves_1 9 rfl rfl)
theorem dX1_moves_36 : decode cX1_moves 36 = .ok (.aload_n 0, 1) := dk_42 (dk_at dksX1_moves_1 12 rfl rfl)
theorem dX1_moves_37 : decode cX1_moves 37 = .ok (.aload_n 1, 1) := dk_43 (dk_at dksX1_moves_1 13 rfl rfl)
theorem dX1_moves_38 : decode cX1_moves 38 = .ok (.getfield 89, 3) := dk_180 0 89 (dk_at dksX1_moves_1 14 rfl rfl)
theorem dX1_moves_41 : decode cX1_moves 41 = .ok (.invokevirtual 111, 3) := dk_182 0 111 (dk_at dksX1_moves_1 17 rfl rfl)
theorem dX1_moves_44 : decode cX1_moves 44 = .ok (.ifCond .eq 13, 3) := dk_153 0 13 (dk_at dksX1_moves_1 20 rfl rfl)
theorem dX1_moves_47 : decode cX1_moves 47 = .ok (.aload_n 1, 1) := dk_43 (dk_at dksX1_moves_1 23 rfl rfl)
theorem dX1_moves_48 : decode cX1_moves 48 = .ok (.aload_n 0, 1) := dk_42 (dk_at dksX1_moves_2 0 rfl rfl)
theorem dX1_moves_49 : decode cX1_moves 49 = .ok (.getfield 41, 3) := dk_180 0 41 (dk_at dksX1_moves_2 1 rfl rfl)
theorem dX1_moves_52 : decode cX1_moves 52 = .ok (.iconst 1, 1) := dk_4 (dk_at dksX1_moves_2 4 rfl rfl)
theorem dX1_moves_53 : decode cX1_moves 53 = .ok (.iadd, 1) := dk_96 (dk_at dksX1_moves_2 5 rfl rfl)
theorem dX1_moves_54 : decode cX1_moves 54 = .ok (.putfield 92, 3) := dk_181 0 92 (dk_at dksX1_moves_2 6 rfl rfl)
theorem dX1_moves_57 : decode cX1_moves 57 = .ok (.aload_n 0, 1) := dk_42 (dk_at dksX1_moves_2 9 rfl rfl)
theorem dX1_moves_58 : decode cX1_moves 58 = .ok (.invokevirtual 114, 3) := dk_182 0 114 (dk_at dksX1_moves_2 10 rfl rfl)
theorem dX1_moves_61 : decode cX1_moves 61 = .ok (.iconst 2, 1) := dk_5 (dk_at dksX1_moves_2 13 rfl rfl)
theorem dX1_moves_62 : decode cX1_moves 62 = .ok (.if_icmp .ne 4, 3) := dk_160 0 4 (dk_at dksX1_moves_2 14 rfl rfl)
theorem dX1_moves_65 : decode cX1_moves 65 = .ok (.return_, 1) := dk_177 (dk_at dksX1_moves_2 17 rfl rfl)
theorem dX1_moves_66 : decode cX1_moves 66 = .ok (.aload_n 0, 1) := dk_42 (dk_at dksX1_moves_2 18 rfl rfl)
theorem dX1_moves_67 : decode cX1_moves 67 = .ok (.dup, 1) := dk_89 (dk_at dksX1_moves_2 19 rfl rfl)
theorem dX1_moves_68 : decode cX1_moves 68 = .ok (.getfield 61, 3) := dk_180 0 61 (dk_at dksX1_moves_2 20 rfl rfl)
theorem dX1_moves_71 : decode cX1_moves 71 = .ok (.iconst 1, 1) := dk_4 (dk_at dksX1_moves_2 23 rfl rfl)
theorem dX1_moves_72 : decode cX1_moves 72 = .ok (.aload_n 1, 1) := dk_43 (dk_at dksX1_moves_3 0 rfl rfl)
theorem dX1_moves_73 : decode cX1_moves 73 = .ok (.getfield 48, 3) := dk_180 0 48 (dk_at dksX1_moves_3 1 rfl rfl)
theorem dX1_moves_76 : decode cX1_moves 76 = .ok (.ishl, 1) := dk_120 (dk_at dksX1_moves_3 4 rfl rfl)
theorem dX1_moves_77 : decode cX1_moves 77 = .ok (.ior, 1) := dk_128 (dk_at dksX1_moves_3 5 rfl rfl)
theorem dX1_moves_78 : decode cX1_moves 78 = .ok (.putfield 61, 3) := dk_181 0 61 (dk_at dksX1_moves_3 6 rfl rfl)
theorem dX1_moves_81 : decode cX1_moves 81 = .ok (.aload_n 0, 1) := dk_42 (dk_at dksX1_moves_3 9 rfl rfl)
theorem dX1_moves_82 : decode cX1_moves 82 = .ok (.dup, 1) := dk_89 (dk_at dksX1_moves_3 10 rfl rfl)
theorem dX1_moves_83 : decode cX1_moves 83 = .ok (.getfield 64, 3) := dk_180 0 64 (dk_at dksX1_moves_3 11 rfl rfl)
theorem dX1_moves_86 : decode cX1_moves 86 = .ok (.aload_n 1, 1) := dk_43 (dk_at dksX1_moves_3 14 rfl rfl)
theorem dX1_moves_87 : decode cX1_moves 87 = .ok (.aload_n 0, 1) := dk_42 (dk_at dksX1_moves_3 15 rfl rfl)
theorem dX1_moves_88 : decode cX1_moves 88 = .ok (.invokevirtual 117, 3) := dk_182 0 117 (dk_at dksX1_moves_3 16 rfl rfl)
theorem dX1_moves_91 : decode cX1_moves 91 = .ok (.iadd, 1) := dk_96 (dk_at dksX1_moves_3 19 rfl rfl)
theorem dX1_moves_92 : decode cX1_moves 92 = .ok (.putfield 64, 3) := dk_181 0 64 (dk_at dksX1_moves_3 20 rfl rfl)
theorem dX1_moves_95 : decode cX1_moves 95 = .ok (.return_, 1) := dk_177 (dk_at dksX1_moves_3 23 rfl rfl)
theorem fo_X1_89 : g_fo RX1 89 [4, 5, 6, 7, 8, 9] 4 := ⟨_, _, _, Or.inl q168, fun ci h => by
  simp only [List.mem_cons, List.not_mem_nil, or_false] at h; rcases h with rfl | rfl | rfl | rfl | rfl | rfl
  · exact ⟨_, _, _, rfl, by decide, rfl, rfl, Or.inl rfl, in_X4⟩
  · exact ⟨_, _, _, rfl, by decide, rfl, rfl, Or.inl rfl, in_X5⟩
  · exact ⟨_, _, _, rfl, by decide, rfl, rfl, Or.inl rfl, in_X6⟩
  · exact ⟨_, _, _, rfl, by decide, rfl, rfl, Or.inl rfl, in_X7⟩
  · exact ⟨_, _, _, rfl, by decide, rfl, rfl, Or.inl rfl, in_X8⟩
  · exact ⟨_, _, _, rfl, by decide, rfl, rfl, Or.inl rfl, in_X9⟩⟩
theorem fo_X1_48 : g_fo RX1 48 [4, 5, 6, 7, 8, 9] 0 := ⟨_, _, _, Or.inl q153, fun ci h => by
  simp only [List.mem_cons, List.not_mem_nil, or_false] at h; rcases h with rfl | rfl | rfl | rfl | rfl | rfl
  · exact ⟨_, _, _, rfl, by decide, rfl, rfl, Or.inl rfl, in_X4⟩
  · exact ⟨_, _, _, rfl, by decide, rfl, rfl, Or.inl rfl, in_X5⟩
  · exact ⟨_, _, _, rfl, by decide, rfl, rfl, Or.inl rfl, in_X6⟩
  · exact ⟨_, _, _, rfl, by decide, rfl, rfl, Or.inl rfl, in_X7⟩
  · exact ⟨_, _, _, rfl, by decide, rfl, rfl, Or.inl rfl, in_X8⟩
  · exact ⟨_, _, _, rfl, by decide, rfl, rfl, Or.inl rfl, in_X9⟩⟩
theorem dmV_X1_sky : yX1_sky.cls = RX1 ∧ yX1_sky.cls ≠ "java/lang/invoke/MethodHandle" ∧ yX1_sky.cls ≠ "java/lang/invoke/VarHandle" ∧ (parseMethodDescriptor yX1_sky.desc).map (fun d => d.parameters.length) = some 0 := by decide +kernel
theorem dmV_X4_far : yX4_far.cls = RX4 ∧ yX4_far.cls ≠ "java/lang/invoke/MethodHandle" ∧ yX4_far.cls ≠ "java/lang/invoke/VarHandle" ∧ (parseMethodDescriptor yX4_far.desc).map (fun d => d.parameters.length) = some 1 := by decide +kernel
theorem dmU_X4_far1 : "LameClocks$Plain" ≠ "java/lang/invoke/MethodHandle" ∧ "LameClocks$Plain" ≠ "java/lang/invoke/VarHandle" ∧ (parseMethodDescriptor "(LLameClocks$Street;)I").map (fun d => d.parameters.length) = some 1 := by decide +kernel
theorem dl_LameClocks_Race_isHome : Cond.landsInDefault "LameClocks$Race" (⟨"LameClocks$Race", "isHome", "(I)Z"⟩ : MethodName) (⟨"LameClocks$Street", "isHome", "(I)Z"⟩ : MethodName) ∈ flatC (Jvm.Cond.and given_1 narrow_1) := by decide +kernel
theorem dn_LameClocks_Race_isHome : (parseMethodDescriptor (⟨"LameClocks$Race", "isHome", "(I)Z"⟩ : MethodName).desc).map (fun d => d.parameters.length) = some 1 := by decide +kernel
theorem dk_LameClocks_Race_111 : Cond.methodLink "LameClocks$Race" 111 (⟨"LameClocks$Race", "isHome", "(I)Z"⟩ : MethodName) ∈ flatC (Jvm.Cond.and given_1 narrow_1) := by decide +kernel
theorem ds_LameClocks_Race_isHome : Cond.sameMethod "LameClocks$Race" "LameClocks$Street" "isHome" "(I)Z" ∈ flatC (Jvm.Cond.and given_1 narrow_1) := by decide +kernel
section CP
variable {Γ : Gc} {p : Program} {l : Launch} {e : Env} {s : State} {m : MethodId} {args : Array Value} {below : List Frame} {meth : Method} {c : Code} {ex : Nat → Option Nat} {z : Nat} {tF : St}
noncomputable def fX1_moves_57 (ex : Nat → Option Nat) (z : Nat) (h0 : Nat) (h1 : Nat) (t : St) : Option (Unit × St) := ccast [1] t h0 (gb (fX1_sky ex (z + t.2.1) h0 (t.1, 0, 0)) t fun r1 t2 => if r1 = 2 then some ((), t2) else cgI [1] 7 t2 h0 fun v8 => cgI [4, 5, 6, 7, 8, 9] 0 t2 h1 fun v9 => cput [1] 7 t2 h0 (.int (v8 ||| (1 <<< (v9 &&& 31)))) fun t10 => cgI [1] 8 t10 h0 fun v11 => ccast [4, 5, 6, 7, 8, 9] t10 h1 (gb (fX4_strokes ex (z + t10.2.1) h1 h0 (t10.1, 0, 0)) t10 fun r12 t13 => cput [1] 8 t13 h0 (.int (v11 + r12)) fun t19 => some ((), t19)))
set_option maxHeartbeats 4000000 in
theorem wX1_moves_57 {rF : Unit} (hex : ex = Γ.2.2.2.2) (X : g_X Γ p s m args meth c cX1_moves 2 RX1) (hr : meth.sig.returnType = none) (h0 : Nat) (h1 : Nat) (t : St) : Wf Γ p l e 17 358 s m args below meth c 2 (g_ι z) v_v rF tF 57 [(0, .ref h0), (1, .ref h1)] [] t (fX1_moves_57 ex z h0 h1 t) := by
  unfold fX1_moves_57
  refine g_aload_n (pc := 57) X 0 dX1_moves_57 rfl rfl ?_
  refine g_bD_i (pc := 58) X (cs := [1]) (As := []) (rest := []) (b := h0) (n := 0) dX1_moves_58 rfl rfl (Nat.le_of_ble_eq_true rfl) (fun fl3 ci4 fs5 hs6 hci7 r u h => ?_) (fun r1 t2 => ?_)
  · obtain rfl := List.mem_singleton.mp hci7
    exact ⟨_, _, _, yX1_sky, _, _, _, 0, 0, rfl, kX1_sky hex h, Or.inl (cwV 0 X.2.2.2.2.1 (lw_V q611 q559 q2171 q71 q561) rfl rfl rfl dmV_X1_sky ⟨Nat.le_of_ble_eq_true rfl, Nat.le_of_ble_eq_true rfl⟩)⟩
  refine g_iconst (pc := 61) X 2 dX1_moves_61 rfl ?_
  refine g_icmp_ne (pc := 62) X 66 dX1_moves_62 (by decide) ?_ ?_
  · refine g_aload_n (pc := 66) X 0 dX1_moves_66 rfl rfl ?_
    refine g_dup (pc := 67) X dX1_moves_67 rfl ?_
    refine cg_getI (pc := 68) X fo_X1_61 dX1_moves_68 (fun v8 => ?_)
    refine g_iconst (pc := 71) X 1 dX1_moves_71 rfl ?_
    refine g_aload_n (pc := 72) X 1 dX1_moves_72 rfl rfl ?_
    refine cg_getI (pc := 73) X fo_X1_48 dX1_moves_73 (fun v9 => ?_)
    refine g_ishl (pc := 76) X dX1_moves_76 ?_
    refine g_ior (pc := 77) X dX1_moves_77 ?_
    refine cg_put (pc := 78) X fp_X1_61 dX1_moves_78 (fun h => by cases h) rfl rfl (fun t10 => ?_)
    refine g_aload_n (pc := 81) X 0 dX1_moves_81 rfl rfl ?_
    refine g_dup (pc := 82) X dX1_moves_82 rfl ?_
    refine cg_getI (pc := 83) X fo_X1_64 dX1_moves_83 (fun v11 => ?_)
    refine g_aload_n (pc := 86) X 1 dX1_moves_86 rfl rfl ?_
    refine g_aload_n (pc := 87) X 0 dX1_moves_87 rfl rfl ?_
    refine g_bD_i (pc := 88) X (cs := [4, 5, 6, 7, 8, 9]) (As := [.ref h0]) (rest := [.int v11, .ref h0]) (b := h1) (n := 1) dX1_moves_88 rfl rfl (Nat.le_of_ble_eq_true rfl) (fun fl14 ci15 fs16 hs17 hci18 r u h => ?_) (fun r12 t13 => ?_)
    · simp only [List.mem_cons, List.not_mem_nil, or_false] at hci18
      rcases hci18 with rfl | rfl | rfl | rfl | rfl | rfl
      · exact ⟨_, _, _, yX4_strokes, _, _, _, 16, 337, rfl, kX4_strokes hex h, Or.inl (cwV 1 X.2.2.2.2.1 (lw_V q612 q613 q614 q77 q621) rfl rfl rfl dmV_X4_strokes ⟨Nat.le_of_ble_eq_true rfl, Nat.le_of_ble_eq_true rfl⟩)⟩
      · exact ⟨_, _, _, yX4_strokes, _, _, _, 16, 337, rfl, kX4_strokes hex h, Or.inr (Or.inl ⟨_, _, va_cwU 1 X.2.2.2.2.1 (lw_U q612 q615 q616 q613 q77 q621) rfl rfl rfl rfl dmU_X4_strokes1 ⟨Nat.le_of_ble_eq_true rfl, Nat.le_of_ble_eq_true rfl⟩⟩)⟩
      · exact ⟨_, _, _, yX4_strokes, _, _, _, 16, 337, rfl, kX4_strokes hex h, Or.inr (Or.inl ⟨_, _, va_cwU 1 X.2.2.2.2.1 (lw_U q612 q615 q618 q613 q77 q621) rfl rfl rfl rfl dmU_X4_strokes1 ⟨Nat.le_of_ble_eq_true rfl, Nat.le_of_ble_eq_true rfl⟩⟩)⟩
      · exact ⟨_, _, _, yX4_strokes, _, _, _, 16, 337, rfl, kX4_strokes hex h, Or.inr (Or.inl ⟨_, _, va_cwU 1 X.2.2.2.2.1 (lw_U q612 q615 q619 q613 q77 q621) rfl rfl rfl rfl dmU_X4_strokes1 ⟨Nat.le_of_ble_eq_true rfl, Nat.le_of_ble_eq_true rfl⟩⟩)⟩
      · exact ⟨_, _, _, yX4_strokes, _, _, _, 16, 337, rfl, kX4_strokes hex h, Or.inr (Or.inl ⟨_, _, va_cwU 1 X.2.2.2.2.1 (lw_U q612 q615 q620 q613 q77 q621) rfl rfl rfl rfl dmU_X4_strokes1 ⟨Nat.le_of_ble_eq_true rfl, Nat.le_of_ble_eq_true rfl⟩⟩)⟩
      · exact ⟨_, _, _, yX4_strokes, _, _, _, 16, 337, rfl, kX4_strokes hex h, Or.inr (Or.inl ⟨_, _, va_cwU 1 X.2.2.2.2.1 (lw_U q612 q615 q617 q613 q77 q621) rfl rfl rfl rfl dmU_X4_strokes1 ⟨Nat.le_of_ble_eq_true rfl, Nat.le_of_ble_eq_true rfl⟩⟩)⟩
    refine g_iadd (pc := 91) X dX1_moves_91 ?_
    refine cg_put (pc := 92) X fp_X1_64 dX1_moves_92 (fun h => by cases h) rfl rfl (fun t19 => ?_)
    exact g_vret (pc := 95) X hr dX1_moves_95
  · exact g_vret (pc := 65) X hr dX1_moves_65
noncomputable def fX1_moves (ex : Nat → Option Nat) (z : Nat) (h0 : Nat) (h1 : Nat) (t : St) : Option (Unit × St) := cgA [1] 1 t h0 fun v1 => cgI [4, 5, 6, 7, 8, 9] 4 t h1 fun v2 => ccast [4, 5, 6, 7, 8, 9] t h1 (gb (fX4_strikes ex (z + t.2.1) h1 h0 (t.1, 0, 0)) t fun r3 t4 => cast_ 0 (vp_nar .byte) t4 v1 v2 r3.toInt8.toInt32 fun t10 => ccast [1] t10 h0 (gb (fX1_home ex (z + t10.2.1) h0 (t10.1, 0, 0)) t10 fun r11 t12 => cgI [4, 5, 6, 7, 8, 9] 4 t12 h1 fun v18 => ccast [4, 5, 6, 7, 8, 9] t12 h1 (gb (fv_X4_far ex (z + t12.2.1) h1 h0 (t12.1, 0, 0)) t12 fun r19 t20 => gb (fJ4_min ex (z + t20.2.1) r11 (v18 + r19) (t20.1, 0, 0)) t20 fun r26 t27 => cput [4, 5, 6, 7, 8, 9] 4 t27 h1 (.int r26) fun t28 => cgI [4, 5, 6, 7, 8, 9] 4 t28 h1 fun v29 => ccast [1] t28 h0 (gb (fX21_isHome ex (z + t28.2.1) h0 v29 (t28.1, 0, 0)) t28 fun r30 t31 => if r30 = 0 then fX1_moves_57 ex z h0 h1 t31 else cgI [1] 3 t31 h0 fun v32 => cput [4, 5, 6, 7, 8, 9] 5 t31 h1 (.int (v32 + 1)) fun t33 => fX1_moves_57 ex z h0 h1 t33))))
set_option maxHeartbeats 4000000 in
theorem wX1_moves {rF : Unit} (hex : ex = Γ.2.2.2.2) (X : g_X Γ p s m args meth c cX1_moves 2 RX1) (hr : meth.sig.returnType = none) (h0 : Nat) (h1 : Nat) (t : St) : Wf Γ p l e 17 358 s m args below meth c 2 (g_ι z) v_v rF tF 0 [(0, .ref h0), (1, .ref h1)] [] t (fX1_moves ex z h0 h1 t) := by
  unfold fX1_moves
  refine g_aload_n (pc := 0) X 0 dX1_moves_0 rfl rfl ?_
  refine cg_getA (pc := 1) X fo_X1_15 dX1_moves_1 (fun v1 => ?_)
  refine g_aload_n (pc := 4) X 1 dX1_moves_4 rfl rfl ?_
  refine cg_getI (pc := 5) X fo_X1_89 dX1_moves_5 (fun v2 => ?_)
  refine g_aload_n (pc := 8) X 1 dX1_moves_8 rfl rfl ?_
  refine g_aload_n (pc := 9) X 0 dX1_moves_9 rfl rfl ?_
  refine g_bD_i (pc := 10) X (cs := [4, 5, 6, 7, 8, 9]) (As := [.ref h0]) (rest := [.int v2, .ref v1]) (b := h1) (n := 1) dX1_moves_10 rfl rfl (Nat.le_of_ble_eq_true rfl) (fun fl5 ci6 fs7 hs8 hci9 r u h => ?_) (fun r3 t4 => ?_)
  · simp only [List.mem_cons, List.not_mem_nil, or_false] at hci9
    rcases hci9 with rfl | rfl | rfl | rfl | rfl | rfl
    · exact ⟨_, _, _, yX4_strikes, _, _, _, 15, 316, rfl, kX4_strikes hex h, Or.inl (cwV 1 X.2.2.2.2.1 (lw_V q580 q445 q446 q77 q453) rfl rfl rfl dmV_X4_strikes ⟨Nat.le_of_ble_eq_true rfl, Nat.le_of_ble_eq_true rfl⟩)⟩
    · exact ⟨_, _, _, yX4_strikes, _, _, _, 15, 316, rfl, kX4_strikes hex h, Or.inr (Or.inl ⟨_, _, va_cwU 1 X.2.2.2.2.1 (lw_U q580 q447 q448 q445 q77 q453) rfl rfl rfl rfl dmU_X4_strikes1 ⟨Nat.le_of_ble_eq_true rfl, Nat.le_of_ble_eq_true rfl⟩⟩)⟩
    · exact ⟨_, _, _, yX4_strikes, _, _, _, 15, 316, rfl, kX4_strikes hex h, Or.inr (Or.inl ⟨_, _, va_cwU 1 X.2.2.2.2.1 (lw_U q580 q447 q450 q445 q77 q453) rfl rfl rfl rfl dmU_X4_strikes1 ⟨Nat.le_of_ble_eq_true rfl, Nat.le_of_ble_eq_true rfl⟩⟩)⟩
    · exact ⟨_, _, _, yX4_strikes, _, _, _, 15, 316, rfl, kX4_strikes hex h, Or.inr (Or.inl ⟨_, _, va_cwU 1 X.2.2.2.2.1 (lw_U q580 q447 q451 q445 q77 q453) rfl rfl rfl rfl dmU_X4_strikes1 ⟨Nat.le_of_ble_eq_true rfl, Nat.le_of_ble_eq_true rfl⟩⟩)⟩
    · exact ⟨_, _, _, yX4_strikes, _, _, _, 15, 316, rfl, kX4_strikes hex h, Or.inr (Or.inl ⟨_, _, va_cwU 1 X.2.2.2.2.1 (lw_U q580 q447 q452 q445 q77 q453) rfl rfl rfl rfl dmU_X4_strikes1 ⟨Nat.le_of_ble_eq_true rfl, Nat.le_of_ble_eq_true rfl⟩⟩)⟩
    · exact ⟨_, _, _, yX4_strikes, _, _, _, 15, 316, rfl, kX4_strikes hex h, Or.inr (Or.inl ⟨_, _, va_cwU 1 X.2.2.2.2.1 (lw_U q580 q447 q449 q445 q77 q453) rfl rfl rfl rfl dmU_X4_strikes1 ⟨Nat.le_of_ble_eq_true rfl, Nat.le_of_ble_eq_true rfl⟩⟩)⟩
  refine g_i2b (pc := 13) X dX1_moves_13 ?_
  refine cg_bast (pc := 14) X dX1_moves_14 (fun t10 => ?_)
  refine g_aload_n (pc := 15) X 1 dX1_moves_15 rfl rfl ?_
  refine g_aload_n (pc := 16) X 0 dX1_moves_16 rfl rfl ?_
  refine g_bD_i (pc := 17) X (cs := [1]) (As := []) (rest := [.ref h1]) (b := h0) (n := 0) dX1_moves_17 rfl rfl (Nat.le_of_ble_eq_true rfl) (fun fl13 ci14 fs15 hs16 hci17 r u h => ?_) (fun r11 t12 => ?_)
  · obtain rfl := List.mem_singleton.mp hci17
    exact ⟨_, _, _, yX1_home, _, _, _, 0, 0, rfl, kX1_home hex h, Or.inl (cwV 0 X.2.2.2.2.1 (lw_V q581 q468 q469 q71 q470) rfl rfl rfl dmV_X1_home ⟨Nat.le_of_ble_eq_true rfl, Nat.le_of_ble_eq_true rfl⟩)⟩
  refine g_aload_n (pc := 20) X 1 dX1_moves_20 rfl rfl ?_
  refine cg_getI (pc := 21) X fo_X1_89 dX1_moves_21 (fun v18 => ?_)
  refine g_aload_n (pc := 24) X 1 dX1_moves_24 rfl rfl ?_
  refine g_aload_n (pc := 25) X 0 dX1_moves_25 rfl rfl ?_
  refine g_bD_i (pc := 26) X (cs := [4, 5, 6, 7, 8, 9]) (As := [.ref h0]) (rest := [.int v18, .int r11, .ref h1]) (b := h1) (n := 1) dX1_moves_26 rfl rfl (Nat.le_of_ble_eq_true rfl) (fun fl21 ci22 fs23 hs24 hci25 r u h => ?_) (fun r19 t20 => ?_)
  · simp only [List.mem_cons, List.not_mem_nil, or_false] at hci25
    rcases hci25 with rfl | rfl | rfl | rfl | rfl | rfl
    · exact ⟨_, _, _, yX4_far, _, _, _, 0, 0, rfl, kX4_far hex (by rw [fv_X4_far_4 hs24] at h; exact h), Or.inl (cwV 1 X.2.2.2.2.1 (lw_V q582 q583 q584 q77 q596) rfl rfl rfl dmV_X4_far ⟨Nat.le_of_ble_eq_true rfl, Nat.le_of_ble_eq_true rfl⟩)⟩
    · exact ⟨_, _, _, yX5_far, _, _, _, 1, 21, rfl, kX5_far hex (by rw [fv_X4_far_5 hs24] at h; exact h), Or.inr (Or.inl ⟨_, _, va_cwO 1 X.2.2.2.2.1 (lw_O q582 q585 q583 q586 q587 q78 q588) rfl rfl rfl q596 dmU_X4_far1 ⟨Nat.le_of_ble_eq_true rfl, Nat.le_of_ble_eq_true rfl⟩⟩)⟩
    · exact ⟨_, _, _, yX4_far, _, _, _, 0, 0, rfl, kX4_far hex (by rw [fv_X4_far_6 hs24] at h; exact h), Or.inr (Or.inl ⟨_, _, va_cwU 1 X.2.2.2.2.1 (lw_U q582 q585 q593 q583 q77 q596) rfl rfl rfl rfl dmU_X4_far1 ⟨Nat.le_of_ble_eq_true rfl, Nat.le_of_ble_eq_true rfl⟩⟩)⟩
    · exact ⟨_, _, _, yX4_far, _, _, _, 0, 0, rfl, kX4_far hex (by rw [fv_X4_far_7 hs24] at h; exact h), Or.inr (Or.inl ⟨_, _, va_cwU 1 X.2.2.2.2.1 (lw_U q582 q585 q594 q583 q77 q596) rfl rfl rfl rfl dmU_X4_far1 ⟨Nat.le_of_ble_eq_true rfl, Nat.le_of_ble_eq_true rfl⟩⟩)⟩
    · exact ⟨_, _, _, yX4_far, _, _, _, 0, 0, rfl, kX4_far hex (by rw [fv_X4_far_8 hs24] at h; exact h), Or.inr (Or.inl ⟨_, _, va_cwU 1 X.2.2.2.2.1 (lw_U q582 q585 q595 q583 q77 q596) rfl rfl rfl rfl dmU_X4_far1 ⟨Nat.le_of_ble_eq_true rfl, Nat.le_of_ble_eq_true rfl⟩⟩)⟩
    · exact ⟨_, _, _, yX4_far, _, _, _, 0, 0, rfl, kX4_far hex (by rw [fv_X4_far_9 hs24] at h; exact h), Or.inr (Or.inl ⟨_, _, va_cwU 1 X.2.2.2.2.1 (lw_U q582 q585 q592 q583 q77 q596) rfl rfl rfl rfl dmU_X4_far1 ⟨Nat.le_of_ble_eq_true rfl, Nat.le_of_ble_eq_true rfl⟩⟩)⟩
  refine g_iadd (pc := 29) X dX1_moves_29 ?_
  refine g_bS_i (pc := 30) X (y := yJ4_min) (As := [.int r11, .int (v18 + r19)]) (rest := [.ref h1]) (fr' := 0) (lo' := 0) (fun _ => va_cwS 2 X.2.2.2.2.1 (lw_S q597 q324 q84 q325) rfl rfl rfl dmS_J4_min ⟨Nat.le_of_ble_eq_true rfl, Nat.le_of_ble_eq_true rfl⟩) dX1_moves_30 rfl rfl (Nat.le_of_ble_eq_true rfl) (fun r u h => kJ4_min hex h) (fun r26 t27 => ?_)
  refine cg_put (pc := 33) X fp_X1_89 dX1_moves_33 (fun h => by cases h) rfl rfl (fun t28 => ?_)
  refine g_aload_n (pc := 36) X 0 dX1_moves_36 rfl rfl ?_
  refine g_aload_n (pc := 37) X 1 dX1_moves_37 rfl rfl ?_
  refine cg_getI (pc := 38) X fo_X1_89 dX1_moves_38 (fun v29 => ?_)
  refine d_bV_i (pc := 41) X (C := "LameClocks$Race") (owner := "LameClocks$Street") (x := (⟨"LameClocks$Race", "isHome", "(I)Z"⟩ : MethodName)) (y := (⟨"LameClocks$Street", "isHome", "(I)Z"⟩ : MethodName)) (As := [.int v29]) (rest := []) (b := h0) (n := 1) (fr' := 1) (lo' := 20) (ci := 1) ⟨_, _, rfl⟩ dX1_moves_41 rfl rfl (Nat.le_of_ble_eq_true rfl) (plainFor_of_name (by decide)) q603 ⟨Nat.le_of_ble_eq_true rfl, Nat.le_of_ble_eq_true rfl⟩ q601 dk_LameClocks_Race_111 ds_LameClocks_Race_isHome dl_LameClocks_Race_isHome rfl ⟨by decide, by decide⟩ dn_LameClocks_Race_isHome (fun r u h => kwX21_isHome hex h) (fun r30 t31 => ?_)
  refine g_if_eq (pc := 44) X 57 dX1_moves_44 (by decide) ?_ ?_
  · exact g_lv (pc := 57) (lv' := [(0, .ref h0), (1, .ref h1)]) [0, 1] rfl (wX1_moves_57 hex X hr h0 h1 t31)
  · refine g_aload_n (pc := 47) X 1 dX1_moves_47 rfl rfl ?_
    refine g_aload_n (pc := 48) X 0 dX1_moves_48 rfl rfl ?_
    refine cg_getI (pc := 49) X fo_X1_41 dX1_moves_49 (fun v32 => ?_)
    refine g_iconst (pc := 52) X 1 dX1_moves_52 rfl ?_
    refine g_iadd (pc := 53) X dX1_moves_53 ?_
    refine cg_put (pc := 54) X fp_X1_92 dX1_moves_54 (fun h => by cases h) rfl rfl (fun t33 => ?_)
    exact g_lv (pc := 57) (lv' := [(0, .ref h0), (1, .ref h1)]) [0, 1] rfl (wX1_moves_57 hex X hr h0 h1 t33)
theorem kX1_moves {ex : Nat → Option Nat} {z : Nat} {h0 : Nat} {h1 : Nat} {σ : Sg} {r : Unit} {u : St} (hex : ex = Γ.2.2.2.2) (h : fX1_moves ex z h0 h1 (σ, 0, 0) = some (r, u)) : g_C Γ l yX1_moves cX1_moves 2 none 17 358 [.ref h0, .ref h1] σ z v_v r (g_ι z u) :=
  g_met (ι := g_ι z) (t := (σ, 0, 0)) [.ref h0, .ref h1] (by decide) (Nat.le_of_ble_eq_true rfl) h rfl (fun p e s m args below meth c X hr hn => wX1_moves hex X hr h0 h1 (σ, 0, 0))
end CP
abbrev cX0_struck : ByteArray := prog_1_method_46_code
def yX0_struck : MethodName := ⟨RX0, "struck", "(III)I"⟩
def dkwX0_struck_5 : List UInt8 := [21, 4, 154, 0, 8, 16, 252, 167, 0, 15, 29, 4, 160, 0, 8, 21, 5, 167, 0, 5, 21, 6, 172]
abbrev dktX0_struck_5 : List UInt8 := dkwX0_struck_5 ++ []
def dkwX0_struck_4 : List UInt8 := [54, 5, 21, 6, 21, 7, 126, 54, 6, 132, 7, 1, 167, 255, 199, 29, 154, 0, 8, 21, 4, 167, 0, 25]
abbrev dktX0_struck_4 : List UInt8 := dkwX0_struck_4 ++ dktX0_struck_5
def dkwX0_struck_3 : List UInt8 := [159, 0, 6, 167, 0, 29, 132, 4, 1, 21, 5, 16, 252, 160, 0, 8, 21, 7, 167, 0, 5, 21, 5]
abbrev dktX0_struck_3 : List UInt8 := dkwX0_struck_3 ++ dktX0_struck_4
def dkwX0_struck_2 : List UInt8 := [21, 7, 27, 163, 0, 57, 21, 7, 27, 2, 130, 126, 154, 0, 42, 42, 21, 7, 182, 1, 24, 28]
abbrev dktX0_struck_2 : List UInt8 := dkwX0_struck_2 ++ dktX0_struck_3
def dkwX0_struck_1 : List UInt8 := [20, 1, 22, 184, 0, 48, 154, 0, 5, 2, 172, 3, 54, 4, 16, 252, 54, 5, 27, 54, 6, 3, 54, 7]
abbrev dktX0_struck_1 : List UInt8 := dkwX0_struck_1 ++ dktX0_struck_2
def dkwX0_struck_0 : List UInt8 := [42, 27, 182, 1, 17, 153, 0, 27, 28, 133, 10, 20, 1, 20, 184, 0, 48, 153, 0, 15, 29, 133, 9]
abbrev dktX0_struck_0 : List UInt8 := dkwX0_struck_0 ++ dktX0_struck_1
theorem dksX0_struck_0 : cX0_struck.data.toList.drop 0 = dktX0_struck_0 := by decide +kernel
theorem dksX0_struck_1 : cX0_struck.data.toList.drop 23 = dktX0_struck_1 := dk_seg dksX0_struck_0 23 rfl rfl
theorem dksX0_struck_2 : cX0_struck.data.toList.drop 47 = dktX0_struck_2 := dk_seg dksX0_struck_1 24 rfl rfl
theorem dksX0_struck_3 : cX0_struck.data.toList.drop 69 = dktX0_struck_3 := dk_seg dksX0_struck_2 22 rfl rfl
theorem dksX0_struck_4 : cX0_struck.data.toList.drop 92 = dktX0_struck_4 := dk_seg dksX0_struck_3 23 rfl rfl
theorem dksX0_struck_5 : cX0_struck.data.toList.drop 116 = dktX0_struck_5 := dk_seg dksX0_struck_4 24 rfl rfl
theorem dX0_struck_0 : decode cX0_struck 0 = .ok (.aload_n 0, 1) := dk_42 (dk_at dksX0_struck_0 0 rfl rfl)
theorem dX0_struck_1 : decode cX0_struck 1 = .ok (.iload_n 1, 1) := dk_27 (dk_at dksX0_struck_0 1 rfl rfl)
theorem dX0_struck_2 : decode cX0_struck 2 = .ok (.invokevirtual 273, 3) := dk_182 1 17 (dk_at dksX0_struck_0 2 rfl rfl)
theorem dX0_struck_5 : decode cX0_struck 5 = .ok (.ifCond .eq 27, 3) := dk_153 0 27 (dk_at dksX0_struck_0 5 rfl rfl)
theorem dX0_struck_8 : decode cX0_struck 8 = .ok (.iload_n 2, 1) := dk_28 (dk_at dksX0_struck_0 8 rfl rfl)
theorem dX0_struck_9 : decode cX0_struck 9 = .ok (.i2l, 1) := dk_133 (dk_at dksX0_struck_0 9 rfl rfl)
theorem dX0_struck_10 : decode cX0_struck 10 = .ok (.lconst 1, 1) := dk_10 (dk_at dksX0_struck_0 10 rfl rfl)
theorem dX0_struck_11 : decode cX0_struck 11 = .ok (.ldc2_w 276, 3) := dk_20 1 20 (dk_at dksX0_struck_0 11 rfl rfl)
theorem dX0_struck_14 : decode cX0_struck 14 = .ok (.invokestatic 48, 3) := dk_184 0 48 (dk_at dksX0_struck_0 14 rfl rfl)
theorem dX0_struck_17 : decode cX0_struck 17 = .ok (.ifCond .eq 15, 3) := dk_153 0 15 (dk_at dksX0_struck_0 17 rfl rfl)
theorem dX0_struck_20 : decode cX0_struck 20 = .ok (.iload_n 3, 1) := dk_29 (dk_at dksX0_struck_0 20 rfl rfl)
theorem dX0_struck_21 : decode cX0_struck 21 = .ok (.i2l, 1) := dk_133 (dk_at dksX0_struck_0 21 rfl rfl)
theorem dX0_struck_22 : decode cX0_struck 22 = .ok (.lconst 0, 1) := dk_9 (dk_at dksX0_struck_0 22 rfl rfl)
theorem dX0_struck_23 : decode cX0_struck 23 = .ok (.ldc2_w 278, 3) := dk_20 1 22 (dk_at dksX0_struck_1 0 rfl rfl)
theorem dX0_struck_26 : decode cX0_struck 26 = .ok (.invokestatic 48, 3) := dk_184 0 48 (dk_at dksX0_struck_1 3 rfl rfl)
theorem dX0_struck_29 : decode cX0_struck 29 = .ok (.ifCond .ne 5, 3) := dk_154 0 5 (dk_at dksX0_struck_1 6 rfl rfl)
theorem dX0_struck_32 : decode cX0_struck 32 = .ok (.iconst (-1), 1) := dk_2 (dk_at dksX0_struck_1 9 rfl rfl)
theorem dX0_struck_33 : decode cX0_struck 33 = .ok (.ireturn, 1) := dk_172 (dk_at dksX0_struck_1 10 rfl rfl)
theorem dX0_struck_34 : decode cX0_struck 34 = .ok (.iconst 0, 1) := dk_3 (dk_at dksX0_struck_1 11 rfl rfl)
theorem dX0_struck_35 : decode cX0_struck 35 = .ok (.istore 4, 2) := dk_54 4 (dk_at dksX0_struck_1 12 rfl rfl)
theorem dX0_struck_37 : decode cX0_struck 37 = .ok (.bipush (-4), 2) := dk_16 252 (dk_at dksX0_struck_1 14 rfl rfl)
theorem dX0_struck_39 : decode cX0_struck 39 = .ok (.istore 5, 2) := dk_54 5 (dk_at dksX0_struck_1 16 rfl rfl)
theorem dX0_struck_41 : decode cX0_struck 41 = .ok (.iload_n 1, 1) := dk_27 (dk_at dksX0_struck_1 18 rfl rfl)
theorem dX0_struck_42 : decode cX0_struck 42 = .ok (.istore 6, 2) := dk_54 6 (dk_at dksX0_struck_1 19 rfl rfl)
theorem dX0_struck_44 : decode cX0_struck 44 = .ok (.iconst 0, 1) := dk_3 (dk_at dksX0_struck_1 21 rfl rfl)
theorem dX0_struck_45 : decode cX0_struck 45 = .ok (.istore 7, 2) := dk_54 7 (dk_at dksX0_struck_1 22 rfl rfl)
theorem dX0_struck_47 : decode cX0_struck 47 = .ok (.iload 7, 2) := dk_21 7 (dk_at dksX0_struck_2 0 rfl rfl)
theorem dX0_struck_49 : decode cX0_struck 49 = .ok (.iload_n 1, 1) := dk_27 (dk_at dksX0_struck_2 2 rfl rfl)
theorem dX0_struck_50 : decode cX0_struck 50 = .ok (.if_icmp .gt 57, 3) := dk_163 0 57 (dk_at dksX0_struck_2 3 rfl rfl)
theorem dX0_struck_53 : decode cX0_struck 53 = .ok (.iload 7, 2) := dk_21 7 (dk_at dksX0_struck_2 6 rfl rfl)
theorem dX0_struck_55 : decode cX0_struck 55 = .ok (.iload_n 1, 1) := dk_27 (dk_at dksX0_struck_2 8 rfl rfl)
theorem dX0_struck_56 : decode cX0_struck 56 = .ok (.iconst (-1), 1) := dk_2 (dk_at dksX0_struck_2 9 rfl rfl)
theorem dX0_struck_57 : decode cX0_struck 57 = .ok (.ixor, 1) := dk_130 (dk_at dksX0_struck_2 10 rfl rfl)
theorem dX0_struck_58 : decode cX0_struck 58 = .ok (.iand, 1) := dk_126 (dk_at dksX0_struck_2 11 rfl rfl)
theorem dX0_struck_59 : decode cX0_struck 59 = .ok (.ifCond .ne 42, 3) := dk_154 0 42 (dk_at dksX0_struck_2 12 rfl rfl)
theorem dX0_struck_62 : decode cX0_struck 62 = .ok (.aload_n 0, 1) := dk_42 (dk_at dksX0_struck_2 15 rfl rfl)
theorem dX0_struck_63 : decode cX0_struck 63 = .ok (.iload 7, 2) := dk_21 7 (dk_at dksX0_struck_2 16 rfl rfl)
theorem dX0_struck_65 : decode cX0_struck 65 = .ok (.invokevirtual 280, 3) := dk_182 1 24 (dk_at dksX0_struck_2 18 rfl rfl)
theorem dX0_struck_68 : decode cX0_struck 68 = .ok (.iload_n 2, 1) := dk_28 (dk_at dksX0_struck_2 21 rfl rfl)
theorem dX0_struck_69 : decode cX0_struck 69 = .ok (.if_icmp .eq 6, 3) := dk_159 0 6 (dk_at dksX0_struck_3 0 rfl rfl)
theorem dX0_struck_72 : decode cX0_struck 72 = .ok (.goto 29, 3) := dk_167 0 29 (dk_at dksX0_struck_3 3 rfl rfl)
theorem dX0_struck_75 : decode cX0_struck 75 = .ok (.iinc 4 1, 3) := dk_132 4 1 (dk_at dksX0_struck_3 6 rfl rfl)
theorem dX0_struck_78 : decode cX0_struck 78 = .ok (.iload 5, 2) := dk_21 5 (dk_at dksX0_struck_3 9 rfl rfl)
theorem dX0_struck_80 : decode cX0_struck 80 = .ok (.bipush (-4), 2) := dk_16 252 (dk_at dksX0_struck_3 11 rfl rfl)
theorem dX0_struck_82 : decode cX0_struck 82 = .ok (.if_icmp .ne 8, 3) := dk_160 0 8 (dk_at dksX0_struck_3 13 rfl rfl)
theorem dX0_struck_85 : decode cX0_struck 85 = .ok (.iload 7, 2) := dk_21 7 (dk_at dksX0_struck_3 16 rfl rfl)
theorem dX0_struck_87 : decode cX0_struck 87 = .ok (.goto 5, 3) := dk_167 0 5 (dk_at dksX0_struck_3 18 rfl rfl)
theorem dX0_struck_90 : decode cX0_struck 90 = .ok (.iload 5, 2) := dk_21 5 (dk_at dksX0_struck_3 21 rfl rfl)
theorem dX0_struck_92 : decode cX0_struck 92 = .ok (.istore 5, 2) := dk_54 5 (dk_at dksX0_struck_4 0 rfl rfl)
theorem dX0_struck_94 : decode cX0_struck 94 = .ok (.iload 6, 2) := dk_21 6 (dk_at dksX0_struck_4 2 rfl rfl)
theorem dX0_struck_96 : decode cX0_struck 96 = .ok (.iload 7, 2) := dk_21 7 (dk_at dksX0_struck_4 4 rfl rfl)
theorem dX0_struck_98 : decode cX0_struck 98 = .ok (.iand, 1) := dk_126 (dk_at dksX0_struck_4 6 rfl rfl)
theorem dX0_struck_99 : decode cX0_struck 99 = .ok (.istore 6, 2) := dk_54 6 (dk_at dksX0_struck_4 7 rfl rfl)
theorem dX0_struck_101 : decode cX0_struck 101 = .ok (.iinc 7 1, 3) := dk_132 7 1 (dk_at dksX0_struck_4 9 rfl rfl)
theorem dX0_struck_104 : decode cX0_struck 104 = .ok (.goto (-57), 3) := dk_167 255 199 (dk_at dksX0_struck_4 12 rfl rfl)
theorem dX0_struck_107 : decode cX0_struck 107 = .ok (.iload_n 3, 1) := dk_29 (dk_at dksX0_struck_4 15 rfl rfl)
theorem dX0_struck_108 : decode cX0_struck 108 = .ok (.ifCond .ne 8, 3) := dk_154 0 8 (dk_at dksX0_struck_4 16 rfl rfl)
theorem dX0_struck_111 : decode cX0_struck 111 = .ok (.iload 4, 2) := dk_21 4 (dk_at dksX0_struck_4 19 rfl rfl)
theorem dX0_struck_113 : decode cX0_struck 113 = .ok (.goto 25, 3) := dk_167 0 25 (dk_at dksX0_struck_4 21 rfl rfl)
theorem dX0_struck_116 : decode cX0_struck 116 = .ok (.iload 4, 2) := dk_21 4 (dk_at dksX0_struck_5 0 rfl rfl)
theorem dX0_struck_118 : decode cX0_struck 118 = .ok (.ifCond .ne 8, 3) := dk_154 0 8 (dk_at dksX0_struck_5 2 rfl rfl)
theorem dX0_struck_121 : decode cX0_struck 121 = .ok (.bipush (-4), 2) := dk_16 252 (dk_at dksX0_struck_5 5 rfl rfl)
theorem dX0_struck_123 : decode cX0_struck 123 = .ok (.goto 15, 3) := dk_167 0 15 (dk_at dksX0_struck_5 7 rfl rfl)
theorem dX0_struck_126 : decode cX0_struck 126 = .ok (.iload_n 3, 1) := dk_29 (dk_at dksX0_struck_5 10 rfl rfl)
theorem dX0_struck_127 : decode cX0_struck 127 = .ok (.iconst 1, 1) := dk_4 (dk_at dksX0_struck_5 11 rfl rfl)
theorem dX0_struck_128 : decode cX0_struck 128 = .ok (.if_icmp .ne 8, 3) := dk_160 0 8 (dk_at dksX0_struck_5 12 rfl rfl)
theorem dX0_struck_131 : decode cX0_struck 131 = .ok (.iload 5, 2) := dk_21 5 (dk_at dksX0_struck_5 15 rfl rfl)
theorem dX0_struck_133 : decode cX0_struck 133 = .ok (.goto 5, 3) := dk_167 0 5 (dk_at dksX0_struck_5 17 rfl rfl)
theorem dX0_struck_136 : decode cX0_struck 136 = .ok (.iload 6, 2) := dk_21 6 (dk_at dksX0_struck_5 20 rfl rfl)
theorem dX0_struck_138 : decode cX0_struck 138 = .ok (.ireturn, 1) := dk_172 (dk_at dksX0_struck_5 22 rfl rfl)
theorem dmV_X0_strokesOf : yX0_strokesOf.cls = RX0 ∧ yX0_strokesOf.cls ≠ "java/lang/invoke/MethodHandle" ∧ yX0_strokesOf.cls ≠ "java/lang/invoke/VarHandle" ∧ (parseMethodDescriptor yX0_strokesOf.desc).map (fun d => d.parameters.length) = some 1 := by decide +kernel
theorem dmV_X0_areClocks : yX0_areClocks.cls = RX0 ∧ yX0_areClocks.cls ≠ "java/lang/invoke/MethodHandle" ∧ yX0_areClocks.cls ≠ "java/lang/invoke/VarHandle" ∧ (parseMethodDescriptor yX0_areClocks.desc).map (fun d => d.parameters.length) = some 1 := by decide +kernel
section CP
variable {Γ : Gc} {p : Program} {l : Launch} {e : Env} {s : State} {m : MethodId} {args : Array Value} {below : List Frame} {meth : Method} {c : Code} {ex : Nat → Option Nat} {z : Nat} {tF : St}
noncomputable def fX0_struck_101 (ex : Nat → Option Nat) (z : Nat) (kc47 : Nat → Int32 → Int32 → Int32 → Int32 → Int32 → Int32 → Int32 → St → Option (Int32 × St)) (h0 : Nat) (x1 : Int32) (x2 : Int32) (x3 : Int32) (x4 : Int32) (x5 : Int32) (x6 : Int32) (x7 : Int32) (t : St) : Option (Int32 × St) := kc47 h0 x1 x2 x3 x4 x5 x6 (x7 + 1) t
set_option maxHeartbeats 4000000 in
theorem wX0_struck_101 {rF : Int32} (hex : ex = Γ.2.2.2.2) (X : g_X Γ p s m args meth c cX0_struck 8 RX0) (hr : meth.sig.returnType = (some .int)) {kc47 : Nat → Int32 → Int32 → Int32 → Int32 → Int32 → Int32 → Int32 → St → Option (Int32 × St)} (hk47 : ∀ (h0 : Nat) (x1 : Int32) (x2 : Int32) (x3 : Int32) (x4 : Int32) (x5 : Int32) (x6 : Int32) (x7 : Int32) (t : St), Wf Γ p l e 18 381 s m args below meth c 8 (g_ι z) v_i rF tF 47 [(0, .ref h0), (1, .int x1), (2, .int x2), (3, .int x3), (4, .int x4), (5, .int x5), (6, .int x6), (7, .int x7)] [] t (kc47 h0 x1 x2 x3 x4 x5 x6 x7 t)) (h0 : Nat) (x1 : Int32) (x2 : Int32) (x3 : Int32) (x4 : Int32) (x5 : Int32) (x6 : Int32) (x7 : Int32) (t : St) : Wf Γ p l e 18 381 s m args below meth c 8 (g_ι z) v_i rF tF 101 [(0, .ref h0), (1, .int x1), (2, .int x2), (3, .int x3), (4, .int x4), (5, .int x5), (6, .int x6), (7, .int x7)] [] t (fX0_struck_101 ex z kc47 h0 x1 x2 x3 x4 x5 x6 x7 t) := by
  unfold fX0_struck_101
  refine g_iinc (pc := 101) X 1 7 (lv' := [(7, .int (x7 + 1)), (0, .ref h0), (1, .int x1), (2, .int x2), (3, .int x3), (4, .int x4), (5, .int x5), (6, .int x6)]) dX0_struck_101 rfl rfl (by decide) rfl ?_
  refine g_goto (pc := 104) X 47 dX0_struck_104 (by decide) ?_
  exact g_lv (pc := 47) (lv' := [(0, .ref h0), (1, .int x1), (2, .int x2), (3, .int x3), (4, .int x4), (5, .int x5), (6, .int x6), (7, .int (x7 + 1))]) [1, 2, 3, 4, 5, 6, 7, 0] rfl (hk47 h0 x1 x2 x3 x4 x5 x6 (x7 + 1) t)
noncomputable def fX0_struck_92 (ex : Nat → Option Nat) (z : Nat) (kc47 : Nat → Int32 → Int32 → Int32 → Int32 → Int32 → Int32 → Int32 → St → Option (Int32 × St)) (h0 : Nat) (x1 : Int32) (x2 : Int32) (x3 : Int32) (x4 : Int32) (x6 : Int32) (x7 : Int32) (s0 : Int32) (t : St) : Option (Int32 × St) := lt (x6 &&& x7) fun y1 => fX0_struck_101 ex z kc47 h0 x1 x2 x3 x4 s0 y1 x7 t
set_option maxHeartbeats 4000000 in
theorem wX0_struck_92 {rF : Int32} (hex : ex = Γ.2.2.2.2) (X : g_X Γ p s m args meth c cX0_struck 8 RX0) (hr : meth.sig.returnType = (some .int)) {kc47 : Nat → Int32 → Int32 → Int32 → Int32 → Int32 → Int32 → Int32 → St → Option (Int32 × St)} (hk47 : ∀ (h0 : Nat) (x1 : Int32) (x2 : Int32) (x3 : Int32) (x4 : Int32) (x5 : Int32) (x6 : Int32) (x7 : Int32) (t : St), Wf Γ p l e 18 381 s m args below meth c 8 (g_ι z) v_i rF tF 47 [(0, .ref h0), (1, .int x1), (2, .int x2), (3, .int x3), (4, .int x4), (5, .int x5), (6, .int x6), (7, .int x7)] [] t (kc47 h0 x1 x2 x3 x4 x5 x6 x7 t)) (h0 : Nat) (x1 : Int32) (x2 : Int32) (x3 : Int32) (x4 : Int32) (x6 : Int32) (x7 : Int32) (s0 : Int32) (t : St) : Wf Γ p l e 18 381 s m args below meth c 8 (g_ι z) v_i rF tF 92 [(0, .ref h0), (1, .int x1), (2, .int x2), (3, .int x3), (4, .int x4), (6, .int x6), (7, .int x7)] [.int s0] t (fX0_struck_92 ex z kc47 h0 x1 x2 x3 x4 x6 x7 s0 t) := by
  unfold fX0_struck_92
  refine g_istore (pc := 92) X (lv' := [(5, .int s0), (0, .ref h0), (1, .int x1), (2, .int x2), (3, .int x3), (4, .int x4), (6, .int x6), (7, .int x7)]) dX0_struck_92 (by decide) rfl ?_
  refine g_iload (pc := 94) X 6 dX0_struck_94 rfl ?_
  refine g_iload (pc := 96) X 7 dX0_struck_96 rfl ?_
  refine g_iand (pc := 98) X dX0_struck_98 ?_
  refine g_lti (pc := 99) (fun y1 => ?_)
  refine g_istore (pc := 99) X (lv' := [(6, .int y1), (5, .int s0), (0, .ref h0), (1, .int x1), (2, .int x2), (3, .int x3), (4, .int x4), (7, .int x7)]) dX0_struck_99 (by decide) rfl ?_
  exact g_lv (pc := 101) (lv' := [(0, .ref h0), (1, .int x1), (2, .int x2), (3, .int x3), (4, .int x4), (5, .int s0), (6, .int y1), (7, .int x7)]) [2, 3, 4, 5, 6, 1, 0, 7] rfl (wX0_struck_101 hex X hr hk47 h0 x1 x2 x3 x4 s0 y1 x7 t)
noncomputable def fX0_struck_47 (ex : Nat → Option Nat) (z : Nat) : Nat → Nat → Int32 → Int32 → Int32 → Int32 → Int32 → Int32 → Int32 → St → Option (Int32 × St)
  | 0, _, _, _, _, _, _, _, _, _ => none
  | n + 1, h0, x1, x2, x3, x4, x5, x6, x7, t => if x1 < x7 then if x3 = 0 then some (x4, t) else if x4 = 0 then some ((-4), t) else if x3 = 1 then some (x5, t) else some (x6, t) else if x7 &&& (x1 ^^^ (-1)) = 0 then ccast [0] t h0 (gb (fX0_strokesOf ex (z + t.2.1) h0 x7 (t.1, 0, 0)) t fun r1 t2 => if r1 = x2 then if x5 = (-4) then fX0_struck_92 ex z (fun a0 a1 a2 a3 a4 a5 a6 a7 a8 => fX0_struck_47 ex z n a0 a1 a2 a3 a4 a5 a6 a7 a8) h0 x1 x2 x3 (x4 + 1) x6 x7 x7 t2 else fX0_struck_92 ex z (fun a0 a1 a2 a3 a4 a5 a6 a7 a8 => fX0_struck_47 ex z n a0 a1 a2 a3 a4 a5 a6 a7 a8) h0 x1 x2 x3 (x4 + 1) x6 x7 x5 t2 else fX0_struck_101 ex z (fun a0 a1 a2 a3 a4 a5 a6 a7 a8 => fX0_struck_47 ex z n a0 a1 a2 a3 a4 a5 a6 a7 a8) h0 x1 x2 x3 x4 x5 x6 x7 t2) else fX0_struck_101 ex z (fun a0 a1 a2 a3 a4 a5 a6 a7 a8 => fX0_struck_47 ex z n a0 a1 a2 a3 a4 a5 a6 a7 a8) h0 x1 x2 x3 x4 x5 x6 x7 t
set_option maxHeartbeats 4000000 in
theorem wX0_struck_47 {rF : Int32} (hex : ex = Γ.2.2.2.2) (X : g_X Γ p s m args meth c cX0_struck 8 RX0) (hr : meth.sig.returnType = (some .int)) (n : Nat) : ∀ (h0 : Nat) (x1 : Int32) (x2 : Int32) (x3 : Int32) (x4 : Int32) (x5 : Int32) (x6 : Int32) (x7 : Int32) (t : St), Wf Γ p l e 18 381 s m args below meth c 8 (g_ι z) v_i rF tF 47 [(0, .ref h0), (1, .int x1), (2, .int x2), (3, .int x3), (4, .int x4), (5, .int x5), (6, .int x6), (7, .int x7)] [] t (fX0_struck_47 ex z n h0 x1 x2 x3 x4 x5 x6 x7 t) := by
  induction n with
  | zero => intro h0 x1 x2 x3 x4 x5 x6 x7 t; exact g_none
  | succ n ih =>
    intro h0 x1 x2 x3 x4 x5 x6 x7 t
    rw [fX0_struck_47]
    refine g_iload (pc := 47) X 7 dX0_struck_47 rfl ?_
    refine g_iload_n (pc := 49) X 1 dX0_struck_49 rfl rfl ?_
    refine g_icmp_gt (pc := 50) X 107 dX0_struck_50 (by decide) ?_ ?_
    · refine g_iload_n (pc := 107) X 3 dX0_struck_107 rfl rfl ?_
      refine g_if_ne (pc := 108) X 116 dX0_struck_108 (by decide) ?_ ?_
      · refine g_iload (pc := 116) X 4 dX0_struck_116 rfl ?_
        refine g_if_ne (pc := 118) X 126 dX0_struck_118 (by decide) ?_ ?_
        · refine g_iload_n (pc := 126) X 3 dX0_struck_126 rfl rfl ?_
          refine g_iconst (pc := 127) X 1 dX0_struck_127 rfl ?_
          refine g_icmp_ne (pc := 128) X 136 dX0_struck_128 (by decide) ?_ ?_
          · refine g_iload (pc := 136) X 6 dX0_struck_136 rfl ?_
            exact g_iret (pc := 138) X hr dX0_struck_138
          · refine g_iload (pc := 131) X 5 dX0_struck_131 rfl ?_
            refine g_goto (pc := 133) X 138 dX0_struck_133 (by decide) ?_
            exact g_iret (pc := 138) X hr dX0_struck_138
        · refine g_bipush (pc := 121) X (-4) dX0_struck_121 rfl ?_
          refine g_goto (pc := 123) X 138 dX0_struck_123 (by decide) ?_
          exact g_iret (pc := 138) X hr dX0_struck_138
      · refine g_iload (pc := 111) X 4 dX0_struck_111 rfl ?_
        refine g_goto (pc := 113) X 138 dX0_struck_113 (by decide) ?_
        exact g_iret (pc := 138) X hr dX0_struck_138
    · refine g_iload (pc := 53) X 7 dX0_struck_53 rfl ?_
      refine g_iload_n (pc := 55) X 1 dX0_struck_55 rfl rfl ?_
      refine g_iconst (pc := 56) X (-1) dX0_struck_56 rfl ?_
      refine g_ixor (pc := 57) X dX0_struck_57 ?_
      refine g_iand (pc := 58) X dX0_struck_58 ?_
      refine g_if_ne (pc := 59) X 101 dX0_struck_59 (by decide) ?_ ?_
      · exact g_lv (pc := 101) (lv' := [(0, .ref h0), (1, .int x1), (2, .int x2), (3, .int x3), (4, .int x4), (5, .int x5), (6, .int x6), (7, .int x7)]) [0, 1, 2, 3, 4, 5, 6, 7] rfl (wX0_struck_101 hex X hr (fun a0 a1 a2 a3 a4 a5 a6 a7 a8 => ih a0 a1 a2 a3 a4 a5 a6 a7 a8) h0 x1 x2 x3 x4 x5 x6 x7 t)
      · refine g_aload_n (pc := 62) X 0 dX0_struck_62 rfl rfl ?_
        refine g_iload (pc := 63) X 7 dX0_struck_63 rfl ?_
        refine g_bD_i (pc := 65) X (cs := [0]) (As := [.int x7]) (rest := []) (b := h0) (n := 1) dX0_struck_65 rfl rfl (Nat.le_of_ble_eq_true rfl) (fun fl3 ci4 fs5 hs6 hci7 r u h => ?_) (fun r1 t2 => ?_)
        · obtain rfl := List.mem_singleton.mp hci7
          exact ⟨_, _, _, yX0_strokesOf, _, _, _, 17, 358, rfl, kX0_strokesOf hex h, Or.inl (cwV 1 X.2.2.2.2.1 (lw_V q939 q941 qs14 q70 q942) rfl rfl rfl dmV_X0_strokesOf ⟨Nat.le_of_ble_eq_true rfl, Nat.le_of_ble_eq_true rfl⟩)⟩
        refine g_iload_n (pc := 68) X 2 dX0_struck_68 rfl rfl ?_
        refine g_icmp_eq (pc := 69) X 75 dX0_struck_69 (by decide) ?_ ?_
        · refine g_iinc (pc := 75) X 1 4 (lv' := [(4, .int (x4 + 1)), (0, .ref h0), (1, .int x1), (2, .int x2), (3, .int x3), (5, .int x5), (6, .int x6), (7, .int x7)]) dX0_struck_75 rfl rfl (by decide) rfl ?_
          refine g_iload (pc := 78) X 5 dX0_struck_78 rfl ?_
          refine g_bipush (pc := 80) X (-4) dX0_struck_80 rfl ?_
          refine g_icmp_ne (pc := 82) X 90 dX0_struck_82 (by decide) ?_ ?_
          · refine g_iload (pc := 90) X 5 dX0_struck_90 rfl ?_
            exact g_lv (pc := 92) (lv' := [(0, .ref h0), (1, .int x1), (2, .int x2), (3, .int x3), (4, .int (x4 + 1)), (6, .int x6), (7, .int x7)]) [1, 2, 3, 4, 0, 6, 7] rfl (wX0_struck_92 hex X hr (fun a0 a1 a2 a3 a4 a5 a6 a7 a8 => ih a0 a1 a2 a3 a4 a5 a6 a7 a8) h0 x1 x2 x3 (x4 + 1) x6 x7 x5 t2)
          · refine g_iload (pc := 85) X 7 dX0_struck_85 rfl ?_
            refine g_goto (pc := 87) X 92 dX0_struck_87 (by decide) ?_
            exact g_lv (pc := 92) (lv' := [(0, .ref h0), (1, .int x1), (2, .int x2), (3, .int x3), (4, .int (x4 + 1)), (6, .int x6), (7, .int x7)]) [1, 2, 3, 4, 0, 6, 7] rfl (wX0_struck_92 hex X hr (fun a0 a1 a2 a3 a4 a5 a6 a7 a8 => ih a0 a1 a2 a3 a4 a5 a6 a7 a8) h0 x1 x2 x3 (x4 + 1) x6 x7 x7 t2)
        · refine g_goto (pc := 72) X 101 dX0_struck_72 (by decide) ?_
          exact g_lv (pc := 101) (lv' := [(0, .ref h0), (1, .int x1), (2, .int x2), (3, .int x3), (4, .int x4), (5, .int x5), (6, .int x6), (7, .int x7)]) [0, 1, 2, 3, 4, 5, 6, 7] rfl (wX0_struck_101 hex X hr (fun a0 a1 a2 a3 a4 a5 a6 a7 a8 => ih a0 a1 a2 a3 a4 a5 a6 a7 a8) h0 x1 x2 x3 x4 x5 x6 x7 t2)
noncomputable def fX0_struck (ex : Nat → Option Nat) (z : Nat) (h0 : Nat) (x1 : Int32) (x2 : Int32) (x3 : Int32) (t : St) : Option (Int32 × St) := ccast [0] t h0 (gb (fX0_areClocks ex (z + t.2.1) h0 x1 (t.1, 0, 0)) t fun r1 t2 => if r1 = 0 then some ((-1), t2) else gb (fX0_in ex (z + t2.2.1) x2.toInt64 1 108 (t2.1, 0, 0)) t2 fun r8 t9 => if r8 = 0 then some ((-1), t9) else gb (fX0_in ex (z + t9.2.1) x3.toInt64 0 2 (t9.1, 0, 0)) t9 fun r10 t11 => if r10 = 0 then some ((-1), t11) else fX0_struck_47 ex z 1000 h0 x1 x2 x3 0 (-4) x1 0 t11)
set_option maxHeartbeats 4000000 in
theorem wX0_struck {rF : Int32} (hex : ex = Γ.2.2.2.2) (X : g_X Γ p s m args meth c cX0_struck 8 RX0) (hr : meth.sig.returnType = (some .int)) (h0 : Nat) (x1 : Int32) (x2 : Int32) (x3 : Int32) (t : St) : Wf Γ p l e 18 381 s m args below meth c 8 (g_ι z) v_i rF tF 0 [(0, .ref h0), (1, .int x1), (2, .int x2), (3, .int x3)] [] t (fX0_struck ex z h0 x1 x2 x3 t) := by
  unfold fX0_struck
  refine g_aload_n (pc := 0) X 0 dX0_struck_0 rfl rfl ?_
  refine g_iload_n (pc := 1) X 1 dX0_struck_1 rfl rfl ?_
  refine g_bD_i (pc := 2) X (cs := [0]) (As := [.int x1]) (rest := []) (b := h0) (n := 1) dX0_struck_2 rfl rfl (Nat.le_of_ble_eq_true rfl) (fun fl3 ci4 fs5 hs6 hci7 r u h => ?_) (fun r1 t2 => ?_)
  · obtain rfl := List.mem_singleton.mp hci7
    exact ⟨_, _, _, yX0_areClocks, _, _, _, 2, 40, rfl, kX0_areClocks hex h, Or.inl (cwV 1 X.2.2.2.2.1 (lw_V q933 q935 qs13 q70 q936) rfl rfl rfl dmV_X0_areClocks ⟨Nat.le_of_ble_eq_true rfl, Nat.le_of_ble_eq_true rfl⟩)⟩
  refine g_if_eq (pc := 5) X 32 dX0_struck_5 (by decide) ?_ ?_
  · refine g_iconst (pc := 32) X (-1) dX0_struck_32 rfl ?_
    exact g_iret (pc := 33) X hr dX0_struck_33
  · refine g_iload_n (pc := 8) X 2 dX0_struck_8 rfl rfl ?_
    refine g_i2l (pc := 9) X dX0_struck_9 ?_
    refine g_lconst (pc := 10) X 1 dX0_struck_10 rfl ?_
    refine g_ldc2 (pc := 11) X 108 dX0_struck_11 q937 ?_
    refine g_bS_i (pc := 14) X (y := yX0_in) (As := [.long x2.toInt64, .long 1, .long 108]) (rest := []) (fr' := 0) (lo' := 0) (fun _ => va_cwS 3 X.2.2.2.2.1 (lw_S q122 q123 q70 q124) rfl rfl rfl dmS_X0_in ⟨Nat.le_of_ble_eq_true rfl, Nat.le_of_ble_eq_true rfl⟩) dX0_struck_14 rfl rfl (Nat.le_of_ble_eq_true rfl) (fun r u h => kX0_in hex h) (fun r8 t9 => ?_)
    refine g_if_eq (pc := 17) X 32 dX0_struck_17 (by decide) ?_ ?_
    · refine g_iconst (pc := 32) X (-1) dX0_struck_32 rfl ?_
      exact g_iret (pc := 33) X hr dX0_struck_33
    · refine g_iload_n (pc := 20) X 3 dX0_struck_20 rfl rfl ?_
      refine g_i2l (pc := 21) X dX0_struck_21 ?_
      refine g_lconst (pc := 22) X 0 dX0_struck_22 rfl ?_
      refine g_ldc2 (pc := 23) X 2 dX0_struck_23 q938 ?_
      refine g_bS_i (pc := 26) X (y := yX0_in) (As := [.long x3.toInt64, .long 0, .long 2]) (rest := []) (fr' := 0) (lo' := 0) (fun _ => va_cwS 3 X.2.2.2.2.1 (lw_S q122 q123 q70 q124) rfl rfl rfl dmS_X0_in ⟨Nat.le_of_ble_eq_true rfl, Nat.le_of_ble_eq_true rfl⟩) dX0_struck_26 rfl rfl (Nat.le_of_ble_eq_true rfl) (fun r u h => kX0_in hex h) (fun r10 t11 => ?_)
      refine g_if_ne (pc := 29) X 34 dX0_struck_29 (by decide) ?_ ?_
      · refine g_iconst (pc := 34) X 0 dX0_struck_34 rfl ?_
        refine g_istore (pc := 35) X (lv' := [(4, .int 0), (0, .ref h0), (1, .int x1), (2, .int x2), (3, .int x3)]) dX0_struck_35 (by decide) rfl ?_
        refine g_bipush (pc := 37) X (-4) dX0_struck_37 rfl ?_
        refine g_istore (pc := 39) X (lv' := [(5, .int (-4)), (4, .int 0), (0, .ref h0), (1, .int x1), (2, .int x2), (3, .int x3)]) dX0_struck_39 (by decide) rfl ?_
        refine g_iload_n (pc := 41) X 3 dX0_struck_41 rfl rfl ?_
        refine g_istore (pc := 42) X (lv' := [(6, .int x1), (5, .int (-4)), (4, .int 0), (0, .ref h0), (1, .int x1), (2, .int x2), (3, .int x3)]) dX0_struck_42 (by decide) rfl ?_
        refine g_iconst (pc := 44) X 0 dX0_struck_44 rfl ?_
        refine g_istore (pc := 45) X (lv' := [(7, .int 0), (6, .int x1), (5, .int (-4)), (4, .int 0), (0, .ref h0), (1, .int x1), (2, .int x2), (3, .int x3)]) dX0_struck_45 (by decide) rfl ?_
        exact g_lv (pc := 47) (lv' := [(0, .ref h0), (1, .int x1), (2, .int x2), (3, .int x3), (4, .int 0), (5, .int (-4)), (6, .int x1), (7, .int 0)]) [4, 5, 6, 7, 3, 2, 1, 0] rfl (wX0_struck_47 hex X hr 1000 h0 x1 x2 x3 0 (-4) x1 0 t11)
      · refine g_iconst (pc := 32) X (-1) dX0_struck_32 rfl ?_
        exact g_iret (pc := 33) X hr dX0_struck_33
theorem kX0_struck {ex : Nat → Option Nat} {z : Nat} {h0 : Nat} {x1 : Int32} {x2 : Int32} {x3 : Int32} {σ : Sg} {r : Int32} {u : St} (hex : ex = Γ.2.2.2.2) (h : fX0_struck ex z h0 x1 x2 x3 (σ, 0, 0) = some (r, u)) : g_C Γ l yX0_struck cX0_struck 8 (some .int) 18 381 [.ref h0, .int x1, .int x2, .int x3] σ z v_i r (g_ι z u) :=
  g_met (ι := g_ι z) (t := (σ, 0, 0)) [.ref h0, .int x1, .int x2, .int x3] (by decide) (Nat.le_of_ble_eq_true rfl) h rfl (fun p e s m args below meth c X hr hn => wX0_struck hex X hr h0 x1 x2 x3 (σ, 0, 0))
end CP
abbrev cX1_goes : ByteArray := prog_12_method_12_code
def yX1_goes : MethodName := ⟨RX1, "goes", "()I"⟩
def dkwX1_goes_4 : List UInt8 := [182, 0, 126, 132, 2, 1, 167, 255, 228, 42, 89, 180, 0, 41, 4, 96, 181, 0, 41, 27, 172]
abbrev dktX1_goes_4 : List UInt8 := dkwX1_goes_4 ++ []
def dkwX1_goes_3 : List UInt8 := [61, 28, 42, 180, 0, 22, 182, 0, 44, 162, 0, 23, 42, 180, 0, 22, 28, 182, 0, 35, 192, 0, 39]
abbrev dktX1_goes_3 : List UInt8 := dkwX1_goes_3 ++ dktX1_goes_4
def dkwX1_goes_2 : List UInt8 := [182, 0, 119, 154, 0, 6, 167, 0, 11, 42, 45, 182, 0, 123, 132, 1, 1, 132, 2, 1, 167, 255, 204, 3]
abbrev dktX1_goes_2 : List UInt8 := dkwX1_goes_2 ++ dktX1_goes_3
def dkwX1_goes_1 : List UInt8 := [162, 0, 47, 42, 180, 0, 22, 28, 182, 0, 35, 192, 0, 39, 78, 45, 182, 0, 85, 154, 0, 22, 45, 42]
abbrev dktX1_goes_1 : List UInt8 := dkwX1_goes_1 ++ dktX1_goes_2
def dkwX1_goes_0 : List UInt8 := [42, 3, 181, 0, 61, 42, 3, 181, 0, 64, 3, 60, 3, 61, 28, 42, 180, 0, 22, 182, 0, 44]
abbrev dktX1_goes_0 : List UInt8 := dkwX1_goes_0 ++ dktX1_goes_1
theorem dksX1_goes_0 : cX1_goes.data.toList.drop 0 = dktX1_goes_0 := by decide +kernel
theorem dksX1_goes_1 : cX1_goes.data.toList.drop 22 = dktX1_goes_1 := dk_seg dksX1_goes_0 22 rfl rfl
theorem dksX1_goes_2 : cX1_goes.data.toList.drop 46 = dktX1_goes_2 := dk_seg dksX1_goes_1 24 rfl rfl
theorem dksX1_goes_3 : cX1_goes.data.toList.drop 70 = dktX1_goes_3 := dk_seg dksX1_goes_2 24 rfl rfl
theorem dksX1_goes_4 : cX1_goes.data.toList.drop 93 = dktX1_goes_4 := dk_seg dksX1_goes_3 23 rfl rfl
theorem dX1_goes_0 : decode cX1_goes 0 = .ok (.aload_n 0, 1) := dk_42 (dk_at dksX1_goes_0 0 rfl rfl)
theorem dX1_goes_1 : decode cX1_goes 1 = .ok (.iconst 0, 1) := dk_3 (dk_at dksX1_goes_0 1 rfl rfl)
theorem dX1_goes_2 : decode cX1_goes 2 = .ok (.putfield 61, 3) := dk_181 0 61 (dk_at dksX1_goes_0 2 rfl rfl)
theorem dX1_goes_5 : decode cX1_goes 5 = .ok (.aload_n 0, 1) := dk_42 (dk_at dksX1_goes_0 5 rfl rfl)
theorem dX1_goes_6 : decode cX1_goes 6 = .ok (.iconst 0, 1) := dk_3 (dk_at dksX1_goes_0 6 rfl rfl)
theorem dX1_goes_7 : decode cX1_goes 7 = .ok (.putfield 64, 3) := dk_181 0 64 (dk_at dksX1_goes_0 7 rfl rfl)
theorem dX1_goes_10 : decode cX1_goes 10 = .ok (.iconst 0, 1) := dk_3 (dk_at dksX1_goes_0 10 rfl rfl)
theorem dX1_goes_11 : decode cX1_goes 11 = .ok (.istore_n 1, 1) := dk_60 (dk_at dksX1_goes_0 11 rfl rfl)
theorem dX1_goes_12 : decode cX1_goes 12 = .ok (.iconst 0, 1) := dk_3 (dk_at dksX1_goes_0 12 rfl rfl)
theorem dX1_goes_13 : decode cX1_goes 13 = .ok (.istore_n 2, 1) := dk_61 (dk_at dksX1_goes_0 13 rfl rfl)
theorem dX1_goes_14 : decode cX1_goes 14 = .ok (.iload_n 2, 1) := dk_28 (dk_at dksX1_goes_0 14 rfl rfl)
theorem dX1_goes_15 : decode cX1_goes 15 = .ok (.aload_n 0, 1) := dk_42 (dk_at dksX1_goes_0 15 rfl rfl)
theorem dX1_goes_16 : decode cX1_goes 16 = .ok (.getfield 22, 3) := dk_180 0 22 (dk_at dksX1_goes_0 16 rfl rfl)
theorem dX1_goes_19 : decode cX1_goes 19 = .ok (.invokevirtual 44, 3) := dk_182 0 44 (dk_at dksX1_goes_0 19 rfl rfl)
theorem dX1_goes_22 : decode cX1_goes 22 = .ok (.if_icmp .ge 47, 3) := dk_162 0 47 (dk_at dksX1_goes_1 0 rfl rfl)
theorem dX1_goes_25 : decode cX1_goes 25 = .ok (.aload_n 0, 1) := dk_42 (dk_at dksX1_goes_1 3 rfl rfl)
theorem dX1_goes_26 : decode cX1_goes 26 = .ok (.getfield 22, 3) := dk_180 0 22 (dk_at dksX1_goes_1 4 rfl rfl)
theorem dX1_goes_29 : decode cX1_goes 29 = .ok (.iload_n 2, 1) := dk_28 (dk_at dksX1_goes_1 7 rfl rfl)
theorem dX1_goes_30 : decode cX1_goes 30 = .ok (.invokevirtual 35, 3) := dk_182 0 35 (dk_at dksX1_goes_1 8 rfl rfl)
theorem dX1_goes_33 : decode cX1_goes 33 = .ok (.checkcast 39, 3) := dk_192 0 39 (dk_at dksX1_goes_1 11 rfl rfl)
theorem dX1_goes_36 : decode cX1_goes 36 = .ok (.astore_n 3, 1) := dk_78 (dk_at dksX1_goes_1 14 rfl rfl)
theorem dX1_goes_37 : decode cX1_goes 37 = .ok (.aload_n 3, 1) := dk_45 (dk_at dksX1_goes_1 15 rfl rfl)
theorem dX1_goes_38 : decode cX1_goes 38 = .ok (.invokevirtual 85, 3) := dk_182 0 85 (dk_at dksX1_goes_1 16 rfl rfl)
theorem dX1_goes_41 : decode cX1_goes 41 = .ok (.ifCond .ne 22, 3) := dk_154 0 22 (dk_at dksX1_goes_1 19 rfl rfl)
theorem dX1_goes_44 : decode cX1_goes 44 = .ok (.aload_n 3, 1) := dk_45 (dk_at dksX1_goes_1 22 rfl rfl)
theorem dX1_goes_45 : decode cX1_goes 45 = .ok (.aload_n 0, 1) := dk_42 (dk_at dksX1_goes_1 23 rfl rfl)
theorem dX1_goes_46 : decode cX1_goes 46 = .ok (.invokevirtual 119, 3) := dk_182 0 119 (dk_at dksX1_goes_2 0 rfl rfl)
theorem dX1_goes_49 : decode cX1_goes 49 = .ok (.ifCond .ne 6, 3) := dk_154 0 6 (dk_at dksX1_goes_2 3 rfl rfl)
theorem dX1_goes_52 : decode cX1_goes 52 = .ok (.goto 11, 3) := dk_167 0 11 (dk_at dksX1_goes_2 6 rfl rfl)
theorem dX1_goes_55 : decode cX1_goes 55 = .ok (.aload_n 0, 1) := dk_42 (dk_at dksX1_goes_2 9 rfl rfl)
theorem dX1_goes_56 : decode cX1_goes 56 = .ok (.aload_n 3, 1) := dk_45 (dk_at dksX1_goes_2 10 rfl rfl)
theorem dX1_goes_57 : decode cX1_goes 57 = .ok (.invokevirtual 123, 3) := dk_182 0 123 (dk_at dksX1_goes_2 11 rfl rfl)
theorem dX1_goes_60 : decode cX1_goes 60 = .ok (.iinc 1 1, 3) := dk_132 1 1 (dk_at dksX1_goes_2 14 rfl rfl)
theorem dX1_goes_63 : decode cX1_goes 63 = .ok (.iinc 2 1, 3) := dk_132 2 1 (dk_at dksX1_goes_2 17 rfl rfl)
theorem dX1_goes_66 : decode cX1_goes 66 = .ok (.goto (-52), 3) := dk_167 255 204 (dk_at dksX1_goes_2 20 rfl rfl)
theorem dX1_goes_69 : decode cX1_goes 69 = .ok (.iconst 0, 1) := dk_3 (dk_at dksX1_goes_2 23 rfl rfl)
theorem dX1_goes_70 : decode cX1_goes 70 = .ok (.istore_n 2, 1) := dk_61 (dk_at dksX1_goes_3 0 rfl rfl)
theorem dX1_goes_71 : decode cX1_goes 71 = .ok (.iload_n 2, 1) := dk_28 (dk_at dksX1_goes_3 1 rfl rfl)
theorem dX1_goes_72 : decode cX1_goes 72 = .ok (.aload_n 0, 1) := dk_42 (dk_at dksX1_goes_3 2 rfl rfl)
theorem dX1_goes_73 : decode cX1_goes 73 = .ok (.getfield 22, 3) := dk_180 0 22 (dk_at dksX1_goes_3 3 rfl rfl)
theorem dX1_goes_76 : decode cX1_goes 76 = .ok (.invokevirtual 44, 3) := dk_182 0 44 (dk_at dksX1_goes_3 6 rfl rfl)
theorem dX1_goes_79 : decode cX1_goes 79 = .ok (.if_icmp .ge 23, 3) := dk_162 0 23 (dk_at dksX1_goes_3 9 rfl rfl)
theorem dX1_goes_82 : decode cX1_goes 82 = .ok (.aload_n 0, 1) := dk_42 (dk_at dksX1_goes_3 12 rfl rfl)
theorem dX1_goes_83 : decode cX1_goes 83 = .ok (.getfield 22, 3) := dk_180 0 22 (dk_at dksX1_goes_3 13 rfl rfl)
theorem dX1_goes_86 : decode cX1_goes 86 = .ok (.iload_n 2, 1) := dk_28 (dk_at dksX1_goes_3 16 rfl rfl)
theorem dX1_goes_87 : decode cX1_goes 87 = .ok (.invokevirtual 35, 3) := dk_182 0 35 (dk_at dksX1_goes_3 17 rfl rfl)
theorem dX1_goes_90 : decode cX1_goes 90 = .ok (.checkcast 39, 3) := dk_192 0 39 (dk_at dksX1_goes_3 20 rfl rfl)
theorem dX1_goes_93 : decode cX1_goes 93 = .ok (.invokevirtual 126, 3) := dk_182 0 126 (dk_at dksX1_goes_4 0 rfl rfl)
theorem dX1_goes_96 : decode cX1_goes 96 = .ok (.iinc 2 1, 3) := dk_132 2 1 (dk_at dksX1_goes_4 3 rfl rfl)
theorem dX1_goes_99 : decode cX1_goes 99 = .ok (.goto (-28), 3) := dk_167 255 228 (dk_at dksX1_goes_4 6 rfl rfl)
theorem dX1_goes_102 : decode cX1_goes 102 = .ok (.aload_n 0, 1) := dk_42 (dk_at dksX1_goes_4 9 rfl rfl)
theorem dX1_goes_103 : decode cX1_goes 103 = .ok (.dup, 1) := dk_89 (dk_at dksX1_goes_4 10 rfl rfl)
theorem dX1_goes_104 : decode cX1_goes 104 = .ok (.getfield 41, 3) := dk_180 0 41 (dk_at dksX1_goes_4 11 rfl rfl)
theorem dX1_goes_107 : decode cX1_goes 107 = .ok (.iconst 1, 1) := dk_4 (dk_at dksX1_goes_4 14 rfl rfl)
theorem dX1_goes_108 : decode cX1_goes 108 = .ok (.iadd, 1) := dk_96 (dk_at dksX1_goes_4 15 rfl rfl)
theorem dX1_goes_109 : decode cX1_goes 109 = .ok (.putfield 41, 3) := dk_181 0 41 (dk_at dksX1_goes_4 16 rfl rfl)
theorem dX1_goes_112 : decode cX1_goes 112 = .ok (.iload_n 1, 1) := dk_27 (dk_at dksX1_goes_4 19 rfl rfl)
theorem dX1_goes_113 : decode cX1_goes 113 = .ok (.ireturn, 1) := dk_172 (dk_at dksX1_goes_4 20 rfl rfl)
theorem dmV_X4_runs : yX4_runs.cls = RX4 ∧ yX4_runs.cls ≠ "java/lang/invoke/MethodHandle" ∧ yX4_runs.cls ≠ "java/lang/invoke/VarHandle" ∧ (parseMethodDescriptor yX4_runs.desc).map (fun d => d.parameters.length) = some 0 := by decide +kernel
theorem dmU_X4_runs0 : "LameClocks$Plain" ≠ "java/lang/invoke/MethodHandle" ∧ "LameClocks$Plain" ≠ "java/lang/invoke/VarHandle" ∧ (parseMethodDescriptor "()V").map (fun d => d.parameters.length) = some 0 := by decide +kernel
theorem dmV_X4_goes : yX4_goes.cls = RX4 ∧ yX4_goes.cls ≠ "java/lang/invoke/MethodHandle" ∧ yX4_goes.cls ≠ "java/lang/invoke/VarHandle" ∧ (parseMethodDescriptor yX4_goes.desc).map (fun d => d.parameters.length) = some 1 := by decide +kernel
theorem dmU_X4_goes1 : "LameClocks$Plain" ≠ "java/lang/invoke/MethodHandle" ∧ "LameClocks$Plain" ≠ "java/lang/invoke/VarHandle" ∧ (parseMethodDescriptor "(LLameClocks$Street;)Z").map (fun d => d.parameters.length) = some 1 := by decide +kernel
theorem dmV_X1_moves : yX1_moves.cls = RX1 ∧ yX1_moves.cls ≠ "java/lang/invoke/MethodHandle" ∧ yX1_moves.cls ≠ "java/lang/invoke/VarHandle" ∧ (parseMethodDescriptor yX1_moves.desc).map (fun d => d.parameters.length) = some 1 := by decide +kernel
section CP
variable {Γ : Gc} {p : Program} {l : Launch} {e : Env} {s : State} {m : MethodId} {args : Array Value} {below : List Frame} {meth : Method} {c : Code} {ex : Nat → Option Nat} {z : Nat} {tF : St}
noncomputable def fX1_goes_63 (ex : Nat → Option Nat) (z : Nat) (kc14 : Nat → Int32 → Int32 → St → Option (Int32 × St)) (h0 : Nat) (x1 : Int32) (x2 : Int32) (t : St) : Option (Int32 × St) := kc14 h0 x1 (x2 + 1) t
set_option maxHeartbeats 4000000 in
theorem wX1_goes_63 {rF : Int32} (hex : ex = Γ.2.2.2.2) (X : g_X Γ p s m args meth c cX1_goes 4 RX1) (hr : meth.sig.returnType = (some .int)) {kc14 : Nat → Int32 → Int32 → St → Option (Int32 × St)} (hk14 : ∀ (h0 : Nat) (x1 : Int32) (x2 : Int32) (t : St), Wf Γ p l e 18 380 s m args below meth c 4 (g_ι z) v_i rF tF 14 [(0, .ref h0), (1, .int x1), (2, .int x2)] [] t (kc14 h0 x1 x2 t)) (h0 : Nat) (x1 : Int32) (x2 : Int32) (t : St) : Wf Γ p l e 18 380 s m args below meth c 4 (g_ι z) v_i rF tF 63 [(0, .ref h0), (1, .int x1), (2, .int x2)] [] t (fX1_goes_63 ex z kc14 h0 x1 x2 t) := by
  unfold fX1_goes_63
  refine g_iinc (pc := 63) X 1 2 (lv' := [(2, .int (x2 + 1)), (0, .ref h0), (1, .int x1)]) dX1_goes_63 rfl rfl (by decide) rfl ?_
  refine g_goto (pc := 66) X 14 dX1_goes_66 (by decide) ?_
  exact g_lv (pc := 14) (lv' := [(0, .ref h0), (1, .int x1), (2, .int (x2 + 1))]) [1, 2, 0] rfl (hk14 h0 x1 (x2 + 1) t)
noncomputable def fX1_goes_71 (ex : Nat → Option Nat) (z : Nat) : Nat → Nat → Int32 → Int32 → St → Option (Int32 × St)
  | 0, _, _, _, _ => none
  | n + 1, h0, x1, x2, t => cgA [1] 2 t h0 fun v1 => ccast [15] t v1 (gb (fJ2_size ex (z + t.2.1) v1 (t.1, 0, 0)) t fun r2 t3 => if r2 ≤ x2 then cgI [1] 3 t3 h0 fun v9 => cput [1] 3 t3 h0 (.int (v9 + 1)) fun t10 => some (x1, t10) else cgA [1] 2 t3 h0 fun v11 => ccast [15] t3 v11 (gb (fJ2_get ex (z + t3.2.1) v11 x2 (t3.1, 0, 0)) t3 fun r12 t13 => ccast [4, 5, 6, 7, 8, 9] t13 r12 (ccast [4, 5, 6, 7, 8, 9] t13 r12 (gb (fX4_runs ex (z + t13.2.1) r12 (t13.1, 0, 0)) t13 fun _ t20 => fX1_goes_71 ex z n h0 x1 (x2 + 1) t20))))
set_option maxHeartbeats 4000000 in
theorem wX1_goes_71 {rF : Int32} (hex : ex = Γ.2.2.2.2) (X : g_X Γ p s m args meth c cX1_goes 4 RX1) (hr : meth.sig.returnType = (some .int)) (n : Nat) : ∀ (h0 : Nat) (x1 : Int32) (x2 : Int32) (t : St), Wf Γ p l e 18 380 s m args below meth c 4 (g_ι z) v_i rF tF 71 [(0, .ref h0), (1, .int x1), (2, .int x2)] [] t (fX1_goes_71 ex z n h0 x1 x2 t) := by
  induction n with
  | zero => intro h0 x1 x2 t; exact g_none
  | succ n ih =>
    intro h0 x1 x2 t
    rw [fX1_goes_71]
    refine g_iload_n (pc := 71) X 2 dX1_goes_71 rfl rfl ?_
    refine g_aload_n (pc := 72) X 0 dX1_goes_72 rfl rfl ?_
    refine cg_getA (pc := 73) X fo_X1_22 dX1_goes_73 (fun v1 => ?_)
    refine g_bD_i (pc := 76) X (cs := [15]) (As := []) (rest := [.int x2]) (b := v1) (n := 0) dX1_goes_76 rfl rfl (Nat.le_of_ble_eq_true rfl) (fun fl4 ci5 fs6 hs7 hci8 r u h => ?_) (fun r2 t3 => ?_)
    · obtain rfl := List.mem_singleton.mp hci8
      exact ⟨_, _, _, yJ2_size, _, _, _, 0, 0, rfl, kJ2_size hex h, Or.inl (cwV 0 X.2.2.2.2.1 (lw_V q133 q134 q135 q74 q136) rfl rfl rfl dmV_J2_size ⟨Nat.le_of_ble_eq_true rfl, Nat.le_of_ble_eq_true rfl⟩)⟩
    refine g_icmp_ge (pc := 79) X 102 dX1_goes_79 (by decide) ?_ ?_
    · refine g_aload_n (pc := 102) X 0 dX1_goes_102 rfl rfl ?_
      refine g_dup (pc := 103) X dX1_goes_103 rfl ?_
      refine cg_getI (pc := 104) X fo_X1_41 dX1_goes_104 (fun v9 => ?_)
      refine g_iconst (pc := 107) X 1 dX1_goes_107 rfl ?_
      refine g_iadd (pc := 108) X dX1_goes_108 ?_
      refine cg_put (pc := 109) X fp_X1_41 dX1_goes_109 (fun h => by cases h) rfl rfl (fun t10 => ?_)
      refine g_iload_n (pc := 112) X 1 dX1_goes_112 rfl rfl ?_
      exact g_iret (pc := 113) X hr dX1_goes_113
    · refine g_aload_n (pc := 82) X 0 dX1_goes_82 rfl rfl ?_
      refine cg_getA (pc := 83) X fo_X1_22 dX1_goes_83 (fun v11 => ?_)
      refine g_iload_n (pc := 86) X 2 dX1_goes_86 rfl rfl ?_
      refine g_bD_a (pc := 87) X (cs := [15]) (As := [.int x2]) (rest := []) (b := v11) (n := 1) dX1_goes_87 rfl rfl (Nat.le_of_ble_eq_true rfl) (fun fl14 ci15 fs16 hs17 hci18 r u h => ?_) (fun r12 t13 => ?_)
      · obtain rfl := List.mem_singleton.mp hci18
        exact ⟨_, _, _, yJ2_get, _, _, _, 2, 43, rfl, kJ2_get hex h, Or.inl (cwV 1 X.2.2.2.2.1 (lw_V q377 q352 q353 q74 q354) rfl rfl rfl dmV_J2_get ⟨Nat.le_of_ble_eq_true rfl, Nat.le_of_ble_eq_true rfl⟩)⟩
      refine cg_cast (pc := 90) X (cs := [4, 5, 6, 7, 8, 9]) q378 cf_LameClocks_Plain_6 dX1_goes_90 ?_
      refine g_bD_v (pc := 93) X (cs := [4, 5, 6, 7, 8, 9]) (As := []) (rest := []) (b := r12) (n := 0) dX1_goes_93 rfl rfl (Nat.le_of_ble_eq_true rfl) (fun fl21 ci22 fs23 hs24 hci25 r u h => ?_) (fun r19 t20 => ?_)
      · simp only [List.mem_cons, List.not_mem_nil, or_false] at hci25
        rcases hci25 with rfl | rfl | rfl | rfl | rfl | rfl
        · exact ⟨_, _, _, yX4_runs, _, _, _, 2, 40, rfl, kX4_runs hex h, Or.inl (cwV 0 X.2.2.2.2.1 (lw_V q622 q623 q624 q77 q631) rfl rfl rfl dmV_X4_runs ⟨Nat.le_of_ble_eq_true rfl, Nat.le_of_ble_eq_true rfl⟩)⟩
        · exact ⟨_, _, _, yX4_runs, _, _, _, 2, 40, rfl, kX4_runs hex h, Or.inr (Or.inl ⟨_, _, va_cwU 0 X.2.2.2.2.1 (lw_U q622 q625 q626 q623 q77 q631) rfl rfl rfl rfl dmU_X4_runs0 ⟨Nat.le_of_ble_eq_true rfl, Nat.le_of_ble_eq_true rfl⟩⟩)⟩
        · exact ⟨_, _, _, yX4_runs, _, _, _, 2, 40, rfl, kX4_runs hex h, Or.inr (Or.inl ⟨_, _, va_cwU 0 X.2.2.2.2.1 (lw_U q622 q625 q628 q623 q77 q631) rfl rfl rfl rfl dmU_X4_runs0 ⟨Nat.le_of_ble_eq_true rfl, Nat.le_of_ble_eq_true rfl⟩⟩)⟩
        · exact ⟨_, _, _, yX4_runs, _, _, _, 2, 40, rfl, kX4_runs hex h, Or.inr (Or.inl ⟨_, _, va_cwU 0 X.2.2.2.2.1 (lw_U q622 q625 q629 q623 q77 q631) rfl rfl rfl rfl dmU_X4_runs0 ⟨Nat.le_of_ble_eq_true rfl, Nat.le_of_ble_eq_true rfl⟩⟩)⟩
        · exact ⟨_, _, _, yX4_runs, _, _, _, 2, 40, rfl, kX4_runs hex h, Or.inr (Or.inl ⟨_, _, va_cwU 0 X.2.2.2.2.1 (lw_U q622 q625 q630 q623 q77 q631) rfl rfl rfl rfl dmU_X4_runs0 ⟨Nat.le_of_ble_eq_true rfl, Nat.le_of_ble_eq_true rfl⟩⟩)⟩
        · exact ⟨_, _, _, yX4_runs, _, _, _, 2, 40, rfl, kX4_runs hex h, Or.inr (Or.inl ⟨_, _, va_cwU 0 X.2.2.2.2.1 (lw_U q622 q625 q627 q623 q77 q631) rfl rfl rfl rfl dmU_X4_runs0 ⟨Nat.le_of_ble_eq_true rfl, Nat.le_of_ble_eq_true rfl⟩⟩)⟩
      refine g_iinc (pc := 96) X 1 2 (lv' := [(2, .int (x2 + 1)), (0, .ref h0), (1, .int x1)]) dX1_goes_96 rfl rfl (by decide) rfl ?_
      refine g_goto (pc := 99) X 71 dX1_goes_99 (by decide) ?_
      exact g_lv (pc := 71) (lv' := [(0, .ref h0), (1, .int x1), (2, .int (x2 + 1))]) [1, 2, 0] rfl (ih h0 x1 (x2 + 1) t20)
noncomputable def fX1_goes_14 (ex : Nat → Option Nat) (z : Nat) : Nat → Nat → Int32 → Int32 → St → Option (Int32 × St)
  | 0, _, _, _, _ => none
  | n + 1, h0, x1, x2, t => cgA [1] 2 t h0 fun v1 => ccast [15] t v1 (gb (fJ2_size ex (z + t.2.1) v1 (t.1, 0, 0)) t fun r2 t3 => if r2 ≤ x2 then fX1_goes_71 ex z 1000 h0 x1 0 t3 else cgA [1] 2 t3 h0 fun v9 => ccast [15] t3 v9 (gb (fJ2_get ex (z + t3.2.1) v9 x2 (t3.1, 0, 0)) t3 fun r10 t11 => ccast [4, 5, 6, 7, 8, 9] t11 r10 (ccast [4, 5, 6, 7, 8, 9] t11 r10 (gb (fX4_isHome ex (z + t11.2.1) r10 (t11.1, 0, 0)) t11 fun r17 t18 => if r17 = 0 then ccast [4, 5, 6, 7, 8, 9] t18 r10 (gb (fv_X4_goes ex (z + t18.2.1) r10 h0 (t18.1, 0, 0)) t18 fun r24 t25 => if r24 = 0 then fX1_goes_63 ex z (fun a0 a1 a2 a3 => fX1_goes_14 ex z n a0 a1 a2 a3) h0 x1 x2 t25 else ccast [1] t25 h0 (gb (fX1_moves ex (z + t25.2.1) h0 r10 (t25.1, 0, 0)) t25 fun _ t32 => fX1_goes_63 ex z (fun a0 a1 a2 a3 => fX1_goes_14 ex z n a0 a1 a2 a3) h0 (x1 + 1) x2 t32)) else fX1_goes_63 ex z (fun a0 a1 a2 a3 => fX1_goes_14 ex z n a0 a1 a2 a3) h0 x1 x2 t18))))
set_option maxHeartbeats 4000000 in
theorem wX1_goes_14 {rF : Int32} (hex : ex = Γ.2.2.2.2) (X : g_X Γ p s m args meth c cX1_goes 4 RX1) (hr : meth.sig.returnType = (some .int)) (n : Nat) : ∀ (h0 : Nat) (x1 : Int32) (x2 : Int32) (t : St), Wf Γ p l e 18 380 s m args below meth c 4 (g_ι z) v_i rF tF 14 [(0, .ref h0), (1, .int x1), (2, .int x2)] [] t (fX1_goes_14 ex z n h0 x1 x2 t) := by
  induction n with
  | zero => intro h0 x1 x2 t; exact g_none
  | succ n ih =>
    intro h0 x1 x2 t
    rw [fX1_goes_14]
    refine g_iload_n (pc := 14) X 2 dX1_goes_14 rfl rfl ?_
    refine g_aload_n (pc := 15) X 0 dX1_goes_15 rfl rfl ?_
    refine cg_getA (pc := 16) X fo_X1_22 dX1_goes_16 (fun v1 => ?_)
    refine g_bD_i (pc := 19) X (cs := [15]) (As := []) (rest := [.int x2]) (b := v1) (n := 0) dX1_goes_19 rfl rfl (Nat.le_of_ble_eq_true rfl) (fun fl4 ci5 fs6 hs7 hci8 r u h => ?_) (fun r2 t3 => ?_)
    · obtain rfl := List.mem_singleton.mp hci8
      exact ⟨_, _, _, yJ2_size, _, _, _, 0, 0, rfl, kJ2_size hex h, Or.inl (cwV 0 X.2.2.2.2.1 (lw_V q133 q134 q135 q74 q136) rfl rfl rfl dmV_J2_size ⟨Nat.le_of_ble_eq_true rfl, Nat.le_of_ble_eq_true rfl⟩)⟩
    refine g_icmp_ge (pc := 22) X 69 dX1_goes_22 (by decide) ?_ ?_
    · refine g_iconst (pc := 69) X 0 dX1_goes_69 rfl ?_
      refine g_istore_n (pc := 70) X (lv' := [(2, .int 0), (0, .ref h0), (1, .int x1)]) dX1_goes_70 rfl (by decide) rfl ?_
      exact g_lv (pc := 71) (lv' := [(0, .ref h0), (1, .int x1), (2, .int 0)]) [1, 2, 0] rfl (wX1_goes_71 hex X hr 1000 h0 x1 0 t3)
    · refine g_aload_n (pc := 25) X 0 dX1_goes_25 rfl rfl ?_
      refine cg_getA (pc := 26) X fo_X1_22 dX1_goes_26 (fun v9 => ?_)
      refine g_iload_n (pc := 29) X 2 dX1_goes_29 rfl rfl ?_
      refine g_bD_a (pc := 30) X (cs := [15]) (As := [.int x2]) (rest := []) (b := v9) (n := 1) dX1_goes_30 rfl rfl (Nat.le_of_ble_eq_true rfl) (fun fl12 ci13 fs14 hs15 hci16 r u h => ?_) (fun r10 t11 => ?_)
      · obtain rfl := List.mem_singleton.mp hci16
        exact ⟨_, _, _, yJ2_get, _, _, _, 2, 43, rfl, kJ2_get hex h, Or.inl (cwV 1 X.2.2.2.2.1 (lw_V q377 q352 q353 q74 q354) rfl rfl rfl dmV_J2_get ⟨Nat.le_of_ble_eq_true rfl, Nat.le_of_ble_eq_true rfl⟩)⟩
      refine cg_cast (pc := 33) X (cs := [4, 5, 6, 7, 8, 9]) q378 cf_LameClocks_Plain_6 dX1_goes_33 ?_
      refine g_astore_n (pc := 36) X (lv' := [(3, .ref r10), (0, .ref h0), (1, .int x1), (2, .int x2)]) dX1_goes_36 rfl (by decide) rfl ?_
      refine g_aload_n (pc := 37) X 0 dX1_goes_37 rfl rfl ?_
      refine g_bD_i (pc := 38) X (cs := [4, 5, 6, 7, 8, 9]) (As := []) (rest := []) (b := r10) (n := 0) dX1_goes_38 rfl rfl (Nat.le_of_ble_eq_true rfl) (fun fl19 ci20 fs21 hs22 hci23 r u h => ?_) (fun r17 t18 => ?_)
      · simp only [List.mem_cons, List.not_mem_nil, or_false] at hci23
        rcases hci23 with rfl | rfl | rfl | rfl | rfl | rfl
        · exact ⟨_, _, _, yX4_isHome, _, _, _, 0, 0, rfl, kX4_isHome hex h, Or.inl (cwV 0 X.2.2.2.2.1 (lw_V q493 q494 q495 q77 q502) rfl rfl rfl dmV_X4_isHome ⟨Nat.le_of_ble_eq_true rfl, Nat.le_of_ble_eq_true rfl⟩)⟩
        · exact ⟨_, _, _, yX4_isHome, _, _, _, 0, 0, rfl, kX4_isHome hex h, Or.inr (Or.inl ⟨_, _, va_cwU 0 X.2.2.2.2.1 (lw_U q493 q496 q497 q494 q77 q502) rfl rfl rfl rfl dmU_X4_isHome0 ⟨Nat.le_of_ble_eq_true rfl, Nat.le_of_ble_eq_true rfl⟩⟩)⟩
        · exact ⟨_, _, _, yX4_isHome, _, _, _, 0, 0, rfl, kX4_isHome hex h, Or.inr (Or.inl ⟨_, _, va_cwU 0 X.2.2.2.2.1 (lw_U q493 q496 q499 q494 q77 q502) rfl rfl rfl rfl dmU_X4_isHome0 ⟨Nat.le_of_ble_eq_true rfl, Nat.le_of_ble_eq_true rfl⟩⟩)⟩
        · exact ⟨_, _, _, yX4_isHome, _, _, _, 0, 0, rfl, kX4_isHome hex h, Or.inr (Or.inl ⟨_, _, va_cwU 0 X.2.2.2.2.1 (lw_U q493 q496 q500 q494 q77 q502) rfl rfl rfl rfl dmU_X4_isHome0 ⟨Nat.le_of_ble_eq_true rfl, Nat.le_of_ble_eq_true rfl⟩⟩)⟩
        · exact ⟨_, _, _, yX4_isHome, _, _, _, 0, 0, rfl, kX4_isHome hex h, Or.inr (Or.inl ⟨_, _, va_cwU 0 X.2.2.2.2.1 (lw_U q493 q496 q501 q494 q77 q502) rfl rfl rfl rfl dmU_X4_isHome0 ⟨Nat.le_of_ble_eq_true rfl, Nat.le_of_ble_eq_true rfl⟩⟩)⟩
        · exact ⟨_, _, _, yX4_isHome, _, _, _, 0, 0, rfl, kX4_isHome hex h, Or.inr (Or.inl ⟨_, _, va_cwU 0 X.2.2.2.2.1 (lw_U q493 q496 q498 q494 q77 q502) rfl rfl rfl rfl dmU_X4_isHome0 ⟨Nat.le_of_ble_eq_true rfl, Nat.le_of_ble_eq_true rfl⟩⟩)⟩
      refine g_if_ne (pc := 41) X 63 dX1_goes_41 (by decide) ?_ ?_
      · exact g_lv (pc := 63) (lv' := [(0, .ref h0), (1, .int x1), (2, .int x2)]) [1, 2, 3] rfl (wX1_goes_63 hex X hr (fun a0 a1 a2 a3 => ih a0 a1 a2 a3) h0 x1 x2 t18)
      · refine g_aload_n (pc := 44) X 0 dX1_goes_44 rfl rfl ?_
        refine g_aload_n (pc := 45) X 1 dX1_goes_45 rfl rfl ?_
        refine g_bD_i (pc := 46) X (cs := [4, 5, 6, 7, 8, 9]) (As := [.ref h0]) (rest := []) (b := r10) (n := 1) dX1_goes_46 rfl rfl (Nat.le_of_ble_eq_true rfl) (fun fl26 ci27 fs28 hs29 hci30 r u h => ?_) (fun r24 t25 => ?_)
        · simp only [List.mem_cons, List.not_mem_nil, or_false] at hci30
          rcases hci30 with rfl | rfl | rfl | rfl | rfl | rfl
          · exact ⟨_, _, _, yX4_goes, _, _, _, 16, 337, rfl, kX4_goes hex (by rw [fv_X4_goes_4 hs29] at h; exact h), Or.inl (cwV 1 X.2.2.2.2.1 (lw_V q538 q539 q540 q77 q566) rfl rfl rfl dmV_X4_goes ⟨Nat.le_of_ble_eq_true rfl, Nat.le_of_ble_eq_true rfl⟩)⟩
          · exact ⟨_, _, _, yX4_goes, _, _, _, 16, 337, rfl, kX4_goes hex (by rw [fv_X4_goes_5 hs29] at h; exact h), Or.inr (Or.inl ⟨_, _, va_cwU 1 X.2.2.2.2.1 (lw_U q538 q541 q542 q539 q77 q566) rfl rfl rfl rfl dmU_X4_goes1 ⟨Nat.le_of_ble_eq_true rfl, Nat.le_of_ble_eq_true rfl⟩⟩)⟩
          · exact ⟨_, _, _, yX4_goes, _, _, _, 16, 337, rfl, kX4_goes hex (by rw [fv_X4_goes_6 hs29] at h; exact h), Or.inr (Or.inl ⟨_, _, va_cwU 1 X.2.2.2.2.1 (lw_U q538 q541 q549 q539 q77 q566) rfl rfl rfl rfl dmU_X4_goes1 ⟨Nat.le_of_ble_eq_true rfl, Nat.le_of_ble_eq_true rfl⟩⟩)⟩
          · exact ⟨_, _, _, yX7_goes, _, _, _, 17, 359, rfl, kX7_goes hex (by rw [fv_X4_goes_7 hs29] at h; exact h), Or.inr (Or.inl ⟨_, _, va_cwO 1 X.2.2.2.2.1 (lw_O q538 q541 q539 q550 q551 q80 q552) rfl rfl rfl q566 dmU_X4_goes1 ⟨Nat.le_of_ble_eq_true rfl, Nat.le_of_ble_eq_true rfl⟩⟩)⟩
          · exact ⟨_, _, _, yX4_goes, _, _, _, 16, 337, rfl, kX4_goes hex (by rw [fv_X4_goes_8 hs29] at h; exact h), Or.inr (Or.inl ⟨_, _, va_cwU 1 X.2.2.2.2.1 (lw_U q538 q541 q565 q539 q77 q566) rfl rfl rfl rfl dmU_X4_goes1 ⟨Nat.le_of_ble_eq_true rfl, Nat.le_of_ble_eq_true rfl⟩⟩)⟩
          · exact ⟨_, _, _, yX9_goes, _, _, _, 17, 359, rfl, kX9_goes hex (by rw [fv_X4_goes_9 hs29] at h; exact h), Or.inr (Or.inl ⟨_, _, va_cwO 1 X.2.2.2.2.1 (lw_O q538 q541 q539 q543 q544 q82 q545) rfl rfl rfl q566 dmU_X4_goes1 ⟨Nat.le_of_ble_eq_true rfl, Nat.le_of_ble_eq_true rfl⟩⟩)⟩
        refine g_if_ne (pc := 49) X 55 dX1_goes_49 (by decide) ?_ ?_
        · refine g_aload_n (pc := 55) X 1 dX1_goes_55 rfl rfl ?_
          refine g_aload_n (pc := 56) X 0 dX1_goes_56 rfl rfl ?_
          refine g_bD_v (pc := 57) X (cs := [1]) (As := [.ref r10]) (rest := []) (b := h0) (n := 1) dX1_goes_57 rfl rfl (Nat.le_of_ble_eq_true rfl) (fun fl33 ci34 fs35 hs36 hci37 r u h => ?_) (fun r31 t32 => ?_)
          · obtain rfl := List.mem_singleton.mp hci37
            exact ⟨_, _, _, yX1_moves, _, _, _, 17, 358, rfl, kX1_moves hex h, Or.inl (cwV 1 X.2.2.2.2.1 (lw_V q575 q577 qs6 q71 q579) rfl rfl rfl dmV_X1_moves ⟨Nat.le_of_ble_eq_true rfl, Nat.le_of_ble_eq_true rfl⟩)⟩
          refine g_iinc (pc := 60) X 1 2 (lv' := [(1, .int (x1 + 1)), (3, .ref r10), (0, .ref h0), (2, .int x2)]) dX1_goes_60 rfl rfl (by decide) rfl ?_
          exact g_lv (pc := 63) (lv' := [(0, .ref h0), (1, .int (x1 + 1)), (2, .int x2)]) [2, 0, 3] rfl (wX1_goes_63 hex X hr (fun a0 a1 a2 a3 => ih a0 a1 a2 a3) h0 (x1 + 1) x2 t32)
        · refine g_goto (pc := 52) X 63 dX1_goes_52 (by decide) ?_
          exact g_lv (pc := 63) (lv' := [(0, .ref h0), (1, .int x1), (2, .int x2)]) [1, 2, 3] rfl (wX1_goes_63 hex X hr (fun a0 a1 a2 a3 => ih a0 a1 a2 a3) h0 x1 x2 t25)
noncomputable def fX1_goes (ex : Nat → Option Nat) (z : Nat) (h0 : Nat) (t : St) : Option (Int32 × St) := cput [1] 7 t h0 (.int 0) fun t1 => cput [1] 8 t1 h0 (.int 0) fun t2 => fX1_goes_14 ex z 1000 h0 0 0 t2
set_option maxHeartbeats 4000000 in
theorem wX1_goes {rF : Int32} (hex : ex = Γ.2.2.2.2) (X : g_X Γ p s m args meth c cX1_goes 4 RX1) (hr : meth.sig.returnType = (some .int)) (h0 : Nat) (t : St) : Wf Γ p l e 18 380 s m args below meth c 4 (g_ι z) v_i rF tF 0 [(0, .ref h0)] [] t (fX1_goes ex z h0 t) := by
  unfold fX1_goes
  refine g_aload_n (pc := 0) X 0 dX1_goes_0 rfl rfl ?_
  refine g_iconst (pc := 1) X 0 dX1_goes_1 rfl ?_
  refine cg_put (pc := 2) X fp_X1_61 dX1_goes_2 (fun h => by cases h) rfl rfl (fun t1 => ?_)
  refine g_aload_n (pc := 5) X 0 dX1_goes_5 rfl rfl ?_
  refine g_iconst (pc := 6) X 0 dX1_goes_6 rfl ?_
  refine cg_put (pc := 7) X fp_X1_64 dX1_goes_7 (fun h => by cases h) rfl rfl (fun t2 => ?_)
  refine g_iconst (pc := 10) X 0 dX1_goes_10 rfl ?_
  refine g_istore_n (pc := 11) X (lv' := [(1, .int 0), (0, .ref h0)]) dX1_goes_11 rfl (by decide) rfl ?_
  refine g_iconst (pc := 12) X 0 dX1_goes_12 rfl ?_
  refine g_istore_n (pc := 13) X (lv' := [(2, .int 0), (1, .int 0), (0, .ref h0)]) dX1_goes_13 rfl (by decide) rfl ?_
  exact g_lv (pc := 14) (lv' := [(0, .ref h0), (1, .int 0), (2, .int 0)]) [2, 1, 0] rfl (wX1_goes_14 hex X hr 1000 h0 0 0 t2)
theorem kX1_goes {ex : Nat → Option Nat} {z : Nat} {h0 : Nat} {σ : Sg} {r : Int32} {u : St} (hex : ex = Γ.2.2.2.2) (h : fX1_goes ex z h0 (σ, 0, 0) = some (r, u)) : g_C Γ l yX1_goes cX1_goes 4 (some .int) 18 380 [.ref h0] σ z v_i r (g_ι z u) :=
  g_met (ι := g_ι z) (t := (σ, 0, 0)) [.ref h0] (by decide) (Nat.le_of_ble_eq_true rfl) h rfl (fun p e s m args below meth c X hr hn => wX1_goes hex X hr h0 (σ, 0, 0))
end CP
abbrev cX0_hour : ByteArray := prog_1_method_17_code
def yX0_hour : MethodName := ⟨RX0, "hour", "()I"⟩
def dkwX0_hour_1 : List UInt8 := [182, 0, 169, 172]
abbrev dktX0_hour_1 : List UInt8 := dkwX0_hour_1 ++ []
def dkwX0_hour_0 : List UInt8 := [42, 180, 0, 38, 180, 0, 153, 17, 39, 15, 160, 0, 8, 16, 253, 167, 0, 10, 42, 180, 0, 38]
abbrev dktX0_hour_0 : List UInt8 := dkwX0_hour_0 ++ dktX0_hour_1
theorem dksX0_hour_0 : cX0_hour.data.toList.drop 0 = dktX0_hour_0 := by decide +kernel
theorem dksX0_hour_1 : cX0_hour.data.toList.drop 22 = dktX0_hour_1 := dk_seg dksX0_hour_0 22 rfl rfl
theorem dX0_hour_0 : decode cX0_hour 0 = .ok (.aload_n 0, 1) := dk_42 (dk_at dksX0_hour_0 0 rfl rfl)
theorem dX0_hour_1 : decode cX0_hour 1 = .ok (.getfield 38, 3) := dk_180 0 38 (dk_at dksX0_hour_0 1 rfl rfl)
theorem dX0_hour_4 : decode cX0_hour 4 = .ok (.getfield 153, 3) := dk_180 0 153 (dk_at dksX0_hour_0 4 rfl rfl)
theorem dX0_hour_7 : decode cX0_hour 7 = .ok (.sipush 9999, 3) := dk_17 39 15 (dk_at dksX0_hour_0 7 rfl rfl)
theorem dX0_hour_10 : decode cX0_hour 10 = .ok (.if_icmp .ne 8, 3) := dk_160 0 8 (dk_at dksX0_hour_0 10 rfl rfl)
theorem dX0_hour_13 : decode cX0_hour 13 = .ok (.bipush (-3), 2) := dk_16 253 (dk_at dksX0_hour_0 13 rfl rfl)
theorem dX0_hour_15 : decode cX0_hour 15 = .ok (.goto 10, 3) := dk_167 0 10 (dk_at dksX0_hour_0 15 rfl rfl)
theorem dX0_hour_18 : decode cX0_hour 18 = .ok (.aload_n 0, 1) := dk_42 (dk_at dksX0_hour_0 18 rfl rfl)
theorem dX0_hour_19 : decode cX0_hour 19 = .ok (.getfield 38, 3) := dk_180 0 38 (dk_at dksX0_hour_0 19 rfl rfl)
theorem dX0_hour_22 : decode cX0_hour 22 = .ok (.invokevirtual 169, 3) := dk_182 0 169 (dk_at dksX0_hour_1 0 rfl rfl)
theorem dX0_hour_25 : decode cX0_hour 25 = .ok (.ireturn, 1) := dk_172 (dk_at dksX0_hour_1 3 rfl rfl)
theorem dmV_X1_goes : yX1_goes.cls = RX1 ∧ yX1_goes.cls ≠ "java/lang/invoke/MethodHandle" ∧ yX1_goes.cls ≠ "java/lang/invoke/VarHandle" ∧ (parseMethodDescriptor yX1_goes.desc).map (fun d => d.parameters.length) = some 0 := by decide +kernel
section CP
variable {Γ : Gc} {p : Program} {l : Launch} {e : Env} {s : State} {m : MethodId} {args : Array Value} {below : List Frame} {meth : Method} {c : Code} {ex : Nat → Option Nat} {z : Nat} {tF : St}
noncomputable def fX0_hour (ex : Nat → Option Nat) (z : Nat) (h0 : Nat) (t : St) : Option (Int32 × St) := cgA [0] 0 t h0 fun v1 => cgI [1] 3 t v1 fun v2 => if v2 = 9999 then some ((-3), t) else cgA [0] 0 t h0 fun v3 => ccast [1] t v3 (gb (fX1_goes ex (z + t.2.1) v3 (t.1, 0, 0)) t fun r4 t5 => some (r4, t5))
set_option maxHeartbeats 4000000 in
theorem wX0_hour {rF : Int32} (hex : ex = Γ.2.2.2.2) (X : g_X Γ p s m args meth c cX0_hour 1 RX0) (hr : meth.sig.returnType = (some .int)) (h0 : Nat) (t : St) : Wf Γ p l e 19 403 s m args below meth c 1 (g_ι z) v_i rF tF 0 [(0, .ref h0)] [] t (fX0_hour ex z h0 t) := by
  unfold fX0_hour
  refine g_aload_n (pc := 0) X 0 dX0_hour_0 rfl rfl ?_
  refine cg_getA (pc := 1) X fo_X0_38 dX0_hour_1 (fun v1 => ?_)
  refine cg_getI (pc := 4) X fo_X0_153 dX0_hour_4 (fun v2 => ?_)
  refine g_sipush (pc := 7) X 9999 dX0_hour_7 rfl ?_
  refine g_icmp_ne (pc := 10) X 18 dX0_hour_10 (by decide) ?_ ?_
  · refine g_aload_n (pc := 18) X 0 dX0_hour_18 rfl rfl ?_
    refine cg_getA (pc := 19) X fo_X0_38 dX0_hour_19 (fun v3 => ?_)
    refine g_bD_i (pc := 22) X (cs := [1]) (As := []) (rest := []) (b := v3) (n := 0) dX0_hour_22 rfl rfl (Nat.le_of_ble_eq_true rfl) (fun fl6 ci7 fs8 hs9 hci10 r u h => ?_) (fun r4 t5 => ?_)
    · obtain rfl := List.mem_singleton.mp hci10
      exact ⟨_, _, _, yX1_goes, _, _, _, 18, 380, rfl, kX1_goes hex h, Or.inl (cwV 0 X.2.2.2.2.1 (lw_V q534 q535 q536 q71 q537) rfl rfl rfl dmV_X1_goes ⟨Nat.le_of_ble_eq_true rfl, Nat.le_of_ble_eq_true rfl⟩)⟩
    exact g_iret (pc := 25) X hr dX0_hour_25
  · refine g_bipush (pc := 13) X (-3) dX0_hour_13 rfl ?_
    refine g_goto (pc := 15) X 25 dX0_hour_15 (by decide) ?_
    exact g_iret (pc := 25) X hr dX0_hour_25
theorem kX0_hour {ex : Nat → Option Nat} {z : Nat} {h0 : Nat} {σ : Sg} {r : Int32} {u : St} (hex : ex = Γ.2.2.2.2) (h : fX0_hour ex z h0 (σ, 0, 0) = some (r, u)) : g_C Γ l yX0_hour cX0_hour 1 (some .int) 19 403 [.ref h0] σ z v_i r (g_ι z u) :=
  g_met (ι := g_ι z) (t := (σ, 0, 0)) [.ref h0] (by decide) (Nat.le_of_ble_eq_true rfl) h rfl (fun p e s m args below meth c X hr hn => wX0_hour hex X hr h0 (σ, 0, 0))
end CP
abbrev cX0_goOn : ByteArray := prog_1_method_25_code
def yX0_goOn : MethodName := ⟨RX0, "goOn", "(I)V"⟩
def dkwX0_goOn_0 : List UInt8 := [3, 61, 28, 27, 162, 0, 17, 42, 180, 0, 213, 182, 0, 169, 87, 132, 2, 1, 167, 255, 240, 177]
abbrev dktX0_goOn_0 : List UInt8 := dkwX0_goOn_0 ++ []
theorem dksX0_goOn_0 : cX0_goOn.data.toList.drop 0 = dktX0_goOn_0 := by decide +kernel
theorem dX0_goOn_0 : decode cX0_goOn 0 = .ok (.iconst 0, 1) := dk_3 (dk_at dksX0_goOn_0 0 rfl rfl)
theorem dX0_goOn_1 : decode cX0_goOn 1 = .ok (.istore_n 2, 1) := dk_61 (dk_at dksX0_goOn_0 1 rfl rfl)
theorem dX0_goOn_2 : decode cX0_goOn 2 = .ok (.iload_n 2, 1) := dk_28 (dk_at dksX0_goOn_0 2 rfl rfl)
theorem dX0_goOn_3 : decode cX0_goOn 3 = .ok (.iload_n 1, 1) := dk_27 (dk_at dksX0_goOn_0 3 rfl rfl)
theorem dX0_goOn_4 : decode cX0_goOn 4 = .ok (.if_icmp .ge 17, 3) := dk_162 0 17 (dk_at dksX0_goOn_0 4 rfl rfl)
theorem dX0_goOn_7 : decode cX0_goOn 7 = .ok (.aload_n 0, 1) := dk_42 (dk_at dksX0_goOn_0 7 rfl rfl)
theorem dX0_goOn_8 : decode cX0_goOn 8 = .ok (.getfield 213, 3) := dk_180 0 213 (dk_at dksX0_goOn_0 8 rfl rfl)
theorem dX0_goOn_11 : decode cX0_goOn 11 = .ok (.invokevirtual 169, 3) := dk_182 0 169 (dk_at dksX0_goOn_0 11 rfl rfl)
theorem dX0_goOn_14 : decode cX0_goOn 14 = .ok (.pop, 1) := dk_87 (dk_at dksX0_goOn_0 14 rfl rfl)
theorem dX0_goOn_15 : decode cX0_goOn 15 = .ok (.iinc 2 1, 3) := dk_132 2 1 (dk_at dksX0_goOn_0 15 rfl rfl)
theorem dX0_goOn_18 : decode cX0_goOn 18 = .ok (.goto (-16), 3) := dk_167 255 240 (dk_at dksX0_goOn_0 18 rfl rfl)
theorem dX0_goOn_21 : decode cX0_goOn 21 = .ok (.return_, 1) := dk_177 (dk_at dksX0_goOn_0 21 rfl rfl)
section CP
variable {Γ : Gc} {p : Program} {l : Launch} {e : Env} {s : State} {m : MethodId} {args : Array Value} {below : List Frame} {meth : Method} {c : Code} {ex : Nat → Option Nat} {z : Nat} {tF : St}
noncomputable def fX0_goOn_2 (ex : Nat → Option Nat) (z : Nat) : Nat → Nat → Int32 → Int32 → St → Option (Unit × St)
  | 0, _, _, _, _ => none
  | n + 1, h0, x1, x2, t => if x1 ≤ x2 then some ((), t) else cgA [0] 1 t h0 fun v1 => ccast [1] t v1 (gb (fX1_goes ex (z + t.2.1) v1 (t.1, 0, 0)) t fun r2 t3 => fX0_goOn_2 ex z n h0 x1 (x2 + 1) t3)
set_option maxHeartbeats 4000000 in
theorem wX0_goOn_2 {rF : Unit} (hex : ex = Γ.2.2.2.2) (X : g_X Γ p s m args meth c cX0_goOn 3 RX0) (hr : meth.sig.returnType = none) (n : Nat) : ∀ (h0 : Nat) (x1 : Int32) (x2 : Int32) (t : St), Wf Γ p l e 19 403 s m args below meth c 3 (g_ι z) v_v rF tF 2 [(0, .ref h0), (1, .int x1), (2, .int x2)] [] t (fX0_goOn_2 ex z n h0 x1 x2 t) := by
  induction n with
  | zero => intro h0 x1 x2 t; exact g_none
  | succ n ih =>
    intro h0 x1 x2 t
    rw [fX0_goOn_2]
    refine g_iload_n (pc := 2) X 2 dX0_goOn_2 rfl rfl ?_
    refine g_iload_n (pc := 3) X 1 dX0_goOn_3 rfl rfl ?_
    refine g_icmp_ge (pc := 4) X 21 dX0_goOn_4 (by decide) ?_ ?_
    · exact g_vret (pc := 21) X hr dX0_goOn_21
    · refine g_aload_n (pc := 7) X 0 dX0_goOn_7 rfl rfl ?_
      refine cg_getA (pc := 8) X fo_X0_213 dX0_goOn_8 (fun v1 => ?_)
      refine g_bD_i (pc := 11) X (cs := [1]) (As := []) (rest := []) (b := v1) (n := 0) dX0_goOn_11 rfl rfl (Nat.le_of_ble_eq_true rfl) (fun fl4 ci5 fs6 hs7 hci8 r u h => ?_) (fun r2 t3 => ?_)
      · obtain rfl := List.mem_singleton.mp hci8
        exact ⟨_, _, _, yX1_goes, _, _, _, 18, 380, rfl, kX1_goes hex h, Or.inl (cwV 0 X.2.2.2.2.1 (lw_V q534 q535 q536 q71 q537) rfl rfl rfl dmV_X1_goes ⟨Nat.le_of_ble_eq_true rfl, Nat.le_of_ble_eq_true rfl⟩)⟩
      refine g_pop (pc := 14) X dX0_goOn_14 rfl ?_
      refine g_iinc (pc := 15) X 1 2 (lv' := [(2, .int (x2 + 1)), (0, .ref h0), (1, .int x1)]) dX0_goOn_15 rfl rfl (by decide) rfl ?_
      refine g_goto (pc := 18) X 2 dX0_goOn_18 (by decide) ?_
      exact g_lv (pc := 2) (lv' := [(0, .ref h0), (1, .int x1), (2, .int (x2 + 1))]) [1, 2, 0] rfl (ih h0 x1 (x2 + 1) t3)
noncomputable def fX0_goOn (ex : Nat → Option Nat) (z : Nat) (h0 : Nat) (x1 : Int32) (t : St) : Option (Unit × St) := fX0_goOn_2 ex z 1000 h0 x1 0 t
set_option maxHeartbeats 4000000 in
theorem wX0_goOn {rF : Unit} (hex : ex = Γ.2.2.2.2) (X : g_X Γ p s m args meth c cX0_goOn 3 RX0) (hr : meth.sig.returnType = none) (h0 : Nat) (x1 : Int32) (t : St) : Wf Γ p l e 19 403 s m args below meth c 3 (g_ι z) v_v rF tF 0 [(0, .ref h0), (1, .int x1)] [] t (fX0_goOn ex z h0 x1 t) := by
  unfold fX0_goOn
  refine g_iconst (pc := 0) X 0 dX0_goOn_0 rfl ?_
  refine g_istore_n (pc := 1) X (lv' := [(2, .int 0), (0, .ref h0), (1, .int x1)]) dX0_goOn_1 rfl (by decide) rfl ?_
  exact g_lv (pc := 2) (lv' := [(0, .ref h0), (1, .int x1), (2, .int 0)]) [1, 2, 0] rfl (wX0_goOn_2 hex X hr 1000 h0 x1 0 t)
theorem kX0_goOn {ex : Nat → Option Nat} {z : Nat} {h0 : Nat} {x1 : Int32} {σ : Sg} {r : Unit} {u : St} (hex : ex = Γ.2.2.2.2) (h : fX0_goOn ex z h0 x1 (σ, 0, 0) = some (r, u)) : g_C Γ l yX0_goOn cX0_goOn 3 none 19 403 [.ref h0, .int x1] σ z v_v r (g_ι z u) :=
  g_met (ι := g_ι z) (t := (σ, 0, 0)) [.ref h0, .int x1] (by decide) (Nat.le_of_ble_eq_true rfl) h rfl (fun p e s m args below meth c X hr hn => wX0_goOn hex X hr h0 x1 (σ, 0, 0))
end CP
