/-! the component, its methods: X0_paint, X0_isAsked, X0_areClocks, X4_runs, X4_copy, J2_grow_2, J2_remove, J2_get, J2_set, J2_toArray, J8_indexOf_2, X0_made (printed by gen/cmain.py) -/
set_option maxRecDepth 100000
theorem q83 : (Jvm.Cond.initialized "jdk/internal/util/ArraysSupport") ∈ lw_all := lw_g (lw_at lw_m1 14 rfl) rfl
theorem q87 : (Jvm.Cond.initialized "java/util/Objects") ∈ lw_all := lw_g (lw_at lw_m1 18 rfl) rfl
theorem q139 : (Jvm.Cond.code ({ cls := "LameClocks", name := "made", desc := "(IIII)LLameClocks$Plain;" } : Jvm.MethodName) prog_1_method_3_code (5 : Nat) (Option.some (Jvm.ClassFile.FieldType.object "LameClocks$Plain"))) ∈ lw_all := lw_g (lw_at lw_m1 70 rfl) rfl
theorem q140 : (Jvm.Cond.methodLink "LameClocks" (22 : Nat) ({ cls := "LameClocks", name := "made", desc := "(I)LLameClocks$Plain;" } : Jvm.MethodName)) ∈ lw_all := lw_g (lw_at lw_m1 71 rfl) rfl
theorem q141 : (Jvm.Cond.static ({ cls := "LameClocks", name := "made", desc := "(I)LLameClocks$Plain;" } : Jvm.MethodName)) ∈ lw_all := lw_g (lw_at lw_m1 72 rfl) rfl
theorem q157 : (Jvm.Cond.fieldLink "LameClocks" (28 : Nat) "LameClocks$Plain" "hands" "I") ∈ lw_all := lw_g (lw_at lw_m1 88 rfl) rfl
theorem q159 : (Jvm.Cond.fieldLink "LameClocks" (32 : Nat) "LameClocks$Plain" "rate" "I") ∈ lw_all := lw_g (lw_at lw_m1 90 rfl) rfl
theorem q164 : (Jvm.Cond.fieldLink "LameClocks" (35 : Nat) "LameClocks$Plain" "spring" "I") ∈ lw_all := lw_g (lw_at lw_m1 95 rfl) rfl
theorem q270 : (Jvm.Cond.code ({ cls := "java/util/ArrayList", name := "grow", desc := "(I)[Ljava/lang/Object;" } : Jvm.MethodName) prog_50_method_6_code (4 : Nat) (Option.some (Jvm.ClassFile.FieldType.array (Jvm.ClassFile.FieldType.object "java/lang/Object")))) ∈ lw_all := lw_g (lw_at lw_m1 201 rfl) rfl
theorem q273 : (Jvm.Cond.methodLink "java/util/ArrayList" (73 : Nat) ({ cls := "jdk/internal/util/ArraysSupport", name := "newLength", desc := "(III)I" } : Jvm.MethodName)) ∈ lw_all := lw_g (lw_at lw_m1 204 rfl) rfl
theorem q274 : (Jvm.Cond.static ({ cls := "jdk/internal/util/ArraysSupport", name := "newLength", desc := "(III)I" } : Jvm.MethodName)) ∈ lw_all := lw_g (lw_at lw_m1 205 rfl) rfl
theorem q283 : (Jvm.Cond.methodLink "java/util/ArrayList" (66 : Nat) ({ cls := "java/util/Arrays", name := "copyOf", desc := "([Ljava/lang/Object;I)[Ljava/lang/Object;" } : Jvm.MethodName)) ∈ lw_all := lw_g (lw_at lw_m1 214 rfl) rfl
theorem q284 : (Jvm.Cond.static ({ cls := "java/util/Arrays", name := "copyOf", desc := "([Ljava/lang/Object;I)[Ljava/lang/Object;" } : Jvm.MethodName)) ∈ lw_all := lw_g (lw_at lw_m1 215 rfl) rfl
theorem q329 : (Jvm.Cond.methodLink "java/util/ArrayList" (79 : Nat) ({ cls := "java/lang/Math", name := "max", desc := "(II)I" } : Jvm.MethodName)) ∈ lw_all := lw_g (lw_at lw_m2 20 rfl) rfl
theorem q330 : (Jvm.Cond.classLink "java/util/ArrayList" (7 : Nat) "java/lang/Object") ∈ lw_all := lw_g (lw_at lw_m2 21 rfl) rfl
theorem q338 : (Jvm.Cond.code ({ cls := "java/util/ArrayList", name := "remove", desc := "(I)Ljava/lang/Object;" } : Jvm.MethodName) prog_50_method_29_code (4 : Nat) (Option.some (Jvm.ClassFile.FieldType.object "java/lang/Object"))) ∈ lw_all := lw_g (lw_at lw_m2 29 rfl) rfl
theorem q339 : (Jvm.Cond.methodLink "java/util/ArrayList" (118 : Nat) ({ cls := "java/util/Objects", name := "checkIndex", desc := "(II)I" } : Jvm.MethodName)) ∈ lw_all := lw_g (lw_at lw_m2 30 rfl) rfl
theorem q340 : (Jvm.Cond.static ({ cls := "java/util/Objects", name := "checkIndex", desc := "(II)I" } : Jvm.MethodName)) ∈ lw_all := lw_g (lw_at lw_m2 31 rfl) rfl
theorem q345 : (Jvm.Cond.methodLink "java/util/ArrayList" (144 : Nat) ({ cls := "java/util/ArrayList", name := "fastRemove", desc := "([Ljava/lang/Object;I)V" } : Jvm.MethodName)) ∈ lw_all := lw_g (lw_at lw_m2 36 rfl) rfl
theorem q347 : (Jvm.Cond.instanceMethod ({ cls := "java/util/ArrayList", name := "fastRemove", desc := "([Ljava/lang/Object;I)V" } : Jvm.MethodName)) ∈ lw_all := lw_g (lw_at lw_m2 38 rfl) rfl
theorem q354 : (Jvm.Cond.code ({ cls := "java/util/ArrayList", name := "get", desc := "(I)Ljava/lang/Object;" } : Jvm.MethodName) prog_50_method_20_code (2 : Nat) (Option.some (Jvm.ClassFile.FieldType.object "java/lang/Object"))) ∈ lw_all := lw_g (lw_at lw_m2 45 rfl) rfl
theorem q355 : (Jvm.Cond.methodLink "java/util/ArrayList" (123 : Nat) ({ cls := "java/util/ArrayList", name := "elementData", desc := "(I)Ljava/lang/Object;" } : Jvm.MethodName)) ∈ lw_all := lw_g (lw_at lw_m2 46 rfl) rfl
theorem q356 : (Jvm.Cond.instanceMethod ({ cls := "java/util/ArrayList", name := "elementData", desc := "(I)Ljava/lang/Object;" } : Jvm.MethodName)) ∈ lw_all := lw_g (lw_at lw_m2 47 rfl) rfl
theorem q357 : (Jvm.Cond.selects "java/util/ArrayList" ({ cls := "java/util/ArrayList", name := "elementData", desc := "(I)Ljava/lang/Object;" } : Jvm.MethodName) ({ cls := "java/util/ArrayList", name := "elementData", desc := "(I)Ljava/lang/Object;" } : Jvm.MethodName)) ∈ lw_all := lw_g (lw_at lw_m2 48 rfl) rfl
theorem q368 : (Jvm.Cond.methodLink "LameClocks" (107 : Nat) ({ cls := "LameClocks", name := "isClock", desc := "(I)Z" } : Jvm.MethodName)) ∈ lw_all := lw_g (lw_at lw_m2 59 rfl) rfl
theorem q370 : (Jvm.Cond.instanceMethod ({ cls := "LameClocks", name := "isClock", desc := "(I)Z" } : Jvm.MethodName)) ∈ lw_all := lw_g (lw_at lw_m2 61 rfl) rfl
theorem q381 : (Jvm.Cond.selects "LameClocks$Plain" ({ cls := "LameClocks$Plain", name := "kind", desc := "()I" } : Jvm.MethodName) ({ cls := "LameClocks$Plain", name := "kind", desc := "()I" } : Jvm.MethodName)) ∈ lw_all := lw_g (lw_at lw_m2 72 rfl) rfl
theorem q383 : (Jvm.Cond.selects "LameClocks$Cuckoo" ({ cls := "LameClocks$Plain", name := "kind", desc := "()I" } : Jvm.MethodName) ({ cls := "LameClocks$Cuckoo", name := "kind", desc := "()I" } : Jvm.MethodName)) ∈ lw_all := lw_g (lw_at lw_m2 74 rfl) rfl
theorem q384 : (Jvm.Cond.instanceMethod ({ cls := "LameClocks$Cuckoo", name := "kind", desc := "()I" } : Jvm.MethodName)) ∈ lw_all := lw_g (lw_at lw_m2 75 rfl) rfl
theorem q387 : (Jvm.Cond.selects "LameClocks$Mayor" ({ cls := "LameClocks$Plain", name := "kind", desc := "()I" } : Jvm.MethodName) ({ cls := "LameClocks$Mayor", name := "kind", desc := "()I" } : Jvm.MethodName)) ∈ lw_all := lw_g (lw_at lw_m2 78 rfl) rfl
theorem q388 : (Jvm.Cond.instanceMethod ({ cls := "LameClocks$Mayor", name := "kind", desc := "()I" } : Jvm.MethodName)) ∈ lw_all := lw_g (lw_at lw_m2 79 rfl) rfl
theorem q391 : (Jvm.Cond.selects "LameClocks$Stopped" ({ cls := "LameClocks$Plain", name := "kind", desc := "()I" } : Jvm.MethodName) ({ cls := "LameClocks$Stopped", name := "kind", desc := "()I" } : Jvm.MethodName)) ∈ lw_all := lw_g (lw_at lw_m2 82 rfl) rfl
theorem q395 : (Jvm.Cond.selects "LameClocks$Sundial" ({ cls := "LameClocks$Plain", name := "kind", desc := "()I" } : Jvm.MethodName) ({ cls := "LameClocks$Sundial", name := "kind", desc := "()I" } : Jvm.MethodName)) ∈ lw_all := lw_g (lw_at lw_m2 86 rfl) rfl
theorem q396 : (Jvm.Cond.instanceMethod ({ cls := "LameClocks$Sundial", name := "kind", desc := "()I" } : Jvm.MethodName)) ∈ lw_all := lw_g (lw_at lw_m2 87 rfl) rfl
theorem q399 : (Jvm.Cond.selects "LameClocks$Twin" ({ cls := "LameClocks$Plain", name := "kind", desc := "()I" } : Jvm.MethodName) ({ cls := "LameClocks$Twin", name := "kind", desc := "()I" } : Jvm.MethodName)) ∈ lw_all := lw_g (lw_at lw_m2 90 rfl) rfl
theorem q400 : (Jvm.Cond.instanceMethod ({ cls := "LameClocks$Twin", name := "kind", desc := "()I" } : Jvm.MethodName)) ∈ lw_all := lw_g (lw_at lw_m2 91 rfl) rfl
theorem q463 : (Jvm.Cond.methodLink "LameClocks" (129 : Nat) ({ cls := "LameClocks", name := "isWindow", desc := "(I)Z" } : Jvm.MethodName)) ∈ lw_all := lw_g (lw_at lw_m2 154 rfl) rfl
theorem q465 : (Jvm.Cond.instanceMethod ({ cls := "LameClocks", name := "isWindow", desc := "(I)Z" } : Jvm.MethodName)) ∈ lw_all := lw_g (lw_at lw_m2 156 rfl) rfl
theorem q478 : (Jvm.Cond.code ({ cls := "LameClocks", name := "paint", desc := "(II)I" } : Jvm.MethodName) prog_1_method_12_code (4 : Nat) (Option.some Jvm.ClassFile.FieldType.int)) ∈ lw_all := lw_g (lw_at lw_m2 169 rfl) rfl
theorem q479 : (Jvm.Cond.constantLong "LameClocks" (136 : Nat) (12 : Int64)) ∈ lw_all := lw_g (lw_at lw_m2 170 rfl) rfl
theorem q631 : (Jvm.Cond.code ({ cls := "LameClocks$Plain", name := "runs", desc := "()V" } : Jvm.MethodName) prog_11_method_9_code (1 : Nat) (Option.none : Option Jvm.ClassFile.FieldType)) ∈ lw_all := lw_g (lw_at lw_m3 82 rfl) rfl
theorem q632 : (Jvm.Cond.methodLink "LameClocks$Plain" (37 : Nat) ({ cls := "LameClocks$Plain", name := "isRunning", desc := "()Z" } : Jvm.MethodName)) ∈ lw_all := lw_g (lw_at lw_m3 83 rfl) rfl
theorem q634 : (Jvm.Cond.selects "LameClocks$Plain" ({ cls := "LameClocks$Plain", name := "isRunning", desc := "()Z" } : Jvm.MethodName) ({ cls := "LameClocks$Plain", name := "isRunning", desc := "()Z" } : Jvm.MethodName)) ∈ lw_all := lw_g (lw_at lw_m3 85 rfl) rfl
theorem q636 : (Jvm.Cond.selects "LameClocks$Cuckoo" ({ cls := "LameClocks$Plain", name := "isRunning", desc := "()Z" } : Jvm.MethodName) ({ cls := "LameClocks$Plain", name := "isRunning", desc := "()Z" } : Jvm.MethodName)) ∈ lw_all := lw_g (lw_at lw_m3 87 rfl) rfl
theorem q637 : (Jvm.Cond.selects "LameClocks$Mayor" ({ cls := "LameClocks$Plain", name := "isRunning", desc := "()Z" } : Jvm.MethodName) ({ cls := "LameClocks$Plain", name := "isRunning", desc := "()Z" } : Jvm.MethodName)) ∈ lw_all := lw_g (lw_at lw_m3 88 rfl) rfl
theorem q638 : (Jvm.Cond.selects "LameClocks$Stopped" ({ cls := "LameClocks$Plain", name := "isRunning", desc := "()Z" } : Jvm.MethodName) ({ cls := "LameClocks$Stopped", name := "isRunning", desc := "()Z" } : Jvm.MethodName)) ∈ lw_all := lw_g (lw_at lw_m3 89 rfl) rfl
theorem q639 : (Jvm.Cond.instanceMethod ({ cls := "LameClocks$Stopped", name := "isRunning", desc := "()Z" } : Jvm.MethodName)) ∈ lw_all := lw_g (lw_at lw_m3 90 rfl) rfl
theorem q642 : (Jvm.Cond.selects "LameClocks$Sundial" ({ cls := "LameClocks$Plain", name := "isRunning", desc := "()Z" } : Jvm.MethodName) ({ cls := "LameClocks$Stopped", name := "isRunning", desc := "()Z" } : Jvm.MethodName)) ∈ lw_all := lw_g (lw_at lw_m3 93 rfl) rfl
theorem q643 : (Jvm.Cond.selects "LameClocks$Twin" ({ cls := "LameClocks$Plain", name := "isRunning", desc := "()Z" } : Jvm.MethodName) ({ cls := "LameClocks$Plain", name := "isRunning", desc := "()Z" } : Jvm.MethodName)) ∈ lw_all := lw_g (lw_at lw_m3 94 rfl) rfl
theorem q645 : (Jvm.Cond.methodLink "LameClocks$Plain" (44 : Nat) ({ cls := "java/lang/Math", name := "floorMod", desc := "(II)I" } : Jvm.MethodName)) ∈ lw_all := lw_g (lw_at lw_m3 96 rfl) rfl
theorem q646 : (Jvm.Cond.static ({ cls := "java/lang/Math", name := "floorMod", desc := "(II)I" } : Jvm.MethodName)) ∈ lw_all := lw_g (lw_at lw_m3 97 rfl) rfl
theorem q819 : (Jvm.Cond.methodLink "LameClocks" (223 : Nat) ({ cls := "LameClocks", name := "isFew", desc := "(I)Z" } : Jvm.MethodName)) ∈ lw_all := lw_g (lw_at lw_m4 30 rfl) rfl
theorem q820 : (Jvm.Cond.static ({ cls := "LameClocks", name := "isFew", desc := "(I)Z" } : Jvm.MethodName)) ∈ lw_all := lw_g (lw_at lw_m4 31 rfl) rfl
theorem q842 : (Jvm.Cond.code ({ cls := "LameClocks$Plain", name := "copy", desc := "()LLameClocks$Plain;" } : Jvm.MethodName) prog_11_method_15_code (2 : Nat) (Option.some (Jvm.ClassFile.FieldType.object "LameClocks$Plain"))) ∈ lw_all := lw_g (lw_at lw_m4 53 rfl) rfl
theorem q843 : (Jvm.Cond.methodLink "LameClocks$Plain" (59 : Nat) ({ cls := "LameClocks$Plain", name := "kind", desc := "()I" } : Jvm.MethodName)) ∈ lw_all := lw_g (lw_at lw_m4 54 rfl) rfl
theorem q844 : (Jvm.Cond.methodLinkNest "LameClocks$Plain" (63 : Nat) ({ cls := "LameClocks", name := "made", desc := "(I)LLameClocks$Plain;" } : Jvm.MethodName) "LameClocks") ∈ lw_tbl := lw_at lw_m4 55 rfl
theorem q845 : (Jvm.Cond.methodLink "LameClocks$Plain" (67 : Nat) ({ cls := "LameClocks$Plain", name := "takes", desc := "(LLameClocks$Plain;)V" } : Jvm.MethodName)) ∈ lw_all := lw_g (lw_at lw_m4 56 rfl) rfl
theorem q846 : (Jvm.Cond.instanceMethod ({ cls := "LameClocks$Plain", name := "takes", desc := "(LLameClocks$Plain;)V" } : Jvm.MethodName)) ∈ lw_all := lw_g (lw_at lw_m4 57 rfl) rfl
theorem q847 : (Jvm.Cond.selects "LameClocks$Plain" ({ cls := "LameClocks$Plain", name := "takes", desc := "(LLameClocks$Plain;)V" } : Jvm.MethodName) ({ cls := "LameClocks$Plain", name := "takes", desc := "(LLameClocks$Plain;)V" } : Jvm.MethodName)) ∈ lw_all := lw_g (lw_at lw_m4 58 rfl) rfl
theorem q848 : (Jvm.Cond.sameMethod "LameClocks$Plain" "LameClocks$Plain" "takes" "(LLameClocks$Plain;)V") ∈ lw_all := lw_g (lw_at lw_m4 59 rfl) rfl
theorem q849 : (Jvm.Cond.selects "LameClocks$Cuckoo" ({ cls := "LameClocks$Plain", name := "takes", desc := "(LLameClocks$Plain;)V" } : Jvm.MethodName) ({ cls := "LameClocks$Plain", name := "takes", desc := "(LLameClocks$Plain;)V" } : Jvm.MethodName)) ∈ lw_all := lw_g (lw_at lw_m4 60 rfl) rfl
theorem q850 : (Jvm.Cond.selects "LameClocks$Mayor" ({ cls := "LameClocks$Plain", name := "takes", desc := "(LLameClocks$Plain;)V" } : Jvm.MethodName) ({ cls := "LameClocks$Plain", name := "takes", desc := "(LLameClocks$Plain;)V" } : Jvm.MethodName)) ∈ lw_all := lw_g (lw_at lw_m4 61 rfl) rfl
theorem q851 : (Jvm.Cond.selects "LameClocks$Stopped" ({ cls := "LameClocks$Plain", name := "takes", desc := "(LLameClocks$Plain;)V" } : Jvm.MethodName) ({ cls := "LameClocks$Plain", name := "takes", desc := "(LLameClocks$Plain;)V" } : Jvm.MethodName)) ∈ lw_all := lw_g (lw_at lw_m4 62 rfl) rfl
theorem q852 : (Jvm.Cond.selects "LameClocks$Sundial" ({ cls := "LameClocks$Plain", name := "takes", desc := "(LLameClocks$Plain;)V" } : Jvm.MethodName) ({ cls := "LameClocks$Plain", name := "takes", desc := "(LLameClocks$Plain;)V" } : Jvm.MethodName)) ∈ lw_all := lw_g (lw_at lw_m4 63 rfl) rfl
theorem q853 : (Jvm.Cond.selects "LameClocks$Twin" ({ cls := "LameClocks$Plain", name := "takes", desc := "(LLameClocks$Plain;)V" } : Jvm.MethodName) ({ cls := "LameClocks$Plain", name := "takes", desc := "(LLameClocks$Plain;)V" } : Jvm.MethodName)) ∈ lw_all := lw_g (lw_at lw_m4 64 rfl) rfl
theorem q859 : (Jvm.Cond.code ({ cls := "java/util/ArrayList", name := "set", desc := "(ILjava/lang/Object;)Ljava/lang/Object;" } : Jvm.MethodName) prog_50_method_23_code (4 : Nat) (Option.some (Jvm.ClassFile.FieldType.object "java/lang/Object"))) ∈ lw_all := lw_g (lw_at lw_m4 70 rfl) rfl
theorem q885 : (Jvm.Cond.code ({ cls := "LameClocks", name := "isAsked", desc := "(III)Z" } : Jvm.MethodName) prog_1_method_32_code (4 : Nat) (Option.some Jvm.ClassFile.FieldType.boolean)) ∈ lw_all := lw_g (lw_at lw_m4 96 rfl) rfl
theorem q886 : (Jvm.Cond.constantLong "LameClocks" (232 : Nat) (9 : Int64)) ∈ lw_all := lw_g (lw_at lw_m4 97 rfl) rfl
theorem q936 : (Jvm.Cond.code ({ cls := "LameClocks", name := "areClocks", desc := "(I)Z" } : Jvm.MethodName) prog_1_method_45_code (2 : Nat) (Option.some Jvm.ClassFile.FieldType.boolean)) ∈ lw_all := lw_g (lw_at lw_m4 147 rfl) rfl
theorem q1110 : (Jvm.Cond.code ({ cls := "java/lang/String", name := "indexOf", desc := "(II)I" } : Jvm.MethodName) prog_41_method_80_code (3 : Nat) (Option.some Jvm.ClassFile.FieldType.int)) ∈ lw_all := lw_g (lw_at lw_m5 81 rfl) rfl
theorem q1111 : (Jvm.Cond.methodLink "java/lang/String" (492 : Nat) ({ cls := "java/lang/String", name := "isLatin1", desc := "()Z" } : Jvm.MethodName)) ∈ lw_all := lw_g (lw_at lw_m5 82 rfl) rfl
theorem q1112 : (Jvm.Cond.instanceMethod ({ cls := "java/lang/String", name := "isLatin1", desc := "()Z" } : Jvm.MethodName)) ∈ lw_all := lw_g (lw_at lw_m5 83 rfl) rfl
theorem q1113 : (Jvm.Cond.selects "java/lang/String" ({ cls := "java/lang/String", name := "isLatin1", desc := "()Z" } : Jvm.MethodName) ({ cls := "java/lang/String", name := "isLatin1", desc := "()Z" } : Jvm.MethodName)) ∈ lw_all := lw_g (lw_at lw_m5 84 rfl) rfl
theorem q1117 : (Jvm.Cond.methodLink "java/lang/String" (505 : Nat) ({ cls := "java/lang/String", name := "length", desc := "()I" } : Jvm.MethodName)) ∈ lw_all := lw_g (lw_at lw_m5 88 rfl) rfl
theorem q1118 : (Jvm.Cond.instanceMethod ({ cls := "java/lang/String", name := "length", desc := "()I" } : Jvm.MethodName)) ∈ lw_all := lw_g (lw_at lw_m5 89 rfl) rfl
theorem q1119 : (Jvm.Cond.selects "java/lang/String" ({ cls := "java/lang/String", name := "length", desc := "()I" } : Jvm.MethodName) ({ cls := "java/lang/String", name := "length", desc := "()I" } : Jvm.MethodName)) ∈ lw_all := lw_g (lw_at lw_m5 90 rfl) rfl
theorem q1125 : (Jvm.Cond.methodLink "java/lang/String" (637 : Nat) ({ cls := "java/lang/StringLatin1", name := "indexOf", desc := "([BIII)I" } : Jvm.MethodName)) ∈ lw_all := lw_g (lw_at lw_m5 96 rfl) rfl
theorem q1126 : (Jvm.Cond.static ({ cls := "java/lang/StringLatin1", name := "indexOf", desc := "([BIII)I" } : Jvm.MethodName)) ∈ lw_all := lw_g (lw_at lw_m5 97 rfl) rfl
theorem q1358 : (Jvm.Cond.code ({ cls := "java/util/ArrayList", name := "toArray", desc := "()[Ljava/lang/Object;" } : Jvm.MethodName) prog_50_method_16_code (1 : Nat) (Option.some (Jvm.ClassFile.FieldType.array (Jvm.ClassFile.FieldType.object "java/lang/Object")))) ∈ lw_all := lw_g (lw_at lw_m6 89 rfl) rfl
theorem q1563 : (Jvm.Cond.fieldLinkNest "LameClocks" (138 : Nat) "LameClocks$Race" "dials" "[B" "LameClocks") ∈ lw_tbl := lw_at lw_m7 54 rfl
abbrev cX0_paint : ByteArray := prog_1_method_12_code
def yX0_paint : MethodName := ⟨RX0, "paint", "(II)I"⟩
def dkwX0_paint_1 : List UInt8 := [180, 0, 38, 180, 0, 138, 27, 51, 62, 42, 180, 0, 38, 180, 0, 138, 27, 28, 145, 84, 29, 172]
abbrev dktX0_paint_1 : List UInt8 := dkwX0_paint_1 ++ []
def dkwX0_paint_0 : List UInt8 := [42, 27, 182, 0, 129, 153, 0, 15, 28, 133, 9, 20, 0, 136, 184, 0, 48, 154, 0, 5, 2, 172, 42]
abbrev dktX0_paint_0 : List UInt8 := dkwX0_paint_0 ++ dktX0_paint_1
theorem dksX0_paint_0 : cX0_paint.data.toList.drop 0 = dktX0_paint_0 := by decide +kernel
theorem dksX0_paint_1 : cX0_paint.data.toList.drop 23 = dktX0_paint_1 := dk_seg dksX0_paint_0 23 rfl rfl
theorem dX0_paint_0 : decode cX0_paint 0 = .ok (.aload_n 0, 1) := dk_42 (dk_at dksX0_paint_0 0 rfl rfl)
theorem dX0_paint_1 : decode cX0_paint 1 = .ok (.iload_n 1, 1) := dk_27 (dk_at dksX0_paint_0 1 rfl rfl)
theorem dX0_paint_2 : decode cX0_paint 2 = .ok (.invokevirtual 129, 3) := dk_182 0 129 (dk_at dksX0_paint_0 2 rfl rfl)
theorem dX0_paint_5 : decode cX0_paint 5 = .ok (.ifCond .eq 15, 3) := dk_153 0 15 (dk_at dksX0_paint_0 5 rfl rfl)
theorem dX0_paint_8 : decode cX0_paint 8 = .ok (.iload_n 2, 1) := dk_28 (dk_at dksX0_paint_0 8 rfl rfl)
theorem dX0_paint_9 : decode cX0_paint 9 = .ok (.i2l, 1) := dk_133 (dk_at dksX0_paint_0 9 rfl rfl)
theorem dX0_paint_10 : decode cX0_paint 10 = .ok (.lconst 0, 1) := dk_9 (dk_at dksX0_paint_0 10 rfl rfl)
theorem dX0_paint_11 : decode cX0_paint 11 = .ok (.ldc2_w 136, 3) := dk_20 0 136 (dk_at dksX0_paint_0 11 rfl rfl)
theorem dX0_paint_14 : decode cX0_paint 14 = .ok (.invokestatic 48, 3) := dk_184 0 48 (dk_at dksX0_paint_0 14 rfl rfl)
theorem dX0_paint_17 : decode cX0_paint 17 = .ok (.ifCond .ne 5, 3) := dk_154 0 5 (dk_at dksX0_paint_0 17 rfl rfl)
theorem dX0_paint_20 : decode cX0_paint 20 = .ok (.iconst (-1), 1) := dk_2 (dk_at dksX0_paint_0 20 rfl rfl)
theorem dX0_paint_21 : decode cX0_paint 21 = .ok (.ireturn, 1) := dk_172 (dk_at dksX0_paint_0 21 rfl rfl)
theorem dX0_paint_22 : decode cX0_paint 22 = .ok (.aload_n 0, 1) := dk_42 (dk_at dksX0_paint_0 22 rfl rfl)
theorem dX0_paint_23 : decode cX0_paint 23 = .ok (.getfield 38, 3) := dk_180 0 38 (dk_at dksX0_paint_1 0 rfl rfl)
theorem dX0_paint_26 : decode cX0_paint 26 = .ok (.getfield 138, 3) := dk_180 0 138 (dk_at dksX0_paint_1 3 rfl rfl)
theorem dX0_paint_29 : decode cX0_paint 29 = .ok (.iload_n 1, 1) := dk_27 (dk_at dksX0_paint_1 6 rfl rfl)
theorem dX0_paint_30 : decode cX0_paint 30 = .ok (.baload, 1) := dk_51 (dk_at dksX0_paint_1 7 rfl rfl)
theorem dX0_paint_31 : decode cX0_paint 31 = .ok (.istore_n 3, 1) := dk_62 (dk_at dksX0_paint_1 8 rfl rfl)
theorem dX0_paint_32 : decode cX0_paint 32 = .ok (.aload_n 0, 1) := dk_42 (dk_at dksX0_paint_1 9 rfl rfl)
theorem dX0_paint_33 : decode cX0_paint 33 = .ok (.getfield 38, 3) := dk_180 0 38 (dk_at dksX0_paint_1 10 rfl rfl)
theorem dX0_paint_36 : decode cX0_paint 36 = .ok (.getfield 138, 3) := dk_180 0 138 (dk_at dksX0_paint_1 13 rfl rfl)
theorem dX0_paint_39 : decode cX0_paint 39 = .ok (.iload_n 1, 1) := dk_27 (dk_at dksX0_paint_1 16 rfl rfl)
theorem dX0_paint_40 : decode cX0_paint 40 = .ok (.iload_n 2, 1) := dk_28 (dk_at dksX0_paint_1 17 rfl rfl)
theorem dX0_paint_41 : decode cX0_paint 41 = .ok (.i2b, 1) := dk_145 (dk_at dksX0_paint_1 18 rfl rfl)
theorem dX0_paint_42 : decode cX0_paint 42 = .ok (.bastore, 1) := dk_84 (dk_at dksX0_paint_1 19 rfl rfl)
theorem dX0_paint_43 : decode cX0_paint 43 = .ok (.iload_n 3, 1) := dk_29 (dk_at dksX0_paint_1 20 rfl rfl)
theorem dX0_paint_44 : decode cX0_paint 44 = .ok (.ireturn, 1) := dk_172 (dk_at dksX0_paint_1 21 rfl rfl)
theorem fo_X0_138 : g_fo RX0 138 [1] 1 := ⟨_, _, _, Or.inr ⟨_, q1563⟩, fun ci h => by
  simp only [List.mem_cons, List.not_mem_nil, or_false] at h; rcases h with rfl
  · exact ⟨_, _, _, rfl, by decide, rfl, rfl, Or.inl rfl, in_X1⟩⟩
theorem dmV_X0_isWindow : yX0_isWindow.cls = RX0 ∧ yX0_isWindow.cls ≠ "java/lang/invoke/MethodHandle" ∧ yX0_isWindow.cls ≠ "java/lang/invoke/VarHandle" ∧ (parseMethodDescriptor yX0_isWindow.desc).map (fun d => d.parameters.length) = some 1 := by decide +kernel
section CP
variable {Γ : Gc} {p : Program} {l : Launch} {e : Env} {s : State} {m : MethodId} {args : Array Value} {below : List Frame} {meth : Method} {c : Code} {ex : Nat → Option Nat} {z : Nat} {tF : St}
noncomputable def fX0_paint (ex : Nat → Option Nat) (z : Nat) (h0 : Nat) (x1 : Int32) (x2 : Int32) (t : St) : Option (Int32 × St) := ccast [0] t h0 (gb (fX0_isWindow ex (z + t.2.1) h0 x1 (t.1, 0, 0)) t fun r1 t2 => if r1 = 0 then some ((-1), t2) else gb (fX0_in ex (z + t2.2.1) x2.toInt64 0 12 (t2.1, 0, 0)) t2 fun r8 t9 => if r8 = 0 then some ((-1), t9) else cgA [0] 0 t9 h0 fun v10 => cgA [1] 1 t9 v10 fun v11 => cald 0 t9 v11 x1 fun v12 => cgA [0] 0 t9 h0 fun v13 => cgA [1] 1 t9 v13 fun v14 => cast_ 0 (vp_nar .byte) t9 v14 x1 x2.toInt8.toInt32 fun t15 => some (v12, t15))
set_option maxHeartbeats 4000000 in
theorem wX0_paint {rF : Int32} (hex : ex = Γ.2.2.2.2) (X : g_X Γ p s m args meth c cX0_paint 4 RX0) (hr : meth.sig.returnType = (some .int)) (h0 : Nat) (x1 : Int32) (x2 : Int32) (t : St) : Wf Γ p l e 2 46 s m args below meth c 4 (g_ι z) v_i rF tF 0 [(0, .ref h0), (1, .int x1), (2, .int x2)] [] t (fX0_paint ex z h0 x1 x2 t) := by
  unfold fX0_paint
  refine g_aload_n (pc := 0) X 0 dX0_paint_0 rfl rfl ?_
  refine g_iload_n (pc := 1) X 1 dX0_paint_1 rfl rfl ?_
  refine g_bD_i (pc := 2) X (cs := [0]) (As := [.int x1]) (rest := []) (b := h0) (n := 1) dX0_paint_2 rfl rfl (Nat.le_of_ble_eq_true rfl) (fun fl3 ci4 fs5 hs6 hci7 r u h => ?_) (fun r1 t2 => ?_)
  · obtain rfl := List.mem_singleton.mp hci7
    exact ⟨_, _, _, yX0_isWindow, _, _, _, 1, 25, rfl, kX0_isWindow hex h, Or.inl (cwV 1 X.2.2.2.2.1 (lw_V q463 q465 qs5 q70 q466) rfl rfl rfl dmV_X0_isWindow ⟨Nat.le_of_ble_eq_true rfl, Nat.le_of_ble_eq_true rfl⟩)⟩
  refine g_if_eq (pc := 5) X 20 dX0_paint_5 (by decide) ?_ ?_
  · refine g_iconst (pc := 20) X (-1) dX0_paint_20 rfl ?_
    exact g_iret (pc := 21) X hr dX0_paint_21
  · refine g_iload_n (pc := 8) X 2 dX0_paint_8 rfl rfl ?_
    refine g_i2l (pc := 9) X dX0_paint_9 ?_
    refine g_lconst (pc := 10) X 0 dX0_paint_10 rfl ?_
    refine g_ldc2 (pc := 11) X 12 dX0_paint_11 q479 ?_
    refine g_bS_i (pc := 14) X (y := yX0_in) (As := [.long x2.toInt64, .long 0, .long 12]) (rest := []) (fr' := 0) (lo' := 0) (fun _ => va_cwS 3 X.2.2.2.2.1 (lw_S q122 q123 q70 q124) rfl rfl rfl dmS_X0_in ⟨Nat.le_of_ble_eq_true rfl, Nat.le_of_ble_eq_true rfl⟩) dX0_paint_14 rfl rfl (Nat.le_of_ble_eq_true rfl) (fun r u h => kX0_in hex h) (fun r8 t9 => ?_)
    refine g_if_ne (pc := 17) X 22 dX0_paint_17 (by decide) ?_ ?_
    · refine g_aload_n (pc := 22) X 0 dX0_paint_22 rfl rfl ?_
      refine cg_getA (pc := 23) X fo_X0_38 dX0_paint_23 (fun v10 => ?_)
      refine cg_getA (pc := 26) X fo_X0_138 dX0_paint_26 (fun v11 => ?_)
      refine g_iload_n (pc := 29) X 1 dX0_paint_29 rfl rfl ?_
      refine cg_bald (pc := 30) X dX0_paint_30 (fun v12 => ?_)
      refine g_istore_n (pc := 31) X (lv' := [(3, .int v12), (0, .ref h0), (1, .int x1), (2, .int x2)]) dX0_paint_31 rfl (by decide) rfl ?_
      refine g_aload_n (pc := 32) X 1 dX0_paint_32 rfl rfl ?_
      refine cg_getA (pc := 33) X fo_X0_38 dX0_paint_33 (fun v13 => ?_)
      refine cg_getA (pc := 36) X fo_X0_138 dX0_paint_36 (fun v14 => ?_)
      refine g_iload_n (pc := 39) X 2 dX0_paint_39 rfl rfl ?_
      refine g_iload_n (pc := 40) X 3 dX0_paint_40 rfl rfl ?_
      refine g_i2b (pc := 41) X dX0_paint_41 ?_
      refine cg_bast (pc := 42) X dX0_paint_42 (fun t15 => ?_)
      refine g_iload_n (pc := 43) X 0 dX0_paint_43 rfl rfl ?_
      exact g_iret (pc := 44) X hr dX0_paint_44
    · refine g_iconst (pc := 20) X (-1) dX0_paint_20 rfl ?_
      exact g_iret (pc := 21) X hr dX0_paint_21
theorem kX0_paint {ex : Nat → Option Nat} {z : Nat} {h0 : Nat} {x1 : Int32} {x2 : Int32} {σ : Sg} {r : Int32} {u : St} (hex : ex = Γ.2.2.2.2) (h : fX0_paint ex z h0 x1 x2 (σ, 0, 0) = some (r, u)) : g_C Γ l yX0_paint cX0_paint 4 (some .int) 2 46 [.ref h0, .int x1, .int x2] σ z v_i r (g_ι z u) :=
  g_met (ι := g_ι z) (t := (σ, 0, 0)) [.ref h0, .int x1, .int x2] (by decide) (Nat.le_of_ble_eq_true rfl) h rfl (fun p e s m args below meth c X hr hn => wX0_paint hex X hr h0 x1 x2 (σ, 0, 0))
end CP
abbrev cX0_isAsked : ByteArray := prog_1_method_32_code
def yX0_isAsked : MethodName := ⟨RX0, "isAsked", "(III)Z"⟩
def dkwX0_isAsked_1 : List UInt8 := [153, 0, 7, 4, 167, 0, 4, 3, 172]
abbrev dktX0_isAsked_1 : List UInt8 := dkwX0_isAsked_1 ++ []
def dkwX0_isAsked_0 : List UInt8 := [42, 27, 182, 0, 107, 153, 0, 26, 28, 133, 10, 20, 0, 232, 184, 0, 48, 153, 0, 14, 29, 184, 0, 223]
abbrev dktX0_isAsked_0 : List UInt8 := dkwX0_isAsked_0 ++ dktX0_isAsked_1
theorem dksX0_isAsked_0 : cX0_isAsked.data.toList.drop 0 = dktX0_isAsked_0 := by decide +kernel
theorem dksX0_isAsked_1 : cX0_isAsked.data.toList.drop 24 = dktX0_isAsked_1 := dk_seg dksX0_isAsked_0 24 rfl rfl
theorem dX0_isAsked_0 : decode cX0_isAsked 0 = .ok (.aload_n 0, 1) := dk_42 (dk_at dksX0_isAsked_0 0 rfl rfl)
theorem dX0_isAsked_1 : decode cX0_isAsked 1 = .ok (.iload_n 1, 1) := dk_27 (dk_at dksX0_isAsked_0 1 rfl rfl)
theorem dX0_isAsked_2 : decode cX0_isAsked 2 = .ok (.invokevirtual 107, 3) := dk_182 0 107 (dk_at dksX0_isAsked_0 2 rfl rfl)
theorem dX0_isAsked_5 : decode cX0_isAsked 5 = .ok (.ifCond .eq 26, 3) := dk_153 0 26 (dk_at dksX0_isAsked_0 5 rfl rfl)
theorem dX0_isAsked_8 : decode cX0_isAsked 8 = .ok (.iload_n 2, 1) := dk_28 (dk_at dksX0_isAsked_0 8 rfl rfl)
theorem dX0_isAsked_9 : decode cX0_isAsked 9 = .ok (.i2l, 1) := dk_133 (dk_at dksX0_isAsked_0 9 rfl rfl)
theorem dX0_isAsked_10 : decode cX0_isAsked 10 = .ok (.lconst 1, 1) := dk_10 (dk_at dksX0_isAsked_0 10 rfl rfl)
theorem dX0_isAsked_11 : decode cX0_isAsked 11 = .ok (.ldc2_w 232, 3) := dk_20 0 232 (dk_at dksX0_isAsked_0 11 rfl rfl)
theorem dX0_isAsked_14 : decode cX0_isAsked 14 = .ok (.invokestatic 48, 3) := dk_184 0 48 (dk_at dksX0_isAsked_0 14 rfl rfl)
theorem dX0_isAsked_17 : decode cX0_isAsked 17 = .ok (.ifCond .eq 14, 3) := dk_153 0 14 (dk_at dksX0_isAsked_0 17 rfl rfl)
theorem dX0_isAsked_20 : decode cX0_isAsked 20 = .ok (.iload_n 3, 1) := dk_29 (dk_at dksX0_isAsked_0 20 rfl rfl)
theorem dX0_isAsked_21 : decode cX0_isAsked 21 = .ok (.invokestatic 223, 3) := dk_184 0 223 (dk_at dksX0_isAsked_0 21 rfl rfl)
theorem dX0_isAsked_24 : decode cX0_isAsked 24 = .ok (.ifCond .eq 7, 3) := dk_153 0 7 (dk_at dksX0_isAsked_1 0 rfl rfl)
theorem dX0_isAsked_27 : decode cX0_isAsked 27 = .ok (.iconst 1, 1) := dk_4 (dk_at dksX0_isAsked_1 3 rfl rfl)
theorem dX0_isAsked_28 : decode cX0_isAsked 28 = .ok (.goto 4, 3) := dk_167 0 4 (dk_at dksX0_isAsked_1 4 rfl rfl)
theorem dX0_isAsked_31 : decode cX0_isAsked 31 = .ok (.iconst 0, 1) := dk_3 (dk_at dksX0_isAsked_1 7 rfl rfl)
theorem dX0_isAsked_32 : decode cX0_isAsked 32 = .ok (.ireturn, 1) := dk_172 (dk_at dksX0_isAsked_1 8 rfl rfl)
theorem dmV_X0_isClock : yX0_isClock.cls = RX0 ∧ yX0_isClock.cls ≠ "java/lang/invoke/MethodHandle" ∧ yX0_isClock.cls ≠ "java/lang/invoke/VarHandle" ∧ (parseMethodDescriptor yX0_isClock.desc).map (fun d => d.parameters.length) = some 1 := by decide +kernel
theorem dmS_X0_isFew : yX0_isFew.cls ≠ "java/lang/invoke/MethodHandle" ∧ yX0_isFew.cls ≠ "java/lang/invoke/VarHandle" ∧ (parseMethodDescriptor yX0_isFew.desc).map (fun d => d.parameters.length) = some 1 := by decide +kernel
section CP
variable {Γ : Gc} {p : Program} {l : Launch} {e : Env} {s : State} {m : MethodId} {args : Array Value} {below : List Frame} {meth : Method} {c : Code} {ex : Nat → Option Nat} {z : Nat} {tF : St}
noncomputable def fX0_isAsked (ex : Nat → Option Nat) (z : Nat) (h0 : Nat) (x1 : Int32) (x2 : Int32) (x3 : Int32) (t : St) : Option (Int32 × St) := ccast [0] t h0 (gb (fX0_isClock ex (z + t.2.1) h0 x1 (t.1, 0, 0)) t fun r1 t2 => if r1 = 0 then some (0, t2) else gb (fX0_in ex (z + t2.2.1) x2.toInt64 1 9 (t2.1, 0, 0)) t2 fun r8 t9 => if r8 = 0 then some (0, t9) else gb (fX0_isFew ex (z + t9.2.1) x3 (t9.1, 0, 0)) t9 fun r10 t11 => if r10 = 0 then some (0, t11) else some (1, t11))
set_option maxHeartbeats 4000000 in
theorem wX0_isAsked {rF : Int32} (hex : ex = Γ.2.2.2.2) (X : g_X Γ p s m args meth c cX0_isAsked 4 RX0) (hr : meth.sig.returnType = (some .boolean)) (h0 : Nat) (x1 : Int32) (x2 : Int32) (x3 : Int32) (t : St) : Wf Γ p l e 3 61 s m args below meth c 4 (g_ι z) v_i rF tF 0 [(0, .ref h0), (1, .int x1), (2, .int x2), (3, .int x3)] [] t (fX0_isAsked ex z h0 x1 x2 x3 t) := by
  unfold fX0_isAsked
  refine g_aload_n (pc := 0) X 0 dX0_isAsked_0 rfl rfl ?_
  refine g_iload_n (pc := 1) X 1 dX0_isAsked_1 rfl rfl ?_
  refine g_bD_i (pc := 2) X (cs := [0]) (As := [.int x1]) (rest := []) (b := h0) (n := 1) dX0_isAsked_2 rfl rfl (Nat.le_of_ble_eq_true rfl) (fun fl3 ci4 fs5 hs6 hci7 r u h => ?_) (fun r1 t2 => ?_)
  · obtain rfl := List.mem_singleton.mp hci7
    exact ⟨_, _, _, yX0_isClock, _, _, _, 2, 40, rfl, kX0_isClock hex h, Or.inl (cwV 1 X.2.2.2.2.1 (lw_V q368 q370 qs4 q70 q372) rfl rfl rfl dmV_X0_isClock ⟨Nat.le_of_ble_eq_true rfl, Nat.le_of_ble_eq_true rfl⟩)⟩
  refine g_if_eq (pc := 5) X 31 dX0_isAsked_5 (by decide) ?_ ?_
  · refine g_iconst (pc := 31) X 0 dX0_isAsked_31 rfl ?_
    exact g_zret (pc := 32) X hr rfl dX0_isAsked_32
  · refine g_iload_n (pc := 8) X 2 dX0_isAsked_8 rfl rfl ?_
    refine g_i2l (pc := 9) X dX0_isAsked_9 ?_
    refine g_lconst (pc := 10) X 1 dX0_isAsked_10 rfl ?_
    refine g_ldc2 (pc := 11) X 9 dX0_isAsked_11 q886 ?_
    refine g_bS_i (pc := 14) X (y := yX0_in) (As := [.long x2.toInt64, .long 1, .long 9]) (rest := []) (fr' := 0) (lo' := 0) (fun _ => va_cwS 3 X.2.2.2.2.1 (lw_S q122 q123 q70 q124) rfl rfl rfl dmS_X0_in ⟨Nat.le_of_ble_eq_true rfl, Nat.le_of_ble_eq_true rfl⟩) dX0_isAsked_14 rfl rfl (Nat.le_of_ble_eq_true rfl) (fun r u h => kX0_in hex h) (fun r8 t9 => ?_)
    refine g_if_eq (pc := 17) X 31 dX0_isAsked_17 (by decide) ?_ ?_
    · refine g_iconst (pc := 31) X 0 dX0_isAsked_31 rfl ?_
      exact g_zret (pc := 32) X hr rfl dX0_isAsked_32
    · refine g_iload_n (pc := 20) X 3 dX0_isAsked_20 rfl rfl ?_
      refine g_bS_i (pc := 21) X (y := yX0_isFew) (As := [.int x3]) (rest := []) (fr' := 1) (lo' := 25) (fun _ => va_cwS 1 X.2.2.2.2.1 (lw_S q819 q820 q70 q821) rfl rfl rfl dmS_X0_isFew ⟨Nat.le_of_ble_eq_true rfl, Nat.le_of_ble_eq_true rfl⟩) dX0_isAsked_21 rfl rfl (Nat.le_of_ble_eq_true rfl) (fun r u h => kX0_isFew hex h) (fun r10 t11 => ?_)
      refine g_if_eq (pc := 24) X 31 dX0_isAsked_24 (by decide) ?_ ?_
      · refine g_iconst (pc := 31) X 0 dX0_isAsked_31 rfl ?_
        exact g_zret (pc := 32) X hr rfl dX0_isAsked_32
      · refine g_iconst (pc := 27) X 1 dX0_isAsked_27 rfl ?_
        refine g_goto (pc := 28) X 32 dX0_isAsked_28 (by decide) ?_
        exact g_zret (pc := 32) X hr rfl dX0_isAsked_32
theorem kX0_isAsked {ex : Nat → Option Nat} {z : Nat} {h0 : Nat} {x1 : Int32} {x2 : Int32} {x3 : Int32} {σ : Sg} {r : Int32} {u : St} (hex : ex = Γ.2.2.2.2) (h : fX0_isAsked ex z h0 x1 x2 x3 (σ, 0, 0) = some (r, u)) : g_C Γ l yX0_isAsked cX0_isAsked 4 (some .boolean) 3 61 [.ref h0, .int x1, .int x2, .int x3] σ z v_i r (g_ι z u) :=
  g_met (ι := g_ι z) (t := (σ, 0, 0)) [.ref h0, .int x1, .int x2, .int x3] (by decide) (Nat.le_of_ble_eq_true rfl) h rfl (fun p e s m args below meth c X hr hn => wX0_isAsked hex X hr h0 x1 x2 x3 (σ, 0, 0))
end CP
abbrev cX0_areClocks : ByteArray := prog_1_method_45_code
def yX0_areClocks : MethodName := ⟨RX0, "areClocks", "(I)Z"⟩
def dkwX0_areClocks_0 : List UInt8 := [27, 133, 9, 4, 42, 180, 0, 38, 182, 0, 42, 120, 4, 100, 133, 184, 0, 48, 172]
abbrev dktX0_areClocks_0 : List UInt8 := dkwX0_areClocks_0 ++ []
theorem dksX0_areClocks_0 : cX0_areClocks.data.toList.drop 0 = dktX0_areClocks_0 := by decide +kernel
theorem dX0_areClocks_0 : decode cX0_areClocks 0 = .ok (.iload_n 1, 1) := dk_27 (dk_at dksX0_areClocks_0 0 rfl rfl)
theorem dX0_areClocks_1 : decode cX0_areClocks 1 = .ok (.i2l, 1) := dk_133 (dk_at dksX0_areClocks_0 1 rfl rfl)
theorem dX0_areClocks_2 : decode cX0_areClocks 2 = .ok (.lconst 0, 1) := dk_9 (dk_at dksX0_areClocks_0 2 rfl rfl)
theorem dX0_areClocks_3 : decode cX0_areClocks 3 = .ok (.iconst 1, 1) := dk_4 (dk_at dksX0_areClocks_0 3 rfl rfl)
theorem dX0_areClocks_4 : decode cX0_areClocks 4 = .ok (.aload_n 0, 1) := dk_42 (dk_at dksX0_areClocks_0 4 rfl rfl)
theorem dX0_areClocks_5 : decode cX0_areClocks 5 = .ok (.getfield 38, 3) := dk_180 0 38 (dk_at dksX0_areClocks_0 5 rfl rfl)
theorem dX0_areClocks_8 : decode cX0_areClocks 8 = .ok (.invokevirtual 42, 3) := dk_182 0 42 (dk_at dksX0_areClocks_0 8 rfl rfl)
theorem dX0_areClocks_11 : decode cX0_areClocks 11 = .ok (.ishl, 1) := dk_120 (dk_at dksX0_areClocks_0 11 rfl rfl)
theorem dX0_areClocks_12 : decode cX0_areClocks 12 = .ok (.iconst 1, 1) := dk_4 (dk_at dksX0_areClocks_0 12 rfl rfl)
theorem dX0_areClocks_13 : decode cX0_areClocks 13 = .ok (.isub, 1) := dk_100 (dk_at dksX0_areClocks_0 13 rfl rfl)
theorem dX0_areClocks_14 : decode cX0_areClocks 14 = .ok (.i2l, 1) := dk_133 (dk_at dksX0_areClocks_0 14 rfl rfl)
theorem dX0_areClocks_15 : decode cX0_areClocks 15 = .ok (.invokestatic 48, 3) := dk_184 0 48 (dk_at dksX0_areClocks_0 15 rfl rfl)
theorem dX0_areClocks_18 : decode cX0_areClocks 18 = .ok (.ireturn, 1) := dk_172 (dk_at dksX0_areClocks_0 18 rfl rfl)
section CP
variable {Γ : Gc} {p : Program} {l : Launch} {e : Env} {s : State} {m : MethodId} {args : Array Value} {below : List Frame} {meth : Method} {c : Code} {ex : Nat → Option Nat} {z : Nat} {tF : St}
noncomputable def fX0_areClocks (ex : Nat → Option Nat) (z : Nat) (h0 : Nat) (x1 : Int32) (t : St) : Option (Int32 × St) := cgA [0] 0 t h0 fun v1 => ccast [1] t v1 (gb (fX1_size ex (z + t.2.1) v1 (t.1, 0, 0)) t fun r2 t3 => gb (fX0_in ex (z + t3.2.1) x1.toInt64 0 (((1 <<< (r2 &&& 31)) - 1).toInt64) (t3.1, 0, 0)) t3 fun r9 t10 => if r9 = 0 ∨ r9 = 1 then some (r9, t10) else none)
set_option maxHeartbeats 4000000 in
theorem wX0_areClocks {rF : Int32} (hex : ex = Γ.2.2.2.2) (X : g_X Γ p s m args meth c cX0_areClocks 2 RX0) (hr : meth.sig.returnType = (some .boolean)) (h0 : Nat) (x1 : Int32) (t : St) : Wf Γ p l e 2 40 s m args below meth c 2 (g_ι z) v_i rF tF 0 [(0, .ref h0), (1, .int x1)] [] t (fX0_areClocks ex z h0 x1 t) := by
  unfold fX0_areClocks
  refine g_iload_n (pc := 0) X 1 dX0_areClocks_0 rfl rfl ?_
  refine g_i2l (pc := 1) X dX0_areClocks_1 ?_
  refine g_lconst (pc := 2) X 0 dX0_areClocks_2 rfl ?_
  refine g_iconst (pc := 3) X 1 dX0_areClocks_3 rfl ?_
  refine g_aload_n (pc := 4) X 0 dX0_areClocks_4 rfl rfl ?_
  refine cg_getA (pc := 5) X fo_X0_38 dX0_areClocks_5 (fun v1 => ?_)
  refine g_bD_i (pc := 8) X (cs := [1]) (As := []) (rest := [.int 1, .long 0, .long x1.toInt64]) (b := v1) (n := 0) dX0_areClocks_8 rfl rfl (Nat.le_of_ble_eq_true rfl) (fun fl4 ci5 fs6 hs7 hci8 r u h => ?_) (fun r2 t3 => ?_)
  · obtain rfl := List.mem_singleton.mp hci8
    exact ⟨_, _, _, yX1_size, _, _, _, 1, 20, rfl, kX1_size hex h, Or.inl (cwV 0 X.2.2.2.2.1 (lw_V q129 q130 q131 q71 q132) rfl rfl rfl dmV_X1_size ⟨Nat.le_of_ble_eq_true rfl, Nat.le_of_ble_eq_true rfl⟩)⟩
  refine g_ishl (pc := 11) X dX0_areClocks_11 ?_
  refine g_iconst (pc := 12) X 1 dX0_areClocks_12 rfl ?_
  refine g_isub (pc := 13) X dX0_areClocks_13 ?_
  refine g_i2l (pc := 14) X dX0_areClocks_14 ?_
  refine g_bS_i (pc := 15) X (y := yX0_in) (As := [.long x1.toInt64, .long 0, .long (((1 <<< (r2 &&& 31)) - 1).toInt64)]) (rest := []) (fr' := 0) (lo' := 0) (fun _ => va_cwS 3 X.2.2.2.2.1 (lw_S q122 q123 q70 q124) rfl rfl rfl dmS_X0_in ⟨Nat.le_of_ble_eq_true rfl, Nat.le_of_ble_eq_true rfl⟩) dX0_areClocks_15 rfl rfl (Nat.le_of_ble_eq_true rfl) (fun r u h => kX0_in hex h) (fun r9 t10 => ?_)
  exact g_bret (pc := 18) X hr dX0_areClocks_18
theorem kX0_areClocks {ex : Nat → Option Nat} {z : Nat} {h0 : Nat} {x1 : Int32} {σ : Sg} {r : Int32} {u : St} (hex : ex = Γ.2.2.2.2) (h : fX0_areClocks ex z h0 x1 (σ, 0, 0) = some (r, u)) : g_C Γ l yX0_areClocks cX0_areClocks 2 (some .boolean) 2 40 [.ref h0, .int x1] σ z v_i r (g_ι z u) :=
  g_met (ι := g_ι z) (t := (σ, 0, 0)) [.ref h0, .int x1] (by decide) (Nat.le_of_ble_eq_true rfl) h rfl (fun p e s m args below meth c X hr hn => wX0_areClocks hex X hr h0 x1 (σ, 0, 0))
end CP
abbrev cX4_runs : ByteArray := prog_11_method_9_code
def yX4_runs : MethodName := ⟨RX4, "runs", "()V"⟩
def dkwX4_runs_1 : List UInt8 := [184, 0, 44, 181, 0, 15, 42, 89, 180, 0, 34, 4, 100, 181, 0, 34, 177]
abbrev dktX4_runs_1 : List UInt8 := dkwX4_runs_1 ++ []
def dkwX4_runs_0 : List UInt8 := [42, 182, 0, 37, 154, 0, 4, 177, 42, 42, 180, 0, 15, 16, 60, 96, 42, 180, 0, 41, 96, 17, 2, 208]
abbrev dktX4_runs_0 : List UInt8 := dkwX4_runs_0 ++ dktX4_runs_1
theorem dksX4_runs_0 : cX4_runs.data.toList.drop 0 = dktX4_runs_0 := by decide +kernel
theorem dksX4_runs_1 : cX4_runs.data.toList.drop 24 = dktX4_runs_1 := dk_seg dksX4_runs_0 24 rfl rfl
theorem dX4_runs_0 : decode cX4_runs 0 = .ok (.aload_n 0, 1) := dk_42 (dk_at dksX4_runs_0 0 rfl rfl)
theorem dX4_runs_1 : decode cX4_runs 1 = .ok (.invokevirtual 37, 3) := dk_182 0 37 (dk_at dksX4_runs_0 1 rfl rfl)
theorem dX4_runs_4 : decode cX4_runs 4 = .ok (.ifCond .ne 4, 3) := dk_154 0 4 (dk_at dksX4_runs_0 4 rfl rfl)
theorem dX4_runs_7 : decode cX4_runs 7 = .ok (.return_, 1) := dk_177 (dk_at dksX4_runs_0 7 rfl rfl)
theorem dX4_runs_8 : decode cX4_runs 8 = .ok (.aload_n 0, 1) := dk_42 (dk_at dksX4_runs_0 8 rfl rfl)
theorem dX4_runs_9 : decode cX4_runs 9 = .ok (.aload_n 0, 1) := dk_42 (dk_at dksX4_runs_0 9 rfl rfl)
theorem dX4_runs_10 : decode cX4_runs 10 = .ok (.getfield 15, 3) := dk_180 0 15 (dk_at dksX4_runs_0 10 rfl rfl)
theorem dX4_runs_13 : decode cX4_runs 13 = .ok (.bipush 60, 2) := dk_16 60 (dk_at dksX4_runs_0 13 rfl rfl)
theorem dX4_runs_15 : decode cX4_runs 15 = .ok (.iadd, 1) := dk_96 (dk_at dksX4_runs_0 15 rfl rfl)
theorem dX4_runs_16 : decode cX4_runs 16 = .ok (.aload_n 0, 1) := dk_42 (dk_at dksX4_runs_0 16 rfl rfl)
theorem dX4_runs_17 : decode cX4_runs 17 = .ok (.getfield 41, 3) := dk_180 0 41 (dk_at dksX4_runs_0 17 rfl rfl)
theorem dX4_runs_20 : decode cX4_runs 20 = .ok (.iadd, 1) := dk_96 (dk_at dksX4_runs_0 20 rfl rfl)
theorem dX4_runs_21 : decode cX4_runs 21 = .ok (.sipush 720, 3) := dk_17 2 208 (dk_at dksX4_runs_0 21 rfl rfl)
theorem dX4_runs_24 : decode cX4_runs 24 = .ok (.invokestatic 44, 3) := dk_184 0 44 (dk_at dksX4_runs_1 0 rfl rfl)
theorem dX4_runs_27 : decode cX4_runs 27 = .ok (.putfield 15, 3) := dk_181 0 15 (dk_at dksX4_runs_1 3 rfl rfl)
theorem dX4_runs_30 : decode cX4_runs 30 = .ok (.aload_n 0, 1) := dk_42 (dk_at dksX4_runs_1 6 rfl rfl)
theorem dX4_runs_31 : decode cX4_runs 31 = .ok (.dup, 1) := dk_89 (dk_at dksX4_runs_1 7 rfl rfl)
theorem dX4_runs_32 : decode cX4_runs 32 = .ok (.getfield 34, 3) := dk_180 0 34 (dk_at dksX4_runs_1 8 rfl rfl)
theorem dX4_runs_35 : decode cX4_runs 35 = .ok (.iconst 1, 1) := dk_4 (dk_at dksX4_runs_1 11 rfl rfl)
theorem dX4_runs_36 : decode cX4_runs 36 = .ok (.isub, 1) := dk_100 (dk_at dksX4_runs_1 12 rfl rfl)
theorem dX4_runs_37 : decode cX4_runs 37 = .ok (.putfield 34, 3) := dk_181 0 34 (dk_at dksX4_runs_1 13 rfl rfl)
theorem dX4_runs_40 : decode cX4_runs 40 = .ok (.return_, 1) := dk_177 (dk_at dksX4_runs_1 16 rfl rfl)
theorem dmV_X4_isRunning : yX4_isRunning.cls = RX4 ∧ yX4_isRunning.cls ≠ "java/lang/invoke/MethodHandle" ∧ yX4_isRunning.cls ≠ "java/lang/invoke/VarHandle" ∧ (parseMethodDescriptor yX4_isRunning.desc).map (fun d => d.parameters.length) = some 0 := by decide +kernel
theorem dmU_X4_isRunning0 : "LameClocks$Plain" ≠ "java/lang/invoke/MethodHandle" ∧ "LameClocks$Plain" ≠ "java/lang/invoke/VarHandle" ∧ (parseMethodDescriptor "()Z").map (fun d => d.parameters.length) = some 0 := by decide +kernel
theorem dmS_J4_floorMod : yJ4_floorMod.cls ≠ "java/lang/invoke/MethodHandle" ∧ yJ4_floorMod.cls ≠ "java/lang/invoke/VarHandle" ∧ (parseMethodDescriptor yJ4_floorMod.desc).map (fun d => d.parameters.length) = some 2 := by decide +kernel
section CP
variable {Γ : Gc} {p : Program} {l : Launch} {e : Env} {s : State} {m : MethodId} {args : Array Value} {below : List Frame} {meth : Method} {c : Code} {ex : Nat → Option Nat} {z : Nat} {tF : St}
noncomputable def fX4_runs (ex : Nat → Option Nat) (z : Nat) (h0 : Nat) (t : St) : Option (Unit × St) := ccast [4, 5, 6, 7, 8, 9] t h0 (gb (fv_X4_isRunning ex (z + t.2.1) h0 (t.1, 0, 0)) t fun r1 t2 => if r1 = 0 then some ((), t2) else cgI [4, 5, 6, 7, 8, 9] 1 t2 h0 fun v8 => cgI [4, 5, 6, 7, 8, 9] 2 t2 h0 fun v9 => gb (fJ4_floorMod ex (z + t2.2.1) ((v8 + 60) + v9) 720 (t2.1, 0, 0)) t2 fun r10 t11 => cput [4, 5, 6, 7, 8, 9] 1 t11 h0 (.int r10) fun t12 => cgI [4, 5, 6, 7, 8, 9] 3 t12 h0 fun v13 => cput [4, 5, 6, 7, 8, 9] 3 t12 h0 (.int (v13 - 1)) fun t14 => some ((), t14))
set_option maxHeartbeats 4000000 in
theorem wX4_runs {rF : Unit} (hex : ex = Γ.2.2.2.2) (X : g_X Γ p s m args meth c cX4_runs 1 RX4) (hr : meth.sig.returnType = none) (h0 : Nat) (t : St) : Wf Γ p l e 2 40 s m args below meth c 1 (g_ι z) v_v rF tF 0 [(0, .ref h0)] [] t (fX4_runs ex z h0 t) := by
  unfold fX4_runs
  refine g_aload_n (pc := 0) X 0 dX4_runs_0 rfl rfl ?_
  refine g_bD_i (pc := 1) X (cs := [4, 5, 6, 7, 8, 9]) (As := []) (rest := []) (b := h0) (n := 0) dX4_runs_1 rfl rfl (Nat.le_of_ble_eq_true rfl) (fun fl3 ci4 fs5 hs6 hci7 r u h => ?_) (fun r1 t2 => ?_)
  · simp only [List.mem_cons, List.not_mem_nil, or_false] at hci7
    rcases hci7 with rfl | rfl | rfl | rfl | rfl | rfl
    · exact ⟨_, _, _, yX4_isRunning, _, _, _, 0, 0, rfl, kX4_isRunning hex (by rw [fv_X4_isRunning_4 hs6] at h; exact h), Or.inl (cwV 0 X.2.2.2.2.1 (lw_V q632 q633 q634 q77 q644) rfl rfl rfl dmV_X4_isRunning ⟨Nat.le_of_ble_eq_true rfl, Nat.le_of_ble_eq_true rfl⟩)⟩
    · exact ⟨_, _, _, yX4_isRunning, _, _, _, 0, 0, rfl, kX4_isRunning hex (by rw [fv_X4_isRunning_5 hs6] at h; exact h), Or.inr (Or.inl ⟨_, _, va_cwU 0 X.2.2.2.2.1 (lw_U q632 q635 q636 q633 q77 q644) rfl rfl rfl rfl dmU_X4_isRunning0 ⟨Nat.le_of_ble_eq_true rfl, Nat.le_of_ble_eq_true rfl⟩⟩)⟩
    · exact ⟨_, _, _, yX6_isRunning, _, _, _, 1, 20, rfl, kX6_isRunning hex (by rw [fv_X4_isRunning_6 hs6] at h; exact h), Or.inr (Or.inl ⟨_, _, va_cwO 0 X.2.2.2.2.1 (lw_O q632 q635 q633 q638 q639 q79 q640) rfl rfl rfl q644 dmU_X4_isRunning0 ⟨Nat.le_of_ble_eq_true rfl, Nat.le_of_ble_eq_true rfl⟩⟩)⟩
    · exact ⟨_, _, _, yX6_isRunning, _, _, _, 1, 20, rfl, kX6_isRunning hex (by rw [fv_X4_isRunning_7 hs6] at h; exact h), Or.inr (Or.inl ⟨_, _, va_cwO 0 X.2.2.2.2.1 (lw_O q632 q635 q633 q642 q639 q79 q640) rfl rfl rfl q644 dmU_X4_isRunning0 ⟨Nat.le_of_ble_eq_true rfl, Nat.le_of_ble_eq_true rfl⟩⟩)⟩
    · exact ⟨_, _, _, yX4_isRunning, _, _, _, 0, 0, rfl, kX4_isRunning hex (by rw [fv_X4_isRunning_8 hs6] at h; exact h), Or.inr (Or.inl ⟨_, _, va_cwU 0 X.2.2.2.2.1 (lw_U q632 q635 q643 q633 q77 q644) rfl rfl rfl rfl dmU_X4_isRunning0 ⟨Nat.le_of_ble_eq_true rfl, Nat.le_of_ble_eq_true rfl⟩⟩)⟩
    · exact ⟨_, _, _, yX4_isRunning, _, _, _, 0, 0, rfl, kX4_isRunning hex (by rw [fv_X4_isRunning_9 hs6] at h; exact h), Or.inr (Or.inl ⟨_, _, va_cwU 0 X.2.2.2.2.1 (lw_U q632 q635 q637 q633 q77 q644) rfl rfl rfl rfl dmU_X4_isRunning0 ⟨Nat.le_of_ble_eq_true rfl, Nat.le_of_ble_eq_true rfl⟩⟩)⟩
  refine g_if_ne (pc := 4) X 8 dX4_runs_4 (by decide) ?_ ?_
  · refine g_aload_n (pc := 8) X 0 dX4_runs_8 rfl rfl ?_
    refine g_aload_n (pc := 9) X 0 dX4_runs_9 rfl rfl ?_
    refine cg_getI (pc := 10) X fo_X4_15 dX4_runs_10 (fun v8 => ?_)
    refine g_bipush (pc := 13) X 60 dX4_runs_13 rfl ?_
    refine g_iadd (pc := 15) X dX4_runs_15 ?_
    refine g_aload_n (pc := 16) X 0 dX4_runs_16 rfl rfl ?_
    refine cg_getI (pc := 17) X fo_X4_41 dX4_runs_17 (fun v9 => ?_)
    refine g_iadd (pc := 20) X dX4_runs_20 ?_
    refine g_sipush (pc := 21) X 720 dX4_runs_21 rfl ?_
    refine g_bS_i (pc := 24) X (y := yJ4_floorMod) (As := [.int ((v8 + 60) + v9), .int 720]) (rest := [.ref h0]) (fr' := 0) (lo' := 0) (fun _ => va_cwS 2 X.2.2.2.2.1 (lw_S q645 q646 q84 q647) rfl rfl rfl dmS_J4_floorMod ⟨Nat.le_of_ble_eq_true rfl, Nat.le_of_ble_eq_true rfl⟩) dX4_runs_24 rfl rfl (Nat.le_of_ble_eq_true rfl) (fun r u h => kJ4_floorMod hex h) (fun r10 t11 => ?_)
    refine cg_put (pc := 27) X fp_X4_15 dX4_runs_27 (fun h => by cases h) rfl rfl (fun t12 => ?_)
    refine g_aload_n (pc := 30) X 0 dX4_runs_30 rfl rfl ?_
    refine g_dup (pc := 31) X dX4_runs_31 rfl ?_
    refine cg_getI (pc := 32) X fo_X4_34 dX4_runs_32 (fun v13 => ?_)
    refine g_iconst (pc := 35) X 1 dX4_runs_35 rfl ?_
    refine g_isub (pc := 36) X dX4_runs_36 ?_
    refine cg_put (pc := 37) X fp_X4_34 dX4_runs_37 (fun h => by cases h) rfl rfl (fun t14 => ?_)
    exact g_vret (pc := 40) X hr dX4_runs_40
  · exact g_vret (pc := 7) X hr dX4_runs_7
theorem kX4_runs {ex : Nat → Option Nat} {z : Nat} {h0 : Nat} {σ : Sg} {r : Unit} {u : St} (hex : ex = Γ.2.2.2.2) (h : fX4_runs ex z h0 (σ, 0, 0) = some (r, u)) : g_C Γ l yX4_runs cX4_runs 1 none 2 40 [.ref h0] σ z v_v r (g_ι z u) :=
  g_met (ι := g_ι z) (t := (σ, 0, 0)) [.ref h0] (by decide) (Nat.le_of_ble_eq_true rfl) h rfl (fun p e s m args below meth c X hr hn => wX4_runs hex X hr h0 (σ, 0, 0))
end CP
abbrev cX4_copy : ByteArray := prog_11_method_15_code
def yX4_copy : MethodName := ⟨RX4, "copy", "()LLameClocks$Plain;"⟩
def dkwX4_copy_0 : List UInt8 := [42, 182, 0, 59, 184, 0, 63, 76, 43, 42, 182, 0, 67, 43, 176]
abbrev dktX4_copy_0 : List UInt8 := dkwX4_copy_0 ++ []
theorem dksX4_copy_0 : cX4_copy.data.toList.drop 0 = dktX4_copy_0 := by decide +kernel
theorem dX4_copy_0 : decode cX4_copy 0 = .ok (.aload_n 0, 1) := dk_42 (dk_at dksX4_copy_0 0 rfl rfl)
theorem dX4_copy_1 : decode cX4_copy 1 = .ok (.invokevirtual 59, 3) := dk_182 0 59 (dk_at dksX4_copy_0 1 rfl rfl)
theorem dX4_copy_4 : decode cX4_copy 4 = .ok (.invokestatic 63, 3) := dk_184 0 63 (dk_at dksX4_copy_0 4 rfl rfl)
theorem dX4_copy_7 : decode cX4_copy 7 = .ok (.astore_n 1, 1) := dk_76 (dk_at dksX4_copy_0 7 rfl rfl)
theorem dX4_copy_8 : decode cX4_copy 8 = .ok (.aload_n 1, 1) := dk_43 (dk_at dksX4_copy_0 8 rfl rfl)
theorem dX4_copy_9 : decode cX4_copy 9 = .ok (.aload_n 0, 1) := dk_42 (dk_at dksX4_copy_0 9 rfl rfl)
theorem dX4_copy_10 : decode cX4_copy 10 = .ok (.invokevirtual 67, 3) := dk_182 0 67 (dk_at dksX4_copy_0 10 rfl rfl)
theorem dX4_copy_13 : decode cX4_copy 13 = .ok (.aload_n 1, 1) := dk_43 (dk_at dksX4_copy_0 13 rfl rfl)
theorem dX4_copy_14 : decode cX4_copy 14 = .ok (.areturn, 1) := dk_176 (dk_at dksX4_copy_0 14 rfl rfl)
theorem dmV_X4_kind : yX4_kind.cls = RX4 ∧ yX4_kind.cls ≠ "java/lang/invoke/MethodHandle" ∧ yX4_kind.cls ≠ "java/lang/invoke/VarHandle" ∧ (parseMethodDescriptor yX4_kind.desc).map (fun d => d.parameters.length) = some 0 := by decide +kernel
theorem dmU_X4_kind0 : "LameClocks$Plain" ≠ "java/lang/invoke/MethodHandle" ∧ "LameClocks$Plain" ≠ "java/lang/invoke/VarHandle" ∧ (parseMethodDescriptor "()I").map (fun d => d.parameters.length) = some 0 := by decide +kernel
theorem dmS_X0_made_2 : yX0_made_2.cls ≠ "java/lang/invoke/MethodHandle" ∧ yX0_made_2.cls ≠ "java/lang/invoke/VarHandle" ∧ (parseMethodDescriptor yX0_made_2.desc).map (fun d => d.parameters.length) = some 1 := by decide +kernel
theorem dmV_X4_takes : yX4_takes.cls = RX4 ∧ yX4_takes.cls ≠ "java/lang/invoke/MethodHandle" ∧ yX4_takes.cls ≠ "java/lang/invoke/VarHandle" ∧ (parseMethodDescriptor yX4_takes.desc).map (fun d => d.parameters.length) = some 1 := by decide +kernel
theorem dmU_X4_takes1 : "LameClocks$Plain" ≠ "java/lang/invoke/MethodHandle" ∧ "LameClocks$Plain" ≠ "java/lang/invoke/VarHandle" ∧ (parseMethodDescriptor "(LLameClocks$Plain;)V").map (fun d => d.parameters.length) = some 1 := by decide +kernel
section CP
variable {Γ : Gc} {p : Program} {l : Launch} {e : Env} {s : State} {m : MethodId} {args : Array Value} {below : List Frame} {meth : Method} {c : Code} {ex : Nat → Option Nat} {z : Nat} {tF : St}
noncomputable def fX4_copy (ex : Nat → Option Nat) (z : Nat) (h0 : Nat) (t : St) : Option (Nat × St) := ccast [4, 5, 6, 7, 8, 9] t h0 (gb (fv_X4_kind ex (z + t.2.1) h0 (t.1, 0, 0)) t fun r1 t2 => gb (fX0_made_2 ex (z + t2.2.1) r1 (t2.1, 0, 0)) t2 fun r8 t9 => ccast [4, 5, 6, 7, 8, 9] t9 r8 (gb (fX4_takes ex (z + t9.2.1) r8 h0 (t9.1, 0, 0)) t9 fun _ t11 => some (r8, t11)))
set_option maxHeartbeats 4000000 in
theorem wX4_copy {rF : Nat} (hex : ex = Γ.2.2.2.2) (X : g_X Γ p s m args meth c cX4_copy 2 RX4) (hr : meth.sig.returnType = (some (.object "LameClocks$Plain"))) (h0 : Nat) (t : St) : Wf Γ p l e 5 92 s m args below meth c 2 (g_ι z) v_a rF tF 0 [(0, .ref h0)] [] t (fX4_copy ex z h0 t) := by
  unfold fX4_copy
  refine g_aload_n (pc := 0) X 0 dX4_copy_0 rfl rfl ?_
  refine g_bD_i (pc := 1) X (cs := [4, 5, 6, 7, 8, 9]) (As := []) (rest := []) (b := h0) (n := 0) dX4_copy_1 rfl rfl (Nat.le_of_ble_eq_true rfl) (fun fl3 ci4 fs5 hs6 hci7 r u h => ?_) (fun r1 t2 => ?_)
  · simp only [List.mem_cons, List.not_mem_nil, or_false] at hci7
    rcases hci7 with rfl | rfl | rfl | rfl | rfl | rfl
    · exact ⟨_, _, _, yX4_kind, _, _, _, 0, 0, rfl, kX4_kind hex (by rw [fv_X4_kind_4 hs6] at h; exact h), Or.inl (cwV 0 X.2.2.2.2.1 (lw_V q843 q380 q381 q77 q403) rfl rfl rfl dmV_X4_kind ⟨Nat.le_of_ble_eq_true rfl, Nat.le_of_ble_eq_true rfl⟩)⟩
    · exact ⟨_, _, _, yX5_kind, _, _, _, 1, 20, rfl, kX5_kind hex (by rw [fv_X4_kind_5 hs6] at h; exact h), Or.inr (Or.inl ⟨_, _, va_cwO 0 X.2.2.2.2.1 (lw_O q843 q382 q380 q383 q384 q78 q385) rfl rfl rfl q403 dmU_X4_kind0 ⟨Nat.le_of_ble_eq_true rfl, Nat.le_of_ble_eq_true rfl⟩⟩)⟩
    · exact ⟨_, _, _, yX6_kind, _, _, _, 1, 20, rfl, kX6_kind hex (by rw [fv_X4_kind_6 hs6] at h; exact h), Or.inr (Or.inl ⟨_, _, va_cwO 0 X.2.2.2.2.1 (lw_O q843 q382 q380 q391 q392 q79 q393) rfl rfl rfl q403 dmU_X4_kind0 ⟨Nat.le_of_ble_eq_true rfl, Nat.le_of_ble_eq_true rfl⟩⟩)⟩
    · exact ⟨_, _, _, yX7_kind, _, _, _, 2, 40, rfl, kX7_kind hex (by rw [fv_X4_kind_7 hs6] at h; exact h), Or.inr (Or.inl ⟨_, _, va_cwO 0 X.2.2.2.2.1 (lw_O q843 q382 q380 q395 q396 q80 q397) rfl rfl rfl q403 dmU_X4_kind0 ⟨Nat.le_of_ble_eq_true rfl, Nat.le_of_ble_eq_true rfl⟩⟩)⟩
    · exact ⟨_, _, _, yX8_kind, _, _, _, 1, 20, rfl, kX8_kind hex (by rw [fv_X4_kind_8 hs6] at h; exact h), Or.inr (Or.inl ⟨_, _, va_cwO 0 X.2.2.2.2.1 (lw_O q843 q382 q380 q399 q400 q81 q401) rfl rfl rfl q403 dmU_X4_kind0 ⟨Nat.le_of_ble_eq_true rfl, Nat.le_of_ble_eq_true rfl⟩⟩)⟩
    · exact ⟨_, _, _, yX9_kind, _, _, _, 1, 20, rfl, kX9_kind hex (by rw [fv_X4_kind_9 hs6] at h; exact h), Or.inr (Or.inl ⟨_, _, va_cwO 0 X.2.2.2.2.1 (lw_O q843 q382 q380 q387 q388 q82 q389) rfl rfl rfl q403 dmU_X4_kind0 ⟨Nat.le_of_ble_eq_true rfl, Nat.le_of_ble_eq_true rfl⟩⟩)⟩
  refine g_bSN_a (pc := 4) X (y := yX0_made_2) (As := [.int r1]) (rest := []) (fr' := 4) (lo' := 72) (fun _ => ⟨va_cnB 1 X.2.2.2.2.1 (lw_meth q142) rfl rfl rfl (X.2.2.2.2.2.2.1.nestM q844) (X.2.2.2.2.1 _ q70) dmS_X0_made_2 ⟨Nat.le_of_ble_eq_true rfl, Nat.le_of_ble_eq_true rfl⟩, X.2.2.2.2.1 _ q141, trivial⟩) dX4_copy_4 rfl rfl (Nat.le_of_ble_eq_true rfl) (fun r u h => kX0_made_2 hex h) (fun r8 t9 => ?_)
  refine g_astore_n (pc := 7) X (lv' := [(1, .ref r8), (0, .ref h0)]) dX4_copy_7 rfl (by decide) rfl ?_
  refine g_aload_n (pc := 8) X 0 dX4_copy_8 rfl rfl ?_
  refine g_aload_n (pc := 9) X 1 dX4_copy_9 rfl rfl ?_
  refine g_bD_v (pc := 10) X (cs := [4, 5, 6, 7, 8, 9]) (As := [.ref h0]) (rest := []) (b := r8) (n := 1) dX4_copy_10 rfl rfl (Nat.le_of_ble_eq_true rfl) (fun fl12 ci13 fs14 hs15 hci16 r u h => ?_) (fun r10 t11 => ?_)
  · simp only [List.mem_cons, List.not_mem_nil, or_false] at hci16
    rcases hci16 with rfl | rfl | rfl | rfl | rfl | rfl
    · exact ⟨_, _, _, yX4_takes, _, _, _, 0, 0, rfl, kX4_takes hex h, Or.inl (cwV 1 X.2.2.2.2.1 (lw_V q845 q846 q847 q77 q854) rfl rfl rfl dmV_X4_takes ⟨Nat.le_of_ble_eq_true rfl, Nat.le_of_ble_eq_true rfl⟩)⟩
    · exact ⟨_, _, _, yX4_takes, _, _, _, 0, 0, rfl, kX4_takes hex h, Or.inr (Or.inl ⟨_, _, va_cwU 1 X.2.2.2.2.1 (lw_U q845 q848 q849 q846 q77 q854) rfl rfl rfl rfl dmU_X4_takes1 ⟨Nat.le_of_ble_eq_true rfl, Nat.le_of_ble_eq_true rfl⟩⟩)⟩
    · exact ⟨_, _, _, yX4_takes, _, _, _, 0, 0, rfl, kX4_takes hex h, Or.inr (Or.inl ⟨_, _, va_cwU 1 X.2.2.2.2.1 (lw_U q845 q848 q851 q846 q77 q854) rfl rfl rfl rfl dmU_X4_takes1 ⟨Nat.le_of_ble_eq_true rfl, Nat.le_of_ble_eq_true rfl⟩⟩)⟩
    · exact ⟨_, _, _, yX4_takes, _, _, _, 0, 0, rfl, kX4_takes hex h, Or.inr (Or.inl ⟨_, _, va_cwU 1 X.2.2.2.2.1 (lw_U q845 q848 q852 q846 q77 q854) rfl rfl rfl rfl dmU_X4_takes1 ⟨Nat.le_of_ble_eq_true rfl, Nat.le_of_ble_eq_true rfl⟩⟩)⟩
    · exact ⟨_, _, _, yX4_takes, _, _, _, 0, 0, rfl, kX4_takes hex h, Or.inr (Or.inl ⟨_, _, va_cwU 1 X.2.2.2.2.1 (lw_U q845 q848 q853 q846 q77 q854) rfl rfl rfl rfl dmU_X4_takes1 ⟨Nat.le_of_ble_eq_true rfl, Nat.le_of_ble_eq_true rfl⟩⟩)⟩
    · exact ⟨_, _, _, yX4_takes, _, _, _, 0, 0, rfl, kX4_takes hex h, Or.inr (Or.inl ⟨_, _, va_cwU 1 X.2.2.2.2.1 (lw_U q845 q848 q850 q846 q77 q854) rfl rfl rfl rfl dmU_X4_takes1 ⟨Nat.le_of_ble_eq_true rfl, Nat.le_of_ble_eq_true rfl⟩⟩)⟩
  refine g_aload_n (pc := 13) X 0 dX4_copy_13 rfl rfl ?_
  exact g_aret (pc := 14) X hr (Or.inl ⟨_, rfl⟩) dX4_copy_14
theorem kX4_copy {ex : Nat → Option Nat} {z : Nat} {h0 : Nat} {σ : Sg} {r : Nat} {u : St} (hex : ex = Γ.2.2.2.2) (h : fX4_copy ex z h0 (σ, 0, 0) = some (r, u)) : g_C Γ l yX4_copy cX4_copy 2 (some (.object "LameClocks$Plain")) 5 92 [.ref h0] σ z v_a r (g_ι z u) :=
  g_met (ι := g_ι z) (t := (σ, 0, 0)) [.ref h0] (by decide) (Nat.le_of_ble_eq_true rfl) h rfl (fun p e s m args below meth c X hr hn => wX4_copy hex X hr h0 (σ, 0, 0))
end CP
abbrev cJ2_grow_2 : ByteArray := prog_50_method_6_code
def yJ2_grow_2 : MethodName := ⟨RJ2, "grow", "(I)[Ljava/lang/Object;"⟩
def dkwJ2_grow_2_2 : List UInt8 := [27, 184, 0, 79, 189, 0, 7, 90, 181, 0, 9, 176]
abbrev dktJ2_grow_2_2 : List UInt8 := dkwJ2_grow_2_2 ++ []
def dkwJ2_grow_2_1 : List UInt8 := [28, 4, 122, 184, 0, 73, 62, 42, 42, 180, 0, 9, 29, 184, 0, 66, 90, 181, 0, 9, 176, 42, 16, 10]
abbrev dktJ2_grow_2_1 : List UInt8 := dkwJ2_grow_2_1 ++ dktJ2_grow_2_2
def dkwJ2_grow_2_0 : List UInt8 := [42, 180, 0, 9, 190, 61, 28, 157, 0, 13, 42, 180, 0, 9, 178, 0, 39, 165, 0, 28, 28, 27, 28, 100]
abbrev dktJ2_grow_2_0 : List UInt8 := dkwJ2_grow_2_0 ++ dktJ2_grow_2_1
theorem dksJ2_grow_2_0 : cJ2_grow_2.data.toList.drop 0 = dktJ2_grow_2_0 := by decide +kernel
theorem dksJ2_grow_2_1 : cJ2_grow_2.data.toList.drop 24 = dktJ2_grow_2_1 := dk_seg dksJ2_grow_2_0 24 rfl rfl
theorem dksJ2_grow_2_2 : cJ2_grow_2.data.toList.drop 48 = dktJ2_grow_2_2 := dk_seg dksJ2_grow_2_1 24 rfl rfl
theorem dJ2_grow_2_0 : decode cJ2_grow_2 0 = .ok (.aload_n 0, 1) := dk_42 (dk_at dksJ2_grow_2_0 0 rfl rfl)
theorem dJ2_grow_2_1 : decode cJ2_grow_2 1 = .ok (.getfield 9, 3) := dk_180 0 9 (dk_at dksJ2_grow_2_0 1 rfl rfl)
theorem dJ2_grow_2_4 : decode cJ2_grow_2 4 = .ok (.arraylength, 1) := dk_190 (dk_at dksJ2_grow_2_0 4 rfl rfl)
theorem dJ2_grow_2_5 : decode cJ2_grow_2 5 = .ok (.istore_n 2, 1) := dk_61 (dk_at dksJ2_grow_2_0 5 rfl rfl)
theorem dJ2_grow_2_6 : decode cJ2_grow_2 6 = .ok (.iload_n 2, 1) := dk_28 (dk_at dksJ2_grow_2_0 6 rfl rfl)
theorem dJ2_grow_2_7 : decode cJ2_grow_2 7 = .ok (.ifCond .gt 13, 3) := dk_157 0 13 (dk_at dksJ2_grow_2_0 7 rfl rfl)
theorem dJ2_grow_2_10 : decode cJ2_grow_2 10 = .ok (.aload_n 0, 1) := dk_42 (dk_at dksJ2_grow_2_0 10 rfl rfl)
theorem dJ2_grow_2_11 : decode cJ2_grow_2 11 = .ok (.getfield 9, 3) := dk_180 0 9 (dk_at dksJ2_grow_2_0 11 rfl rfl)
theorem dJ2_grow_2_14 : decode cJ2_grow_2 14 = .ok (.getstatic 39, 3) := dk_178 0 39 (dk_at dksJ2_grow_2_0 14 rfl rfl)
theorem dJ2_grow_2_17 : decode cJ2_grow_2 17 = .ok (.if_acmp .eq 28, 3) := dk_165 0 28 (dk_at dksJ2_grow_2_0 17 rfl rfl)
theorem dJ2_grow_2_20 : decode cJ2_grow_2 20 = .ok (.iload_n 2, 1) := dk_28 (dk_at dksJ2_grow_2_0 20 rfl rfl)
theorem dJ2_grow_2_21 : decode cJ2_grow_2 21 = .ok (.iload_n 1, 1) := dk_27 (dk_at dksJ2_grow_2_0 21 rfl rfl)
theorem dJ2_grow_2_22 : decode cJ2_grow_2 22 = .ok (.iload_n 2, 1) := dk_28 (dk_at dksJ2_grow_2_0 22 rfl rfl)
theorem dJ2_grow_2_23 : decode cJ2_grow_2 23 = .ok (.isub, 1) := dk_100 (dk_at dksJ2_grow_2_0 23 rfl rfl)
theorem dJ2_grow_2_24 : decode cJ2_grow_2 24 = .ok (.iload_n 2, 1) := dk_28 (dk_at dksJ2_grow_2_1 0 rfl rfl)
theorem dJ2_grow_2_25 : decode cJ2_grow_2 25 = .ok (.iconst 1, 1) := dk_4 (dk_at dksJ2_grow_2_1 1 rfl rfl)
theorem dJ2_grow_2_26 : decode cJ2_grow_2 26 = .ok (.ishr, 1) := dk_122 (dk_at dksJ2_grow_2_1 2 rfl rfl)
theorem dJ2_grow_2_27 : decode cJ2_grow_2 27 = .ok (.invokestatic 73, 3) := dk_184 0 73 (dk_at dksJ2_grow_2_1 3 rfl rfl)
theorem dJ2_grow_2_30 : decode cJ2_grow_2 30 = .ok (.istore_n 3, 1) := dk_62 (dk_at dksJ2_grow_2_1 6 rfl rfl)
theorem dJ2_grow_2_31 : decode cJ2_grow_2 31 = .ok (.aload_n 0, 1) := dk_42 (dk_at dksJ2_grow_2_1 7 rfl rfl)
theorem dJ2_grow_2_32 : decode cJ2_grow_2 32 = .ok (.aload_n 0, 1) := dk_42 (dk_at dksJ2_grow_2_1 8 rfl rfl)
theorem dJ2_grow_2_33 : decode cJ2_grow_2 33 = .ok (.getfield 9, 3) := dk_180 0 9 (dk_at dksJ2_grow_2_1 9 rfl rfl)
theorem dJ2_grow_2_36 : decode cJ2_grow_2 36 = .ok (.iload_n 3, 1) := dk_29 (dk_at dksJ2_grow_2_1 12 rfl rfl)
theorem dJ2_grow_2_37 : decode cJ2_grow_2 37 = .ok (.invokestatic 66, 3) := dk_184 0 66 (dk_at dksJ2_grow_2_1 13 rfl rfl)
theorem dJ2_grow_2_40 : decode cJ2_grow_2 40 = .ok (.dup_x1, 1) := dk_90 (dk_at dksJ2_grow_2_1 16 rfl rfl)
theorem dJ2_grow_2_41 : decode cJ2_grow_2 41 = .ok (.putfield 9, 3) := dk_181 0 9 (dk_at dksJ2_grow_2_1 17 rfl rfl)
theorem dJ2_grow_2_44 : decode cJ2_grow_2 44 = .ok (.areturn, 1) := dk_176 (dk_at dksJ2_grow_2_1 20 rfl rfl)
theorem dJ2_grow_2_45 : decode cJ2_grow_2 45 = .ok (.aload_n 0, 1) := dk_42 (dk_at dksJ2_grow_2_1 21 rfl rfl)
theorem dJ2_grow_2_46 : decode cJ2_grow_2 46 = .ok (.bipush 10, 2) := dk_16 10 (dk_at dksJ2_grow_2_1 22 rfl rfl)
theorem dJ2_grow_2_48 : decode cJ2_grow_2 48 = .ok (.iload_n 1, 1) := dk_27 (dk_at dksJ2_grow_2_2 0 rfl rfl)
theorem dJ2_grow_2_49 : decode cJ2_grow_2 49 = .ok (.invokestatic 79, 3) := dk_184 0 79 (dk_at dksJ2_grow_2_2 1 rfl rfl)
theorem dJ2_grow_2_52 : decode cJ2_grow_2 52 = .ok (.anewarray 7, 3) := dk_189 0 7 (dk_at dksJ2_grow_2_2 4 rfl rfl)
theorem dJ2_grow_2_55 : decode cJ2_grow_2 55 = .ok (.dup_x1, 1) := dk_90 (dk_at dksJ2_grow_2_2 7 rfl rfl)
theorem dJ2_grow_2_56 : decode cJ2_grow_2 56 = .ok (.putfield 9, 3) := dk_181 0 9 (dk_at dksJ2_grow_2_2 8 rfl rfl)
theorem dJ2_grow_2_59 : decode cJ2_grow_2 59 = .ok (.areturn, 1) := dk_176 (dk_at dksJ2_grow_2_2 11 rfl rfl)
theorem dmS_J3_newLength : yJ3_newLength.cls ≠ "java/lang/invoke/MethodHandle" ∧ yJ3_newLength.cls ≠ "java/lang/invoke/VarHandle" ∧ (parseMethodDescriptor yJ3_newLength.desc).map (fun d => d.parameters.length) = some 3 := by decide +kernel
theorem dmS_J5_copyOf : yJ5_copyOf.cls ≠ "java/lang/invoke/MethodHandle" ∧ yJ5_copyOf.cls ≠ "java/lang/invoke/VarHandle" ∧ (parseMethodDescriptor yJ5_copyOf.desc).map (fun d => d.parameters.length) = some 2 := by decide +kernel
section CP
variable {Γ : Gc} {p : Program} {l : Launch} {e : Env} {s : State} {m : MethodId} {args : Array Value} {below : List Frame} {meth : Method} {c : Code} {ex : Nat → Option Nat} {z : Nat} {tF : St}
noncomputable def fJ2_grow_2_20 (ex : Nat → Option Nat) (z : Nat) (h0 : Nat) (x1 : Int32) (x2 : Int32) (t : St) : Option (Nat × St) := gb (fJ3_newLength ex (z + t.2.1) x2 (x1 - x2) (x2 >>> (1 &&& 31)) (t.1, 0, 0)) t fun r1 t2 => cgA [15] 1 t2 h0 fun v3 => gb (fJ5_copyOf ex (z + t2.2.1) v3 r1 (t2.1, 0, 0)) t2 fun r4 t5 => cput [15] 1 t5 h0 (.ref r4) fun t6 => some (r4, t6)
set_option maxHeartbeats 4000000 in
theorem wJ2_grow_2_20 {rF : Nat} (hex : ex = Γ.2.2.2.2) (X : g_X Γ p s m args meth c cJ2_grow_2 4 RJ2) (hr : meth.sig.returnType = (some (.array (.object "java/lang/Object")))) (h0 : Nat) (x1 : Int32) (x2 : Int32) (t : St) : Wf Γ p l e 3 65 s m args below meth c 4 (g_ι z) v_a rF tF 20 [(0, .ref h0), (1, .int x1), (2, .int x2)] [] t (fJ2_grow_2_20 ex z h0 x1 x2 t) := by
  unfold fJ2_grow_2_20
  refine g_iload_n (pc := 20) X 2 dJ2_grow_2_20 rfl rfl ?_
  refine g_iload_n (pc := 21) X 1 dJ2_grow_2_21 rfl rfl ?_
  refine g_iload_n (pc := 22) X 2 dJ2_grow_2_22 rfl rfl ?_
  refine g_isub (pc := 23) X dJ2_grow_2_23 ?_
  refine g_iload_n (pc := 24) X 2 dJ2_grow_2_24 rfl rfl ?_
  refine g_iconst (pc := 25) X 1 dJ2_grow_2_25 rfl ?_
  refine g_ishr (pc := 26) X dJ2_grow_2_26 ?_
  refine g_bS_i (pc := 27) X (y := yJ3_newLength) (As := [.int x2, .int (x1 - x2), .int (x2 >>> (1 &&& 31))]) (rest := []) (fr' := 1) (lo' := 21) (fun _ => va_cwS 3 X.2.2.2.2.1 (lw_S q273 q274 q83 q275) rfl rfl rfl dmS_J3_newLength ⟨Nat.le_of_ble_eq_true rfl, Nat.le_of_ble_eq_true rfl⟩) dJ2_grow_2_27 rfl rfl (Nat.le_of_ble_eq_true rfl) (fun r u h => kJ3_newLength hex h) (fun r1 t2 => ?_)
  refine g_istore_n (pc := 30) X (lv' := [(3, .int r1), (0, .ref h0), (1, .int x1), (2, .int x2)]) dJ2_grow_2_30 rfl (by decide) rfl ?_
  refine g_aload_n (pc := 31) X 1 dJ2_grow_2_31 rfl rfl ?_
  refine g_aload_n (pc := 32) X 1 dJ2_grow_2_32 rfl rfl ?_
  refine cg_getA (pc := 33) X fo_J2_9 dJ2_grow_2_33 (fun v3 => ?_)
  refine g_iload_n (pc := 36) X 0 dJ2_grow_2_36 rfl rfl ?_
  refine g_bS_a (pc := 37) X (y := yJ5_copyOf) (As := [.ref v3, .int r1]) (rest := [.ref h0]) (fr' := 2) (lo' := 44) (fun _ => va_cwS 2 X.2.2.2.2.1 (lw_S q283 q284 q85 q285) rfl rfl rfl dmS_J5_copyOf ⟨Nat.le_of_ble_eq_true rfl, Nat.le_of_ble_eq_true rfl⟩) dJ2_grow_2_37 rfl rfl (Nat.le_of_ble_eq_true rfl) (fun r u h => kJ5_copyOf hex h) (fun r4 t5 => ?_)
  refine g_dup_x1 (pc := 40) X dJ2_grow_2_40 rfl rfl ?_
  refine cg_put (pc := 41) X fp_J2_9 dJ2_grow_2_41 (fun h => by cases h) rfl rfl (fun t6 => ?_)
  exact g_aret (pc := 44) X hr (Or.inr ⟨_, rfl⟩) dJ2_grow_2_44
noncomputable def fJ2_grow_2 (ex : Nat → Option Nat) (z : Nat) (h0 : Nat) (x1 : Int32) (t : St) : Option (Nat × St) := cgA [15] 1 t h0 fun v1 => calen t v1 fun v2 => if 0 < v2 then fJ2_grow_2_20 ex z h0 x1 v2 t else cgA [15] 1 t h0 fun v3 => if (some v3) = (ex 0) then gb (fJ4_max ex (z + t.2.1) 10 x1 (t.1, 0, 0)) t fun r4 t5 => cnewa z 4 r4 t5 fun a6 t7 => cput [15] 1 t7 h0 (.ref a6) fun t8 => some (a6, t8) else fJ2_grow_2_20 ex z h0 x1 v2 t
set_option maxHeartbeats 4000000 in
theorem wJ2_grow_2 {rF : Nat} (hex : ex = Γ.2.2.2.2) (X : g_X Γ p s m args meth c cJ2_grow_2 4 RJ2) (hr : meth.sig.returnType = (some (.array (.object "java/lang/Object")))) (h0 : Nat) (x1 : Int32) (t : St) : Wf Γ p l e 3 65 s m args below meth c 4 (g_ι z) v_a rF tF 0 [(0, .ref h0), (1, .int x1)] [] t (fJ2_grow_2 ex z h0 x1 t) := by
  unfold fJ2_grow_2
  refine g_aload_n (pc := 0) X 0 dJ2_grow_2_0 rfl rfl ?_
  refine cg_getA (pc := 1) X fo_J2_9 dJ2_grow_2_1 (fun v1 => ?_)
  refine cg_alen (pc := 4) X dJ2_grow_2_4 (fun v2 => ?_)
  refine g_istore_n (pc := 5) X (lv' := [(2, .int v2), (0, .ref h0), (1, .int x1)]) dJ2_grow_2_5 rfl (by decide) rfl ?_
  refine g_iload_n (pc := 6) X 0 dJ2_grow_2_6 rfl rfl ?_
  refine g_if_gt (pc := 7) X 20 dJ2_grow_2_7 (by decide) ?_ ?_
  · exact g_lv (pc := 20) (lv' := [(0, .ref h0), (1, .int x1), (2, .int v2)]) [1, 2, 0] rfl (wJ2_grow_2_20 hex X hr h0 x1 v2 t)
  · refine g_aload_n (pc := 10) X 1 dJ2_grow_2_10 rfl rfl ?_
    refine cg_getA (pc := 11) X fo_J2_9 dJ2_grow_2_11 (fun v3 => ?_)
    refine cg_gets (pc := 14) X (v := va_rf (ex 0)) q272 q74 q271 (by rw [hex]; exact ev_DEFAULTCAPACITY_EMPTY_ELEMENTDATA) dJ2_grow_2_14 ?_
    refine cg_acmp_eq (pc := 17) X (rx := (some v3)) (ry := (ex 0)) 45 dJ2_grow_2_17 (by decide) ?_ ?_
    · refine g_aload_n (pc := 45) X 1 dJ2_grow_2_45 rfl rfl ?_
      refine g_bipush (pc := 46) X 10 dJ2_grow_2_46 rfl ?_
      refine g_iload_n (pc := 48) X 2 dJ2_grow_2_48 rfl rfl ?_
      refine g_bS_i (pc := 49) X (y := yJ4_max) (As := [.int 10, .int x1]) (rest := [.ref h0]) (fr' := 0) (lo' := 0) (fun _ => va_cwS 2 X.2.2.2.2.1 (lw_S q329 q277 q84 q278) rfl rfl rfl dmS_J4_max ⟨Nat.le_of_ble_eq_true rfl, Nat.le_of_ble_eq_true rfl⟩) dJ2_grow_2_49 rfl rfl (Nat.le_of_ble_eq_true rfl) (fun r u h => kJ4_max hex h) (fun r4 t5 => ?_)
      refine cg_newq (pc := 52) X (j := 4) dJ2_grow_2_52 (by decide) rfl q330 q321 (fun a6 t7 => ?_)
      refine g_dup_x1 (pc := 55) X dJ2_grow_2_55 rfl rfl ?_
      refine cg_put (pc := 56) X fp_J2_9 dJ2_grow_2_56 (fun h => by cases h) rfl rfl (fun t8 => ?_)
      exact g_aret (pc := 59) X hr (Or.inr ⟨_, rfl⟩) dJ2_grow_2_59
    · exact g_lv (pc := 20) (lv' := [(0, .ref h0), (1, .int x1), (2, .int v2)]) [1, 2, 0] rfl (wJ2_grow_2_20 hex X hr h0 x1 v2 t)
theorem kJ2_grow_2 {ex : Nat → Option Nat} {z : Nat} {h0 : Nat} {x1 : Int32} {σ : Sg} {r : Nat} {u : St} (hex : ex = Γ.2.2.2.2) (h : fJ2_grow_2 ex z h0 x1 (σ, 0, 0) = some (r, u)) : g_C Γ l yJ2_grow_2 cJ2_grow_2 4 (some (.array (.object "java/lang/Object"))) 3 65 [.ref h0, .int x1] σ z v_a r (g_ι z u) :=
  g_met (ι := g_ι z) (t := (σ, 0, 0)) [.ref h0, .int x1] (by decide) (Nat.le_of_ble_eq_true rfl) h rfl (fun p e s m args below meth c X hr hn => wJ2_grow_2 hex X hr h0 x1 (σ, 0, 0))
end CP
abbrev cJ2_remove : ByteArray := prog_50_method_29_code
def yJ2_remove : MethodName := ⟨RJ2, "remove", "(I)Ljava/lang/Object;"⟩
def dkwJ2_remove_1 : List UInt8 := [45, 176]
abbrev dktJ2_remove_1 : List UInt8 := dkwJ2_remove_1 ++ []
def dkwJ2_remove_0 : List UInt8 := [27, 42, 180, 0, 48, 184, 0, 118, 87, 42, 180, 0, 9, 77, 44, 27, 50, 78, 42, 44, 27, 182, 0, 144]
abbrev dktJ2_remove_0 : List UInt8 := dkwJ2_remove_0 ++ dktJ2_remove_1
theorem dksJ2_remove_0 : cJ2_remove.data.toList.drop 0 = dktJ2_remove_0 := by decide +kernel
theorem dksJ2_remove_1 : cJ2_remove.data.toList.drop 24 = dktJ2_remove_1 := dk_seg dksJ2_remove_0 24 rfl rfl
theorem dJ2_remove_0 : decode cJ2_remove 0 = .ok (.iload_n 1, 1) := dk_27 (dk_at dksJ2_remove_0 0 rfl rfl)
theorem dJ2_remove_1 : decode cJ2_remove 1 = .ok (.aload_n 0, 1) := dk_42 (dk_at dksJ2_remove_0 1 rfl rfl)
theorem dJ2_remove_2 : decode cJ2_remove 2 = .ok (.getfield 48, 3) := dk_180 0 48 (dk_at dksJ2_remove_0 2 rfl rfl)
theorem dJ2_remove_5 : decode cJ2_remove 5 = .ok (.invokestatic 118, 3) := dk_184 0 118 (dk_at dksJ2_remove_0 5 rfl rfl)
theorem dJ2_remove_8 : decode cJ2_remove 8 = .ok (.pop, 1) := dk_87 (dk_at dksJ2_remove_0 8 rfl rfl)
theorem dJ2_remove_9 : decode cJ2_remove 9 = .ok (.aload_n 0, 1) := dk_42 (dk_at dksJ2_remove_0 9 rfl rfl)
theorem dJ2_remove_10 : decode cJ2_remove 10 = .ok (.getfield 9, 3) := dk_180 0 9 (dk_at dksJ2_remove_0 10 rfl rfl)
theorem dJ2_remove_13 : decode cJ2_remove 13 = .ok (.astore_n 2, 1) := dk_77 (dk_at dksJ2_remove_0 13 rfl rfl)
theorem dJ2_remove_14 : decode cJ2_remove 14 = .ok (.aload_n 2, 1) := dk_44 (dk_at dksJ2_remove_0 14 rfl rfl)
theorem dJ2_remove_15 : decode cJ2_remove 15 = .ok (.iload_n 1, 1) := dk_27 (dk_at dksJ2_remove_0 15 rfl rfl)
theorem dJ2_remove_16 : decode cJ2_remove 16 = .ok (.aaload, 1) := dk_50 (dk_at dksJ2_remove_0 16 rfl rfl)
theorem dJ2_remove_17 : decode cJ2_remove 17 = .ok (.astore_n 3, 1) := dk_78 (dk_at dksJ2_remove_0 17 rfl rfl)
theorem dJ2_remove_18 : decode cJ2_remove 18 = .ok (.aload_n 0, 1) := dk_42 (dk_at dksJ2_remove_0 18 rfl rfl)
theorem dJ2_remove_19 : decode cJ2_remove 19 = .ok (.aload_n 2, 1) := dk_44 (dk_at dksJ2_remove_0 19 rfl rfl)
theorem dJ2_remove_20 : decode cJ2_remove 20 = .ok (.iload_n 1, 1) := dk_27 (dk_at dksJ2_remove_0 20 rfl rfl)
theorem dJ2_remove_21 : decode cJ2_remove 21 = .ok (.invokevirtual 144, 3) := dk_182 0 144 (dk_at dksJ2_remove_0 21 rfl rfl)
theorem dJ2_remove_24 : decode cJ2_remove 24 = .ok (.aload_n 3, 1) := dk_45 (dk_at dksJ2_remove_1 0 rfl rfl)
theorem dJ2_remove_25 : decode cJ2_remove 25 = .ok (.areturn, 1) := dk_176 (dk_at dksJ2_remove_1 1 rfl rfl)
theorem dmS_J6_checkIndex : yJ6_checkIndex.cls ≠ "java/lang/invoke/MethodHandle" ∧ yJ6_checkIndex.cls ≠ "java/lang/invoke/VarHandle" ∧ (parseMethodDescriptor yJ6_checkIndex.desc).map (fun d => d.parameters.length) = some 2 := by decide +kernel
theorem dmV_J2_fastRemove : yJ2_fastRemove.cls = RJ2 ∧ yJ2_fastRemove.cls ≠ "java/lang/invoke/MethodHandle" ∧ yJ2_fastRemove.cls ≠ "java/lang/invoke/VarHandle" ∧ (parseMethodDescriptor yJ2_fastRemove.desc).map (fun d => d.parameters.length) = some 2 := by decide +kernel
section CP
variable {Γ : Gc} {p : Program} {l : Launch} {e : Env} {s : State} {m : MethodId} {args : Array Value} {below : List Frame} {meth : Method} {c : Code} {ex : Nat → Option Nat} {z : Nat} {tF : St}
noncomputable def fJ2_remove (ex : Nat → Option Nat) (z : Nat) (h0 : Nat) (x1 : Int32) (t : St) : Option (Nat × St) := cgI [15] 2 t h0 fun v1 => gb (fJ6_checkIndex ex (z + t.2.1) x1 v1 (t.1, 0, 0)) t fun r2 t3 => cgA [15] 1 t3 h0 fun v4 => caldA 4 t3 v4 x1 fun v5 => ccast [15] t3 h0 (gb (fJ2_fastRemove ex (z + t3.2.1) h0 v4 x1 (t3.1, 0, 0)) t3 fun _ t7 => some (v5, t7))
set_option maxHeartbeats 4000000 in
theorem wJ2_remove {rF : Nat} (hex : ex = Γ.2.2.2.2) (X : g_X Γ p s m args meth c cJ2_remove 4 RJ2) (hr : meth.sig.returnType = (some (.object "java/lang/Object"))) (h0 : Nat) (x1 : Int32) (t : St) : Wf Γ p l e 2 43 s m args below meth c 4 (g_ι z) v_a rF tF 0 [(0, .ref h0), (1, .int x1)] [] t (fJ2_remove ex z h0 x1 t) := by
  unfold fJ2_remove
  refine g_iload_n (pc := 0) X 1 dJ2_remove_0 rfl rfl ?_
  refine g_aload_n (pc := 1) X 0 dJ2_remove_1 rfl rfl ?_
  refine cg_getI (pc := 2) X fo_J2_48 dJ2_remove_2 (fun v1 => ?_)
  refine g_bS_i (pc := 5) X (y := yJ6_checkIndex) (As := [.int x1, .int v1]) (rest := []) (fr' := 1) (lo' := 22) (fun _ => va_cwS 2 X.2.2.2.2.1 (lw_S q339 q340 q87 q341) rfl rfl rfl dmS_J6_checkIndex ⟨Nat.le_of_ble_eq_true rfl, Nat.le_of_ble_eq_true rfl⟩) dJ2_remove_5 rfl rfl (Nat.le_of_ble_eq_true rfl) (fun r u h => kJ6_checkIndex hex h) (fun r2 t3 => ?_)
  refine g_pop (pc := 8) X dJ2_remove_8 rfl ?_
  refine g_aload_n (pc := 9) X 0 dJ2_remove_9 rfl rfl ?_
  refine cg_getA (pc := 10) X fo_J2_9 dJ2_remove_10 (fun v4 => ?_)
  refine g_astore_n (pc := 13) X (lv' := [(2, .ref v4), (0, .ref h0), (1, .int x1)]) dJ2_remove_13 rfl (by decide) rfl ?_
  refine g_aload_n (pc := 14) X 0 dJ2_remove_14 rfl rfl ?_
  refine g_iload_n (pc := 15) X 2 dJ2_remove_15 rfl rfl ?_
  refine cg_aald (pc := 16) X (j := 4) rfl rfl dJ2_remove_16 (fun v5 => ?_)
  refine g_astore_n (pc := 17) X (lv' := [(3, .ref v5), (2, .ref v4), (0, .ref h0), (1, .int x1)]) dJ2_remove_17 rfl (by decide) rfl ?_
  refine g_aload_n (pc := 18) X 2 dJ2_remove_18 rfl rfl ?_
  refine g_aload_n (pc := 19) X 1 dJ2_remove_19 rfl rfl ?_
  refine g_iload_n (pc := 20) X 3 dJ2_remove_20 rfl rfl ?_
  refine g_bD_v (pc := 21) X (cs := [15]) (As := [.ref v4, .int x1]) (rest := []) (b := h0) (n := 2) dJ2_remove_21 rfl rfl (Nat.le_of_ble_eq_true rfl) (fun fl8 ci9 fs10 hs11 hci12 r u h => ?_) (fun r6 t7 => ?_)
  · obtain rfl := List.mem_singleton.mp hci12
    exact ⟨_, _, _, yJ2_fastRemove, _, _, _, 1, 18, rfl, kJ2_fastRemove hex h, Or.inl (cwV 2 X.2.2.2.2.1 (lw_V q345 q347 qs3 q74 q348) rfl rfl rfl dmV_J2_fastRemove ⟨Nat.le_of_ble_eq_true rfl, Nat.le_of_ble_eq_true rfl⟩)⟩
  refine g_aload_n (pc := 24) X 0 dJ2_remove_24 rfl rfl ?_
  exact g_aret (pc := 25) X hr (Or.inl ⟨_, rfl⟩) dJ2_remove_25
theorem kJ2_remove {ex : Nat → Option Nat} {z : Nat} {h0 : Nat} {x1 : Int32} {σ : Sg} {r : Nat} {u : St} (hex : ex = Γ.2.2.2.2) (h : fJ2_remove ex z h0 x1 (σ, 0, 0) = some (r, u)) : g_C Γ l yJ2_remove cJ2_remove 4 (some (.object "java/lang/Object")) 2 43 [.ref h0, .int x1] σ z v_a r (g_ι z u) :=
  g_met (ι := g_ι z) (t := (σ, 0, 0)) [.ref h0, .int x1] (by decide) (Nat.le_of_ble_eq_true rfl) h rfl (fun p e s m args below meth c X hr hn => wJ2_remove hex X hr h0 x1 (σ, 0, 0))
end CP
abbrev cJ2_get : ByteArray := prog_50_method_20_code
def yJ2_get : MethodName := ⟨RJ2, "get", "(I)Ljava/lang/Object;"⟩
def dkwJ2_get_0 : List UInt8 := [27, 42, 180, 0, 48, 184, 0, 118, 87, 42, 27, 182, 0, 123, 176]
abbrev dktJ2_get_0 : List UInt8 := dkwJ2_get_0 ++ []
theorem dksJ2_get_0 : cJ2_get.data.toList.drop 0 = dktJ2_get_0 := by decide +kernel
theorem dJ2_get_0 : decode cJ2_get 0 = .ok (.iload_n 1, 1) := dk_27 (dk_at dksJ2_get_0 0 rfl rfl)
theorem dJ2_get_1 : decode cJ2_get 1 = .ok (.aload_n 0, 1) := dk_42 (dk_at dksJ2_get_0 1 rfl rfl)
theorem dJ2_get_2 : decode cJ2_get 2 = .ok (.getfield 48, 3) := dk_180 0 48 (dk_at dksJ2_get_0 2 rfl rfl)
theorem dJ2_get_5 : decode cJ2_get 5 = .ok (.invokestatic 118, 3) := dk_184 0 118 (dk_at dksJ2_get_0 5 rfl rfl)
theorem dJ2_get_8 : decode cJ2_get 8 = .ok (.pop, 1) := dk_87 (dk_at dksJ2_get_0 8 rfl rfl)
theorem dJ2_get_9 : decode cJ2_get 9 = .ok (.aload_n 0, 1) := dk_42 (dk_at dksJ2_get_0 9 rfl rfl)
theorem dJ2_get_10 : decode cJ2_get 10 = .ok (.iload_n 1, 1) := dk_27 (dk_at dksJ2_get_0 10 rfl rfl)
theorem dJ2_get_11 : decode cJ2_get 11 = .ok (.invokevirtual 123, 3) := dk_182 0 123 (dk_at dksJ2_get_0 11 rfl rfl)
theorem dJ2_get_14 : decode cJ2_get 14 = .ok (.areturn, 1) := dk_176 (dk_at dksJ2_get_0 14 rfl rfl)
theorem dmV_J2_elementData : yJ2_elementData.cls = RJ2 ∧ yJ2_elementData.cls ≠ "java/lang/invoke/MethodHandle" ∧ yJ2_elementData.cls ≠ "java/lang/invoke/VarHandle" ∧ (parseMethodDescriptor yJ2_elementData.desc).map (fun d => d.parameters.length) = some 1 := by decide +kernel
section CP
variable {Γ : Gc} {p : Program} {l : Launch} {e : Env} {s : State} {m : MethodId} {args : Array Value} {below : List Frame} {meth : Method} {c : Code} {ex : Nat → Option Nat} {z : Nat} {tF : St}
noncomputable def fJ2_get (ex : Nat → Option Nat) (z : Nat) (h0 : Nat) (x1 : Int32) (t : St) : Option (Nat × St) := cgI [15] 2 t h0 fun v1 => gb (fJ6_checkIndex ex (z + t.2.1) x1 v1 (t.1, 0, 0)) t fun r2 t3 => ccast [15] t3 h0 (gb (fJ2_elementData ex (z + t3.2.1) h0 x1 (t3.1, 0, 0)) t3 fun r4 t5 => some (r4, t5))
set_option maxHeartbeats 4000000 in
theorem wJ2_get {rF : Nat} (hex : ex = Γ.2.2.2.2) (X : g_X Γ p s m args meth c cJ2_get 2 RJ2) (hr : meth.sig.returnType = (some (.object "java/lang/Object"))) (h0 : Nat) (x1 : Int32) (t : St) : Wf Γ p l e 2 43 s m args below meth c 2 (g_ι z) v_a rF tF 0 [(0, .ref h0), (1, .int x1)] [] t (fJ2_get ex z h0 x1 t) := by
  unfold fJ2_get
  refine g_iload_n (pc := 0) X 1 dJ2_get_0 rfl rfl ?_
  refine g_aload_n (pc := 1) X 0 dJ2_get_1 rfl rfl ?_
  refine cg_getI (pc := 2) X fo_J2_48 dJ2_get_2 (fun v1 => ?_)
  refine g_bS_i (pc := 5) X (y := yJ6_checkIndex) (As := [.int x1, .int v1]) (rest := []) (fr' := 1) (lo' := 22) (fun _ => va_cwS 2 X.2.2.2.2.1 (lw_S q339 q340 q87 q341) rfl rfl rfl dmS_J6_checkIndex ⟨Nat.le_of_ble_eq_true rfl, Nat.le_of_ble_eq_true rfl⟩) dJ2_get_5 rfl rfl (Nat.le_of_ble_eq_true rfl) (fun r u h => kJ6_checkIndex hex h) (fun r2 t3 => ?_)
  refine g_pop (pc := 8) X dJ2_get_8 rfl ?_
  refine g_aload_n (pc := 9) X 0 dJ2_get_9 rfl rfl ?_
  refine g_iload_n (pc := 10) X 1 dJ2_get_10 rfl rfl ?_
  refine g_bD_a (pc := 11) X (cs := [15]) (As := [.int x1]) (rest := []) (b := h0) (n := 1) dJ2_get_11 rfl rfl (Nat.le_of_ble_eq_true rfl) (fun fl6 ci7 fs8 hs9 hci10 r u h => ?_) (fun r4 t5 => ?_)
  · obtain rfl := List.mem_singleton.mp hci10
    exact ⟨_, _, _, yJ2_elementData, _, _, _, 0, 0, rfl, kJ2_elementData hex h, Or.inl (cwV 1 X.2.2.2.2.1 (lw_V q355 q356 q357 q74 q358) rfl rfl rfl dmV_J2_elementData ⟨Nat.le_of_ble_eq_true rfl, Nat.le_of_ble_eq_true rfl⟩)⟩
  exact g_aret (pc := 14) X hr (Or.inl ⟨_, rfl⟩) dJ2_get_14
theorem kJ2_get {ex : Nat → Option Nat} {z : Nat} {h0 : Nat} {x1 : Int32} {σ : Sg} {r : Nat} {u : St} (hex : ex = Γ.2.2.2.2) (h : fJ2_get ex z h0 x1 (σ, 0, 0) = some (r, u)) : g_C Γ l yJ2_get cJ2_get 2 (some (.object "java/lang/Object")) 2 43 [.ref h0, .int x1] σ z v_a r (g_ι z u) :=
  g_met (ι := g_ι z) (t := (σ, 0, 0)) [.ref h0, .int x1] (by decide) (Nat.le_of_ble_eq_true rfl) h rfl (fun p e s m args below meth c X hr hn => wJ2_get hex X hr h0 x1 (σ, 0, 0))
end CP
abbrev cJ2_set : ByteArray := prog_50_method_23_code
def yJ2_set : MethodName := ⟨RJ2, "set", "(ILjava/lang/Object;)Ljava/lang/Object;"⟩
def dkwJ2_set_0 : List UInt8 := [27, 42, 180, 0, 48, 184, 0, 118, 87, 42, 27, 182, 0, 123, 78, 42, 180, 0, 9, 27, 44, 83, 45, 176]
abbrev dktJ2_set_0 : List UInt8 := dkwJ2_set_0 ++ []
theorem dksJ2_set_0 : cJ2_set.data.toList.drop 0 = dktJ2_set_0 := by decide +kernel
theorem dJ2_set_0 : decode cJ2_set 0 = .ok (.iload_n 1, 1) := dk_27 (dk_at dksJ2_set_0 0 rfl rfl)
theorem dJ2_set_1 : decode cJ2_set 1 = .ok (.aload_n 0, 1) := dk_42 (dk_at dksJ2_set_0 1 rfl rfl)
theorem dJ2_set_2 : decode cJ2_set 2 = .ok (.getfield 48, 3) := dk_180 0 48 (dk_at dksJ2_set_0 2 rfl rfl)
theorem dJ2_set_5 : decode cJ2_set 5 = .ok (.invokestatic 118, 3) := dk_184 0 118 (dk_at dksJ2_set_0 5 rfl rfl)
theorem dJ2_set_8 : decode cJ2_set 8 = .ok (.pop, 1) := dk_87 (dk_at dksJ2_set_0 8 rfl rfl)
theorem dJ2_set_9 : decode cJ2_set 9 = .ok (.aload_n 0, 1) := dk_42 (dk_at dksJ2_set_0 9 rfl rfl)
theorem dJ2_set_10 : decode cJ2_set 10 = .ok (.iload_n 1, 1) := dk_27 (dk_at dksJ2_set_0 10 rfl rfl)
theorem dJ2_set_11 : decode cJ2_set 11 = .ok (.invokevirtual 123, 3) := dk_182 0 123 (dk_at dksJ2_set_0 11 rfl rfl)
theorem dJ2_set_14 : decode cJ2_set 14 = .ok (.astore_n 3, 1) := dk_78 (dk_at dksJ2_set_0 14 rfl rfl)
theorem dJ2_set_15 : decode cJ2_set 15 = .ok (.aload_n 0, 1) := dk_42 (dk_at dksJ2_set_0 15 rfl rfl)
theorem dJ2_set_16 : decode cJ2_set 16 = .ok (.getfield 9, 3) := dk_180 0 9 (dk_at dksJ2_set_0 16 rfl rfl)
theorem dJ2_set_19 : decode cJ2_set 19 = .ok (.iload_n 1, 1) := dk_27 (dk_at dksJ2_set_0 19 rfl rfl)
theorem dJ2_set_20 : decode cJ2_set 20 = .ok (.aload_n 2, 1) := dk_44 (dk_at dksJ2_set_0 20 rfl rfl)
theorem dJ2_set_21 : decode cJ2_set 21 = .ok (.aastore, 1) := dk_83 (dk_at dksJ2_set_0 21 rfl rfl)
theorem dJ2_set_22 : decode cJ2_set 22 = .ok (.aload_n 3, 1) := dk_45 (dk_at dksJ2_set_0 22 rfl rfl)
theorem dJ2_set_23 : decode cJ2_set 23 = .ok (.areturn, 1) := dk_176 (dk_at dksJ2_set_0 23 rfl rfl)
section CP
variable {Γ : Gc} {p : Program} {l : Launch} {e : Env} {s : State} {m : MethodId} {args : Array Value} {below : List Frame} {meth : Method} {c : Code} {ex : Nat → Option Nat} {z : Nat} {tF : St}
noncomputable def fJ2_set (ex : Nat → Option Nat) (z : Nat) (h0 : Nat) (x1 : Int32) (h2 : Nat) (t : St) : Option (Nat × St) := cgI [15] 2 t h0 fun v1 => gb (fJ6_checkIndex ex (z + t.2.1) x1 v1 (t.1, 0, 0)) t fun r2 t3 => ccast [15] t3 h0 (gb (fJ2_elementData ex (z + t3.2.1) h0 x1 (t3.1, 0, 0)) t3 fun r4 t5 => cgA [15] 1 t5 h0 fun v11 => castA 4 [4, 5, 6, 7, 8, 9, 11, 12, 13, 14, 16, 17, 18, 19, 20] t5 v11 x1 h2 fun t12 => some (r4, t12))
set_option maxHeartbeats 4000000 in
theorem wJ2_set {rF : Nat} (hex : ex = Γ.2.2.2.2) (X : g_X Γ p s m args meth c cJ2_set 4 RJ2) (hr : meth.sig.returnType = (some (.object "java/lang/Object"))) (h0 : Nat) (x1 : Int32) (h2 : Nat) (t : St) : Wf Γ p l e 2 43 s m args below meth c 4 (g_ι z) v_a rF tF 0 [(0, .ref h0), (1, .int x1), (2, .ref h2)] [] t (fJ2_set ex z h0 x1 h2 t) := by
  unfold fJ2_set
  refine g_iload_n (pc := 0) X 1 dJ2_set_0 rfl rfl ?_
  refine g_aload_n (pc := 1) X 0 dJ2_set_1 rfl rfl ?_
  refine cg_getI (pc := 2) X fo_J2_48 dJ2_set_2 (fun v1 => ?_)
  refine g_bS_i (pc := 5) X (y := yJ6_checkIndex) (As := [.int x1, .int v1]) (rest := []) (fr' := 1) (lo' := 22) (fun _ => va_cwS 2 X.2.2.2.2.1 (lw_S q339 q340 q87 q341) rfl rfl rfl dmS_J6_checkIndex ⟨Nat.le_of_ble_eq_true rfl, Nat.le_of_ble_eq_true rfl⟩) dJ2_set_5 rfl rfl (Nat.le_of_ble_eq_true rfl) (fun r u h => kJ6_checkIndex hex h) (fun r2 t3 => ?_)
  refine g_pop (pc := 8) X dJ2_set_8 rfl ?_
  refine g_aload_n (pc := 9) X 0 dJ2_set_9 rfl rfl ?_
  refine g_iload_n (pc := 10) X 1 dJ2_set_10 rfl rfl ?_
  refine g_bD_a (pc := 11) X (cs := [15]) (As := [.int x1]) (rest := []) (b := h0) (n := 1) dJ2_set_11 rfl rfl (Nat.le_of_ble_eq_true rfl) (fun fl6 ci7 fs8 hs9 hci10 r u h => ?_) (fun r4 t5 => ?_)
  · obtain rfl := List.mem_singleton.mp hci10
    exact ⟨_, _, _, yJ2_elementData, _, _, _, 0, 0, rfl, kJ2_elementData hex h, Or.inl (cwV 1 X.2.2.2.2.1 (lw_V q355 q356 q357 q74 q358) rfl rfl rfl dmV_J2_elementData ⟨Nat.le_of_ble_eq_true rfl, Nat.le_of_ble_eq_true rfl⟩)⟩
  refine g_astore_n (pc := 14) X (lv' := [(3, .ref r4), (0, .ref h0), (1, .int x1), (2, .ref h2)]) dJ2_set_14 rfl (by decide) rfl ?_
  refine g_aload_n (pc := 15) X 1 dJ2_set_15 rfl rfl ?_
  refine cg_getA (pc := 16) X fo_J2_9 dJ2_set_16 (fun v11 => ?_)
  refine g_iload_n (pc := 19) X 2 dJ2_set_19 rfl rfl ?_
  refine g_aload_n (pc := 20) X 3 dJ2_set_20 rfl rfl ?_
  refine cg_astA (pc := 21) X (j := 4) (cs := [4, 5, 6, 7, 8, 9, 11, 12, 13, 14, 16, 17, 18, 19, 20]) rfl cf_java_lang_Object_15 dJ2_set_21 (fun t12 => ?_)
  refine g_aload_n (pc := 22) X 0 dJ2_set_22 rfl rfl ?_
  exact g_aret (pc := 23) X hr (Or.inl ⟨_, rfl⟩) dJ2_set_23
theorem kJ2_set {ex : Nat → Option Nat} {z : Nat} {h0 : Nat} {x1 : Int32} {h2 : Nat} {σ : Sg} {r : Nat} {u : St} (hex : ex = Γ.2.2.2.2) (h : fJ2_set ex z h0 x1 h2 (σ, 0, 0) = some (r, u)) : g_C Γ l yJ2_set cJ2_set 4 (some (.object "java/lang/Object")) 2 43 [.ref h0, .int x1, .ref h2] σ z v_a r (g_ι z u) :=
  g_met (ι := g_ι z) (t := (σ, 0, 0)) [.ref h0, .int x1, .ref h2] (by decide) (Nat.le_of_ble_eq_true rfl) h rfl (fun p e s m args below meth c X hr hn => wJ2_set hex X hr h0 x1 h2 (σ, 0, 0))
end CP
abbrev cJ2_toArray : ByteArray := prog_50_method_16_code
def yJ2_toArray : MethodName := ⟨RJ2, "toArray", "()[Ljava/lang/Object;"⟩
def dkwJ2_toArray_0 : List UInt8 := [42, 180, 0, 9, 42, 180, 0, 48, 184, 0, 66, 176]
abbrev dktJ2_toArray_0 : List UInt8 := dkwJ2_toArray_0 ++ []
theorem dksJ2_toArray_0 : cJ2_toArray.data.toList.drop 0 = dktJ2_toArray_0 := by decide +kernel
theorem dJ2_toArray_0 : decode cJ2_toArray 0 = .ok (.aload_n 0, 1) := dk_42 (dk_at dksJ2_toArray_0 0 rfl rfl)
theorem dJ2_toArray_1 : decode cJ2_toArray 1 = .ok (.getfield 9, 3) := dk_180 0 9 (dk_at dksJ2_toArray_0 1 rfl rfl)
theorem dJ2_toArray_4 : decode cJ2_toArray 4 = .ok (.aload_n 0, 1) := dk_42 (dk_at dksJ2_toArray_0 4 rfl rfl)
theorem dJ2_toArray_5 : decode cJ2_toArray 5 = .ok (.getfield 48, 3) := dk_180 0 48 (dk_at dksJ2_toArray_0 5 rfl rfl)
theorem dJ2_toArray_8 : decode cJ2_toArray 8 = .ok (.invokestatic 66, 3) := dk_184 0 66 (dk_at dksJ2_toArray_0 8 rfl rfl)
theorem dJ2_toArray_11 : decode cJ2_toArray 11 = .ok (.areturn, 1) := dk_176 (dk_at dksJ2_toArray_0 11 rfl rfl)
section CP
variable {Γ : Gc} {p : Program} {l : Launch} {e : Env} {s : State} {m : MethodId} {args : Array Value} {below : List Frame} {meth : Method} {c : Code} {ex : Nat → Option Nat} {z : Nat} {tF : St}
noncomputable def fJ2_toArray (ex : Nat → Option Nat) (z : Nat) (h0 : Nat) (t : St) : Option (Nat × St) := cgA [15] 1 t h0 fun v1 => cgI [15] 2 t h0 fun v2 => gb (fJ5_copyOf ex (z + t.2.1) v1 v2 (t.1, 0, 0)) t fun r3 t4 => some (r3, t4)
set_option maxHeartbeats 4000000 in
theorem wJ2_toArray {rF : Nat} (hex : ex = Γ.2.2.2.2) (X : g_X Γ p s m args meth c cJ2_toArray 1 RJ2) (hr : meth.sig.returnType = (some (.array (.object "java/lang/Object")))) (h0 : Nat) (t : St) : Wf Γ p l e 3 65 s m args below meth c 1 (g_ι z) v_a rF tF 0 [(0, .ref h0)] [] t (fJ2_toArray ex z h0 t) := by
  unfold fJ2_toArray
  refine g_aload_n (pc := 0) X 0 dJ2_toArray_0 rfl rfl ?_
  refine cg_getA (pc := 1) X fo_J2_9 dJ2_toArray_1 (fun v1 => ?_)
  refine g_aload_n (pc := 4) X 0 dJ2_toArray_4 rfl rfl ?_
  refine cg_getI (pc := 5) X fo_J2_48 dJ2_toArray_5 (fun v2 => ?_)
  refine g_bS_a (pc := 8) X (y := yJ5_copyOf) (As := [.ref v1, .int v2]) (rest := []) (fr' := 2) (lo' := 44) (fun _ => va_cwS 2 X.2.2.2.2.1 (lw_S q283 q284 q85 q285) rfl rfl rfl dmS_J5_copyOf ⟨Nat.le_of_ble_eq_true rfl, Nat.le_of_ble_eq_true rfl⟩) dJ2_toArray_8 rfl rfl (Nat.le_of_ble_eq_true rfl) (fun r u h => kJ5_copyOf hex h) (fun r3 t4 => ?_)
  exact g_aret (pc := 11) X hr (Or.inr ⟨_, rfl⟩) dJ2_toArray_11
theorem kJ2_toArray {ex : Nat → Option Nat} {z : Nat} {h0 : Nat} {σ : Sg} {r : Nat} {u : St} (hex : ex = Γ.2.2.2.2) (h : fJ2_toArray ex z h0 (σ, 0, 0) = some (r, u)) : g_C Γ l yJ2_toArray cJ2_toArray 1 (some (.array (.object "java/lang/Object"))) 3 65 [.ref h0] σ z v_a r (g_ι z u) :=
  g_met (ι := g_ι z) (t := (σ, 0, 0)) [.ref h0] (by decide) (Nat.le_of_ble_eq_true rfl) h rfl (fun p e s m args below meth c X hr hn => wJ2_toArray hex X hr h0 (σ, 0, 0))
end CP
abbrev cJ8_indexOf_2 : ByteArray := prog_41_method_80_code
def yJ8_indexOf_2 : MethodName := ⟨RJ8, "indexOf", "(II)I"⟩
def dkwJ8_indexOf_2_1 : List UInt8 := [180, 0, 9, 27, 28, 42, 182, 1, 249, 184, 2, 128, 172]
abbrev dktJ8_indexOf_2_1 : List UInt8 := dkwJ8_indexOf_2_1 ++ []
def dkwJ8_indexOf_2_0 : List UInt8 := [42, 182, 1, 236, 153, 0, 19, 42, 180, 0, 9, 27, 28, 42, 182, 1, 249, 184, 2, 125, 167, 0, 16, 42]
abbrev dktJ8_indexOf_2_0 : List UInt8 := dkwJ8_indexOf_2_0 ++ dktJ8_indexOf_2_1
theorem dksJ8_indexOf_2_0 : cJ8_indexOf_2.data.toList.drop 0 = dktJ8_indexOf_2_0 := by decide +kernel
theorem dksJ8_indexOf_2_1 : cJ8_indexOf_2.data.toList.drop 24 = dktJ8_indexOf_2_1 := dk_seg dksJ8_indexOf_2_0 24 rfl rfl
theorem dJ8_indexOf_2_0 : decode cJ8_indexOf_2 0 = .ok (.aload_n 0, 1) := dk_42 (dk_at dksJ8_indexOf_2_0 0 rfl rfl)
theorem dJ8_indexOf_2_1 : decode cJ8_indexOf_2 1 = .ok (.invokevirtual 492, 3) := dk_182 1 236 (dk_at dksJ8_indexOf_2_0 1 rfl rfl)
theorem dJ8_indexOf_2_4 : decode cJ8_indexOf_2 4 = .ok (.ifCond .eq 19, 3) := dk_153 0 19 (dk_at dksJ8_indexOf_2_0 4 rfl rfl)
theorem dJ8_indexOf_2_7 : decode cJ8_indexOf_2 7 = .ok (.aload_n 0, 1) := dk_42 (dk_at dksJ8_indexOf_2_0 7 rfl rfl)
theorem dJ8_indexOf_2_8 : decode cJ8_indexOf_2 8 = .ok (.getfield 9, 3) := dk_180 0 9 (dk_at dksJ8_indexOf_2_0 8 rfl rfl)
theorem dJ8_indexOf_2_11 : decode cJ8_indexOf_2 11 = .ok (.iload_n 1, 1) := dk_27 (dk_at dksJ8_indexOf_2_0 11 rfl rfl)
theorem dJ8_indexOf_2_12 : decode cJ8_indexOf_2 12 = .ok (.iload_n 2, 1) := dk_28 (dk_at dksJ8_indexOf_2_0 12 rfl rfl)
theorem dJ8_indexOf_2_13 : decode cJ8_indexOf_2 13 = .ok (.aload_n 0, 1) := dk_42 (dk_at dksJ8_indexOf_2_0 13 rfl rfl)
theorem dJ8_indexOf_2_14 : decode cJ8_indexOf_2 14 = .ok (.invokevirtual 505, 3) := dk_182 1 249 (dk_at dksJ8_indexOf_2_0 14 rfl rfl)
theorem dJ8_indexOf_2_17 : decode cJ8_indexOf_2 17 = .ok (.invokestatic 637, 3) := dk_184 2 125 (dk_at dksJ8_indexOf_2_0 17 rfl rfl)
theorem dJ8_indexOf_2_20 : decode cJ8_indexOf_2 20 = .ok (.goto 16, 3) := dk_167 0 16 (dk_at dksJ8_indexOf_2_0 20 rfl rfl)
theorem dJ8_indexOf_2_23 : decode cJ8_indexOf_2 23 = .ok (.aload_n 0, 1) := dk_42 (dk_at dksJ8_indexOf_2_0 23 rfl rfl)
theorem dJ8_indexOf_2_24 : decode cJ8_indexOf_2 24 = .ok (.getfield 9, 3) := dk_180 0 9 (dk_at dksJ8_indexOf_2_1 0 rfl rfl)
theorem dJ8_indexOf_2_27 : decode cJ8_indexOf_2 27 = .ok (.iload_n 1, 1) := dk_27 (dk_at dksJ8_indexOf_2_1 3 rfl rfl)
theorem dJ8_indexOf_2_28 : decode cJ8_indexOf_2 28 = .ok (.iload_n 2, 1) := dk_28 (dk_at dksJ8_indexOf_2_1 4 rfl rfl)
theorem dJ8_indexOf_2_29 : decode cJ8_indexOf_2 29 = .ok (.aload_n 0, 1) := dk_42 (dk_at dksJ8_indexOf_2_1 5 rfl rfl)
theorem dJ8_indexOf_2_30 : decode cJ8_indexOf_2 30 = .ok (.invokevirtual 505, 3) := dk_182 1 249 (dk_at dksJ8_indexOf_2_1 6 rfl rfl)
theorem dJ8_indexOf_2_33 : decode cJ8_indexOf_2 33 = .ok (.invokestatic 640, 3) := dk_184 2 128 (dk_at dksJ8_indexOf_2_1 9 rfl rfl)
theorem dJ8_indexOf_2_36 : decode cJ8_indexOf_2 36 = .ok (.ireturn, 1) := dk_172 (dk_at dksJ8_indexOf_2_1 12 rfl rfl)
theorem dmV_J8_isLatin1 : yJ8_isLatin1.cls = RJ8 ∧ yJ8_isLatin1.cls ≠ "java/lang/invoke/MethodHandle" ∧ yJ8_isLatin1.cls ≠ "java/lang/invoke/VarHandle" ∧ (parseMethodDescriptor yJ8_isLatin1.desc).map (fun d => d.parameters.length) = some 0 := by decide +kernel
theorem dmV_J8_length : yJ8_length.cls = RJ8 ∧ yJ8_length.cls ≠ "java/lang/invoke/MethodHandle" ∧ yJ8_length.cls ≠ "java/lang/invoke/VarHandle" ∧ (parseMethodDescriptor yJ8_length.desc).map (fun d => d.parameters.length) = some 0 := by decide +kernel
theorem dmS_J9_indexOf : yJ9_indexOf.cls ≠ "java/lang/invoke/MethodHandle" ∧ yJ9_indexOf.cls ≠ "java/lang/invoke/VarHandle" ∧ (parseMethodDescriptor yJ9_indexOf.desc).map (fun d => d.parameters.length) = some 4 := by decide +kernel
section CP
variable {Γ : Gc} {p : Program} {l : Launch} {e : Env} {s : State} {m : MethodId} {args : Array Value} {below : List Frame} {meth : Method} {c : Code} {ex : Nat → Option Nat} {z : Nat} {tF : St}
noncomputable def fJ8_indexOf_2 (ex : Nat → Option Nat) (z : Nat) (h0 : Nat) (x1 : Int32) (x2 : Int32) (t : St) : Option (Int32 × St) := ccast [21] t h0 (gb (fJ8_isLatin1 ex (z + t.2.1) h0 (t.1, 0, 0)) t fun r1 t2 => if r1 = 0 then cgA [21] 0 t2 h0 fun v8 => ccast [21] t2 h0 (gb (fJ8_length ex (z + t2.2.1) h0 (t2.1, 0, 0)) t2 fun r9 t10 => none) else cgA [21] 0 t2 h0 fun v16 => ccast [21] t2 h0 (gb (fJ8_length ex (z + t2.2.1) h0 (t2.1, 0, 0)) t2 fun r17 t18 => gb (fJ9_indexOf ex (z + t18.2.1) v16 x1 x2 r17 (t18.1, 0, 0)) t18 fun r24 t25 => some (r24, t25)))
set_option maxHeartbeats 4000000 in
theorem wJ8_indexOf_2 {rF : Int32} (hex : ex = Γ.2.2.2.2) (X : g_X Γ p s m args meth c cJ8_indexOf_2 3 RJ8) (hr : meth.sig.returnType = (some .int)) (h0 : Nat) (x1 : Int32) (x2 : Int32) (t : St) : Wf Γ p l e 2 48 s m args below meth c 3 (g_ι z) v_i rF tF 0 [(0, .ref h0), (1, .int x1), (2, .int x2)] [] t (fJ8_indexOf_2 ex z h0 x1 x2 t) := by
  unfold fJ8_indexOf_2
  refine g_aload_n (pc := 0) X 0 dJ8_indexOf_2_0 rfl rfl ?_
  refine g_bD_i (pc := 1) X (cs := [21]) (As := []) (rest := []) (b := h0) (n := 0) dJ8_indexOf_2_1 rfl rfl (Nat.le_of_ble_eq_true rfl) (fun fl3 ci4 fs5 hs6 hci7 r u h => ?_) (fun r1 t2 => ?_)
  · obtain rfl := List.mem_singleton.mp hci7
    exact ⟨_, _, _, yJ8_isLatin1, _, _, _, 0, 0, rfl, kJ8_isLatin1 hex h, Or.inl (cwV 0 X.2.2.2.2.1 (lw_V q1111 q1112 q1113 q89 q1114) rfl rfl rfl dmV_J8_isLatin1 ⟨Nat.le_of_ble_eq_true rfl, Nat.le_of_ble_eq_true rfl⟩)⟩
  refine g_if_eq (pc := 4) X 23 dJ8_indexOf_2_4 (by decide) ?_ ?_
  · refine g_aload_n (pc := 23) X 0 dJ8_indexOf_2_23 rfl rfl ?_
    refine cg_getA (pc := 24) X fo_J8_9 dJ8_indexOf_2_24 (fun v8 => ?_)
    refine g_iload_n (pc := 27) X 1 dJ8_indexOf_2_27 rfl rfl ?_
    refine g_iload_n (pc := 28) X 2 dJ8_indexOf_2_28 rfl rfl ?_
    refine g_aload_n (pc := 29) X 0 dJ8_indexOf_2_29 rfl rfl ?_
    refine g_bD_i (pc := 30) X (cs := [21]) (As := []) (rest := [.int x2, .int x1, .ref v8]) (b := h0) (n := 0) dJ8_indexOf_2_30 rfl rfl (Nat.le_of_ble_eq_true rfl) (fun fl11 ci12 fs13 hs14 hci15 r u h => ?_) (fun r9 t10 => ?_)
    · obtain rfl := List.mem_singleton.mp hci15
      exact ⟨_, _, _, yJ8_length, _, _, _, 1, 20, rfl, kJ8_length hex h, Or.inl (cwV 0 X.2.2.2.2.1 (lw_V q1117 q1118 q1119 q89 q1120) rfl rfl rfl dmV_J8_length ⟨Nat.le_of_ble_eq_true rfl, Nat.le_of_ble_eq_true rfl⟩)⟩
    exact g_none
  · refine g_aload_n (pc := 7) X 0 dJ8_indexOf_2_7 rfl rfl ?_
    refine cg_getA (pc := 8) X fo_J8_9 dJ8_indexOf_2_8 (fun v16 => ?_)
    refine g_iload_n (pc := 11) X 1 dJ8_indexOf_2_11 rfl rfl ?_
    refine g_iload_n (pc := 12) X 2 dJ8_indexOf_2_12 rfl rfl ?_
    refine g_aload_n (pc := 13) X 0 dJ8_indexOf_2_13 rfl rfl ?_
    refine g_bD_i (pc := 14) X (cs := [21]) (As := []) (rest := [.int x2, .int x1, .ref v16]) (b := h0) (n := 0) dJ8_indexOf_2_14 rfl rfl (Nat.le_of_ble_eq_true rfl) (fun fl19 ci20 fs21 hs22 hci23 r u h => ?_) (fun r17 t18 => ?_)
    · obtain rfl := List.mem_singleton.mp hci23
      exact ⟨_, _, _, yJ8_length, _, _, _, 1, 20, rfl, kJ8_length hex h, Or.inl (cwV 0 X.2.2.2.2.1 (lw_V q1117 q1118 q1119 q89 q1120) rfl rfl rfl dmV_J8_length ⟨Nat.le_of_ble_eq_true rfl, Nat.le_of_ble_eq_true rfl⟩)⟩
    refine g_bS_i (pc := 17) X (y := yJ9_indexOf) (As := [.ref v16, .int x1, .int x2, .int r17]) (rest := []) (fr' := 1) (lo' := 25) (fun _ => va_cwS 4 X.2.2.2.2.1 (lw_S q1125 q1126 q90 q1127) rfl rfl rfl dmS_J9_indexOf ⟨Nat.le_of_ble_eq_true rfl, Nat.le_of_ble_eq_true rfl⟩) dJ8_indexOf_2_17 rfl rfl (Nat.le_of_ble_eq_true rfl) (fun r u h => kJ9_indexOf hex h) (fun r24 t25 => ?_)
    refine g_goto (pc := 20) X 36 dJ8_indexOf_2_20 (by decide) ?_
    exact g_iret (pc := 36) X hr dJ8_indexOf_2_36
theorem kJ8_indexOf_2 {ex : Nat → Option Nat} {z : Nat} {h0 : Nat} {x1 : Int32} {x2 : Int32} {σ : Sg} {r : Int32} {u : St} (hex : ex = Γ.2.2.2.2) (h : fJ8_indexOf_2 ex z h0 x1 x2 (σ, 0, 0) = some (r, u)) : g_C Γ l yJ8_indexOf_2 cJ8_indexOf_2 3 (some .int) 2 48 [.ref h0, .int x1, .int x2] σ z v_i r (g_ι z u) :=
  g_met (ι := g_ι z) (t := (σ, 0, 0)) [.ref h0, .int x1, .int x2] (by decide) (Nat.le_of_ble_eq_true rfl) h rfl (fun p e s m args below meth c X hr hn => wJ8_indexOf_2 hex X hr h0 x1 x2 (σ, 0, 0))
end CP
abbrev cX0_made : ByteArray := prog_1_method_3_code
def yX0_made : MethodName := ⟨RX0, "made", "(IIII)LLameClocks$Plain;"⟩
def dkwX0_made_1 : List UInt8 := [25, 4, 176]
abbrev dktX0_made_1 : List UInt8 := dkwX0_made_1 ++ []
def dkwX0_made_0 : List UInt8 := [26, 184, 0, 22, 58, 4, 25, 4, 27, 181, 0, 28, 25, 4, 28, 181, 0, 32, 25, 4, 29, 181, 0, 35]
abbrev dktX0_made_0 : List UInt8 := dkwX0_made_0 ++ dktX0_made_1
theorem dksX0_made_0 : cX0_made.data.toList.drop 0 = dktX0_made_0 := by decide +kernel
theorem dksX0_made_1 : cX0_made.data.toList.drop 24 = dktX0_made_1 := dk_seg dksX0_made_0 24 rfl rfl
theorem dX0_made_0 : decode cX0_made 0 = .ok (.iload_n 0, 1) := dk_26 (dk_at dksX0_made_0 0 rfl rfl)
theorem dX0_made_1 : decode cX0_made 1 = .ok (.invokestatic 22, 3) := dk_184 0 22 (dk_at dksX0_made_0 1 rfl rfl)
theorem dX0_made_4 : decode cX0_made 4 = .ok (.astore 4, 2) := dk_58 4 (dk_at dksX0_made_0 4 rfl rfl)
theorem dX0_made_6 : decode cX0_made 6 = .ok (.aload 4, 2) := dk_25 4 (dk_at dksX0_made_0 6 rfl rfl)
theorem dX0_made_8 : decode cX0_made 8 = .ok (.iload_n 1, 1) := dk_27 (dk_at dksX0_made_0 8 rfl rfl)
theorem dX0_made_9 : decode cX0_made 9 = .ok (.putfield 28, 3) := dk_181 0 28 (dk_at dksX0_made_0 9 rfl rfl)
theorem dX0_made_12 : decode cX0_made 12 = .ok (.aload 4, 2) := dk_25 4 (dk_at dksX0_made_0 12 rfl rfl)
theorem dX0_made_14 : decode cX0_made 14 = .ok (.iload_n 2, 1) := dk_28 (dk_at dksX0_made_0 14 rfl rfl)
theorem dX0_made_15 : decode cX0_made 15 = .ok (.putfield 32, 3) := dk_181 0 32 (dk_at dksX0_made_0 15 rfl rfl)
theorem dX0_made_18 : decode cX0_made 18 = .ok (.aload 4, 2) := dk_25 4 (dk_at dksX0_made_0 18 rfl rfl)
theorem dX0_made_20 : decode cX0_made 20 = .ok (.iload_n 3, 1) := dk_29 (dk_at dksX0_made_0 20 rfl rfl)
theorem dX0_made_21 : decode cX0_made 21 = .ok (.putfield 35, 3) := dk_181 0 35 (dk_at dksX0_made_0 21 rfl rfl)
theorem dX0_made_24 : decode cX0_made 24 = .ok (.aload 4, 2) := dk_25 4 (dk_at dksX0_made_1 0 rfl rfl)
theorem dX0_made_26 : decode cX0_made 26 = .ok (.areturn, 1) := dk_176 (dk_at dksX0_made_1 2 rfl rfl)
theorem fp_X0_28 : g_fp RX0 28 [4, 5, 6, 7, 8, 9] 1 .int false := ⟨_, _, _, Or.inl q157, by decide +kernel, fun ci h => by
  simp only [List.mem_cons, List.not_mem_nil, or_false] at h; rcases h with rfl | rfl | rfl | rfl | rfl | rfl
  · exact ⟨_, _, _, tyX4, rfl, by decide, rfl, rfl, Or.inl rfl, in_X4, rfl, (fun h => by cases h), tyX4_ok, (by decide +kernel)⟩
  · exact ⟨_, _, _, tyX5, rfl, by decide, rfl, rfl, Or.inl rfl, in_X5, rfl, (fun h => by cases h), tyX5_ok, (by decide +kernel)⟩
  · exact ⟨_, _, _, tyX6, rfl, by decide, rfl, rfl, Or.inl rfl, in_X6, rfl, (fun h => by cases h), tyX6_ok, (by decide +kernel)⟩
  · exact ⟨_, _, _, tyX7, rfl, by decide, rfl, rfl, Or.inl rfl, in_X7, rfl, (fun h => by cases h), tyX7_ok, (by decide +kernel)⟩
  · exact ⟨_, _, _, tyX8, rfl, by decide, rfl, rfl, Or.inl rfl, in_X8, rfl, (fun h => by cases h), tyX8_ok, (by decide +kernel)⟩
  · exact ⟨_, _, _, tyX9, rfl, by decide, rfl, rfl, Or.inl rfl, in_X9, rfl, (fun h => by cases h), tyX9_ok, (by decide +kernel)⟩⟩
theorem fp_X0_32 : g_fp RX0 32 [4, 5, 6, 7, 8, 9] 2 .int false := ⟨_, _, _, Or.inl q159, by decide +kernel, fun ci h => by
  simp only [List.mem_cons, List.not_mem_nil, or_false] at h; rcases h with rfl | rfl | rfl | rfl | rfl | rfl
  · exact ⟨_, _, _, tyX4, rfl, by decide, rfl, rfl, Or.inl rfl, in_X4, rfl, (fun h => by cases h), tyX4_ok, (by decide +kernel)⟩
  · exact ⟨_, _, _, tyX5, rfl, by decide, rfl, rfl, Or.inl rfl, in_X5, rfl, (fun h => by cases h), tyX5_ok, (by decide +kernel)⟩
  · exact ⟨_, _, _, tyX6, rfl, by decide, rfl, rfl, Or.inl rfl, in_X6, rfl, (fun h => by cases h), tyX6_ok, (by decide +kernel)⟩
  · exact ⟨_, _, _, tyX7, rfl, by decide, rfl, rfl, Or.inl rfl, in_X7, rfl, (fun h => by cases h), tyX7_ok, (by decide +kernel)⟩
  · exact ⟨_, _, _, tyX8, rfl, by decide, rfl, rfl, Or.inl rfl, in_X8, rfl, (fun h => by cases h), tyX8_ok, (by decide +kernel)⟩
  · exact ⟨_, _, _, tyX9, rfl, by decide, rfl, rfl, Or.inl rfl, in_X9, rfl, (fun h => by cases h), tyX9_ok, (by decide +kernel)⟩⟩
theorem fp_X0_35 : g_fp RX0 35 [4, 5, 6, 7, 8, 9] 3 .int false := ⟨_, _, _, Or.inl q164, by decide +kernel, fun ci h => by
  simp only [List.mem_cons, List.not_mem_nil, or_false] at h; rcases h with rfl | rfl | rfl | rfl | rfl | rfl
  · exact ⟨_, _, _, tyX4, rfl, by decide, rfl, rfl, Or.inl rfl, in_X4, rfl, (fun h => by cases h), tyX4_ok, (by decide +kernel)⟩
  · exact ⟨_, _, _, tyX5, rfl, by decide, rfl, rfl, Or.inl rfl, in_X5, rfl, (fun h => by cases h), tyX5_ok, (by decide +kernel)⟩
  · exact ⟨_, _, _, tyX6, rfl, by decide, rfl, rfl, Or.inl rfl, in_X6, rfl, (fun h => by cases h), tyX6_ok, (by decide +kernel)⟩
  · exact ⟨_, _, _, tyX7, rfl, by decide, rfl, rfl, Or.inl rfl, in_X7, rfl, (fun h => by cases h), tyX7_ok, (by decide +kernel)⟩
  · exact ⟨_, _, _, tyX8, rfl, by decide, rfl, rfl, Or.inl rfl, in_X8, rfl, (fun h => by cases h), tyX8_ok, (by decide +kernel)⟩
  · exact ⟨_, _, _, tyX9, rfl, by decide, rfl, rfl, Or.inl rfl, in_X9, rfl, (fun h => by cases h), tyX9_ok, (by decide +kernel)⟩⟩
section CP
variable {Γ : Gc} {p : Program} {l : Launch} {e : Env} {s : State} {m : MethodId} {args : Array Value} {below : List Frame} {meth : Method} {c : Code} {ex : Nat → Option Nat} {z : Nat} {tF : St}
noncomputable def fX0_made (ex : Nat → Option Nat) (z : Nat) (x0 : Int32) (x1 : Int32) (x2 : Int32) (x3 : Int32) (t : St) : Option (Nat × St) := gb (fX0_made_2 ex (z + t.2.1) x0 (t.1, 0, 0)) t fun r1 t2 => cput [4, 5, 6, 7, 8, 9] 1 t2 r1 (.int x1) fun t3 => cput [4, 5, 6, 7, 8, 9] 2 t3 r1 (.int x2) fun t4 => cput [4, 5, 6, 7, 8, 9] 3 t4 r1 (.int x3) fun t5 => some (r1, t5)
set_option maxHeartbeats 4000000 in
theorem wX0_made {rF : Nat} (hex : ex = Γ.2.2.2.2) (X : g_X Γ p s m args meth c cX0_made 5 RX0) (hr : meth.sig.returnType = (some (.object "LameClocks$Plain"))) (x0 : Int32) (x1 : Int32) (x2 : Int32) (x3 : Int32) (t : St) : Wf Γ p l e 5 92 s m args below meth c 5 (g_ι z) v_a rF tF 0 [(0, .int x0), (1, .int x1), (2, .int x2), (3, .int x3)] [] t (fX0_made ex z x0 x1 x2 x3 t) := by
  unfold fX0_made
  refine g_iload_n (pc := 0) X 0 dX0_made_0 rfl rfl ?_
  refine g_bS_a (pc := 1) X (y := yX0_made_2) (As := [.int x0]) (rest := []) (fr' := 4) (lo' := 72) (fun _ => va_cwS 1 X.2.2.2.2.1 (lw_S q140 q141 q70 q142) rfl rfl rfl dmS_X0_made_2 ⟨Nat.le_of_ble_eq_true rfl, Nat.le_of_ble_eq_true rfl⟩) dX0_made_1 rfl rfl (Nat.le_of_ble_eq_true rfl) (fun r u h => kX0_made_2 hex h) (fun r1 t2 => ?_)
  refine g_astore (pc := 4) X (lv' := [(4, .ref r1), (0, .int x0), (1, .int x1), (2, .int x2), (3, .int x3)]) dX0_made_4 (by decide) rfl ?_
  refine g_aload (pc := 6) X 0 dX0_made_6 rfl ?_
  refine g_iload_n (pc := 8) X 2 dX0_made_8 rfl rfl ?_
  refine cg_put (pc := 9) X fp_X0_28 dX0_made_9 (fun h => by cases h) rfl rfl (fun t3 => ?_)
  refine g_aload (pc := 12) X 0 dX0_made_12 rfl ?_
  refine g_iload_n (pc := 14) X 3 dX0_made_14 rfl rfl ?_
  refine cg_put (pc := 15) X fp_X0_32 dX0_made_15 (fun h => by cases h) rfl rfl (fun t4 => ?_)
  refine g_aload (pc := 18) X 0 dX0_made_18 rfl ?_
  refine g_iload_n (pc := 20) X 4 dX0_made_20 rfl rfl ?_
  refine cg_put (pc := 21) X fp_X0_35 dX0_made_21 (fun h => by cases h) rfl rfl (fun t5 => ?_)
  refine g_aload (pc := 24) X 0 dX0_made_24 rfl ?_
  exact g_aret (pc := 26) X hr (Or.inl ⟨_, rfl⟩) dX0_made_26
theorem kX0_made {ex : Nat → Option Nat} {z : Nat} {x0 : Int32} {x1 : Int32} {x2 : Int32} {x3 : Int32} {σ : Sg} {r : Nat} {u : St} (hex : ex = Γ.2.2.2.2) (h : fX0_made ex z x0 x1 x2 x3 (σ, 0, 0) = some (r, u)) : g_C Γ l yX0_made cX0_made 5 (some (.object "LameClocks$Plain")) 5 92 [.int x0, .int x1, .int x2, .int x3] σ z v_a r (g_ι z u) :=
  g_met (ι := g_ι z) (t := (σ, 0, 0)) [.int x0, .int x1, .int x2, .int x3] (by decide) (Nat.le_of_ble_eq_true rfl) h rfl (fun p e s m args below meth c X hr hn => wX0_made hex X hr x0 x1 x2 x3 (σ, 0, 0))
end CP
