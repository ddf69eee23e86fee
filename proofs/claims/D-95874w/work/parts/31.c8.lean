/-! the component, its methods: X0_turn, X0_tune, X0_breathe, X0_image, X0_restore, X12_does, X13_does, X14_does (printed by gen/cmain.py) -/
set_option maxRecDepth 100000
theorem q649 : (Jvm.Cond.instanceMethod ({ cls := "LameClocks", name := "wind", desc := "(II)I" } : Jvm.MethodName)) ∈ lw_all := lw_g (lw_at lw_m3 100 rfl) rfl
theorem q650 : (Jvm.Cond.selects "LameClocks" ({ cls := "LameClocks", name := "wind", desc := "(II)I" } : Jvm.MethodName) ({ cls := "LameClocks", name := "wind", desc := "(II)I" } : Jvm.MethodName)) ∈ lw_all := lw_g (lw_at lw_m3 101 rfl) rfl
theorem q712 : (Jvm.Cond.instanceMethod ({ cls := "LameClocks", name := "turn", desc := "(II)I" } : Jvm.MethodName)) ∈ lw_all := lw_g (lw_at lw_m3 163 rfl) rfl
theorem q713 : (Jvm.Cond.selects "LameClocks" ({ cls := "LameClocks", name := "turn", desc := "(II)I" } : Jvm.MethodName) ({ cls := "LameClocks", name := "turn", desc := "(II)I" } : Jvm.MethodName)) ∈ lw_all := lw_g (lw_at lw_m3 164 rfl) rfl
theorem q714 : (Jvm.Cond.code ({ cls := "LameClocks", name := "turn", desc := "(II)I" } : Jvm.MethodName) prog_1_method_19_code (3 : Nat) (Option.some Jvm.ClassFile.FieldType.int)) ∈ lw_all := lw_g (lw_at lw_m3 165 rfl) rfl
theorem q715 : (Jvm.Cond.classLink "LameClocks" (184 : Nat) "LameClocks$Turned") ∈ lw_all := lw_g (lw_at lw_m3 166 rfl) rfl
theorem q716 : (Jvm.Cond.instantiable "LameClocks$Turned" (4 : Nat)) ∈ lw_all := lw_g (lw_at lw_m3 167 rfl) rfl
theorem q717 : (Jvm.Cond.methodLink "LameClocks" (186 : Nat) ({ cls := "LameClocks$Turned", name := "<init>", desc := "(LLameClocks;I)V" } : Jvm.MethodName)) ∈ lw_all := lw_g (lw_at lw_m3 168 rfl) rfl
theorem q718 : (Jvm.Cond.instanceMethod ({ cls := "LameClocks$Turned", name := "<init>", desc := "(LLameClocks;I)V" } : Jvm.MethodName)) ∈ lw_all := lw_g (lw_at lw_m3 169 rfl) rfl
theorem q729 : (Jvm.Cond.methodLink "LameClocks" (187 : Nat) ({ cls := "LameClocks$Turned", name := "kept", desc := "()V" } : Jvm.MethodName)) ∈ lw_all := lw_g (lw_at lw_m3 180 rfl) rfl
theorem q730 : (Jvm.Cond.sameMethod "LameClocks$Turned" "LameClocks$Repair" "kept" "()V") ∈ lw_all := lw_g (lw_at lw_m3 181 rfl) rfl
theorem q731 : (Jvm.Cond.selects "LameClocks$Turned" ({ cls := "LameClocks$Turned", name := "kept", desc := "()V" } : Jvm.MethodName) ({ cls := "LameClocks$Repair", name := "kept", desc := "()V" } : Jvm.MethodName)) ∈ lw_all := lw_g (lw_at lw_m3 182 rfl) rfl
theorem q732 : (Jvm.Cond.methodLink "LameClocks" (188 : Nat) ({ cls := "LameClocks$Plain", name := "turns", desc := "(I)V" } : Jvm.MethodName)) ∈ lw_all := lw_g (lw_at lw_m3 183 rfl) rfl
theorem q733 : (Jvm.Cond.instanceMethod ({ cls := "LameClocks$Plain", name := "turns", desc := "(I)V" } : Jvm.MethodName)) ∈ lw_all := lw_g (lw_at lw_m3 184 rfl) rfl
theorem q734 : (Jvm.Cond.selects "LameClocks$Plain" ({ cls := "LameClocks$Plain", name := "turns", desc := "(I)V" } : Jvm.MethodName) ({ cls := "LameClocks$Plain", name := "turns", desc := "(I)V" } : Jvm.MethodName)) ∈ lw_all := lw_g (lw_at lw_m3 185 rfl) rfl
theorem q735 : (Jvm.Cond.sameMethod "LameClocks$Plain" "LameClocks$Plain" "turns" "(I)V") ∈ lw_all := lw_g (lw_at lw_m3 186 rfl) rfl
theorem q736 : (Jvm.Cond.selects "LameClocks$Cuckoo" ({ cls := "LameClocks$Plain", name := "turns", desc := "(I)V" } : Jvm.MethodName) ({ cls := "LameClocks$Plain", name := "turns", desc := "(I)V" } : Jvm.MethodName)) ∈ lw_all := lw_g (lw_at lw_m3 187 rfl) rfl
theorem q737 : (Jvm.Cond.selects "LameClocks$Mayor" ({ cls := "LameClocks$Plain", name := "turns", desc := "(I)V" } : Jvm.MethodName) ({ cls := "LameClocks$Plain", name := "turns", desc := "(I)V" } : Jvm.MethodName)) ∈ lw_all := lw_g (lw_at lw_m3 188 rfl) rfl
theorem q738 : (Jvm.Cond.selects "LameClocks$Stopped" ({ cls := "LameClocks$Plain", name := "turns", desc := "(I)V" } : Jvm.MethodName) ({ cls := "LameClocks$Plain", name := "turns", desc := "(I)V" } : Jvm.MethodName)) ∈ lw_all := lw_g (lw_at lw_m3 189 rfl) rfl
theorem q739 : (Jvm.Cond.selects "LameClocks$Sundial" ({ cls := "LameClocks$Plain", name := "turns", desc := "(I)V" } : Jvm.MethodName) ({ cls := "LameClocks$Plain", name := "turns", desc := "(I)V" } : Jvm.MethodName)) ∈ lw_all := lw_g (lw_at lw_m3 190 rfl) rfl
theorem q740 : (Jvm.Cond.selects "LameClocks$Twin" ({ cls := "LameClocks$Plain", name := "turns", desc := "(I)V" } : Jvm.MethodName) ({ cls := "LameClocks$Plain", name := "turns", desc := "(I)V" } : Jvm.MethodName)) ∈ lw_all := lw_g (lw_at lw_m3 191 rfl) rfl
theorem q745 : (Jvm.Cond.code ({ cls := "LameClocks", name := "tune", desc := "(II)I" } : Jvm.MethodName) prog_1_method_20_code (4 : Nat) (Option.some Jvm.ClassFile.FieldType.int)) ∈ lw_all := lw_g (lw_at lw_m3 196 rfl) rfl
theorem q746 : (Jvm.Cond.classLink "LameClocks" (191 : Nat) "LameClocks$Tuned") ∈ lw_all := lw_g (lw_at lw_m3 197 rfl) rfl
theorem q747 : (Jvm.Cond.instantiable "LameClocks$Tuned" (4 : Nat)) ∈ lw_all := lw_g (lw_at lw_m3 198 rfl) rfl
theorem q748 : (Jvm.Cond.methodLink "LameClocks" (193 : Nat) ({ cls := "LameClocks$Tuned", name := "<init>", desc := "(LLameClocks;I)V" } : Jvm.MethodName)) ∈ lw_all := lw_g (lw_at lw_m3 199 rfl) rfl
theorem q749 : (Jvm.Cond.instanceMethod ({ cls := "LameClocks$Tuned", name := "<init>", desc := "(LLameClocks;I)V" } : Jvm.MethodName)) ∈ lw_all := lw_g (lw_at lw_m3 200 rfl) rfl
theorem q760 : (Jvm.Cond.methodLink "LameClocks" (194 : Nat) ({ cls := "LameClocks$Tuned", name := "kept", desc := "()V" } : Jvm.MethodName)) ∈ lw_all := lw_g (lw_at lw_m3 211 rfl) rfl
theorem q761 : (Jvm.Cond.sameMethod "LameClocks$Tuned" "LameClocks$Repair" "kept" "()V") ∈ lw_all := lw_g (lw_at lw_m3 212 rfl) rfl
theorem q762 : (Jvm.Cond.selects "LameClocks$Tuned" ({ cls := "LameClocks$Tuned", name := "kept", desc := "()V" } : Jvm.MethodName) ({ cls := "LameClocks$Repair", name := "kept", desc := "()V" } : Jvm.MethodName)) ∈ lw_all := lw_g (lw_at lw_m3 213 rfl) rfl
theorem q764 : (Jvm.Cond.instanceMethod ({ cls := "LameClocks", name := "breathe", desc := "(I)I" } : Jvm.MethodName)) ∈ lw_all := lw_g (lw_at lw_m3 215 rfl) rfl
theorem q765 : (Jvm.Cond.selects "LameClocks" ({ cls := "LameClocks", name := "breathe", desc := "(I)I" } : Jvm.MethodName) ({ cls := "LameClocks", name := "breathe", desc := "(I)I" } : Jvm.MethodName)) ∈ lw_all := lw_g (lw_at lw_m3 216 rfl) rfl
theorem q766 : (Jvm.Cond.code ({ cls := "LameClocks", name := "breathe", desc := "(I)I" } : Jvm.MethodName) prog_1_method_21_code (3 : Nat) (Option.some Jvm.ClassFile.FieldType.int)) ∈ lw_all := lw_g (lw_at lw_m3 217 rfl) rfl
theorem q767 : (Jvm.Cond.classLink "LameClocks" (195 : Nat) "LameClocks$Breathed") ∈ lw_all := lw_g (lw_at lw_m3 218 rfl) rfl
theorem q768 : (Jvm.Cond.instantiable "LameClocks$Breathed" (4 : Nat)) ∈ lw_all := lw_g (lw_at lw_m3 219 rfl) rfl
theorem q769 : (Jvm.Cond.methodLink "LameClocks" (197 : Nat) ({ cls := "LameClocks$Breathed", name := "<init>", desc := "(LLameClocks;I)V" } : Jvm.MethodName)) ∈ lw_all := lw_g (lw_at lw_m3 220 rfl) rfl
theorem q770 : (Jvm.Cond.instanceMethod ({ cls := "LameClocks$Breathed", name := "<init>", desc := "(LLameClocks;I)V" } : Jvm.MethodName)) ∈ lw_all := lw_g (lw_at lw_m3 221 rfl) rfl
theorem q780 : (Jvm.Cond.methodLink "LameClocks" (198 : Nat) ({ cls := "LameClocks$Breathed", name := "kept", desc := "()V" } : Jvm.MethodName)) ∈ lw_all := lw_g (lw_at lw_m3 231 rfl) rfl
theorem q781 : (Jvm.Cond.sameMethod "LameClocks$Breathed" "LameClocks$Repair" "kept" "()V") ∈ lw_all := lw_g (lw_at lw_m3 232 rfl) rfl
theorem q782 : (Jvm.Cond.selects "LameClocks$Breathed" ({ cls := "LameClocks$Breathed", name := "kept", desc := "()V" } : Jvm.MethodName) ({ cls := "LameClocks$Repair", name := "kept", desc := "()V" } : Jvm.MethodName)) ∈ lw_all := lw_g (lw_at lw_m3 233 rfl) rfl
theorem q827 : (Jvm.Cond.methodLink "LameClocks" (216 : Nat) ({ cls := "LameClocks$Race", name := "takes", desc := "(LLameClocks$Race;)V" } : Jvm.MethodName)) ∈ lw_all := lw_g (lw_at lw_m4 38 rfl) rfl
theorem q828 : (Jvm.Cond.instanceMethod ({ cls := "LameClocks$Race", name := "takes", desc := "(LLameClocks$Race;)V" } : Jvm.MethodName)) ∈ lw_all := lw_g (lw_at lw_m4 39 rfl) rfl
theorem q829 : (Jvm.Cond.selects "LameClocks$Race" ({ cls := "LameClocks$Race", name := "takes", desc := "(LLameClocks$Race;)V" } : Jvm.MethodName) ({ cls := "LameClocks$Race", name := "takes", desc := "(LLameClocks$Race;)V" } : Jvm.MethodName)) ∈ lw_all := lw_g (lw_at lw_m4 40 rfl) rfl
theorem q1318 : (Jvm.Cond.code ({ cls := "LameClocks$Breathing", name := "does", desc := "()I" } : Jvm.MethodName) prog_5_method_2_code (1 : Nat) (Option.some Jvm.ClassFile.FieldType.int)) ∈ lw_all := lw_g (lw_at lw_m6 49 rfl) rfl
theorem q1319 : (Jvm.Cond.methodLink "LameClocks$Breathing" (17 : Nat) ({ cls := "LameClocks", name := "breathe", desc := "(I)I" } : Jvm.MethodName)) ∈ lw_all := lw_g (lw_at lw_m6 50 rfl) rfl
theorem q1332 : (Jvm.Cond.code ({ cls := "LameClocks$Turning", name := "does", desc := "()I" } : Jvm.MethodName) prog_19_method_2_code (1 : Nat) (Option.some Jvm.ClassFile.FieldType.int)) ∈ lw_all := lw_g (lw_at lw_m6 63 rfl) rfl
theorem q1333 : (Jvm.Cond.methodLink "LameClocks$Turning" (20 : Nat) ({ cls := "LameClocks", name := "turn", desc := "(II)I" } : Jvm.MethodName)) ∈ lw_all := lw_g (lw_at lw_m6 64 rfl) rfl
theorem q1339 : (Jvm.Cond.code ({ cls := "LameClocks$Winding", name := "does", desc := "()I" } : Jvm.MethodName) prog_21_method_2_code (1 : Nat) (Option.some Jvm.ClassFile.FieldType.int)) ∈ lw_all := lw_g (lw_at lw_m6 70 rfl) rfl
theorem q1340 : (Jvm.Cond.methodLink "LameClocks$Winding" (20 : Nat) ({ cls := "LameClocks", name := "wind", desc := "(II)I" } : Jvm.MethodName)) ∈ lw_all := lw_g (lw_at lw_m6 71 rfl) rfl
theorem q1344 : (Jvm.Cond.code ({ cls := "LameClocks", name := "image", desc := "()I" } : Jvm.MethodName) prog_1_method_67_code (1 : Nat) (Option.some Jvm.ClassFile.FieldType.int)) ∈ lw_all := lw_g (lw_at lw_m6 75 rfl) rfl
theorem q1345 : (Jvm.Cond.methodLink "LameClocks" (422 : Nat) ({ cls := "java/util/ArrayList", name := "addAll", desc := "(Ljava/util/Collection;)Z" } : Jvm.MethodName)) ∈ lw_all := lw_g (lw_at lw_m6 76 rfl) rfl
theorem q1346 : (Jvm.Cond.instanceMethod ({ cls := "java/util/ArrayList", name := "addAll", desc := "(Ljava/util/Collection;)Z" } : Jvm.MethodName)) ∈ lw_all := lw_g (lw_at lw_m6 77 rfl) rfl
theorem q1347 : (Jvm.Cond.selects "java/util/ArrayList" ({ cls := "java/util/ArrayList", name := "addAll", desc := "(Ljava/util/Collection;)Z" } : Jvm.MethodName) ({ cls := "java/util/ArrayList", name := "addAll", desc := "(Ljava/util/Collection;)Z" } : Jvm.MethodName)) ∈ lw_all := lw_g (lw_at lw_m6 78 rfl) rfl
theorem q1362 : (Jvm.Cond.code ({ cls := "LameClocks", name := "restore", desc := "()I" } : Jvm.MethodName) prog_1_method_68_code (1 : Nat) (Option.some Jvm.ClassFile.FieldType.int)) ∈ lw_all := lw_g (lw_at lw_m6 93 rfl) rfl
theorem q1628 : (Jvm.Cond.fieldLink "LameClocks" (412 : Nat) "LameClocks" "isImage" "Z") ∈ lw_all := lw_g (lw_at lw_m7 119 rfl) rfl
theorem q1629 : (Jvm.Cond.fieldLink "LameClocks" (416 : Nat) "LameClocks" "image" "LLameClocks$Race;") ∈ lw_all := lw_g (lw_at lw_m7 120 rfl) rfl
theorem q1630 : (Jvm.Cond.fieldLink "LameClocks" (419 : Nat) "LameClocks" "imageBets" "Ljava/util/ArrayList;") ∈ lw_all := lw_g (lw_at lw_m7 121 rfl) rfl
theorem q1631 : (Jvm.Cond.fieldLink "LameClocks" (426 : Nat) "LameClocks" "imageUndos" "Ljava/util/ArrayList;") ∈ lw_all := lw_g (lw_at lw_m7 122 rfl) rfl
theorem q1632 : (Jvm.Cond.fieldLink "LameClocks" (429 : Nat) "LameClocks" "imageDraw" "I") ∈ lw_all := lw_g (lw_at lw_m7 123 rfl) rfl
abbrev cX0_turn : ByteArray := prog_1_method_19_code
def yX0_turn : MethodName := ⟨RX0, "turn", "(II)I"⟩
def dkwX0_turn_2 : List UInt8 := [42, 180, 0, 38, 27, 182, 0, 111, 180, 0, 28, 172]
abbrev dktX0_turn_2 : List UInt8 := dkwX0_turn_2 ++ []
def dkwX0_turn_1 : List UInt8 := [187, 0, 184, 89, 42, 27, 183, 0, 186, 182, 0, 187, 42, 180, 0, 38, 27, 182, 0, 111, 28, 182, 0, 188]
abbrev dktX0_turn_1 : List UInt8 := dkwX0_turn_1 ++ dktX0_turn_2
def dkwX0_turn_0 : List UInt8 := [42, 27, 182, 0, 107, 153, 0, 15, 28, 133, 10, 20, 0, 57, 184, 0, 48, 154, 0, 5, 2, 172]
abbrev dktX0_turn_0 : List UInt8 := dkwX0_turn_0 ++ dktX0_turn_1
theorem dksX0_turn_0 : cX0_turn.data.toList.drop 0 = dktX0_turn_0 := by decide +kernel
theorem dksX0_turn_1 : cX0_turn.data.toList.drop 22 = dktX0_turn_1 := dk_seg dksX0_turn_0 22 rfl rfl
theorem dksX0_turn_2 : cX0_turn.data.toList.drop 46 = dktX0_turn_2 := dk_seg dksX0_turn_1 24 rfl rfl
theorem dX0_turn_0 : decode cX0_turn 0 = .ok (.aload_n 0, 1) := dk_42 (dk_at dksX0_turn_0 0 rfl rfl)
theorem dX0_turn_1 : decode cX0_turn 1 = .ok (.iload_n 1, 1) := dk_27 (dk_at dksX0_turn_0 1 rfl rfl)
theorem dX0_turn_2 : decode cX0_turn 2 = .ok (.invokevirtual 107, 3) := dk_182 0 107 (dk_at dksX0_turn_0 2 rfl rfl)
theorem dX0_turn_5 : decode cX0_turn 5 = .ok (.ifCond .eq 15, 3) := dk_153 0 15 (dk_at dksX0_turn_0 5 rfl rfl)
theorem dX0_turn_8 : decode cX0_turn 8 = .ok (.iload_n 2, 1) := dk_28 (dk_at dksX0_turn_0 8 rfl rfl)
theorem dX0_turn_9 : decode cX0_turn 9 = .ok (.i2l, 1) := dk_133 (dk_at dksX0_turn_0 9 rfl rfl)
theorem dX0_turn_10 : decode cX0_turn 10 = .ok (.lconst 1, 1) := dk_10 (dk_at dksX0_turn_0 10 rfl rfl)
theorem dX0_turn_11 : decode cX0_turn 11 = .ok (.ldc2_w 57, 3) := dk_20 0 57 (dk_at dksX0_turn_0 11 rfl rfl)
theorem dX0_turn_14 : decode cX0_turn 14 = .ok (.invokestatic 48, 3) := dk_184 0 48 (dk_at dksX0_turn_0 14 rfl rfl)
theorem dX0_turn_17 : decode cX0_turn 17 = .ok (.ifCond .ne 5, 3) := dk_154 0 5 (dk_at dksX0_turn_0 17 rfl rfl)
theorem dX0_turn_20 : decode cX0_turn 20 = .ok (.iconst (-1), 1) := dk_2 (dk_at dksX0_turn_0 20 rfl rfl)
theorem dX0_turn_21 : decode cX0_turn 21 = .ok (.ireturn, 1) := dk_172 (dk_at dksX0_turn_0 21 rfl rfl)
theorem dX0_turn_22 : decode cX0_turn 22 = .ok (.new 184, 3) := dk_187 0 184 (dk_at dksX0_turn_1 0 rfl rfl)
theorem dX0_turn_25 : decode cX0_turn 25 = .ok (.dup, 1) := dk_89 (dk_at dksX0_turn_1 3 rfl rfl)
theorem dX0_turn_26 : decode cX0_turn 26 = .ok (.aload_n 0, 1) := dk_42 (dk_at dksX0_turn_1 4 rfl rfl)
theorem dX0_turn_27 : decode cX0_turn 27 = .ok (.iload_n 1, 1) := dk_27 (dk_at dksX0_turn_1 5 rfl rfl)
theorem dX0_turn_28 : decode cX0_turn 28 = .ok (.invokespecial 186, 3) := dk_183 0 186 (dk_at dksX0_turn_1 6 rfl rfl)
theorem dX0_turn_31 : decode cX0_turn 31 = .ok (.invokevirtual 187, 3) := dk_182 0 187 (dk_at dksX0_turn_1 9 rfl rfl)
theorem dX0_turn_34 : decode cX0_turn 34 = .ok (.aload_n 0, 1) := dk_42 (dk_at dksX0_turn_1 12 rfl rfl)
theorem dX0_turn_35 : decode cX0_turn 35 = .ok (.getfield 38, 3) := dk_180 0 38 (dk_at dksX0_turn_1 13 rfl rfl)
theorem dX0_turn_38 : decode cX0_turn 38 = .ok (.iload_n 1, 1) := dk_27 (dk_at dksX0_turn_1 16 rfl rfl)
theorem dX0_turn_39 : decode cX0_turn 39 = .ok (.invokevirtual 111, 3) := dk_182 0 111 (dk_at dksX0_turn_1 17 rfl rfl)
theorem dX0_turn_42 : decode cX0_turn 42 = .ok (.iload_n 2, 1) := dk_28 (dk_at dksX0_turn_1 20 rfl rfl)
theorem dX0_turn_43 : decode cX0_turn 43 = .ok (.invokevirtual 188, 3) := dk_182 0 188 (dk_at dksX0_turn_1 21 rfl rfl)
theorem dX0_turn_46 : decode cX0_turn 46 = .ok (.aload_n 0, 1) := dk_42 (dk_at dksX0_turn_2 0 rfl rfl)
theorem dX0_turn_47 : decode cX0_turn 47 = .ok (.getfield 38, 3) := dk_180 0 38 (dk_at dksX0_turn_2 1 rfl rfl)
theorem dX0_turn_50 : decode cX0_turn 50 = .ok (.iload_n 1, 1) := dk_27 (dk_at dksX0_turn_2 4 rfl rfl)
theorem dX0_turn_51 : decode cX0_turn 51 = .ok (.invokevirtual 111, 3) := dk_182 0 111 (dk_at dksX0_turn_2 5 rfl rfl)
theorem dX0_turn_54 : decode cX0_turn 54 = .ok (.getfield 28, 3) := dk_180 0 28 (dk_at dksX0_turn_2 8 rfl rfl)
theorem dX0_turn_57 : decode cX0_turn 57 = .ok (.ireturn, 1) := dk_172 (dk_at dksX0_turn_2 11 rfl rfl)
theorem nw_X0_184 : g_nw RX0 184 17 [.int 0, .int 0, .null, .null] 4 := ⟨_, _, _, tyX17, rfl, q715, q716, q102, in_X17, tyX17_ok, fun j hj => by
  match j, hj with
  | 0, _ => rfl
  | 1, _ => rfl
  | 2, _ => rfl
  | 3, _ => rfl⟩
theorem fo_X0_28 : g_fo RX0 28 [4, 5, 6, 7, 8, 9] 1 := ⟨_, _, _, Or.inl q157, fun ci h => by
  simp only [List.mem_cons, List.not_mem_nil, or_false] at h; rcases h with rfl | rfl | rfl | rfl | rfl | rfl
  · exact ⟨_, _, _, rfl, by decide, rfl, rfl, Or.inl rfl, in_X4⟩
  · exact ⟨_, _, _, rfl, by decide, rfl, rfl, Or.inl rfl, in_X5⟩
  · exact ⟨_, _, _, rfl, by decide, rfl, rfl, Or.inl rfl, in_X6⟩
  · exact ⟨_, _, _, rfl, by decide, rfl, rfl, Or.inl rfl, in_X7⟩
  · exact ⟨_, _, _, rfl, by decide, rfl, rfl, Or.inl rfl, in_X8⟩
  · exact ⟨_, _, _, rfl, by decide, rfl, rfl, Or.inl rfl, in_X9⟩⟩
theorem dmS_X17_init : yX17_init.cls ≠ "java/lang/invoke/MethodHandle" ∧ yX17_init.cls ≠ "java/lang/invoke/VarHandle" ∧ (parseMethodDescriptor yX17_init.desc).map (fun d => d.parameters.length) = some 2 := by decide +kernel
theorem dmV_X4_turns : yX4_turns.cls = RX4 ∧ yX4_turns.cls ≠ "java/lang/invoke/MethodHandle" ∧ yX4_turns.cls ≠ "java/lang/invoke/VarHandle" ∧ (parseMethodDescriptor yX4_turns.desc).map (fun d => d.parameters.length) = some 1 := by decide +kernel
theorem dmU_X4_turns1 : "LameClocks$Plain" ≠ "java/lang/invoke/MethodHandle" ∧ "LameClocks$Plain" ≠ "java/lang/invoke/VarHandle" ∧ (parseMethodDescriptor "(I)V").map (fun d => d.parameters.length) = some 1 := by decide +kernel
section CP
variable {Γ : Gc} {p : Program} {l : Launch} {e : Env} {s : State} {m : MethodId} {args : Array Value} {below : List Frame} {meth : Method} {c : Code} {ex : Nat → Option Nat} {z : Nat} {tF : St}
noncomputable def fX0_turn (ex : Nat → Option Nat) (z : Nat) (h0 : Nat) (x1 : Int32) (x2 : Int32) (t : St) : Option (Int32 × St) := ccast [0] t h0 (gb (fX0_isClock ex (z + t.2.1) h0 x1 (t.1, 0, 0)) t fun r1 t2 => if r1 = 0 then some ((-1), t2) else gb (fX0_in ex (z + t2.2.1) x2.toInt64 1 719 (t2.1, 0, 0)) t2 fun r8 t9 => if r8 = 0 then some ((-1), t9) else cnew z 17 [.int 0, .int 0, .null, .null] 4 t9 fun a10 t11 => gb (fX17_init ex (z + t11.2.1) a10 h0 x1 (t11.1, 0, 0)) t11 fun _ t13 => ccast [17] t13 a10 (gb (fX15_kept ex (z + t13.2.1) a10 (t13.1, 0, 0)) t13 fun _ t15 => cgA [0] 0 t15 h0 fun v21 => ccast [1] t15 v21 (gb (fX1_clock ex (z + t15.2.1) v21 x1 (t15.1, 0, 0)) t15 fun r22 t23 => ccast [4, 5, 6, 7, 8, 9] t23 r22 (gb (fX4_turns ex (z + t23.2.1) r22 x2 (t23.1, 0, 0)) t23 fun _ t30 => cgA [0] 0 t30 h0 fun v36 => ccast [1] t30 v36 (gb (fX1_clock ex (z + t30.2.1) v36 x1 (t30.1, 0, 0)) t30 fun r37 t38 => cgI [4, 5, 6, 7, 8, 9] 1 t38 r37 fun v44 => some (v44, t38))))))
set_option maxHeartbeats 4000000 in
theorem wX0_turn {rF : Int32} (hex : ex = Γ.2.2.2.2) (X : g_X Γ p s m args meth c cX0_turn 3 RX0) (hr : meth.sig.returnType = (some .int)) (h0 : Nat) (x1 : Int32) (x2 : Int32) (t : St) : Wf Γ p l e 8 172 s m args below meth c 3 (g_ι z) v_i rF tF 0 [(0, .ref h0), (1, .int x1), (2, .int x2)] [] t (fX0_turn ex z h0 x1 x2 t) := by
  unfold fX0_turn
  refine g_aload_n (pc := 0) X 0 dX0_turn_0 rfl rfl ?_
  refine g_iload_n (pc := 1) X 1 dX0_turn_1 rfl rfl ?_
  refine g_bD_i (pc := 2) X (cs := [0]) (As := [.int x1]) (rest := []) (b := h0) (n := 1) dX0_turn_2 rfl rfl (Nat.le_of_ble_eq_true rfl) (fun fl3 ci4 fs5 hs6 hci7 r u h => ?_) (fun r1 t2 => ?_)
  · obtain rfl := List.mem_singleton.mp hci7
    exact ⟨_, _, _, yX0_isClock, _, _, _, 2, 40, rfl, kX0_isClock hex h, Or.inl (cwV 1 X.2.2.2.2.1 (lw_V q368 q370 qs4 q70 q372) rfl rfl rfl dmV_X0_isClock ⟨Nat.le_of_ble_eq_true rfl, Nat.le_of_ble_eq_true rfl⟩)⟩
  refine g_if_eq (pc := 5) X 20 dX0_turn_5 (by decide) ?_ ?_
  · refine g_iconst (pc := 20) X (-1) dX0_turn_20 rfl ?_
    exact g_iret (pc := 21) X hr dX0_turn_21
  · refine g_iload_n (pc := 8) X 2 dX0_turn_8 rfl rfl ?_
    refine g_i2l (pc := 9) X dX0_turn_9 ?_
    refine g_lconst (pc := 10) X 1 dX0_turn_10 rfl ?_
    refine g_ldc2 (pc := 11) X 719 dX0_turn_11 q125 ?_
    refine g_bS_i (pc := 14) X (y := yX0_in) (As := [.long x2.toInt64, .long 1, .long 719]) (rest := []) (fr' := 0) (lo' := 0) (fun _ => va_cwS 3 X.2.2.2.2.1 (lw_S q122 q123 q70 q124) rfl rfl rfl dmS_X0_in ⟨Nat.le_of_ble_eq_true rfl, Nat.le_of_ble_eq_true rfl⟩) dX0_turn_14 rfl rfl (Nat.le_of_ble_eq_true rfl) (fun r u h => kX0_in hex h) (fun r8 t9 => ?_)
    refine g_if_ne (pc := 17) X 22 dX0_turn_17 (by decide) ?_ ?_
    · refine cg_new (pc := 22) X nw_X0_184 dX0_turn_22 (fun a10 t11 => ?_)
      refine g_dup (pc := 25) X dX0_turn_25 rfl ?_
      refine g_aload_n (pc := 26) X 0 dX0_turn_26 rfl rfl ?_
      refine g_iload_n (pc := 27) X 1 dX0_turn_27 rfl rfl ?_
      refine g_bI_v (pc := 28) X (y := yX17_init) (As := [.ref h0, .int x1]) (rest := [.ref a10]) (b := a10) (fr' := 4) (lo' := 85) (fun _ => cwI 2 X.2.2.2.2.1 (lw_meth q719) rfl rfl rfl (X.2.2.2.2.1 _ q102) (X.2.2.2.2.1 _ q717) (X.2.2.2.2.1 _ q718) rfl dmS_X17_init ⟨Nat.le_of_ble_eq_true rfl, Nat.le_of_ble_eq_true rfl⟩) dX0_turn_28 rfl rfl (Nat.le_of_ble_eq_true rfl) (fun r u h => kX17_init hex h) (fun r12 t13 => ?_)
      refine g_bD_v (pc := 31) X (cs := [17]) (As := []) (rest := []) (b := a10) (n := 0) dX0_turn_31 rfl rfl (Nat.le_of_ble_eq_true rfl) (fun fl16 ci17 fs18 hs19 hci20 r u h => ?_) (fun r14 t15 => ?_)
      · obtain rfl := List.mem_singleton.mp hci20
        exact ⟨_, _, _, yX15_kept, _, _, _, 7, 152, rfl, kX15_kept hex h, Or.inr (Or.inl ⟨_, _, va_cwU 0 X.2.2.2.2.1 (lw_U q729 q730 q731 q695 q100 q696) rfl rfl rfl rfl dmU_X15_kept0 ⟨Nat.le_of_ble_eq_true rfl, Nat.le_of_ble_eq_true rfl⟩⟩)⟩
      refine g_aload_n (pc := 34) X 0 dX0_turn_34 rfl rfl ?_
      refine cg_getA (pc := 35) X fo_X0_38 dX0_turn_35 (fun v21 => ?_)
      refine g_iload_n (pc := 38) X 1 dX0_turn_38 rfl rfl ?_
      refine g_bD_a (pc := 39) X (cs := [1]) (As := [.int x1]) (rest := []) (b := v21) (n := 1) dX0_turn_39 rfl rfl (Nat.le_of_ble_eq_true rfl) (fun fl24 ci25 fs26 hs27 hci28 r u h => ?_) (fun r22 t23 => ?_)
      · obtain rfl := List.mem_singleton.mp hci28
        exact ⟨_, _, _, yX1_clock, _, _, _, 3, 64, rfl, kX1_clock hex h, Or.inl (cwV 1 X.2.2.2.2.1 (lw_V q373 q374 q375 q71 q376) rfl rfl rfl dmV_X1_clock ⟨Nat.le_of_ble_eq_true rfl, Nat.le_of_ble_eq_true rfl⟩)⟩
      refine g_iload_n (pc := 42) X 2 dX0_turn_42 rfl rfl ?_
      refine g_bD_v (pc := 43) X (cs := [4, 5, 6, 7, 8, 9]) (As := [.int x2]) (rest := []) (b := r22) (n := 1) dX0_turn_43 rfl rfl (Nat.le_of_ble_eq_true rfl) (fun fl31 ci32 fs33 hs34 hci35 r u h => ?_) (fun r29 t30 => ?_)
      · simp only [List.mem_cons, List.not_mem_nil, or_false] at hci35
        rcases hci35 with rfl | rfl | rfl | rfl | rfl | rfl
        · exact ⟨_, _, _, yX4_turns, _, _, _, 0, 0, rfl, kX4_turns hex h, Or.inl (cwV 1 X.2.2.2.2.1 (lw_V q732 q733 q734 q77 q741) rfl rfl rfl dmV_X4_turns ⟨Nat.le_of_ble_eq_true rfl, Nat.le_of_ble_eq_true rfl⟩)⟩
        · exact ⟨_, _, _, yX4_turns, _, _, _, 0, 0, rfl, kX4_turns hex h, Or.inr (Or.inl ⟨_, _, va_cwU 1 X.2.2.2.2.1 (lw_U q732 q735 q736 q733 q77 q741) rfl rfl rfl rfl dmU_X4_turns1 ⟨Nat.le_of_ble_eq_true rfl, Nat.le_of_ble_eq_true rfl⟩⟩)⟩
        · exact ⟨_, _, _, yX4_turns, _, _, _, 0, 0, rfl, kX4_turns hex h, Or.inr (Or.inl ⟨_, _, va_cwU 1 X.2.2.2.2.1 (lw_U q732 q735 q738 q733 q77 q741) rfl rfl rfl rfl dmU_X4_turns1 ⟨Nat.le_of_ble_eq_true rfl, Nat.le_of_ble_eq_true rfl⟩⟩)⟩
        · exact ⟨_, _, _, yX4_turns, _, _, _, 0, 0, rfl, kX4_turns hex h, Or.inr (Or.inl ⟨_, _, va_cwU 1 X.2.2.2.2.1 (lw_U q732 q735 q739 q733 q77 q741) rfl rfl rfl rfl dmU_X4_turns1 ⟨Nat.le_of_ble_eq_true rfl, Nat.le_of_ble_eq_true rfl⟩⟩)⟩
        · exact ⟨_, _, _, yX4_turns, _, _, _, 0, 0, rfl, kX4_turns hex h, Or.inr (Or.inl ⟨_, _, va_cwU 1 X.2.2.2.2.1 (lw_U q732 q735 q740 q733 q77 q741) rfl rfl rfl rfl dmU_X4_turns1 ⟨Nat.le_of_ble_eq_true rfl, Nat.le_of_ble_eq_true rfl⟩⟩)⟩
        · exact ⟨_, _, _, yX4_turns, _, _, _, 0, 0, rfl, kX4_turns hex h, Or.inr (Or.inl ⟨_, _, va_cwU 1 X.2.2.2.2.1 (lw_U q732 q735 q737 q733 q77 q741) rfl rfl rfl rfl dmU_X4_turns1 ⟨Nat.le_of_ble_eq_true rfl, Nat.le_of_ble_eq_true rfl⟩⟩)⟩
      refine g_aload_n (pc := 46) X 0 dX0_turn_46 rfl rfl ?_
      refine cg_getA (pc := 47) X fo_X0_38 dX0_turn_47 (fun v36 => ?_)
      refine g_iload_n (pc := 50) X 1 dX0_turn_50 rfl rfl ?_
      refine g_bD_a (pc := 51) X (cs := [1]) (As := [.int x1]) (rest := []) (b := v36) (n := 1) dX0_turn_51 rfl rfl (Nat.le_of_ble_eq_true rfl) (fun fl39 ci40 fs41 hs42 hci43 r u h => ?_) (fun r37 t38 => ?_)
      · obtain rfl := List.mem_singleton.mp hci43
        exact ⟨_, _, _, yX1_clock, _, _, _, 3, 64, rfl, kX1_clock hex h, Or.inl (cwV 1 X.2.2.2.2.1 (lw_V q373 q374 q375 q71 q376) rfl rfl rfl dmV_X1_clock ⟨Nat.le_of_ble_eq_true rfl, Nat.le_of_ble_eq_true rfl⟩)⟩
      refine cg_getI (pc := 54) X fo_X0_28 dX0_turn_54 (fun v44 => ?_)
      exact g_iret (pc := 57) X hr dX0_turn_57
    · refine g_iconst (pc := 20) X (-1) dX0_turn_20 rfl ?_
      exact g_iret (pc := 21) X hr dX0_turn_21
theorem kX0_turn {ex : Nat → Option Nat} {z : Nat} {h0 : Nat} {x1 : Int32} {x2 : Int32} {σ : Sg} {r : Int32} {u : St} (hex : ex = Γ.2.2.2.2) (h : fX0_turn ex z h0 x1 x2 (σ, 0, 0) = some (r, u)) : g_C Γ l yX0_turn cX0_turn 3 (some .int) 8 172 [.ref h0, .int x1, .int x2] σ z v_i r (g_ι z u) :=
  g_met (ι := g_ι z) (t := (σ, 0, 0)) [.ref h0, .int x1, .int x2] (by decide) (Nat.le_of_ble_eq_true rfl) h rfl (fun p e s m args below meth c X hr hn => wX0_turn hex X hr h0 x1 x2 (σ, 0, 0))
end CP
abbrev cX0_tune : ByteArray := prog_1_method_20_code
def yX0_tune : MethodName := ⟨RX0, "tune", "(II)I"⟩
def dkwX0_tune_2 : List UInt8 := [183, 0, 193, 182, 0, 194, 42, 180, 0, 38, 27, 182, 0, 111, 28, 181, 0, 32, 29, 172]
abbrev dktX0_tune_2 : List UInt8 := dkwX0_tune_2 ++ []
def dkwX0_tune_1 : List UInt8 := [17, 252, 23, 172, 42, 180, 0, 38, 27, 182, 0, 111, 180, 0, 32, 62, 187, 0, 191, 89, 42, 27]
abbrev dktX0_tune_1 : List UInt8 := dkwX0_tune_1 ++ dktX0_tune_2
def dkwX0_tune_0 : List UInt8 := [42, 27, 182, 0, 107, 153, 0, 17, 28, 133, 20, 0, 59, 20, 0, 61, 184, 0, 48, 154, 0, 7]
abbrev dktX0_tune_0 : List UInt8 := dkwX0_tune_0 ++ dktX0_tune_1
theorem dksX0_tune_0 : cX0_tune.data.toList.drop 0 = dktX0_tune_0 := by decide +kernel
theorem dksX0_tune_1 : cX0_tune.data.toList.drop 22 = dktX0_tune_1 := dk_seg dksX0_tune_0 22 rfl rfl
theorem dksX0_tune_2 : cX0_tune.data.toList.drop 44 = dktX0_tune_2 := dk_seg dksX0_tune_1 22 rfl rfl
theorem dX0_tune_0 : decode cX0_tune 0 = .ok (.aload_n 0, 1) := dk_42 (dk_at dksX0_tune_0 0 rfl rfl)
theorem dX0_tune_1 : decode cX0_tune 1 = .ok (.iload_n 1, 1) := dk_27 (dk_at dksX0_tune_0 1 rfl rfl)
theorem dX0_tune_2 : decode cX0_tune 2 = .ok (.invokevirtual 107, 3) := dk_182 0 107 (dk_at dksX0_tune_0 2 rfl rfl)
theorem dX0_tune_5 : decode cX0_tune 5 = .ok (.ifCond .eq 17, 3) := dk_153 0 17 (dk_at dksX0_tune_0 5 rfl rfl)
theorem dX0_tune_8 : decode cX0_tune 8 = .ok (.iload_n 2, 1) := dk_28 (dk_at dksX0_tune_0 8 rfl rfl)
theorem dX0_tune_9 : decode cX0_tune 9 = .ok (.i2l, 1) := dk_133 (dk_at dksX0_tune_0 9 rfl rfl)
theorem dX0_tune_10 : decode cX0_tune 10 = .ok (.ldc2_w 59, 3) := dk_20 0 59 (dk_at dksX0_tune_0 10 rfl rfl)
theorem dX0_tune_13 : decode cX0_tune 13 = .ok (.ldc2_w 61, 3) := dk_20 0 61 (dk_at dksX0_tune_0 13 rfl rfl)
theorem dX0_tune_16 : decode cX0_tune 16 = .ok (.invokestatic 48, 3) := dk_184 0 48 (dk_at dksX0_tune_0 16 rfl rfl)
theorem dX0_tune_19 : decode cX0_tune 19 = .ok (.ifCond .ne 7, 3) := dk_154 0 7 (dk_at dksX0_tune_0 19 rfl rfl)
theorem dX0_tune_22 : decode cX0_tune 22 = .ok (.sipush (-1001), 3) := dk_17 252 23 (dk_at dksX0_tune_1 0 rfl rfl)
theorem dX0_tune_25 : decode cX0_tune 25 = .ok (.ireturn, 1) := dk_172 (dk_at dksX0_tune_1 3 rfl rfl)
theorem dX0_tune_26 : decode cX0_tune 26 = .ok (.aload_n 0, 1) := dk_42 (dk_at dksX0_tune_1 4 rfl rfl)
theorem dX0_tune_27 : decode cX0_tune 27 = .ok (.getfield 38, 3) := dk_180 0 38 (dk_at dksX0_tune_1 5 rfl rfl)
theorem dX0_tune_30 : decode cX0_tune 30 = .ok (.iload_n 1, 1) := dk_27 (dk_at dksX0_tune_1 8 rfl rfl)
theorem dX0_tune_31 : decode cX0_tune 31 = .ok (.invokevirtual 111, 3) := dk_182 0 111 (dk_at dksX0_tune_1 9 rfl rfl)
theorem dX0_tune_34 : decode cX0_tune 34 = .ok (.getfield 32, 3) := dk_180 0 32 (dk_at dksX0_tune_1 12 rfl rfl)
theorem dX0_tune_37 : decode cX0_tune 37 = .ok (.istore_n 3, 1) := dk_62 (dk_at dksX0_tune_1 15 rfl rfl)
theorem dX0_tune_38 : decode cX0_tune 38 = .ok (.new 191, 3) := dk_187 0 191 (dk_at dksX0_tune_1 16 rfl rfl)
theorem dX0_tune_41 : decode cX0_tune 41 = .ok (.dup, 1) := dk_89 (dk_at dksX0_tune_1 19 rfl rfl)
theorem dX0_tune_42 : decode cX0_tune 42 = .ok (.aload_n 0, 1) := dk_42 (dk_at dksX0_tune_1 20 rfl rfl)
theorem dX0_tune_43 : decode cX0_tune 43 = .ok (.iload_n 1, 1) := dk_27 (dk_at dksX0_tune_1 21 rfl rfl)
theorem dX0_tune_44 : decode cX0_tune 44 = .ok (.invokespecial 193, 3) := dk_183 0 193 (dk_at dksX0_tune_2 0 rfl rfl)
theorem dX0_tune_47 : decode cX0_tune 47 = .ok (.invokevirtual 194, 3) := dk_182 0 194 (dk_at dksX0_tune_2 3 rfl rfl)
theorem dX0_tune_50 : decode cX0_tune 50 = .ok (.aload_n 0, 1) := dk_42 (dk_at dksX0_tune_2 6 rfl rfl)
theorem dX0_tune_51 : decode cX0_tune 51 = .ok (.getfield 38, 3) := dk_180 0 38 (dk_at dksX0_tune_2 7 rfl rfl)
theorem dX0_tune_54 : decode cX0_tune 54 = .ok (.iload_n 1, 1) := dk_27 (dk_at dksX0_tune_2 10 rfl rfl)
theorem dX0_tune_55 : decode cX0_tune 55 = .ok (.invokevirtual 111, 3) := dk_182 0 111 (dk_at dksX0_tune_2 11 rfl rfl)
theorem dX0_tune_58 : decode cX0_tune 58 = .ok (.iload_n 2, 1) := dk_28 (dk_at dksX0_tune_2 14 rfl rfl)
theorem dX0_tune_59 : decode cX0_tune 59 = .ok (.putfield 32, 3) := dk_181 0 32 (dk_at dksX0_tune_2 15 rfl rfl)
theorem dX0_tune_62 : decode cX0_tune 62 = .ok (.iload_n 3, 1) := dk_29 (dk_at dksX0_tune_2 18 rfl rfl)
theorem dX0_tune_63 : decode cX0_tune 63 = .ok (.ireturn, 1) := dk_172 (dk_at dksX0_tune_2 19 rfl rfl)
theorem nw_X0_191 : g_nw RX0 191 19 [.int 0, .int 0, .null, .null] 4 := ⟨_, _, _, tyX19, rfl, q746, q747, q104, in_X19, tyX19_ok, fun j hj => by
  match j, hj with
  | 0, _ => rfl
  | 1, _ => rfl
  | 2, _ => rfl
  | 3, _ => rfl⟩
theorem dmS_X19_init : yX19_init.cls ≠ "java/lang/invoke/MethodHandle" ∧ yX19_init.cls ≠ "java/lang/invoke/VarHandle" ∧ (parseMethodDescriptor yX19_init.desc).map (fun d => d.parameters.length) = some 2 := by decide +kernel
section CP
variable {Γ : Gc} {p : Program} {l : Launch} {e : Env} {s : State} {m : MethodId} {args : Array Value} {below : List Frame} {meth : Method} {c : Code} {ex : Nat → Option Nat} {z : Nat} {tF : St}
noncomputable def fX0_tune (ex : Nat → Option Nat) (z : Nat) (h0 : Nat) (x1 : Int32) (x2 : Int32) (t : St) : Option (Int32 × St) := ccast [0] t h0 (gb (fX0_isClock ex (z + t.2.1) h0 x1 (t.1, 0, 0)) t fun r1 t2 => if r1 = 0 then some ((-1001), t2) else gb (fX0_in ex (z + t2.2.1) x2.toInt64 (-30) 30 (t2.1, 0, 0)) t2 fun r8 t9 => if r8 = 0 then some ((-1001), t9) else cgA [0] 0 t9 h0 fun v10 => ccast [1] t9 v10 (gb (fX1_clock ex (z + t9.2.1) v10 x1 (t9.1, 0, 0)) t9 fun r11 t12 => cgI [4, 5, 6, 7, 8, 9] 2 t12 r11 fun v18 => cnew z 19 [.int 0, .int 0, .null, .null] 4 t12 fun a19 t20 => gb (fX19_init ex (z + t20.2.1) a19 h0 x1 (t20.1, 0, 0)) t20 fun _ t22 => ccast [19] t22 a19 (gb (fX15_kept ex (z + t22.2.1) a19 (t22.1, 0, 0)) t22 fun _ t24 => cgA [0] 0 t24 h0 fun v30 => ccast [1] t24 v30 (gb (fX1_clock ex (z + t24.2.1) v30 x1 (t24.1, 0, 0)) t24 fun r31 t32 => cput [4, 5, 6, 7, 8, 9] 2 t32 r31 (.int x2) fun t38 => some (v18, t38)))))
set_option maxHeartbeats 4000000 in
theorem wX0_tune {rF : Int32} (hex : ex = Γ.2.2.2.2) (X : g_X Γ p s m args meth c cX0_tune 4 RX0) (hr : meth.sig.returnType = (some .int)) (h0 : Nat) (x1 : Int32) (x2 : Int32) (t : St) : Wf Γ p l e 8 172 s m args below meth c 4 (g_ι z) v_i rF tF 0 [(0, .ref h0), (1, .int x1), (2, .int x2)] [] t (fX0_tune ex z h0 x1 x2 t) := by
  unfold fX0_tune
  refine g_aload_n (pc := 0) X 0 dX0_tune_0 rfl rfl ?_
  refine g_iload_n (pc := 1) X 1 dX0_tune_1 rfl rfl ?_
  refine g_bD_i (pc := 2) X (cs := [0]) (As := [.int x1]) (rest := []) (b := h0) (n := 1) dX0_tune_2 rfl rfl (Nat.le_of_ble_eq_true rfl) (fun fl3 ci4 fs5 hs6 hci7 r u h => ?_) (fun r1 t2 => ?_)
  · obtain rfl := List.mem_singleton.mp hci7
    exact ⟨_, _, _, yX0_isClock, _, _, _, 2, 40, rfl, kX0_isClock hex h, Or.inl (cwV 1 X.2.2.2.2.1 (lw_V q368 q370 qs4 q70 q372) rfl rfl rfl dmV_X0_isClock ⟨Nat.le_of_ble_eq_true rfl, Nat.le_of_ble_eq_true rfl⟩)⟩
  refine g_if_eq (pc := 5) X 22 dX0_tune_5 (by decide) ?_ ?_
  · refine g_sipush (pc := 22) X (-1001) dX0_tune_22 rfl ?_
    exact g_iret (pc := 25) X hr dX0_tune_25
  · refine g_iload_n (pc := 8) X 2 dX0_tune_8 rfl rfl ?_
    refine g_i2l (pc := 9) X dX0_tune_9 ?_
    refine g_ldc2 (pc := 10) X (-30) dX0_tune_10 q126 ?_
    refine g_ldc2 (pc := 13) X 30 dX0_tune_13 q127 ?_
    refine g_bS_i (pc := 16) X (y := yX0_in) (As := [.long x2.toInt64, .long (-30), .long 30]) (rest := []) (fr' := 0) (lo' := 0) (fun _ => va_cwS 3 X.2.2.2.2.1 (lw_S q122 q123 q70 q124) rfl rfl rfl dmS_X0_in ⟨Nat.le_of_ble_eq_true rfl, Nat.le_of_ble_eq_true rfl⟩) dX0_tune_16 rfl rfl (Nat.le_of_ble_eq_true rfl) (fun r u h => kX0_in hex h) (fun r8 t9 => ?_)
    refine g_if_ne (pc := 19) X 26 dX0_tune_19 (by decide) ?_ ?_
    · refine g_aload_n (pc := 26) X 0 dX0_tune_26 rfl rfl ?_
      refine cg_getA (pc := 27) X fo_X0_38 dX0_tune_27 (fun v10 => ?_)
      refine g_iload_n (pc := 30) X 1 dX0_tune_30 rfl rfl ?_
      refine g_bD_a (pc := 31) X (cs := [1]) (As := [.int x1]) (rest := []) (b := v10) (n := 1) dX0_tune_31 rfl rfl (Nat.le_of_ble_eq_true rfl) (fun fl13 ci14 fs15 hs16 hci17 r u h => ?_) (fun r11 t12 => ?_)
      · obtain rfl := List.mem_singleton.mp hci17
        exact ⟨_, _, _, yX1_clock, _, _, _, 3, 64, rfl, kX1_clock hex h, Or.inl (cwV 1 X.2.2.2.2.1 (lw_V q373 q374 q375 q71 q376) rfl rfl rfl dmV_X1_clock ⟨Nat.le_of_ble_eq_true rfl, Nat.le_of_ble_eq_true rfl⟩)⟩
      refine cg_getI (pc := 34) X fo_X0_32 dX0_tune_34 (fun v18 => ?_)
      refine g_istore_n (pc := 37) X (lv' := [(3, .int v18), (0, .ref h0), (1, .int x1), (2, .int x2)]) dX0_tune_37 rfl (by decide) rfl ?_
      refine cg_new (pc := 38) X nw_X0_191 dX0_tune_38 (fun a19 t20 => ?_)
      refine g_dup (pc := 41) X dX0_tune_41 rfl ?_
      refine g_aload_n (pc := 42) X 1 dX0_tune_42 rfl rfl ?_
      refine g_iload_n (pc := 43) X 2 dX0_tune_43 rfl rfl ?_
      refine g_bI_v (pc := 44) X (y := yX19_init) (As := [.ref h0, .int x1]) (rest := [.ref a19]) (b := a19) (fr' := 4) (lo' := 85) (fun _ => cwI 2 X.2.2.2.2.1 (lw_meth q750) rfl rfl rfl (X.2.2.2.2.1 _ q104) (X.2.2.2.2.1 _ q748) (X.2.2.2.2.1 _ q749) rfl dmS_X19_init ⟨Nat.le_of_ble_eq_true rfl, Nat.le_of_ble_eq_true rfl⟩) dX0_tune_44 rfl rfl (Nat.le_of_ble_eq_true rfl) (fun r u h => kX19_init hex h) (fun r21 t22 => ?_)
      refine g_bD_v (pc := 47) X (cs := [19]) (As := []) (rest := []) (b := a19) (n := 0) dX0_tune_47 rfl rfl (Nat.le_of_ble_eq_true rfl) (fun fl25 ci26 fs27 hs28 hci29 r u h => ?_) (fun r23 t24 => ?_)
      · obtain rfl := List.mem_singleton.mp hci29
        exact ⟨_, _, _, yX15_kept, _, _, _, 7, 152, rfl, kX15_kept hex h, Or.inr (Or.inl ⟨_, _, va_cwU 0 X.2.2.2.2.1 (lw_U q760 q761 q762 q695 q100 q696) rfl rfl rfl rfl dmU_X15_kept0 ⟨Nat.le_of_ble_eq_true rfl, Nat.le_of_ble_eq_true rfl⟩⟩)⟩
      refine g_aload_n (pc := 50) X 1 dX0_tune_50 rfl rfl ?_
      refine cg_getA (pc := 51) X fo_X0_38 dX0_tune_51 (fun v30 => ?_)
      refine g_iload_n (pc := 54) X 2 dX0_tune_54 rfl rfl ?_
      refine g_bD_a (pc := 55) X (cs := [1]) (As := [.int x1]) (rest := []) (b := v30) (n := 1) dX0_tune_55 rfl rfl (Nat.le_of_ble_eq_true rfl) (fun fl33 ci34 fs35 hs36 hci37 r u h => ?_) (fun r31 t32 => ?_)
      · obtain rfl := List.mem_singleton.mp hci37
        exact ⟨_, _, _, yX1_clock, _, _, _, 3, 64, rfl, kX1_clock hex h, Or.inl (cwV 1 X.2.2.2.2.1 (lw_V q373 q374 q375 q71 q376) rfl rfl rfl dmV_X1_clock ⟨Nat.le_of_ble_eq_true rfl, Nat.le_of_ble_eq_true rfl⟩)⟩
      refine g_iload_n (pc := 58) X 3 dX0_tune_58 rfl rfl ?_
      refine cg_put (pc := 59) X fp_X0_32 dX0_tune_59 (fun h => by cases h) rfl rfl (fun t38 => ?_)
      refine g_iload_n (pc := 62) X 0 dX0_tune_62 rfl rfl ?_
      exact g_iret (pc := 63) X hr dX0_tune_63
    · refine g_sipush (pc := 22) X (-1001) dX0_tune_22 rfl ?_
      exact g_iret (pc := 25) X hr dX0_tune_25
theorem kX0_tune {ex : Nat → Option Nat} {z : Nat} {h0 : Nat} {x1 : Int32} {x2 : Int32} {σ : Sg} {r : Int32} {u : St} (hex : ex = Γ.2.2.2.2) (h : fX0_tune ex z h0 x1 x2 (σ, 0, 0) = some (r, u)) : g_C Γ l yX0_tune cX0_tune 4 (some .int) 8 172 [.ref h0, .int x1, .int x2] σ z v_i r (g_ι z u) :=
  g_met (ι := g_ι z) (t := (σ, 0, 0)) [.ref h0, .int x1, .int x2] (by decide) (Nat.le_of_ble_eq_true rfl) h rfl (fun p e s m args below meth c X hr hn => wX0_tune hex X hr h0 x1 x2 (σ, 0, 0))
end CP
abbrev cX0_breathe : ByteArray := prog_1_method_21_code
def yX0_breathe : MethodName := ⟨RX0, "breathe", "(I)I"⟩
def dkwX0_breathe_2 : List UInt8 := [180, 0, 138, 27, 16, 12, 84, 28, 172]
abbrev dktX0_breathe_2 : List UInt8 := dkwX0_breathe_2 ++ []
def dkwX0_breathe_1 : List UInt8 := [160, 0, 6, 16, 254, 172, 187, 0, 195, 89, 42, 27, 183, 0, 197, 182, 0, 198, 42, 180, 0, 38]
abbrev dktX0_breathe_1 : List UInt8 := dkwX0_breathe_1 ++ dktX0_breathe_2
def dkwX0_breathe_0 : List UInt8 := [42, 27, 182, 0, 129, 154, 0, 5, 2, 172, 42, 180, 0, 38, 180, 0, 138, 27, 51, 61, 28, 16, 12]
abbrev dktX0_breathe_0 : List UInt8 := dkwX0_breathe_0 ++ dktX0_breathe_1
theorem dksX0_breathe_0 : cX0_breathe.data.toList.drop 0 = dktX0_breathe_0 := by decide +kernel
theorem dksX0_breathe_1 : cX0_breathe.data.toList.drop 23 = dktX0_breathe_1 := dk_seg dksX0_breathe_0 23 rfl rfl
theorem dksX0_breathe_2 : cX0_breathe.data.toList.drop 45 = dktX0_breathe_2 := dk_seg dksX0_breathe_1 22 rfl rfl
theorem dX0_breathe_0 : decode cX0_breathe 0 = .ok (.aload_n 0, 1) := dk_42 (dk_at dksX0_breathe_0 0 rfl rfl)
theorem dX0_breathe_1 : decode cX0_breathe 1 = .ok (.iload_n 1, 1) := dk_27 (dk_at dksX0_breathe_0 1 rfl rfl)
theorem dX0_breathe_2 : decode cX0_breathe 2 = .ok (.invokevirtual 129, 3) := dk_182 0 129 (dk_at dksX0_breathe_0 2 rfl rfl)
theorem dX0_breathe_5 : decode cX0_breathe 5 = .ok (.ifCond .ne 5, 3) := dk_154 0 5 (dk_at dksX0_breathe_0 5 rfl rfl)
theorem dX0_breathe_8 : decode cX0_breathe 8 = .ok (.iconst (-1), 1) := dk_2 (dk_at dksX0_breathe_0 8 rfl rfl)
theorem dX0_breathe_9 : decode cX0_breathe 9 = .ok (.ireturn, 1) := dk_172 (dk_at dksX0_breathe_0 9 rfl rfl)
theorem dX0_breathe_10 : decode cX0_breathe 10 = .ok (.aload_n 0, 1) := dk_42 (dk_at dksX0_breathe_0 10 rfl rfl)
theorem dX0_breathe_11 : decode cX0_breathe 11 = .ok (.getfield 38, 3) := dk_180 0 38 (dk_at dksX0_breathe_0 11 rfl rfl)
theorem dX0_breathe_14 : decode cX0_breathe 14 = .ok (.getfield 138, 3) := dk_180 0 138 (dk_at dksX0_breathe_0 14 rfl rfl)
theorem dX0_breathe_17 : decode cX0_breathe 17 = .ok (.iload_n 1, 1) := dk_27 (dk_at dksX0_breathe_0 17 rfl rfl)
theorem dX0_breathe_18 : decode cX0_breathe 18 = .ok (.baload, 1) := dk_51 (dk_at dksX0_breathe_0 18 rfl rfl)
theorem dX0_breathe_19 : decode cX0_breathe 19 = .ok (.istore_n 2, 1) := dk_61 (dk_at dksX0_breathe_0 19 rfl rfl)
theorem dX0_breathe_20 : decode cX0_breathe 20 = .ok (.iload_n 2, 1) := dk_28 (dk_at dksX0_breathe_0 20 rfl rfl)
theorem dX0_breathe_21 : decode cX0_breathe 21 = .ok (.bipush 12, 2) := dk_16 12 (dk_at dksX0_breathe_0 21 rfl rfl)
theorem dX0_breathe_23 : decode cX0_breathe 23 = .ok (.if_icmp .ne 6, 3) := dk_160 0 6 (dk_at dksX0_breathe_1 0 rfl rfl)
theorem dX0_breathe_26 : decode cX0_breathe 26 = .ok (.bipush (-2), 2) := dk_16 254 (dk_at dksX0_breathe_1 3 rfl rfl)
theorem dX0_breathe_28 : decode cX0_breathe 28 = .ok (.ireturn, 1) := dk_172 (dk_at dksX0_breathe_1 5 rfl rfl)
theorem dX0_breathe_29 : decode cX0_breathe 29 = .ok (.new 195, 3) := dk_187 0 195 (dk_at dksX0_breathe_1 6 rfl rfl)
theorem dX0_breathe_32 : decode cX0_breathe 32 = .ok (.dup, 1) := dk_89 (dk_at dksX0_breathe_1 9 rfl rfl)
theorem dX0_breathe_33 : decode cX0_breathe 33 = .ok (.aload_n 0, 1) := dk_42 (dk_at dksX0_breathe_1 10 rfl rfl)
theorem dX0_breathe_34 : decode cX0_breathe 34 = .ok (.iload_n 1, 1) := dk_27 (dk_at dksX0_breathe_1 11 rfl rfl)
theorem dX0_breathe_35 : decode cX0_breathe 35 = .ok (.invokespecial 197, 3) := dk_183 0 197 (dk_at dksX0_breathe_1 12 rfl rfl)
theorem dX0_breathe_38 : decode cX0_breathe 38 = .ok (.invokevirtual 198, 3) := dk_182 0 198 (dk_at dksX0_breathe_1 15 rfl rfl)
theorem dX0_breathe_41 : decode cX0_breathe 41 = .ok (.aload_n 0, 1) := dk_42 (dk_at dksX0_breathe_1 18 rfl rfl)
theorem dX0_breathe_42 : decode cX0_breathe 42 = .ok (.getfield 38, 3) := dk_180 0 38 (dk_at dksX0_breathe_1 19 rfl rfl)
theorem dX0_breathe_45 : decode cX0_breathe 45 = .ok (.getfield 138, 3) := dk_180 0 138 (dk_at dksX0_breathe_2 0 rfl rfl)
theorem dX0_breathe_48 : decode cX0_breathe 48 = .ok (.iload_n 1, 1) := dk_27 (dk_at dksX0_breathe_2 3 rfl rfl)
theorem dX0_breathe_49 : decode cX0_breathe 49 = .ok (.bipush 12, 2) := dk_16 12 (dk_at dksX0_breathe_2 4 rfl rfl)
theorem dX0_breathe_51 : decode cX0_breathe 51 = .ok (.bastore, 1) := dk_84 (dk_at dksX0_breathe_2 6 rfl rfl)
theorem dX0_breathe_52 : decode cX0_breathe 52 = .ok (.iload_n 2, 1) := dk_28 (dk_at dksX0_breathe_2 7 rfl rfl)
theorem dX0_breathe_53 : decode cX0_breathe 53 = .ok (.ireturn, 1) := dk_172 (dk_at dksX0_breathe_2 8 rfl rfl)
theorem nw_X0_195 : g_nw RX0 195 16 [.int 0, .int 0, .null, .null] 4 := ⟨_, _, _, tyX16, rfl, q767, q768, q101, in_X16, tyX16_ok, fun j hj => by
  match j, hj with
  | 0, _ => rfl
  | 1, _ => rfl
  | 2, _ => rfl
  | 3, _ => rfl⟩
theorem dmS_X16_init : yX16_init.cls ≠ "java/lang/invoke/MethodHandle" ∧ yX16_init.cls ≠ "java/lang/invoke/VarHandle" ∧ (parseMethodDescriptor yX16_init.desc).map (fun d => d.parameters.length) = some 2 := by decide +kernel
section CP
variable {Γ : Gc} {p : Program} {l : Launch} {e : Env} {s : State} {m : MethodId} {args : Array Value} {below : List Frame} {meth : Method} {c : Code} {ex : Nat → Option Nat} {z : Nat} {tF : St}
noncomputable def fX0_breathe (ex : Nat → Option Nat) (z : Nat) (h0 : Nat) (x1 : Int32) (t : St) : Option (Int32 × St) := ccast [0] t h0 (gb (fX0_isWindow ex (z + t.2.1) h0 x1 (t.1, 0, 0)) t fun r1 t2 => if r1 = 0 then some ((-1), t2) else cgA [0] 0 t2 h0 fun v8 => cgA [1] 1 t2 v8 fun v9 => cald 0 t2 v9 x1 fun v10 => if v10 = 12 then some ((-2), t2) else cnew z 16 [.int 0, .int 0, .null, .null] 4 t2 fun a11 t12 => gb (fX16_init ex (z + t12.2.1) a11 h0 x1 (t12.1, 0, 0)) t12 fun _ t14 => ccast [16] t14 a11 (gb (fX15_kept ex (z + t14.2.1) a11 (t14.1, 0, 0)) t14 fun _ t16 => cgA [0] 0 t16 h0 fun v22 => cgA [1] 1 t16 v22 fun v23 => cast_ 0 (vp_nar .byte) t16 v23 x1 12 fun t24 => some (v10, t24)))
set_option maxHeartbeats 4000000 in
theorem wX0_breathe {rF : Int32} (hex : ex = Γ.2.2.2.2) (X : g_X Γ p s m args meth c cX0_breathe 3 RX0) (hr : meth.sig.returnType = (some .int)) (h0 : Nat) (x1 : Int32) (t : St) : Wf Γ p l e 8 172 s m args below meth c 3 (g_ι z) v_i rF tF 0 [(0, .ref h0), (1, .int x1)] [] t (fX0_breathe ex z h0 x1 t) := by
  unfold fX0_breathe
  refine g_aload_n (pc := 0) X 0 dX0_breathe_0 rfl rfl ?_
  refine g_iload_n (pc := 1) X 1 dX0_breathe_1 rfl rfl ?_
  refine g_bD_i (pc := 2) X (cs := [0]) (As := [.int x1]) (rest := []) (b := h0) (n := 1) dX0_breathe_2 rfl rfl (Nat.le_of_ble_eq_true rfl) (fun fl3 ci4 fs5 hs6 hci7 r u h => ?_) (fun r1 t2 => ?_)
  · obtain rfl := List.mem_singleton.mp hci7
    exact ⟨_, _, _, yX0_isWindow, _, _, _, 1, 25, rfl, kX0_isWindow hex h, Or.inl (cwV 1 X.2.2.2.2.1 (lw_V q463 q465 qs5 q70 q466) rfl rfl rfl dmV_X0_isWindow ⟨Nat.le_of_ble_eq_true rfl, Nat.le_of_ble_eq_true rfl⟩)⟩
  refine g_if_ne (pc := 5) X 10 dX0_breathe_5 (by decide) ?_ ?_
  · refine g_aload_n (pc := 10) X 0 dX0_breathe_10 rfl rfl ?_
    refine cg_getA (pc := 11) X fo_X0_38 dX0_breathe_11 (fun v8 => ?_)
    refine cg_getA (pc := 14) X fo_X0_138 dX0_breathe_14 (fun v9 => ?_)
    refine g_iload_n (pc := 17) X 1 dX0_breathe_17 rfl rfl ?_
    refine cg_bald (pc := 18) X dX0_breathe_18 (fun v10 => ?_)
    refine g_istore_n (pc := 19) X (lv' := [(2, .int v10), (0, .ref h0), (1, .int x1)]) dX0_breathe_19 rfl (by decide) rfl ?_
    refine g_iload_n (pc := 20) X 0 dX0_breathe_20 rfl rfl ?_
    refine g_bipush (pc := 21) X 12 dX0_breathe_21 rfl ?_
    refine g_icmp_ne (pc := 23) X 29 dX0_breathe_23 (by decide) ?_ ?_
    · refine cg_new (pc := 29) X nw_X0_195 dX0_breathe_29 (fun a11 t12 => ?_)
      refine g_dup (pc := 32) X dX0_breathe_32 rfl ?_
      refine g_aload_n (pc := 33) X 1 dX0_breathe_33 rfl rfl ?_
      refine g_iload_n (pc := 34) X 2 dX0_breathe_34 rfl rfl ?_
      refine g_bI_v (pc := 35) X (y := yX16_init) (As := [.ref h0, .int x1]) (rest := [.ref a11]) (b := a11) (fr' := 2) (lo' := 35) (fun _ => cwI 2 X.2.2.2.2.1 (lw_meth q771) rfl rfl rfl (X.2.2.2.2.1 _ q101) (X.2.2.2.2.1 _ q769) (X.2.2.2.2.1 _ q770) rfl dmS_X16_init ⟨Nat.le_of_ble_eq_true rfl, Nat.le_of_ble_eq_true rfl⟩) dX0_breathe_35 rfl rfl (Nat.le_of_ble_eq_true rfl) (fun r u h => kX16_init hex h) (fun r13 t14 => ?_)
      refine g_bD_v (pc := 38) X (cs := [16]) (As := []) (rest := []) (b := a11) (n := 0) dX0_breathe_38 rfl rfl (Nat.le_of_ble_eq_true rfl) (fun fl17 ci18 fs19 hs20 hci21 r u h => ?_) (fun r15 t16 => ?_)
      · obtain rfl := List.mem_singleton.mp hci21
        exact ⟨_, _, _, yX15_kept, _, _, _, 7, 152, rfl, kX15_kept hex h, Or.inr (Or.inl ⟨_, _, va_cwU 0 X.2.2.2.2.1 (lw_U q780 q781 q782 q695 q100 q696) rfl rfl rfl rfl dmU_X15_kept0 ⟨Nat.le_of_ble_eq_true rfl, Nat.le_of_ble_eq_true rfl⟩⟩)⟩
      refine g_aload_n (pc := 41) X 1 dX0_breathe_41 rfl rfl ?_
      refine cg_getA (pc := 42) X fo_X0_38 dX0_breathe_42 (fun v22 => ?_)
      refine cg_getA (pc := 45) X fo_X0_138 dX0_breathe_45 (fun v23 => ?_)
      refine g_iload_n (pc := 48) X 2 dX0_breathe_48 rfl rfl ?_
      refine g_bipush (pc := 49) X 12 dX0_breathe_49 rfl ?_
      refine cg_bast (pc := 51) X dX0_breathe_51 (fun t24 => ?_)
      refine g_iload_n (pc := 52) X 0 dX0_breathe_52 rfl rfl ?_
      exact g_iret (pc := 53) X hr dX0_breathe_53
    · refine g_bipush (pc := 26) X (-2) dX0_breathe_26 rfl ?_
      exact g_iret (pc := 28) X hr dX0_breathe_28
  · refine g_iconst (pc := 8) X (-1) dX0_breathe_8 rfl ?_
    exact g_iret (pc := 9) X hr dX0_breathe_9
theorem kX0_breathe {ex : Nat → Option Nat} {z : Nat} {h0 : Nat} {x1 : Int32} {σ : Sg} {r : Int32} {u : St} (hex : ex = Γ.2.2.2.2) (h : fX0_breathe ex z h0 x1 (σ, 0, 0) = some (r, u)) : g_C Γ l yX0_breathe cX0_breathe 3 (some .int) 8 172 [.ref h0, .int x1] σ z v_i r (g_ι z u) :=
  g_met (ι := g_ι z) (t := (σ, 0, 0)) [.ref h0, .int x1] (by decide) (Nat.le_of_ble_eq_true rfl) h rfl (fun p e s m args below meth c X hr hn => wX0_breathe hex X hr h0 x1 (σ, 0, 0))
end CP
abbrev cX0_image : ByteArray := prog_1_method_67_code
def yX0_image : MethodName := ⟨RX0, "image", "()I"⟩
def dkwX0_image_2 : List UInt8 := [180, 0, 101, 182, 1, 166, 87, 42, 42, 180, 1, 44, 181, 1, 173, 4, 172]
abbrev dktX0_image_2 : List UInt8 := dkwX0_image_2 ++ []
def dkwX0_image_1 : List UInt8 := [180, 1, 163, 42, 180, 0, 89, 182, 1, 166, 87, 42, 180, 1, 170, 182, 0, 104, 42, 180, 1, 170, 42]
abbrev dktX0_image_1 : List UInt8 := dkwX0_image_1 ++ dktX0_image_2
def dkwX0_image_0 : List UInt8 := [42, 4, 181, 1, 156, 42, 180, 1, 160, 42, 180, 0, 38, 182, 0, 216, 42, 180, 1, 163, 182, 0, 104, 42]
abbrev dktX0_image_0 : List UInt8 := dkwX0_image_0 ++ dktX0_image_1
theorem dksX0_image_0 : cX0_image.data.toList.drop 0 = dktX0_image_0 := by decide +kernel
theorem dksX0_image_1 : cX0_image.data.toList.drop 24 = dktX0_image_1 := dk_seg dksX0_image_0 24 rfl rfl
theorem dksX0_image_2 : cX0_image.data.toList.drop 47 = dktX0_image_2 := dk_seg dksX0_image_1 23 rfl rfl
theorem dX0_image_0 : decode cX0_image 0 = .ok (.aload_n 0, 1) := dk_42 (dk_at dksX0_image_0 0 rfl rfl)
theorem dX0_image_1 : decode cX0_image 1 = .ok (.iconst 1, 1) := dk_4 (dk_at dksX0_image_0 1 rfl rfl)
theorem dX0_image_2 : decode cX0_image 2 = .ok (.putfield 412, 3) := dk_181 1 156 (dk_at dksX0_image_0 2 rfl rfl)
theorem dX0_image_5 : decode cX0_image 5 = .ok (.aload_n 0, 1) := dk_42 (dk_at dksX0_image_0 5 rfl rfl)
theorem dX0_image_6 : decode cX0_image 6 = .ok (.getfield 416, 3) := dk_180 1 160 (dk_at dksX0_image_0 6 rfl rfl)
theorem dX0_image_9 : decode cX0_image 9 = .ok (.aload_n 0, 1) := dk_42 (dk_at dksX0_image_0 9 rfl rfl)
theorem dX0_image_10 : decode cX0_image 10 = .ok (.getfield 38, 3) := dk_180 0 38 (dk_at dksX0_image_0 10 rfl rfl)
theorem dX0_image_13 : decode cX0_image 13 = .ok (.invokevirtual 216, 3) := dk_182 0 216 (dk_at dksX0_image_0 13 rfl rfl)
theorem dX0_image_16 : decode cX0_image 16 = .ok (.aload_n 0, 1) := dk_42 (dk_at dksX0_image_0 16 rfl rfl)
theorem dX0_image_17 : decode cX0_image 17 = .ok (.getfield 419, 3) := dk_180 1 163 (dk_at dksX0_image_0 17 rfl rfl)
theorem dX0_image_20 : decode cX0_image 20 = .ok (.invokevirtual 104, 3) := dk_182 0 104 (dk_at dksX0_image_0 20 rfl rfl)
theorem dX0_image_23 : decode cX0_image 23 = .ok (.aload_n 0, 1) := dk_42 (dk_at dksX0_image_0 23 rfl rfl)
theorem dX0_image_24 : decode cX0_image 24 = .ok (.getfield 419, 3) := dk_180 1 163 (dk_at dksX0_image_1 0 rfl rfl)
theorem dX0_image_27 : decode cX0_image 27 = .ok (.aload_n 0, 1) := dk_42 (dk_at dksX0_image_1 3 rfl rfl)
theorem dX0_image_28 : decode cX0_image 28 = .ok (.getfield 89, 3) := dk_180 0 89 (dk_at dksX0_image_1 4 rfl rfl)
theorem dX0_image_31 : decode cX0_image 31 = .ok (.invokevirtual 422, 3) := dk_182 1 166 (dk_at dksX0_image_1 7 rfl rfl)
theorem dX0_image_34 : decode cX0_image 34 = .ok (.pop, 1) := dk_87 (dk_at dksX0_image_1 10 rfl rfl)
theorem dX0_image_35 : decode cX0_image 35 = .ok (.aload_n 0, 1) := dk_42 (dk_at dksX0_image_1 11 rfl rfl)
theorem dX0_image_36 : decode cX0_image 36 = .ok (.getfield 426, 3) := dk_180 1 170 (dk_at dksX0_image_1 12 rfl rfl)
theorem dX0_image_39 : decode cX0_image 39 = .ok (.invokevirtual 104, 3) := dk_182 0 104 (dk_at dksX0_image_1 15 rfl rfl)
theorem dX0_image_42 : decode cX0_image 42 = .ok (.aload_n 0, 1) := dk_42 (dk_at dksX0_image_1 18 rfl rfl)
theorem dX0_image_43 : decode cX0_image 43 = .ok (.getfield 426, 3) := dk_180 1 170 (dk_at dksX0_image_1 19 rfl rfl)
theorem dX0_image_46 : decode cX0_image 46 = .ok (.aload_n 0, 1) := dk_42 (dk_at dksX0_image_1 22 rfl rfl)
theorem dX0_image_47 : decode cX0_image 47 = .ok (.getfield 101, 3) := dk_180 0 101 (dk_at dksX0_image_2 0 rfl rfl)
theorem dX0_image_50 : decode cX0_image 50 = .ok (.invokevirtual 422, 3) := dk_182 1 166 (dk_at dksX0_image_2 3 rfl rfl)
theorem dX0_image_53 : decode cX0_image 53 = .ok (.pop, 1) := dk_87 (dk_at dksX0_image_2 6 rfl rfl)
theorem dX0_image_54 : decode cX0_image 54 = .ok (.aload_n 0, 1) := dk_42 (dk_at dksX0_image_2 7 rfl rfl)
theorem dX0_image_55 : decode cX0_image 55 = .ok (.aload_n 0, 1) := dk_42 (dk_at dksX0_image_2 8 rfl rfl)
theorem dX0_image_56 : decode cX0_image 56 = .ok (.getfield 300, 3) := dk_180 1 44 (dk_at dksX0_image_2 9 rfl rfl)
theorem dX0_image_59 : decode cX0_image 59 = .ok (.putfield 429, 3) := dk_181 1 173 (dk_at dksX0_image_2 12 rfl rfl)
theorem dX0_image_62 : decode cX0_image 62 = .ok (.iconst 1, 1) := dk_4 (dk_at dksX0_image_2 15 rfl rfl)
theorem dX0_image_63 : decode cX0_image 63 = .ok (.ireturn, 1) := dk_172 (dk_at dksX0_image_2 16 rfl rfl)
theorem fp_X0_412 : g_fp RX0 412 [0] 12 .boolean false := ⟨_, _, _, Or.inl q1628, by decide +kernel, fun ci h => by
  simp only [List.mem_cons, List.not_mem_nil, or_false] at h; rcases h with rfl
  · exact ⟨_, _, _, tyX0, rfl, by decide, rfl, rfl, Or.inl rfl, in_X0, rfl, (fun h => by cases h), tyX0_ok, (by decide +kernel)⟩⟩
theorem fo_X0_416 : g_fo RX0 416 [0] 13 := ⟨_, _, _, Or.inl q1629, fun ci h => by
  simp only [List.mem_cons, List.not_mem_nil, or_false] at h; rcases h with rfl
  · exact ⟨_, _, _, rfl, by decide, rfl, rfl, Or.inl rfl, in_X0⟩⟩
theorem fo_X0_419 : g_fo RX0 419 [0] 14 := ⟨_, _, _, Or.inl q1630, fun ci h => by
  simp only [List.mem_cons, List.not_mem_nil, or_false] at h; rcases h with rfl
  · exact ⟨_, _, _, rfl, by decide, rfl, rfl, Or.inl rfl, in_X0⟩⟩
theorem fo_X0_426 : g_fo RX0 426 [0] 15 := ⟨_, _, _, Or.inl q1631, fun ci h => by
  simp only [List.mem_cons, List.not_mem_nil, or_false] at h; rcases h with rfl
  · exact ⟨_, _, _, rfl, by decide, rfl, rfl, Or.inl rfl, in_X0⟩⟩
theorem fp_X0_429 : g_fp RX0 429 [0] 16 .int false := ⟨_, _, _, Or.inl q1632, by decide +kernel, fun ci h => by
  simp only [List.mem_cons, List.not_mem_nil, or_false] at h; rcases h with rfl
  · exact ⟨_, _, _, tyX0, rfl, by decide, rfl, rfl, Or.inl rfl, in_X0, rfl, (fun h => by cases h), tyX0_ok, (by decide +kernel)⟩⟩
theorem dmV_X1_takes : yX1_takes.cls = RX1 ∧ yX1_takes.cls ≠ "java/lang/invoke/MethodHandle" ∧ yX1_takes.cls ≠ "java/lang/invoke/VarHandle" ∧ (parseMethodDescriptor yX1_takes.desc).map (fun d => d.parameters.length) = some 1 := by decide +kernel
theorem dmV_J2_addAll : yJ2_addAll.cls = RJ2 ∧ yJ2_addAll.cls ≠ "java/lang/invoke/MethodHandle" ∧ yJ2_addAll.cls ≠ "java/lang/invoke/VarHandle" ∧ (parseMethodDescriptor yJ2_addAll.desc).map (fun d => d.parameters.length) = some 1 := by decide +kernel
section CP
variable {Γ : Gc} {p : Program} {l : Launch} {e : Env} {s : State} {m : MethodId} {args : Array Value} {below : List Frame} {meth : Method} {c : Code} {ex : Nat → Option Nat} {z : Nat} {tF : St}
noncomputable def fX0_image (ex : Nat → Option Nat) (z : Nat) (h0 : Nat) (t : St) : Option (Int32 × St) := cput [0] 12 t h0 (.int 1) fun t1 => cgA [0] 13 t1 h0 fun v2 => cgA [0] 0 t1 h0 fun v3 => ccast [1] t1 v2 (gb (fX1_takes ex (z + t1.2.1) v2 v3 (t1.1, 0, 0)) t1 fun _ t5 => cgA [0] 14 t5 h0 fun v11 => ccast [15] t5 v11 (gb (fJ2_clear ex (z + t5.2.1) v11 (t5.1, 0, 0)) t5 fun _ t13 => cgA [0] 14 t13 h0 fun v19 => cgA [0] 4 t13 h0 fun v20 => ccast [15] t13 v19 (gb (fJ2_addAll ex (z + t13.2.1) v19 v20 (t13.1, 0, 0)) t13 fun r21 t22 => cgA [0] 15 t22 h0 fun v28 => ccast [15] t22 v28 (gb (fJ2_clear ex (z + t22.2.1) v28 (t22.1, 0, 0)) t22 fun _ t30 => cgA [0] 15 t30 h0 fun v36 => cgA [0] 2 t30 h0 fun v37 => ccast [15] t30 v36 (gb (fJ2_addAll ex (z + t30.2.1) v36 v37 (t30.1, 0, 0)) t30 fun r38 t39 => cgI [0] 5 t39 h0 fun v45 => cput [0] 16 t39 h0 (.int v45) fun t46 => some (1, t46))))))
set_option maxHeartbeats 4000000 in
theorem wX0_image {rF : Int32} (hex : ex = Γ.2.2.2.2) (X : g_X Γ p s m args meth c cX0_image 1 RX0) (hr : meth.sig.returnType = (some .int)) (h0 : Nat) (t : St) : Wf Γ p l e 8 175 s m args below meth c 1 (g_ι z) v_i rF tF 0 [(0, .ref h0)] [] t (fX0_image ex z h0 t) := by
  unfold fX0_image
  refine g_aload_n (pc := 0) X 0 dX0_image_0 rfl rfl ?_
  refine g_iconst (pc := 1) X 1 dX0_image_1 rfl ?_
  refine cg_put (pc := 2) X fp_X0_412 dX0_image_2 (fun h => by cases h) rfl rfl (fun t1 => ?_)
  refine g_aload_n (pc := 5) X 0 dX0_image_5 rfl rfl ?_
  refine cg_getA (pc := 6) X fo_X0_416 dX0_image_6 (fun v2 => ?_)
  refine g_aload_n (pc := 9) X 0 dX0_image_9 rfl rfl ?_
  refine cg_getA (pc := 10) X fo_X0_38 dX0_image_10 (fun v3 => ?_)
  refine g_bD_v (pc := 13) X (cs := [1]) (As := [.ref v3]) (rest := []) (b := v2) (n := 1) dX0_image_13 rfl rfl (Nat.le_of_ble_eq_true rfl) (fun fl6 ci7 fs8 hs9 hci10 r u h => ?_) (fun r4 t5 => ?_)
  · obtain rfl := List.mem_singleton.mp hci10
    exact ⟨_, _, _, yX1_takes, _, _, _, 7, 152, rfl, kX1_takes hex h, Or.inl (cwV 1 X.2.2.2.2.1 (lw_V q827 q828 q829 q71 q830) rfl rfl rfl dmV_X1_takes ⟨Nat.le_of_ble_eq_true rfl, Nat.le_of_ble_eq_true rfl⟩)⟩
  refine g_aload_n (pc := 16) X 0 dX0_image_16 rfl rfl ?_
  refine cg_getA (pc := 17) X fo_X0_419 dX0_image_17 (fun v11 => ?_)
  refine g_bD_v (pc := 20) X (cs := [15]) (As := []) (rest := []) (b := v11) (n := 0) dX0_image_20 rfl rfl (Nat.le_of_ble_eq_true rfl) (fun fl14 ci15 fs16 hs17 hci18 r u h => ?_) (fun r12 t13 => ?_)
  · obtain rfl := List.mem_singleton.mp hci18
    exact ⟨_, _, _, yJ2_clear, _, _, _, 0, 0, rfl, kJ2_clear hex h, Or.inl (cwV 0 X.2.2.2.2.1 (lw_V q360 q361 q362 q74 q363) rfl rfl rfl dmV_J2_clear ⟨Nat.le_of_ble_eq_true rfl, Nat.le_of_ble_eq_true rfl⟩)⟩
  refine g_aload_n (pc := 23) X 0 dX0_image_23 rfl rfl ?_
  refine cg_getA (pc := 24) X fo_X0_419 dX0_image_24 (fun v19 => ?_)
  refine g_aload_n (pc := 27) X 0 dX0_image_27 rfl rfl ?_
  refine cg_getA (pc := 28) X fo_X0_89 dX0_image_28 (fun v20 => ?_)
  refine g_bD_i (pc := 31) X (cs := [15]) (As := [.ref v20]) (rest := []) (b := v19) (n := 1) dX0_image_31 rfl rfl (Nat.le_of_ble_eq_true rfl) (fun fl23 ci24 fs25 hs26 hci27 r u h => ?_) (fun r21 t22 => ?_)
  · obtain rfl := List.mem_singleton.mp hci27
    exact ⟨_, _, _, yJ2_addAll, _, _, _, 4, 88, rfl, kJ2_addAll hex h, Or.inl (cwV 1 X.2.2.2.2.1 (lw_V q1345 q1346 q1347 q74 q1348) rfl rfl rfl dmV_J2_addAll ⟨Nat.le_of_ble_eq_true rfl, Nat.le_of_ble_eq_true rfl⟩)⟩
  refine g_pop (pc := 34) X dX0_image_34 rfl ?_
  refine g_aload_n (pc := 35) X 0 dX0_image_35 rfl rfl ?_
  refine cg_getA (pc := 36) X fo_X0_426 dX0_image_36 (fun v28 => ?_)
  refine g_bD_v (pc := 39) X (cs := [15]) (As := []) (rest := []) (b := v28) (n := 0) dX0_image_39 rfl rfl (Nat.le_of_ble_eq_true rfl) (fun fl31 ci32 fs33 hs34 hci35 r u h => ?_) (fun r29 t30 => ?_)
  · obtain rfl := List.mem_singleton.mp hci35
    exact ⟨_, _, _, yJ2_clear, _, _, _, 0, 0, rfl, kJ2_clear hex h, Or.inl (cwV 0 X.2.2.2.2.1 (lw_V q360 q361 q362 q74 q363) rfl rfl rfl dmV_J2_clear ⟨Nat.le_of_ble_eq_true rfl, Nat.le_of_ble_eq_true rfl⟩)⟩
  refine g_aload_n (pc := 42) X 0 dX0_image_42 rfl rfl ?_
  refine cg_getA (pc := 43) X fo_X0_426 dX0_image_43 (fun v36 => ?_)
  refine g_aload_n (pc := 46) X 0 dX0_image_46 rfl rfl ?_
  refine cg_getA (pc := 47) X fo_X0_101 dX0_image_47 (fun v37 => ?_)
  refine g_bD_i (pc := 50) X (cs := [15]) (As := [.ref v37]) (rest := []) (b := v36) (n := 1) dX0_image_50 rfl rfl (Nat.le_of_ble_eq_true rfl) (fun fl40 ci41 fs42 hs43 hci44 r u h => ?_) (fun r38 t39 => ?_)
  · obtain rfl := List.mem_singleton.mp hci44
    exact ⟨_, _, _, yJ2_addAll, _, _, _, 4, 88, rfl, kJ2_addAll hex h, Or.inl (cwV 1 X.2.2.2.2.1 (lw_V q1345 q1346 q1347 q74 q1348) rfl rfl rfl dmV_J2_addAll ⟨Nat.le_of_ble_eq_true rfl, Nat.le_of_ble_eq_true rfl⟩)⟩
  refine g_pop (pc := 53) X dX0_image_53 rfl ?_
  refine g_aload_n (pc := 54) X 0 dX0_image_54 rfl rfl ?_
  refine g_aload_n (pc := 55) X 0 dX0_image_55 rfl rfl ?_
  refine cg_getI (pc := 56) X fo_X0_300 dX0_image_56 (fun v45 => ?_)
  refine cg_put (pc := 59) X fp_X0_429 dX0_image_59 (fun h => by cases h) rfl rfl (fun t46 => ?_)
  refine g_iconst (pc := 62) X 1 dX0_image_62 rfl ?_
  exact g_iret (pc := 63) X hr dX0_image_63
theorem kX0_image {ex : Nat → Option Nat} {z : Nat} {h0 : Nat} {σ : Sg} {r : Int32} {u : St} (hex : ex = Γ.2.2.2.2) (h : fX0_image ex z h0 (σ, 0, 0) = some (r, u)) : g_C Γ l yX0_image cX0_image 1 (some .int) 8 175 [.ref h0] σ z v_i r (g_ι z u) :=
  g_met (ι := g_ι z) (t := (σ, 0, 0)) [.ref h0] (by decide) (Nat.le_of_ble_eq_true rfl) h rfl (fun p e s m args below meth c X hr hn => wX0_image hex X hr h0 (σ, 0, 0))
end CP
abbrev cX0_restore : ByteArray := prog_1_method_68_code
def yX0_restore : MethodName := ⟨RX0, "restore", "()I"⟩
def dkwX0_restore_3 : List UInt8 := [172]
abbrev dktX0_restore_3 : List UInt8 := dkwX0_restore_3 ++ []
def dkwX0_restore_2 : List UInt8 := [182, 0, 104, 42, 180, 0, 101, 42, 180, 1, 170, 182, 1, 166, 87, 42, 42, 180, 1, 173, 181, 1, 44, 4]
abbrev dktX0_restore_2 : List UInt8 := dkwX0_restore_2 ++ dktX0_restore_3
def dkwX0_restore_1 : List UInt8 := [180, 0, 89, 182, 0, 104, 42, 180, 0, 89, 42, 180, 1, 163, 182, 1, 166, 87, 42, 180, 0, 101]
abbrev dktX0_restore_1 : List UInt8 := dkwX0_restore_1 ++ dktX0_restore_2
def dkwX0_restore_0 : List UInt8 := [42, 180, 1, 156, 154, 0, 6, 16, 252, 172, 42, 180, 0, 38, 42, 180, 1, 160, 182, 0, 216, 42]
abbrev dktX0_restore_0 : List UInt8 := dkwX0_restore_0 ++ dktX0_restore_1
theorem dksX0_restore_0 : cX0_restore.data.toList.drop 0 = dktX0_restore_0 := by decide +kernel
theorem dksX0_restore_1 : cX0_restore.data.toList.drop 22 = dktX0_restore_1 := dk_seg dksX0_restore_0 22 rfl rfl
theorem dksX0_restore_2 : cX0_restore.data.toList.drop 44 = dktX0_restore_2 := dk_seg dksX0_restore_1 22 rfl rfl
theorem dksX0_restore_3 : cX0_restore.data.toList.drop 68 = dktX0_restore_3 := dk_seg dksX0_restore_2 24 rfl rfl
theorem dX0_restore_0 : decode cX0_restore 0 = .ok (.aload_n 0, 1) := dk_42 (dk_at dksX0_restore_0 0 rfl rfl)
theorem dX0_restore_1 : decode cX0_restore 1 = .ok (.getfield 412, 3) := dk_180 1 156 (dk_at dksX0_restore_0 1 rfl rfl)
theorem dX0_restore_4 : decode cX0_restore 4 = .ok (.ifCond .ne 6, 3) := dk_154 0 6 (dk_at dksX0_restore_0 4 rfl rfl)
theorem dX0_restore_7 : decode cX0_restore 7 = .ok (.bipush (-4), 2) := dk_16 252 (dk_at dksX0_restore_0 7 rfl rfl)
theorem dX0_restore_9 : decode cX0_restore 9 = .ok (.ireturn, 1) := dk_172 (dk_at dksX0_restore_0 9 rfl rfl)
theorem dX0_restore_10 : decode cX0_restore 10 = .ok (.aload_n 0, 1) := dk_42 (dk_at dksX0_restore_0 10 rfl rfl)
theorem dX0_restore_11 : decode cX0_restore 11 = .ok (.getfield 38, 3) := dk_180 0 38 (dk_at dksX0_restore_0 11 rfl rfl)
theorem dX0_restore_14 : decode cX0_restore 14 = .ok (.aload_n 0, 1) := dk_42 (dk_at dksX0_restore_0 14 rfl rfl)
theorem dX0_restore_15 : decode cX0_restore 15 = .ok (.getfield 416, 3) := dk_180 1 160 (dk_at dksX0_restore_0 15 rfl rfl)
theorem dX0_restore_18 : decode cX0_restore 18 = .ok (.invokevirtual 216, 3) := dk_182 0 216 (dk_at dksX0_restore_0 18 rfl rfl)
theorem dX0_restore_21 : decode cX0_restore 21 = .ok (.aload_n 0, 1) := dk_42 (dk_at dksX0_restore_0 21 rfl rfl)
theorem dX0_restore_22 : decode cX0_restore 22 = .ok (.getfield 89, 3) := dk_180 0 89 (dk_at dksX0_restore_1 0 rfl rfl)
theorem dX0_restore_25 : decode cX0_restore 25 = .ok (.invokevirtual 104, 3) := dk_182 0 104 (dk_at dksX0_restore_1 3 rfl rfl)
theorem dX0_restore_28 : decode cX0_restore 28 = .ok (.aload_n 0, 1) := dk_42 (dk_at dksX0_restore_1 6 rfl rfl)
theorem dX0_restore_29 : decode cX0_restore 29 = .ok (.getfield 89, 3) := dk_180 0 89 (dk_at dksX0_restore_1 7 rfl rfl)
theorem dX0_restore_32 : decode cX0_restore 32 = .ok (.aload_n 0, 1) := dk_42 (dk_at dksX0_restore_1 10 rfl rfl)
theorem dX0_restore_33 : decode cX0_restore 33 = .ok (.getfield 419, 3) := dk_180 1 163 (dk_at dksX0_restore_1 11 rfl rfl)
theorem dX0_restore_36 : decode cX0_restore 36 = .ok (.invokevirtual 422, 3) := dk_182 1 166 (dk_at dksX0_restore_1 14 rfl rfl)
theorem dX0_restore_39 : decode cX0_restore 39 = .ok (.pop, 1) := dk_87 (dk_at dksX0_restore_1 17 rfl rfl)
theorem dX0_restore_40 : decode cX0_restore 40 = .ok (.aload_n 0, 1) := dk_42 (dk_at dksX0_restore_1 18 rfl rfl)
theorem dX0_restore_41 : decode cX0_restore 41 = .ok (.getfield 101, 3) := dk_180 0 101 (dk_at dksX0_restore_1 19 rfl rfl)
theorem dX0_restore_44 : decode cX0_restore 44 = .ok (.invokevirtual 104, 3) := dk_182 0 104 (dk_at dksX0_restore_2 0 rfl rfl)
theorem dX0_restore_47 : decode cX0_restore 47 = .ok (.aload_n 0, 1) := dk_42 (dk_at dksX0_restore_2 3 rfl rfl)
theorem dX0_restore_48 : decode cX0_restore 48 = .ok (.getfield 101, 3) := dk_180 0 101 (dk_at dksX0_restore_2 4 rfl rfl)
theorem dX0_restore_51 : decode cX0_restore 51 = .ok (.aload_n 0, 1) := dk_42 (dk_at dksX0_restore_2 7 rfl rfl)
theorem dX0_restore_52 : decode cX0_restore 52 = .ok (.getfield 426, 3) := dk_180 1 170 (dk_at dksX0_restore_2 8 rfl rfl)
theorem dX0_restore_55 : decode cX0_restore 55 = .ok (.invokevirtual 422, 3) := dk_182 1 166 (dk_at dksX0_restore_2 11 rfl rfl)
theorem dX0_restore_58 : decode cX0_restore 58 = .ok (.pop, 1) := dk_87 (dk_at dksX0_restore_2 14 rfl rfl)
theorem dX0_restore_59 : decode cX0_restore 59 = .ok (.aload_n 0, 1) := dk_42 (dk_at dksX0_restore_2 15 rfl rfl)
theorem dX0_restore_60 : decode cX0_restore 60 = .ok (.aload_n 0, 1) := dk_42 (dk_at dksX0_restore_2 16 rfl rfl)
theorem dX0_restore_61 : decode cX0_restore 61 = .ok (.getfield 429, 3) := dk_180 1 173 (dk_at dksX0_restore_2 17 rfl rfl)
theorem dX0_restore_64 : decode cX0_restore 64 = .ok (.putfield 300, 3) := dk_181 1 44 (dk_at dksX0_restore_2 20 rfl rfl)
theorem dX0_restore_67 : decode cX0_restore 67 = .ok (.iconst 1, 1) := dk_4 (dk_at dksX0_restore_2 23 rfl rfl)
theorem dX0_restore_68 : decode cX0_restore 68 = .ok (.ireturn, 1) := dk_172 (dk_at dksX0_restore_3 0 rfl rfl)
theorem fo_X0_412 : g_fo RX0 412 [0] 12 := ⟨_, _, _, Or.inl q1628, fun ci h => by
  simp only [List.mem_cons, List.not_mem_nil, or_false] at h; rcases h with rfl
  · exact ⟨_, _, _, rfl, by decide, rfl, rfl, Or.inl rfl, in_X0⟩⟩
theorem fo_X0_429 : g_fo RX0 429 [0] 16 := ⟨_, _, _, Or.inl q1632, fun ci h => by
  simp only [List.mem_cons, List.not_mem_nil, or_false] at h; rcases h with rfl
  · exact ⟨_, _, _, rfl, by decide, rfl, rfl, Or.inl rfl, in_X0⟩⟩
section CP
variable {Γ : Gc} {p : Program} {l : Launch} {e : Env} {s : State} {m : MethodId} {args : Array Value} {below : List Frame} {meth : Method} {c : Code} {ex : Nat → Option Nat} {z : Nat} {tF : St}
noncomputable def fX0_restore (ex : Nat → Option Nat) (z : Nat) (h0 : Nat) (t : St) : Option (Int32 × St) := cgI [0] 12 t h0 fun v1 => if v1 = 0 then some ((-4), t) else cgA [0] 0 t h0 fun v2 => cgA [0] 13 t h0 fun v3 => ccast [1] t v2 (gb (fX1_takes ex (z + t.2.1) v2 v3 (t.1, 0, 0)) t fun _ t5 => cgA [0] 4 t5 h0 fun v11 => ccast [15] t5 v11 (gb (fJ2_clear ex (z + t5.2.1) v11 (t5.1, 0, 0)) t5 fun _ t13 => cgA [0] 4 t13 h0 fun v19 => cgA [0] 14 t13 h0 fun v20 => ccast [15] t13 v19 (gb (fJ2_addAll ex (z + t13.2.1) v19 v20 (t13.1, 0, 0)) t13 fun r21 t22 => cgA [0] 2 t22 h0 fun v28 => ccast [15] t22 v28 (gb (fJ2_clear ex (z + t22.2.1) v28 (t22.1, 0, 0)) t22 fun _ t30 => cgA [0] 2 t30 h0 fun v36 => cgA [0] 15 t30 h0 fun v37 => ccast [15] t30 v36 (gb (fJ2_addAll ex (z + t30.2.1) v36 v37 (t30.1, 0, 0)) t30 fun r38 t39 => cgI [0] 16 t39 h0 fun v45 => cput [0] 5 t39 h0 (.int v45) fun t46 => some (1, t46))))))
set_option maxHeartbeats 4000000 in
theorem wX0_restore {rF : Int32} (hex : ex = Γ.2.2.2.2) (X : g_X Γ p s m args meth c cX0_restore 1 RX0) (hr : meth.sig.returnType = (some .int)) (h0 : Nat) (t : St) : Wf Γ p l e 8 175 s m args below meth c 1 (g_ι z) v_i rF tF 0 [(0, .ref h0)] [] t (fX0_restore ex z h0 t) := by
  unfold fX0_restore
  refine g_aload_n (pc := 0) X 0 dX0_restore_0 rfl rfl ?_
  refine cg_getI (pc := 1) X fo_X0_412 dX0_restore_1 (fun v1 => ?_)
  refine g_if_ne (pc := 4) X 10 dX0_restore_4 (by decide) ?_ ?_
  · refine g_aload_n (pc := 10) X 0 dX0_restore_10 rfl rfl ?_
    refine cg_getA (pc := 11) X fo_X0_38 dX0_restore_11 (fun v2 => ?_)
    refine g_aload_n (pc := 14) X 0 dX0_restore_14 rfl rfl ?_
    refine cg_getA (pc := 15) X fo_X0_416 dX0_restore_15 (fun v3 => ?_)
    refine g_bD_v (pc := 18) X (cs := [1]) (As := [.ref v3]) (rest := []) (b := v2) (n := 1) dX0_restore_18 rfl rfl (Nat.le_of_ble_eq_true rfl) (fun fl6 ci7 fs8 hs9 hci10 r u h => ?_) (fun r4 t5 => ?_)
    · obtain rfl := List.mem_singleton.mp hci10
      exact ⟨_, _, _, yX1_takes, _, _, _, 7, 152, rfl, kX1_takes hex h, Or.inl (cwV 1 X.2.2.2.2.1 (lw_V q827 q828 q829 q71 q830) rfl rfl rfl dmV_X1_takes ⟨Nat.le_of_ble_eq_true rfl, Nat.le_of_ble_eq_true rfl⟩)⟩
    refine g_aload_n (pc := 21) X 0 dX0_restore_21 rfl rfl ?_
    refine cg_getA (pc := 22) X fo_X0_89 dX0_restore_22 (fun v11 => ?_)
    refine g_bD_v (pc := 25) X (cs := [15]) (As := []) (rest := []) (b := v11) (n := 0) dX0_restore_25 rfl rfl (Nat.le_of_ble_eq_true rfl) (fun fl14 ci15 fs16 hs17 hci18 r u h => ?_) (fun r12 t13 => ?_)
    · obtain rfl := List.mem_singleton.mp hci18
      exact ⟨_, _, _, yJ2_clear, _, _, _, 0, 0, rfl, kJ2_clear hex h, Or.inl (cwV 0 X.2.2.2.2.1 (lw_V q360 q361 q362 q74 q363) rfl rfl rfl dmV_J2_clear ⟨Nat.le_of_ble_eq_true rfl, Nat.le_of_ble_eq_true rfl⟩)⟩
    refine g_aload_n (pc := 28) X 0 dX0_restore_28 rfl rfl ?_
    refine cg_getA (pc := 29) X fo_X0_89 dX0_restore_29 (fun v19 => ?_)
    refine g_aload_n (pc := 32) X 0 dX0_restore_32 rfl rfl ?_
    refine cg_getA (pc := 33) X fo_X0_419 dX0_restore_33 (fun v20 => ?_)
    refine g_bD_i (pc := 36) X (cs := [15]) (As := [.ref v20]) (rest := []) (b := v19) (n := 1) dX0_restore_36 rfl rfl (Nat.le_of_ble_eq_true rfl) (fun fl23 ci24 fs25 hs26 hci27 r u h => ?_) (fun r21 t22 => ?_)
    · obtain rfl := List.mem_singleton.mp hci27
      exact ⟨_, _, _, yJ2_addAll, _, _, _, 4, 88, rfl, kJ2_addAll hex h, Or.inl (cwV 1 X.2.2.2.2.1 (lw_V q1345 q1346 q1347 q74 q1348) rfl rfl rfl dmV_J2_addAll ⟨Nat.le_of_ble_eq_true rfl, Nat.le_of_ble_eq_true rfl⟩)⟩
    refine g_pop (pc := 39) X dX0_restore_39 rfl ?_
    refine g_aload_n (pc := 40) X 0 dX0_restore_40 rfl rfl ?_
    refine cg_getA (pc := 41) X fo_X0_101 dX0_restore_41 (fun v28 => ?_)
    refine g_bD_v (pc := 44) X (cs := [15]) (As := []) (rest := []) (b := v28) (n := 0) dX0_restore_44 rfl rfl (Nat.le_of_ble_eq_true rfl) (fun fl31 ci32 fs33 hs34 hci35 r u h => ?_) (fun r29 t30 => ?_)
    · obtain rfl := List.mem_singleton.mp hci35
      exact ⟨_, _, _, yJ2_clear, _, _, _, 0, 0, rfl, kJ2_clear hex h, Or.inl (cwV 0 X.2.2.2.2.1 (lw_V q360 q361 q362 q74 q363) rfl rfl rfl dmV_J2_clear ⟨Nat.le_of_ble_eq_true rfl, Nat.le_of_ble_eq_true rfl⟩)⟩
    refine g_aload_n (pc := 47) X 0 dX0_restore_47 rfl rfl ?_
    refine cg_getA (pc := 48) X fo_X0_101 dX0_restore_48 (fun v36 => ?_)
    refine g_aload_n (pc := 51) X 0 dX0_restore_51 rfl rfl ?_
    refine cg_getA (pc := 52) X fo_X0_426 dX0_restore_52 (fun v37 => ?_)
    refine g_bD_i (pc := 55) X (cs := [15]) (As := [.ref v37]) (rest := []) (b := v36) (n := 1) dX0_restore_55 rfl rfl (Nat.le_of_ble_eq_true rfl) (fun fl40 ci41 fs42 hs43 hci44 r u h => ?_) (fun r38 t39 => ?_)
    · obtain rfl := List.mem_singleton.mp hci44
      exact ⟨_, _, _, yJ2_addAll, _, _, _, 4, 88, rfl, kJ2_addAll hex h, Or.inl (cwV 1 X.2.2.2.2.1 (lw_V q1345 q1346 q1347 q74 q1348) rfl rfl rfl dmV_J2_addAll ⟨Nat.le_of_ble_eq_true rfl, Nat.le_of_ble_eq_true rfl⟩)⟩
    refine g_pop (pc := 58) X dX0_restore_58 rfl ?_
    refine g_aload_n (pc := 59) X 0 dX0_restore_59 rfl rfl ?_
    refine g_aload_n (pc := 60) X 0 dX0_restore_60 rfl rfl ?_
    refine cg_getI (pc := 61) X fo_X0_429 dX0_restore_61 (fun v45 => ?_)
    refine cg_put (pc := 64) X fp_X0_300 dX0_restore_64 (fun h => by cases h) rfl rfl (fun t46 => ?_)
    refine g_iconst (pc := 67) X 1 dX0_restore_67 rfl ?_
    exact g_iret (pc := 68) X hr dX0_restore_68
  · refine g_bipush (pc := 7) X (-4) dX0_restore_7 rfl ?_
    exact g_iret (pc := 9) X hr dX0_restore_9
theorem kX0_restore {ex : Nat → Option Nat} {z : Nat} {h0 : Nat} {σ : Sg} {r : Int32} {u : St} (hex : ex = Γ.2.2.2.2) (h : fX0_restore ex z h0 (σ, 0, 0) = some (r, u)) : g_C Γ l yX0_restore cX0_restore 1 (some .int) 8 175 [.ref h0] σ z v_i r (g_ι z u) :=
  g_met (ι := g_ι z) (t := (σ, 0, 0)) [.ref h0] (by decide) (Nat.le_of_ble_eq_true rfl) h rfl (fun p e s m args below meth c X hr hn => wX0_restore hex X hr h0 (σ, 0, 0))
end CP
abbrev cX12_does : ByteArray := prog_5_method_2_code
def yX12_does : MethodName := ⟨RX12, "does", "()I"⟩
def dkwX12_does_0 : List UInt8 := [42, 180, 0, 1, 42, 180, 0, 13, 182, 0, 17, 172]
abbrev dktX12_does_0 : List UInt8 := dkwX12_does_0 ++ []
theorem dksX12_does_0 : cX12_does.data.toList.drop 0 = dktX12_does_0 := by decide +kernel
theorem dX12_does_0 : decode cX12_does 0 = .ok (.aload_n 0, 1) := dk_42 (dk_at dksX12_does_0 0 rfl rfl)
theorem dX12_does_1 : decode cX12_does 1 = .ok (.getfield 1, 3) := dk_180 0 1 (dk_at dksX12_does_0 1 rfl rfl)
theorem dX12_does_4 : decode cX12_does 4 = .ok (.aload_n 0, 1) := dk_42 (dk_at dksX12_does_0 4 rfl rfl)
theorem dX12_does_5 : decode cX12_does 5 = .ok (.getfield 13, 3) := dk_180 0 13 (dk_at dksX12_does_0 5 rfl rfl)
theorem dX12_does_8 : decode cX12_does 8 = .ok (.invokevirtual 17, 3) := dk_182 0 17 (dk_at dksX12_does_0 8 rfl rfl)
theorem dX12_does_11 : decode cX12_does 11 = .ok (.ireturn, 1) := dk_172 (dk_at dksX12_does_0 11 rfl rfl)
theorem fo_X12_1 : g_fo RX12 1 [12] 1 := ⟨_, _, _, Or.inl q1262, fun ci h => by
  simp only [List.mem_cons, List.not_mem_nil, or_false] at h; rcases h with rfl
  · exact ⟨_, _, _, rfl, by decide, rfl, rfl, Or.inl rfl, in_X12⟩⟩
theorem fo_X12_13 : g_fo RX12 13 [12] 0 := ⟨_, _, _, Or.inl q1261, fun ci h => by
  simp only [List.mem_cons, List.not_mem_nil, or_false] at h; rcases h with rfl
  · exact ⟨_, _, _, rfl, by decide, rfl, rfl, Or.inl rfl, in_X12⟩⟩
theorem dmV_X0_breathe : yX0_breathe.cls = RX0 ∧ yX0_breathe.cls ≠ "java/lang/invoke/MethodHandle" ∧ yX0_breathe.cls ≠ "java/lang/invoke/VarHandle" ∧ (parseMethodDescriptor yX0_breathe.desc).map (fun d => d.parameters.length) = some 1 := by decide +kernel
section CP
variable {Γ : Gc} {p : Program} {l : Launch} {e : Env} {s : State} {m : MethodId} {args : Array Value} {below : List Frame} {meth : Method} {c : Code} {ex : Nat → Option Nat} {z : Nat} {tF : St}
noncomputable def fX12_does (ex : Nat → Option Nat) (z : Nat) (h0 : Nat) (t : St) : Option (Int32 × St) := cgA [12] 1 t h0 fun v1 => cgI [12] 0 t h0 fun v2 => ccast [0] t v1 (gb (fX0_breathe ex (z + t.2.1) v1 v2 (t.1, 0, 0)) t fun r3 t4 => some (r3, t4))
set_option maxHeartbeats 4000000 in
theorem wX12_does {rF : Int32} (hex : ex = Γ.2.2.2.2) (X : g_X Γ p s m args meth c cX12_does 1 RX12) (hr : meth.sig.returnType = (some .int)) (h0 : Nat) (t : St) : Wf Γ p l e 9 194 s m args below meth c 1 (g_ι z) v_i rF tF 0 [(0, .ref h0)] [] t (fX12_does ex z h0 t) := by
  unfold fX12_does
  refine g_aload_n (pc := 0) X 0 dX12_does_0 rfl rfl ?_
  refine cg_getA (pc := 1) X fo_X12_1 dX12_does_1 (fun v1 => ?_)
  refine g_aload_n (pc := 4) X 0 dX12_does_4 rfl rfl ?_
  refine cg_getI (pc := 5) X fo_X12_13 dX12_does_5 (fun v2 => ?_)
  refine g_bD_i (pc := 8) X (cs := [0]) (As := [.int v2]) (rest := []) (b := v1) (n := 1) dX12_does_8 rfl rfl (Nat.le_of_ble_eq_true rfl) (fun fl5 ci6 fs7 hs8 hci9 r u h => ?_) (fun r3 t4 => ?_)
  · obtain rfl := List.mem_singleton.mp hci9
    exact ⟨_, _, _, yX0_breathe, _, _, _, 8, 172, rfl, kX0_breathe hex h, Or.inl (cwV 1 X.2.2.2.2.1 (lw_V q1319 q764 q765 q70 q766) rfl rfl rfl dmV_X0_breathe ⟨Nat.le_of_ble_eq_true rfl, Nat.le_of_ble_eq_true rfl⟩)⟩
  exact g_iret (pc := 11) X hr dX12_does_11
theorem kX12_does {ex : Nat → Option Nat} {z : Nat} {h0 : Nat} {σ : Sg} {r : Int32} {u : St} (hex : ex = Γ.2.2.2.2) (h : fX12_does ex z h0 (σ, 0, 0) = some (r, u)) : g_C Γ l yX12_does cX12_does 1 (some .int) 9 194 [.ref h0] σ z v_i r (g_ι z u) :=
  g_met (ι := g_ι z) (t := (σ, 0, 0)) [.ref h0] (by decide) (Nat.le_of_ble_eq_true rfl) h rfl (fun p e s m args below meth c X hr hn => wX12_does hex X hr h0 (σ, 0, 0))
end CP
abbrev cX13_does : ByteArray := prog_21_method_2_code
def yX13_does : MethodName := ⟨RX13, "does", "()I"⟩
def dkwX13_does_0 : List UInt8 := [42, 180, 0, 1, 42, 180, 0, 13, 42, 180, 0, 17, 182, 0, 20, 172]
abbrev dktX13_does_0 : List UInt8 := dkwX13_does_0 ++ []
theorem dksX13_does_0 : cX13_does.data.toList.drop 0 = dktX13_does_0 := by decide +kernel
theorem dX13_does_0 : decode cX13_does 0 = .ok (.aload_n 0, 1) := dk_42 (dk_at dksX13_does_0 0 rfl rfl)
theorem dX13_does_1 : decode cX13_does 1 = .ok (.getfield 1, 3) := dk_180 0 1 (dk_at dksX13_does_0 1 rfl rfl)
theorem dX13_does_4 : decode cX13_does 4 = .ok (.aload_n 0, 1) := dk_42 (dk_at dksX13_does_0 4 rfl rfl)
theorem dX13_does_5 : decode cX13_does 5 = .ok (.getfield 13, 3) := dk_180 0 13 (dk_at dksX13_does_0 5 rfl rfl)
theorem dX13_does_8 : decode cX13_does 8 = .ok (.aload_n 0, 1) := dk_42 (dk_at dksX13_does_0 8 rfl rfl)
theorem dX13_does_9 : decode cX13_does 9 = .ok (.getfield 17, 3) := dk_180 0 17 (dk_at dksX13_does_0 9 rfl rfl)
theorem dX13_does_12 : decode cX13_does 12 = .ok (.invokevirtual 20, 3) := dk_182 0 20 (dk_at dksX13_does_0 12 rfl rfl)
theorem dX13_does_15 : decode cX13_does 15 = .ok (.ireturn, 1) := dk_172 (dk_at dksX13_does_0 15 rfl rfl)
theorem fo_X13_1 : g_fo RX13 1 [13] 2 := ⟨_, _, _, Or.inl q1284, fun ci h => by
  simp only [List.mem_cons, List.not_mem_nil, or_false] at h; rcases h with rfl
  · exact ⟨_, _, _, rfl, by decide, rfl, rfl, Or.inl rfl, in_X13⟩⟩
theorem fo_X13_13 : g_fo RX13 13 [13] 0 := ⟨_, _, _, Or.inl q1282, fun ci h => by
  simp only [List.mem_cons, List.not_mem_nil, or_false] at h; rcases h with rfl
  · exact ⟨_, _, _, rfl, by decide, rfl, rfl, Or.inl rfl, in_X13⟩⟩
theorem fo_X13_17 : g_fo RX13 17 [13] 1 := ⟨_, _, _, Or.inl q1283, fun ci h => by
  simp only [List.mem_cons, List.not_mem_nil, or_false] at h; rcases h with rfl
  · exact ⟨_, _, _, rfl, by decide, rfl, rfl, Or.inl rfl, in_X13⟩⟩
theorem dmV_X0_wind : yX0_wind.cls = RX0 ∧ yX0_wind.cls ≠ "java/lang/invoke/MethodHandle" ∧ yX0_wind.cls ≠ "java/lang/invoke/VarHandle" ∧ (parseMethodDescriptor yX0_wind.desc).map (fun d => d.parameters.length) = some 2 := by decide +kernel
section CP
variable {Γ : Gc} {p : Program} {l : Launch} {e : Env} {s : State} {m : MethodId} {args : Array Value} {below : List Frame} {meth : Method} {c : Code} {ex : Nat → Option Nat} {z : Nat} {tF : St}
noncomputable def fX13_does (ex : Nat → Option Nat) (z : Nat) (h0 : Nat) (t : St) : Option (Int32 × St) := cgA [13] 2 t h0 fun v1 => cgI [13] 0 t h0 fun v2 => cgI [13] 1 t h0 fun v3 => ccast [0] t v1 (gb (fX0_wind ex (z + t.2.1) v1 v2 v3 (t.1, 0, 0)) t fun r4 t5 => some (r4, t5))
set_option maxHeartbeats 4000000 in
theorem wX13_does {rF : Int32} (hex : ex = Γ.2.2.2.2) (X : g_X Γ p s m args meth c cX13_does 1 RX13) (hr : meth.sig.returnType = (some .int)) (h0 : Nat) (t : St) : Wf Γ p l e 9 194 s m args below meth c 1 (g_ι z) v_i rF tF 0 [(0, .ref h0)] [] t (fX13_does ex z h0 t) := by
  unfold fX13_does
  refine g_aload_n (pc := 0) X 0 dX13_does_0 rfl rfl ?_
  refine cg_getA (pc := 1) X fo_X13_1 dX13_does_1 (fun v1 => ?_)
  refine g_aload_n (pc := 4) X 0 dX13_does_4 rfl rfl ?_
  refine cg_getI (pc := 5) X fo_X13_13 dX13_does_5 (fun v2 => ?_)
  refine g_aload_n (pc := 8) X 0 dX13_does_8 rfl rfl ?_
  refine cg_getI (pc := 9) X fo_X13_17 dX13_does_9 (fun v3 => ?_)
  refine g_bD_i (pc := 12) X (cs := [0]) (As := [.int v2, .int v3]) (rest := []) (b := v1) (n := 2) dX13_does_12 rfl rfl (Nat.le_of_ble_eq_true rfl) (fun fl6 ci7 fs8 hs9 hci10 r u h => ?_) (fun r4 t5 => ?_)
  · obtain rfl := List.mem_singleton.mp hci10
    exact ⟨_, _, _, yX0_wind, _, _, _, 8, 172, rfl, kX0_wind hex h, Or.inl (cwV 2 X.2.2.2.2.1 (lw_V q1340 q649 q650 q70 q651) rfl rfl rfl dmV_X0_wind ⟨Nat.le_of_ble_eq_true rfl, Nat.le_of_ble_eq_true rfl⟩)⟩
  exact g_iret (pc := 15) X hr dX13_does_15
theorem kX13_does {ex : Nat → Option Nat} {z : Nat} {h0 : Nat} {σ : Sg} {r : Int32} {u : St} (hex : ex = Γ.2.2.2.2) (h : fX13_does ex z h0 (σ, 0, 0) = some (r, u)) : g_C Γ l yX13_does cX13_does 1 (some .int) 9 194 [.ref h0] σ z v_i r (g_ι z u) :=
  g_met (ι := g_ι z) (t := (σ, 0, 0)) [.ref h0] (by decide) (Nat.le_of_ble_eq_true rfl) h rfl (fun p e s m args below meth c X hr hn => wX13_does hex X hr h0 (σ, 0, 0))
end CP
abbrev cX14_does : ByteArray := prog_19_method_2_code
def yX14_does : MethodName := ⟨RX14, "does", "()I"⟩
def dkwX14_does_0 : List UInt8 := [42, 180, 0, 1, 42, 180, 0, 13, 42, 180, 0, 17, 182, 0, 20, 172]
abbrev dktX14_does_0 : List UInt8 := dkwX14_does_0 ++ []
theorem dksX14_does_0 : cX14_does.data.toList.drop 0 = dktX14_does_0 := by decide +kernel
theorem dX14_does_0 : decode cX14_does 0 = .ok (.aload_n 0, 1) := dk_42 (dk_at dksX14_does_0 0 rfl rfl)
theorem dX14_does_1 : decode cX14_does 1 = .ok (.getfield 1, 3) := dk_180 0 1 (dk_at dksX14_does_0 1 rfl rfl)
theorem dX14_does_4 : decode cX14_does 4 = .ok (.aload_n 0, 1) := dk_42 (dk_at dksX14_does_0 4 rfl rfl)
theorem dX14_does_5 : decode cX14_does 5 = .ok (.getfield 13, 3) := dk_180 0 13 (dk_at dksX14_does_0 5 rfl rfl)
theorem dX14_does_8 : decode cX14_does 8 = .ok (.aload_n 0, 1) := dk_42 (dk_at dksX14_does_0 8 rfl rfl)
theorem dX14_does_9 : decode cX14_does 9 = .ok (.getfield 17, 3) := dk_180 0 17 (dk_at dksX14_does_0 9 rfl rfl)
theorem dX14_does_12 : decode cX14_does 12 = .ok (.invokevirtual 20, 3) := dk_182 0 20 (dk_at dksX14_does_0 12 rfl rfl)
theorem dX14_does_15 : decode cX14_does 15 = .ok (.ireturn, 1) := dk_172 (dk_at dksX14_does_0 15 rfl rfl)
theorem fo_X14_1 : g_fo RX14 1 [14] 2 := ⟨_, _, _, Or.inl q1300, fun ci h => by
  simp only [List.mem_cons, List.not_mem_nil, or_false] at h; rcases h with rfl
  · exact ⟨_, _, _, rfl, by decide, rfl, rfl, Or.inl rfl, in_X14⟩⟩
theorem fo_X14_13 : g_fo RX14 13 [14] 0 := ⟨_, _, _, Or.inl q1298, fun ci h => by
  simp only [List.mem_cons, List.not_mem_nil, or_false] at h; rcases h with rfl
  · exact ⟨_, _, _, rfl, by decide, rfl, rfl, Or.inl rfl, in_X14⟩⟩
theorem fo_X14_17 : g_fo RX14 17 [14] 1 := ⟨_, _, _, Or.inl q1299, fun ci h => by
  simp only [List.mem_cons, List.not_mem_nil, or_false] at h; rcases h with rfl
  · exact ⟨_, _, _, rfl, by decide, rfl, rfl, Or.inl rfl, in_X14⟩⟩
theorem dmV_X0_turn : yX0_turn.cls = RX0 ∧ yX0_turn.cls ≠ "java/lang/invoke/MethodHandle" ∧ yX0_turn.cls ≠ "java/lang/invoke/VarHandle" ∧ (parseMethodDescriptor yX0_turn.desc).map (fun d => d.parameters.length) = some 2 := by decide +kernel
section CP
variable {Γ : Gc} {p : Program} {l : Launch} {e : Env} {s : State} {m : MethodId} {args : Array Value} {below : List Frame} {meth : Method} {c : Code} {ex : Nat → Option Nat} {z : Nat} {tF : St}
noncomputable def fX14_does (ex : Nat → Option Nat) (z : Nat) (h0 : Nat) (t : St) : Option (Int32 × St) := cgA [14] 2 t h0 fun v1 => cgI [14] 0 t h0 fun v2 => cgI [14] 1 t h0 fun v3 => ccast [0] t v1 (gb (fX0_turn ex (z + t.2.1) v1 v2 v3 (t.1, 0, 0)) t fun r4 t5 => some (r4, t5))
set_option maxHeartbeats 4000000 in
theorem wX14_does {rF : Int32} (hex : ex = Γ.2.2.2.2) (X : g_X Γ p s m args meth c cX14_does 1 RX14) (hr : meth.sig.returnType = (some .int)) (h0 : Nat) (t : St) : Wf Γ p l e 9 194 s m args below meth c 1 (g_ι z) v_i rF tF 0 [(0, .ref h0)] [] t (fX14_does ex z h0 t) := by
  unfold fX14_does
  refine g_aload_n (pc := 0) X 0 dX14_does_0 rfl rfl ?_
  refine cg_getA (pc := 1) X fo_X14_1 dX14_does_1 (fun v1 => ?_)
  refine g_aload_n (pc := 4) X 0 dX14_does_4 rfl rfl ?_
  refine cg_getI (pc := 5) X fo_X14_13 dX14_does_5 (fun v2 => ?_)
  refine g_aload_n (pc := 8) X 0 dX14_does_8 rfl rfl ?_
  refine cg_getI (pc := 9) X fo_X14_17 dX14_does_9 (fun v3 => ?_)
  refine g_bD_i (pc := 12) X (cs := [0]) (As := [.int v2, .int v3]) (rest := []) (b := v1) (n := 2) dX14_does_12 rfl rfl (Nat.le_of_ble_eq_true rfl) (fun fl6 ci7 fs8 hs9 hci10 r u h => ?_) (fun r4 t5 => ?_)
  · obtain rfl := List.mem_singleton.mp hci10
    exact ⟨_, _, _, yX0_turn, _, _, _, 8, 172, rfl, kX0_turn hex h, Or.inl (cwV 2 X.2.2.2.2.1 (lw_V q1333 q712 q713 q70 q714) rfl rfl rfl dmV_X0_turn ⟨Nat.le_of_ble_eq_true rfl, Nat.le_of_ble_eq_true rfl⟩)⟩
  exact g_iret (pc := 15) X hr dX14_does_15
theorem kX14_does {ex : Nat → Option Nat} {z : Nat} {h0 : Nat} {σ : Sg} {r : Int32} {u : St} (hex : ex = Γ.2.2.2.2) (h : fX14_does ex z h0 (σ, 0, 0) = some (r, u)) : g_C Γ l yX14_does cX14_does 1 (some .int) 9 194 [.ref h0] σ z v_i r (g_ι z u) :=
  g_met (ι := g_ι z) (t := (σ, 0, 0)) [.ref h0] (by decide) (Nat.le_of_ble_eq_true rfl) h rfl (fun p e s m args below meth c X hr hn => wX14_does hex X hr h0 (σ, 0, 0))
end CP
