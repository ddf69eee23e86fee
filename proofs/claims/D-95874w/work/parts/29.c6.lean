/-! the component, its methods: X18_undoes, X19_init, X19_undoes, (virtual), J2_grow, J2_addAll, J8_indexOf, X0_rate, X0_count, X0_place, X0_undo, X0_restart, X0_isAsTaken, J2_add_2 (printed by gen/cmain.py) -/
set_option maxRecDepth 100000
theorem q101 : (Jvm.Cond.initialized "LameClocks$Breathed") ∈ lw_all := lw_g (lw_at lw_m1 32 rfl) rfl
theorem q102 : (Jvm.Cond.initialized "LameClocks$Turned") ∈ lw_all := lw_g (lw_at lw_m1 33 rfl) rfl
theorem q103 : (Jvm.Cond.initialized "LameClocks$Wound") ∈ lw_all := lw_g (lw_at lw_m1 34 rfl) rfl
theorem q104 : (Jvm.Cond.initialized "LameClocks$Tuned") ∈ lw_all := lw_g (lw_at lw_m1 35 rfl) rfl
theorem q158 : (Jvm.Cond.fieldLink "LameClocks$Tuned" (19 : Nat) "LameClocks$Plain" "rate" "I") ∈ lw_all := lw_g (lw_at lw_m1 89 rfl) rfl
theorem q167 : (Jvm.Cond.fieldLink "LameClocks" (116 : Nat) "LameClocks$Plain" "window" "I") ∈ lw_all := lw_g (lw_at lw_m1 98 rfl) rfl
theorem q262 : (Jvm.Cond.code ({ cls := "java/util/ArrayList", name := "add", desc := "(Ljava/lang/Object;[Ljava/lang/Object;I)V" } : Jvm.MethodName) prog_50_method_24_code (4 : Nat) (Option.none : Option Jvm.ClassFile.FieldType)) ∈ lw_all := lw_g (lw_at lw_m1 193 rfl) rfl
theorem q263 : (Jvm.Cond.methodLink "java/util/ArrayList" (129 : Nat) ({ cls := "java/util/ArrayList", name := "grow", desc := "()[Ljava/lang/Object;" } : Jvm.MethodName)) ∈ lw_all := lw_g (lw_at lw_m1 194 rfl) rfl
theorem q265 : (Jvm.Cond.instanceMethod ({ cls := "java/util/ArrayList", name := "grow", desc := "()[Ljava/lang/Object;" } : Jvm.MethodName)) ∈ lw_all := lw_g (lw_at lw_m1 196 rfl) rfl
theorem q266 : (Jvm.Cond.code ({ cls := "java/util/ArrayList", name := "grow", desc := "()[Ljava/lang/Object;" } : Jvm.MethodName) prog_50_method_7_code (1 : Nat) (Option.some (Jvm.ClassFile.FieldType.array (Jvm.ClassFile.FieldType.object "java/lang/Object")))) ∈ lw_all := lw_g (lw_at lw_m1 197 rfl) rfl
theorem q267 : (Jvm.Cond.methodLink "java/util/ArrayList" (69 : Nat) ({ cls := "java/util/ArrayList", name := "grow", desc := "(I)[Ljava/lang/Object;" } : Jvm.MethodName)) ∈ lw_all := lw_g (lw_at lw_m1 198 rfl) rfl
theorem q269 : (Jvm.Cond.instanceMethod ({ cls := "java/util/ArrayList", name := "grow", desc := "(I)[Ljava/lang/Object;" } : Jvm.MethodName)) ∈ lw_all := lw_g (lw_at lw_m1 200 rfl) rfl
theorem q373 : (Jvm.Cond.methodLink "LameClocks" (111 : Nat) ({ cls := "LameClocks$Race", name := "clock", desc := "(I)LLameClocks$Plain;" } : Jvm.MethodName)) ∈ lw_all := lw_g (lw_at lw_m2 64 rfl) rfl
theorem q458 : (Jvm.Cond.code ({ cls := "LameClocks", name := "rate", desc := "(I)I" } : Jvm.MethodName) prog_1_method_10_code (2 : Nat) (Option.some Jvm.ClassFile.FieldType.int)) ∈ lw_all := lw_g (lw_at lw_m2 149 rfl) rfl
theorem q488 : (Jvm.Cond.code ({ cls := "LameClocks", name := "count", desc := "(I)I" } : Jvm.MethodName) prog_1_method_14_code (2 : Nat) (Option.some Jvm.ClassFile.FieldType.int)) ∈ lw_all := lw_g (lw_at lw_m2 179 rfl) rfl
theorem q489 : (Jvm.Cond.methodLink "LameClocks" (156 : Nat) ({ cls := "LameClocks$Race", name := "homes", desc := "()I" } : Jvm.MethodName)) ∈ lw_all := lw_g (lw_at lw_m2 180 rfl) rfl
theorem q490 : (Jvm.Cond.instanceMethod ({ cls := "LameClocks$Race", name := "homes", desc := "()I" } : Jvm.MethodName)) ∈ lw_all := lw_g (lw_at lw_m2 181 rfl) rfl
theorem q491 : (Jvm.Cond.selects "LameClocks$Race" ({ cls := "LameClocks$Race", name := "homes", desc := "()I" } : Jvm.MethodName) ({ cls := "LameClocks$Race", name := "homes", desc := "()I" } : Jvm.MethodName)) ∈ lw_all := lw_g (lw_at lw_m2 182 rfl) rfl
theorem q503 : (Jvm.Cond.methodLink "LameClocks" (162 : Nat) ({ cls := "LameClocks$Race", name := "ties", desc := "()I" } : Jvm.MethodName)) ∈ lw_all := lw_g (lw_at lw_m2 194 rfl) rfl
theorem q504 : (Jvm.Cond.instanceMethod ({ cls := "LameClocks$Race", name := "ties", desc := "()I" } : Jvm.MethodName)) ∈ lw_all := lw_g (lw_at lw_m2 195 rfl) rfl
theorem q505 : (Jvm.Cond.selects "LameClocks$Race" ({ cls := "LameClocks$Race", name := "ties", desc := "()I" } : Jvm.MethodName) ({ cls := "LameClocks$Race", name := "ties", desc := "()I" } : Jvm.MethodName)) ∈ lw_all := lw_g (lw_at lw_m2 196 rfl) rfl
theorem q525 : (Jvm.Cond.code ({ cls := "LameClocks", name := "place", desc := "(I)I" } : Jvm.MethodName) prog_1_method_16_code (2 : Nat) (Option.some Jvm.ClassFile.FieldType.int)) ∈ lw_all := lw_g (lw_at lw_m2 216 rfl) rfl
theorem q526 : (Jvm.Cond.methodLink "LameClocks" (165 : Nat) ({ cls := "LameClocks$Race", name := "place", desc := "(LLameClocks$Plain;)I" } : Jvm.MethodName)) ∈ lw_all := lw_g (lw_at lw_m2 217 rfl) rfl
theorem q527 : (Jvm.Cond.instanceMethod ({ cls := "LameClocks$Race", name := "place", desc := "(LLameClocks$Plain;)I" } : Jvm.MethodName)) ∈ lw_all := lw_g (lw_at lw_m2 218 rfl) rfl
theorem q528 : (Jvm.Cond.selects "LameClocks$Race" ({ cls := "LameClocks$Race", name := "place", desc := "(LLameClocks$Plain;)I" } : Jvm.MethodName) ({ cls := "LameClocks$Race", name := "place", desc := "(LLameClocks$Plain;)I" } : Jvm.MethodName)) ∈ lw_all := lw_g (lw_at lw_m2 219 rfl) rfl
theorem q664 : (Jvm.Cond.fieldLink "LameClocks$Tuned" (31 : Nat) "LameClocks$Tuned" "what" "I") ∈ lw_all := lw_g (lw_at lw_m3 115 rfl) rfl
theorem q665 : (Jvm.Cond.sameField "LameClocks$Tuned" "LameClocks$Repair" "what" "I") ∈ lw_all := lw_g (lw_at lw_m3 116 rfl) rfl
theorem q668 : (Jvm.Cond.fieldLink "LameClocks$Wound" (31 : Nat) "LameClocks$Wound" "what" "I") ∈ lw_all := lw_g (lw_at lw_m3 119 rfl) rfl
theorem q669 : (Jvm.Cond.sameField "LameClocks$Wound" "LameClocks$Repair" "what" "I") ∈ lw_all := lw_g (lw_at lw_m3 120 rfl) rfl
theorem q675 : (Jvm.Cond.fieldLink "LameClocks$Tuned" (34 : Nat) "LameClocks$Tuned" "was" "I") ∈ lw_all := lw_g (lw_at lw_m3 126 rfl) rfl
theorem q676 : (Jvm.Cond.sameField "LameClocks$Tuned" "LameClocks$Repair" "was" "I") ∈ lw_all := lw_g (lw_at lw_m3 127 rfl) rfl
theorem q679 : (Jvm.Cond.fieldLink "LameClocks$Wound" (34 : Nat) "LameClocks$Wound" "was" "I") ∈ lw_all := lw_g (lw_at lw_m3 130 rfl) rfl
theorem q680 : (Jvm.Cond.sameField "LameClocks$Wound" "LameClocks$Repair" "was" "I") ∈ lw_all := lw_g (lw_at lw_m3 131 rfl) rfl
theorem q750 : (Jvm.Cond.code ({ cls := "LameClocks$Tuned", name := "<init>", desc := "(LLameClocks;I)V" } : Jvm.MethodName) prog_17_method_1_code (3 : Nat) (Option.none : Option Jvm.ClassFile.FieldType)) ∈ lw_all := lw_g (lw_at lw_m3 201 rfl) rfl
theorem q751 : (Jvm.Cond.methodLink "LameClocks$Tuned" (13 : Nat) ({ cls := "LameClocks$Race", name := "clock", desc := "(I)LLameClocks$Plain;" } : Jvm.MethodName)) ∈ lw_all := lw_g (lw_at lw_m3 202 rfl) rfl
theorem q752 : (Jvm.Cond.methodLink "LameClocks$Tuned" (25 : Nat) ({ cls := "LameClocks$Repair", name := "<init>", desc := "(LLameClocks;II)V" } : Jvm.MethodName)) ∈ lw_all := lw_g (lw_at lw_m3 203 rfl) rfl
theorem q753 : (Jvm.Cond.fieldLink "LameClocks$Tuned" (1 : Nat) "LameClocks$Tuned" "this$0" "LLameClocks;") ∈ lw_all := lw_g (lw_at lw_m3 204 rfl) rfl
theorem q786 : (Jvm.Cond.code ({ cls := "LameClocks", name := "undo", desc := "()I" } : Jvm.MethodName) prog_1_method_22_code (1 : Nat) (Option.some Jvm.ClassFile.FieldType.int)) ∈ lw_all := lw_g (lw_at lw_m3 237 rfl) rfl
theorem q787 : (Jvm.Cond.methodLink "LameClocks" (199 : Nat) ({ cls := "java/util/ArrayList", name := "isEmpty", desc := "()Z" } : Jvm.MethodName)) ∈ lw_all := lw_g (lw_at lw_m3 238 rfl) rfl
theorem q788 : (Jvm.Cond.instanceMethod ({ cls := "java/util/ArrayList", name := "isEmpty", desc := "()Z" } : Jvm.MethodName)) ∈ lw_all := lw_g (lw_at lw_m3 239 rfl) rfl
theorem q789 : (Jvm.Cond.selects "java/util/ArrayList" ({ cls := "java/util/ArrayList", name := "isEmpty", desc := "()Z" } : Jvm.MethodName) ({ cls := "java/util/ArrayList", name := "isEmpty", desc := "()Z" } : Jvm.MethodName)) ∈ lw_all := lw_g (lw_at lw_m4 0 rfl) rfl
theorem q791 : (Jvm.Cond.classLink "LameClocks" (203 : Nat) "LameClocks$Repair") ∈ lw_all := lw_g (lw_at lw_m4 2 rfl) rfl
theorem q792 : (Jvm.Cond.methodLink "LameClocks" (205 : Nat) ({ cls := "LameClocks$Repair", name := "undoes", desc := "()V" } : Jvm.MethodName)) ∈ lw_all := lw_g (lw_at lw_m4 3 rfl) rfl
theorem q793 : (Jvm.Cond.declares ({ cls := "LameClocks$Repair", name := "undoes", desc := "()V" } : Jvm.MethodName)) ∈ lw_tbl := lw_at lw_m4 4 rfl
theorem q794 : (Jvm.Cond.sameMethod "LameClocks$Repair" "LameClocks$Repair" "undoes" "()V") ∈ lw_all := lw_g (lw_at lw_m4 5 rfl) rfl
theorem q795 : (Jvm.Cond.selects "LameClocks$Breathed" ({ cls := "LameClocks$Repair", name := "undoes", desc := "()V" } : Jvm.MethodName) ({ cls := "LameClocks$Breathed", name := "undoes", desc := "()V" } : Jvm.MethodName)) ∈ lw_all := lw_g (lw_at lw_m4 6 rfl) rfl
theorem q796 : (Jvm.Cond.instanceMethod ({ cls := "LameClocks$Breathed", name := "undoes", desc := "()V" } : Jvm.MethodName)) ∈ lw_all := lw_g (lw_at lw_m4 7 rfl) rfl
theorem q798 : (Jvm.Cond.selects "LameClocks$Tuned" ({ cls := "LameClocks$Repair", name := "undoes", desc := "()V" } : Jvm.MethodName) ({ cls := "LameClocks$Tuned", name := "undoes", desc := "()V" } : Jvm.MethodName)) ∈ lw_all := lw_g (lw_at lw_m4 9 rfl) rfl
theorem q799 : (Jvm.Cond.instanceMethod ({ cls := "LameClocks$Tuned", name := "undoes", desc := "()V" } : Jvm.MethodName)) ∈ lw_all := lw_g (lw_at lw_m4 10 rfl) rfl
theorem q800 : (Jvm.Cond.code ({ cls := "LameClocks$Tuned", name := "undoes", desc := "()V" } : Jvm.MethodName) prog_17_method_2_code (1 : Nat) (Option.none : Option Jvm.ClassFile.FieldType)) ∈ lw_all := lw_g (lw_at lw_m4 11 rfl) rfl
theorem q801 : (Jvm.Cond.selects "LameClocks$Turned" ({ cls := "LameClocks$Repair", name := "undoes", desc := "()V" } : Jvm.MethodName) ({ cls := "LameClocks$Turned", name := "undoes", desc := "()V" } : Jvm.MethodName)) ∈ lw_all := lw_g (lw_at lw_m4 12 rfl) rfl
theorem q802 : (Jvm.Cond.instanceMethod ({ cls := "LameClocks$Turned", name := "undoes", desc := "()V" } : Jvm.MethodName)) ∈ lw_all := lw_g (lw_at lw_m4 13 rfl) rfl
theorem q804 : (Jvm.Cond.selects "LameClocks$Wound" ({ cls := "LameClocks$Repair", name := "undoes", desc := "()V" } : Jvm.MethodName) ({ cls := "LameClocks$Wound", name := "undoes", desc := "()V" } : Jvm.MethodName)) ∈ lw_all := lw_g (lw_at lw_m4 15 rfl) rfl
theorem q805 : (Jvm.Cond.instanceMethod ({ cls := "LameClocks$Wound", name := "undoes", desc := "()V" } : Jvm.MethodName)) ∈ lw_all := lw_g (lw_at lw_m4 16 rfl) rfl
theorem q806 : (Jvm.Cond.code ({ cls := "LameClocks$Wound", name := "undoes", desc := "()V" } : Jvm.MethodName) prog_22_method_2_code (1 : Nat) (Option.none : Option Jvm.ClassFile.FieldType)) ∈ lw_all := lw_g (lw_at lw_m4 17 rfl) rfl
theorem q810 : (Jvm.Cond.code ({ cls := "LameClocks", name := "restart", desc := "()I" } : Jvm.MethodName) prog_1_method_23_code (1 : Nat) (Option.some Jvm.ClassFile.FieldType.int)) ∈ lw_all := lw_g (lw_at lw_m4 21 rfl) rfl
theorem q811 : (Jvm.Cond.methodLink "LameClocks" (208 : Nat) ({ cls := "LameClocks$Race", name := "begins", desc := "()I" } : Jvm.MethodName)) ∈ lw_all := lw_g (lw_at lw_m4 22 rfl) rfl
theorem q812 : (Jvm.Cond.instanceMethod ({ cls := "LameClocks$Race", name := "begins", desc := "()I" } : Jvm.MethodName)) ∈ lw_all := lw_g (lw_at lw_m4 23 rfl) rfl
theorem q813 : (Jvm.Cond.selects "LameClocks$Race" ({ cls := "LameClocks$Race", name := "begins", desc := "()I" } : Jvm.MethodName) ({ cls := "LameClocks$Race", name := "begins", desc := "()I" } : Jvm.MethodName)) ∈ lw_all := lw_g (lw_at lw_m4 24 rfl) rfl
theorem q1106 : (Jvm.Cond.code ({ cls := "java/lang/String", name := "indexOf", desc := "(I)I" } : Jvm.MethodName) prog_41_method_79_code (2 : Nat) (Option.some Jvm.ClassFile.FieldType.int)) ∈ lw_all := lw_g (lw_at lw_m5 77 rfl) rfl
theorem q1107 : (Jvm.Cond.methodLink "java/lang/String" (633 : Nat) ({ cls := "java/lang/String", name := "indexOf", desc := "(II)I" } : Jvm.MethodName)) ∈ lw_all := lw_g (lw_at lw_m5 78 rfl) rfl
theorem q1108 : (Jvm.Cond.instanceMethod ({ cls := "java/lang/String", name := "indexOf", desc := "(II)I" } : Jvm.MethodName)) ∈ lw_all := lw_g (lw_at lw_m5 79 rfl) rfl
theorem q1109 : (Jvm.Cond.selects "java/lang/String" ({ cls := "java/lang/String", name := "indexOf", desc := "(II)I" } : Jvm.MethodName) ({ cls := "java/lang/String", name := "indexOf", desc := "(II)I" } : Jvm.MethodName)) ∈ lw_all := lw_g (lw_at lw_m5 80 rfl) rfl
theorem q1348 : (Jvm.Cond.code ({ cls := "java/util/ArrayList", name := "addAll", desc := "(Ljava/util/Collection;)Z" } : Jvm.MethodName) prog_50_method_41_code (6 : Nat) (Option.some Jvm.ClassFile.FieldType.boolean)) ∈ lw_all := lw_g (lw_at lw_m6 79 rfl) rfl
theorem q1350 : (Jvm.Cond.methodLink "java/util/ArrayList" (42 : Nat) ({ cls := "java/util/Collection", name := "toArray", desc := "()[Ljava/lang/Object;" } : Jvm.MethodName)) ∈ lw_all := lw_g (lw_at lw_m6 81 rfl) rfl
theorem q1351 : (Jvm.Cond.interfaceMethod "java/util/Collection" "java/util/Collection" "toArray" "()[Ljava/lang/Object;") ∈ lw_tbl := lw_at lw_m6 82 rfl
theorem q1352 : (Jvm.Cond.declares ({ cls := "java/util/Collection", name := "toArray", desc := "()[Ljava/lang/Object;" } : Jvm.MethodName)) ∈ lw_tbl := lw_at lw_m6 83 rfl
theorem q1353 : (Jvm.Cond.castable "java/util/ArrayList" "java/util/Collection") ∈ lw_tbl := lw_at lw_m6 84 rfl
theorem q1354 : (Jvm.Cond.selects "java/util/ArrayList" ({ cls := "java/util/Collection", name := "toArray", desc := "()[Ljava/lang/Object;" } : Jvm.MethodName) ({ cls := "java/util/ArrayList", name := "toArray", desc := "()[Ljava/lang/Object;" } : Jvm.MethodName)) ∈ lw_all := lw_g (lw_at lw_m6 85 rfl) rfl
theorem q1355 : (Jvm.Cond.unhidden "java/util/ArrayList" "toArray" "()[Ljava/lang/Object;") ∈ lw_tbl := lw_at lw_m6 86 rfl
theorem q1356 : (Jvm.Cond.instanceMethod ({ cls := "java/util/ArrayList", name := "toArray", desc := "()[Ljava/lang/Object;" } : Jvm.MethodName)) ∈ lw_all := lw_g (lw_at lw_m6 87 rfl) rfl
theorem q1357 : (Jvm.Cond.publicMethod ({ cls := "java/util/ArrayList", name := "toArray", desc := "()[Ljava/lang/Object;" } : Jvm.MethodName)) ∈ lw_tbl := lw_at lw_m6 88 rfl
theorem q1506 : (Jvm.Cond.code ({ cls := "LameClocks", name := "isAsTaken", desc := "()Z" } : Jvm.MethodName) prog_1_method_83_code (3 : Nat) (Option.some Jvm.ClassFile.FieldType.boolean)) ∈ lw_all := lw_g (lw_at lw_m6 237 rfl) rfl
theorem q1560 : (Jvm.Cond.fieldLinkNest "LameClocks" (150 : Nat) "LameClocks$Race" "windows" "I" "LameClocks") ∈ lw_tbl := lw_at lw_m7 51 rfl
theorem q1567 : (Jvm.Cond.fieldLinkNest "LameClocks" (153 : Nat) "LameClocks$Race" "hour" "I" "LameClocks") ∈ lw_tbl := lw_at lw_m7 58 rfl
theorem q1577 : (Jvm.Cond.fieldLinkNest "LameClocks" (159 : Nat) "LameClocks$Race" "strokes" "I" "LameClocks") ∈ lw_tbl := lw_at lw_m7 68 rfl
theorem q1614 : (Jvm.Cond.fieldLinkNest "LameClocks$Tuned" (7 : Nat) "LameClocks" "race" "LLameClocks$Race;" "LameClocks") ∈ lw_tbl := lw_at lw_m7 105 rfl
theorem q1616 : (Jvm.Cond.fieldLink "LameClocks" (213 : Nat) "LameClocks" "tried" "LLameClocks$Race;") ∈ lw_all := lw_g (lw_at lw_m7 107 rfl) rfl
theorem q1634 : (Jvm.Cond.fieldLink "LameClocks" (482 : Nat) "LameClocks" "taken" "[J") ∈ lw_all := lw_g (lw_at lw_m7 125 rfl) rfl
theorem q2179 : (Jvm.Cond.castable "LameClocks$Breathed" "LameClocks$Repair") ∈ lw_tbl := lw_at lw_m9 190 rfl
theorem q2180 : (Jvm.Cond.castable "LameClocks$Tuned" "LameClocks$Repair") ∈ lw_tbl := lw_at lw_m9 191 rfl
theorem q2181 : (Jvm.Cond.castable "LameClocks$Turned" "LameClocks$Repair") ∈ lw_tbl := lw_at lw_m9 192 rfl
theorem q2182 : (Jvm.Cond.castable "LameClocks$Wound" "LameClocks$Repair") ∈ lw_tbl := lw_at lw_m9 193 rfl
abbrev cX18_undoes : ByteArray := prog_22_method_2_code
def yX18_undoes : MethodName := ⟨RX18, "undoes", "()V"⟩
def dkwX18_undoes_0 : List UInt8 := [42, 180, 0, 1, 180, 0, 7, 42, 180, 0, 31, 182, 0, 13, 42, 180, 0, 34, 181, 0, 19, 177]
abbrev dktX18_undoes_0 : List UInt8 := dkwX18_undoes_0 ++ []
theorem dksX18_undoes_0 : cX18_undoes.data.toList.drop 0 = dktX18_undoes_0 := by decide +kernel
theorem dX18_undoes_0 : decode cX18_undoes 0 = .ok (.aload_n 0, 1) := dk_42 (dk_at dksX18_undoes_0 0 rfl rfl)
theorem dX18_undoes_1 : decode cX18_undoes 1 = .ok (.getfield 1, 3) := dk_180 0 1 (dk_at dksX18_undoes_0 1 rfl rfl)
theorem dX18_undoes_4 : decode cX18_undoes 4 = .ok (.getfield 7, 3) := dk_180 0 7 (dk_at dksX18_undoes_0 4 rfl rfl)
theorem dX18_undoes_7 : decode cX18_undoes 7 = .ok (.aload_n 0, 1) := dk_42 (dk_at dksX18_undoes_0 7 rfl rfl)
theorem dX18_undoes_8 : decode cX18_undoes 8 = .ok (.getfield 31, 3) := dk_180 0 31 (dk_at dksX18_undoes_0 8 rfl rfl)
theorem dX18_undoes_11 : decode cX18_undoes 11 = .ok (.invokevirtual 13, 3) := dk_182 0 13 (dk_at dksX18_undoes_0 11 rfl rfl)
theorem dX18_undoes_14 : decode cX18_undoes 14 = .ok (.aload_n 0, 1) := dk_42 (dk_at dksX18_undoes_0 14 rfl rfl)
theorem dX18_undoes_15 : decode cX18_undoes 15 = .ok (.getfield 34, 3) := dk_180 0 34 (dk_at dksX18_undoes_0 15 rfl rfl)
theorem dX18_undoes_18 : decode cX18_undoes 18 = .ok (.putfield 19, 3) := dk_181 0 19 (dk_at dksX18_undoes_0 18 rfl rfl)
theorem dX18_undoes_21 : decode cX18_undoes 21 = .ok (.return_, 1) := dk_177 (dk_at dksX18_undoes_0 21 rfl rfl)
theorem fo_X18_1 : g_fo RX18 1 [18] 3 := ⟨_, _, _, Or.inl q662, fun ci h => by
  simp only [List.mem_cons, List.not_mem_nil, or_false] at h; rcases h with rfl
  · exact ⟨_, _, _, rfl, by decide, rfl, rfl, Or.inl rfl, in_X18⟩⟩
theorem fo_X18_31 : g_fo RX18 31 [16, 17, 18, 19] 0 := ⟨_, _, _, Or.inl q668, fun ci h => by
  simp only [List.mem_cons, List.not_mem_nil, or_false] at h; rcases h with rfl | rfl | rfl | rfl
  · exact ⟨_, _, _, rfl, by decide, rfl, rfl, Or.inr q669, in_X16⟩
  · exact ⟨_, _, _, rfl, by decide, rfl, rfl, Or.inr q669, in_X17⟩
  · exact ⟨_, _, _, rfl, by decide, rfl, rfl, Or.inr q669, in_X18⟩
  · exact ⟨_, _, _, rfl, by decide, rfl, rfl, Or.inr q669, in_X19⟩⟩
theorem fo_X18_34 : g_fo RX18 34 [16, 17, 18, 19] 1 := ⟨_, _, _, Or.inl q679, fun ci h => by
  simp only [List.mem_cons, List.not_mem_nil, or_false] at h; rcases h with rfl | rfl | rfl | rfl
  · exact ⟨_, _, _, rfl, by decide, rfl, rfl, Or.inr q680, in_X16⟩
  · exact ⟨_, _, _, rfl, by decide, rfl, rfl, Or.inr q680, in_X17⟩
  · exact ⟨_, _, _, rfl, by decide, rfl, rfl, Or.inr q680, in_X18⟩
  · exact ⟨_, _, _, rfl, by decide, rfl, rfl, Or.inr q680, in_X19⟩⟩
theorem fp_X18_19 : g_fp RX18 19 [4, 5, 6, 7, 8, 9] 3 .int false := ⟨_, _, _, Or.inl q161, by decide +kernel, fun ci h => by
  simp only [List.mem_cons, List.not_mem_nil, or_false] at h; rcases h with rfl | rfl | rfl | rfl | rfl | rfl
  · exact ⟨_, _, _, tyX4, rfl, by decide, rfl, rfl, Or.inl rfl, in_X4, rfl, (fun h => by cases h), tyX4_ok, (by decide +kernel)⟩
  · exact ⟨_, _, _, tyX5, rfl, by decide, rfl, rfl, Or.inl rfl, in_X5, rfl, (fun h => by cases h), tyX5_ok, (by decide +kernel)⟩
  · exact ⟨_, _, _, tyX6, rfl, by decide, rfl, rfl, Or.inl rfl, in_X6, rfl, (fun h => by cases h), tyX6_ok, (by decide +kernel)⟩
  · exact ⟨_, _, _, tyX7, rfl, by decide, rfl, rfl, Or.inl rfl, in_X7, rfl, (fun h => by cases h), tyX7_ok, (by decide +kernel)⟩
  · exact ⟨_, _, _, tyX8, rfl, by decide, rfl, rfl, Or.inl rfl, in_X8, rfl, (fun h => by cases h), tyX8_ok, (by decide +kernel)⟩
  · exact ⟨_, _, _, tyX9, rfl, by decide, rfl, rfl, Or.inl rfl, in_X9, rfl, (fun h => by cases h), tyX9_ok, (by decide +kernel)⟩⟩
section CP
variable {Γ : Gc} {p : Program} {l : Launch} {e : Env} {s : State} {m : MethodId} {args : Array Value} {below : List Frame} {meth : Method} {c : Code} {ex : Nat → Option Nat} {z : Nat} {tF : St}
noncomputable def fX18_undoes (ex : Nat → Option Nat) (z : Nat) (h0 : Nat) (t : St) : Option (Unit × St) := cgA [18] 3 t h0 fun v1 => cgA [0] 0 t v1 fun v2 => cgI [16, 17, 18, 19] 0 t h0 fun v3 => ccast [1] t v2 (gb (fX1_clock ex (z + t.2.1) v2 v3 (t.1, 0, 0)) t fun r4 t5 => cgI [16, 17, 18, 19] 1 t5 h0 fun v11 => cput [4, 5, 6, 7, 8, 9] 3 t5 r4 (.int v11) fun t12 => some ((), t12))
set_option maxHeartbeats 4000000 in
theorem wX18_undoes {rF : Unit} (hex : ex = Γ.2.2.2.2) (X : g_X Γ p s m args meth c cX18_undoes 1 RX18) (hr : meth.sig.returnType = none) (h0 : Nat) (t : St) : Wf Γ p l e 4 85 s m args below meth c 1 (g_ι z) v_v rF tF 0 [(0, .ref h0)] [] t (fX18_undoes ex z h0 t) := by
  unfold fX18_undoes
  refine g_aload_n (pc := 0) X 0 dX18_undoes_0 rfl rfl ?_
  refine cg_getA (pc := 1) X fo_X18_1 dX18_undoes_1 (fun v1 => ?_)
  refine cg_getA (pc := 4) X fo_X18_7 dX18_undoes_4 (fun v2 => ?_)
  refine g_aload_n (pc := 7) X 0 dX18_undoes_7 rfl rfl ?_
  refine cg_getI (pc := 8) X fo_X18_31 dX18_undoes_8 (fun v3 => ?_)
  refine g_bD_a (pc := 11) X (cs := [1]) (As := [.int v3]) (rest := []) (b := v2) (n := 1) dX18_undoes_11 rfl rfl (Nat.le_of_ble_eq_true rfl) (fun fl6 ci7 fs8 hs9 hci10 r u h => ?_) (fun r4 t5 => ?_)
  · obtain rfl := List.mem_singleton.mp hci10
    exact ⟨_, _, _, yX1_clock, _, _, _, 3, 64, rfl, kX1_clock hex h, Or.inl (cwV 1 X.2.2.2.2.1 (lw_V q657 q374 q375 q71 q376) rfl rfl rfl dmV_X1_clock ⟨Nat.le_of_ble_eq_true rfl, Nat.le_of_ble_eq_true rfl⟩)⟩
  refine g_aload_n (pc := 14) X 0 dX18_undoes_14 rfl rfl ?_
  refine cg_getI (pc := 15) X fo_X18_34 dX18_undoes_15 (fun v11 => ?_)
  refine cg_put (pc := 18) X fp_X18_19 dX18_undoes_18 (fun h => by cases h) rfl rfl (fun t12 => ?_)
  exact g_vret (pc := 21) X hr dX18_undoes_21
theorem kX18_undoes {ex : Nat → Option Nat} {z : Nat} {h0 : Nat} {σ : Sg} {r : Unit} {u : St} (hex : ex = Γ.2.2.2.2) (h : fX18_undoes ex z h0 (σ, 0, 0) = some (r, u)) : g_C Γ l yX18_undoes cX18_undoes 1 none 4 85 [.ref h0] σ z v_v r (g_ι z u) :=
  g_met (ι := g_ι z) (t := (σ, 0, 0)) [.ref h0] (by decide) (Nat.le_of_ble_eq_true rfl) h rfl (fun p e s m args below meth c X hr hn => wX18_undoes hex X hr h0 (σ, 0, 0))
end CP
abbrev cX19_init : ByteArray := prog_17_method_1_code
def yX19_init : MethodName := ⟨RX19, "<init>", "(LLameClocks;I)V"⟩
def dkwX19_init_0 : List UInt8 := [42, 43, 181, 0, 1, 42, 43, 28, 43, 180, 0, 7, 28, 182, 0, 13, 180, 0, 19, 183, 0, 25, 177]
abbrev dktX19_init_0 : List UInt8 := dkwX19_init_0 ++ []
theorem dksX19_init_0 : cX19_init.data.toList.drop 0 = dktX19_init_0 := by decide +kernel
theorem dX19_init_0 : decode cX19_init 0 = .ok (.aload_n 0, 1) := dk_42 (dk_at dksX19_init_0 0 rfl rfl)
theorem dX19_init_1 : decode cX19_init 1 = .ok (.aload_n 1, 1) := dk_43 (dk_at dksX19_init_0 1 rfl rfl)
theorem dX19_init_2 : decode cX19_init 2 = .ok (.putfield 1, 3) := dk_181 0 1 (dk_at dksX19_init_0 2 rfl rfl)
theorem dX19_init_5 : decode cX19_init 5 = .ok (.aload_n 0, 1) := dk_42 (dk_at dksX19_init_0 5 rfl rfl)
theorem dX19_init_6 : decode cX19_init 6 = .ok (.aload_n 1, 1) := dk_43 (dk_at dksX19_init_0 6 rfl rfl)
theorem dX19_init_7 : decode cX19_init 7 = .ok (.iload_n 2, 1) := dk_28 (dk_at dksX19_init_0 7 rfl rfl)
theorem dX19_init_8 : decode cX19_init 8 = .ok (.aload_n 1, 1) := dk_43 (dk_at dksX19_init_0 8 rfl rfl)
theorem dX19_init_9 : decode cX19_init 9 = .ok (.getfield 7, 3) := dk_180 0 7 (dk_at dksX19_init_0 9 rfl rfl)
theorem dX19_init_12 : decode cX19_init 12 = .ok (.iload_n 2, 1) := dk_28 (dk_at dksX19_init_0 12 rfl rfl)
theorem dX19_init_13 : decode cX19_init 13 = .ok (.invokevirtual 13, 3) := dk_182 0 13 (dk_at dksX19_init_0 13 rfl rfl)
theorem dX19_init_16 : decode cX19_init 16 = .ok (.getfield 19, 3) := dk_180 0 19 (dk_at dksX19_init_0 16 rfl rfl)
theorem dX19_init_19 : decode cX19_init 19 = .ok (.invokespecial 25, 3) := dk_183 0 25 (dk_at dksX19_init_0 19 rfl rfl)
theorem dX19_init_22 : decode cX19_init 22 = .ok (.return_, 1) := dk_177 (dk_at dksX19_init_0 22 rfl rfl)
theorem fq_X19_1 : g_fq RX19 1 [19] 3 2 (.object "LameClocks") := ⟨_, _, q753, by decide +kernel, fun ci h => by
  simp only [List.mem_cons, List.not_mem_nil, or_false] at h; rcases h with rfl
  · exact ⟨_, _, _, tyX19, rfl, by decide, rfl, rfl, rfl, in_X19, rfl, tyX19_ok, by decide +kernel⟩⟩
theorem fo_X19_7 : g_fo RX19 7 [0] 0 := ⟨_, _, _, Or.inr ⟨_, q1614⟩, fun ci h => by
  simp only [List.mem_cons, List.not_mem_nil, or_false] at h; rcases h with rfl
  · exact ⟨_, _, _, rfl, by decide, rfl, rfl, Or.inl rfl, in_X0⟩⟩
theorem fo_X19_19 : g_fo RX19 19 [4, 5, 6, 7, 8, 9] 2 := ⟨_, _, _, Or.inl q158, fun ci h => by
  simp only [List.mem_cons, List.not_mem_nil, or_false] at h; rcases h with rfl | rfl | rfl | rfl | rfl | rfl
  · exact ⟨_, _, _, rfl, by decide, rfl, rfl, Or.inl rfl, in_X4⟩
  · exact ⟨_, _, _, rfl, by decide, rfl, rfl, Or.inl rfl, in_X5⟩
  · exact ⟨_, _, _, rfl, by decide, rfl, rfl, Or.inl rfl, in_X6⟩
  · exact ⟨_, _, _, rfl, by decide, rfl, rfl, Or.inl rfl, in_X7⟩
  · exact ⟨_, _, _, rfl, by decide, rfl, rfl, Or.inl rfl, in_X8⟩
  · exact ⟨_, _, _, rfl, by decide, rfl, rfl, Or.inl rfl, in_X9⟩⟩
section CP
variable {Γ : Gc} {p : Program} {l : Launch} {e : Env} {s : State} {m : MethodId} {args : Array Value} {below : List Frame} {meth : Method} {c : Code} {ex : Nat → Option Nat} {z : Nat} {tF : St}
noncomputable def fX19_init (ex : Nat → Option Nat) (z : Nat) (h0 : Nat) (h1 : Nat) (x2 : Int32) (t : St) : Option (Unit × St) := cput2 [19] 3 2 t h0 (.ref h1) fun t1 => cgA [0] 0 t1 h1 fun v2 => ccast [1] t1 v2 (gb (fX1_clock ex (z + t1.2.1) v2 x2 (t1.1, 0, 0)) t1 fun r3 t4 => cgI [4, 5, 6, 7, 8, 9] 2 t4 r3 fun v10 => gb (fX15_init ex (z + t4.2.1) h0 h1 x2 v10 (t4.1, 0, 0)) t4 fun _ t12 => some ((), t12))
set_option maxHeartbeats 4000000 in
theorem wX19_init {rF : Unit} (hex : ex = Γ.2.2.2.2) (X : g_X Γ p s m args meth c cX19_init 3 RX19) (hr : meth.sig.returnType = none) (hin : meth.name = "<init>") (h0 : Nat) (h1 : Nat) (x2 : Int32) (t : St) : Wf Γ p l e 4 85 s m args below meth c 3 (g_ι z) v_v rF tF 0 [(0, .ref h0), (1, .ref h1), (2, .int x2)] [] t (fX19_init ex z h0 h1 x2 t) := by
  unfold fX19_init
  refine g_aload_n (pc := 0) X 0 dX19_init_0 rfl rfl ?_
  refine g_aload_n (pc := 1) X 1 dX19_init_1 rfl rfl ?_
  refine cg_put2 (pc := 2) X fq_X19_1 dX19_init_2 hin rfl rfl (fun t1 => ?_)
  refine g_aload_n (pc := 5) X 0 dX19_init_5 rfl rfl ?_
  refine g_aload_n (pc := 6) X 1 dX19_init_6 rfl rfl ?_
  refine g_iload_n (pc := 7) X 2 dX19_init_7 rfl rfl ?_
  refine g_aload_n (pc := 8) X 1 dX19_init_8 rfl rfl ?_
  refine cg_getA (pc := 9) X fo_X19_7 dX19_init_9 (fun v2 => ?_)
  refine g_iload_n (pc := 12) X 2 dX19_init_12 rfl rfl ?_
  refine g_bD_a (pc := 13) X (cs := [1]) (As := [.int x2]) (rest := [.int x2, .ref h1, .ref h0]) (b := v2) (n := 1) dX19_init_13 rfl rfl (Nat.le_of_ble_eq_true rfl) (fun fl5 ci6 fs7 hs8 hci9 r u h => ?_) (fun r3 t4 => ?_)
  · obtain rfl := List.mem_singleton.mp hci9
    exact ⟨_, _, _, yX1_clock, _, _, _, 3, 64, rfl, kX1_clock hex h, Or.inl (cwV 1 X.2.2.2.2.1 (lw_V q751 q374 q375 q71 q376) rfl rfl rfl dmV_X1_clock ⟨Nat.le_of_ble_eq_true rfl, Nat.le_of_ble_eq_true rfl⟩)⟩
  refine cg_getI (pc := 16) X fo_X19_19 dX19_init_16 (fun v10 => ?_)
  refine g_bI_v (pc := 19) X (y := yX15_init) (As := [.ref h1, .int x2, .int v10]) (rest := []) (b := h0) (fr' := 1) (lo' := 12) (fun _ => cwI 3 X.2.2.2.2.1 (lw_meth q660) rfl rfl rfl (X.2.2.2.2.1 _ q100) (X.2.2.2.2.1 _ q752) (X.2.2.2.2.1 _ q659) rfl dmS_X15_init ⟨Nat.le_of_ble_eq_true rfl, Nat.le_of_ble_eq_true rfl⟩) dX19_init_19 rfl rfl (Nat.le_of_ble_eq_true rfl) (fun r u h => kX15_init hex h) (fun r11 t12 => ?_)
  exact g_vret (pc := 22) X hr dX19_init_22
theorem kX19_init {ex : Nat → Option Nat} {z : Nat} {h0 : Nat} {h1 : Nat} {x2 : Int32} {σ : Sg} {r : Unit} {u : St} (hex : ex = Γ.2.2.2.2) (h : fX19_init ex z h0 h1 x2 (σ, 0, 0) = some (r, u)) : g_C Γ l yX19_init cX19_init 3 none 4 85 [.ref h0, .ref h1, .int x2] σ z v_v r (g_ι z u) :=
  g_met (ι := g_ι z) (t := (σ, 0, 0)) [.ref h0, .ref h1, .int x2] (by decide) (Nat.le_of_ble_eq_true rfl) h rfl (fun p e s m args below meth c X hr hn => wX19_init hex X hr hn h0 h1 x2 (σ, 0, 0))
end CP
abbrev cX19_undoes : ByteArray := prog_17_method_2_code
def yX19_undoes : MethodName := ⟨RX19, "undoes", "()V"⟩
def dkwX19_undoes_0 : List UInt8 := [42, 180, 0, 1, 180, 0, 7, 42, 180, 0, 31, 182, 0, 13, 42, 180, 0, 34, 181, 0, 19, 177]
abbrev dktX19_undoes_0 : List UInt8 := dkwX19_undoes_0 ++ []
theorem dksX19_undoes_0 : cX19_undoes.data.toList.drop 0 = dktX19_undoes_0 := by decide +kernel
theorem dX19_undoes_0 : decode cX19_undoes 0 = .ok (.aload_n 0, 1) := dk_42 (dk_at dksX19_undoes_0 0 rfl rfl)
theorem dX19_undoes_1 : decode cX19_undoes 1 = .ok (.getfield 1, 3) := dk_180 0 1 (dk_at dksX19_undoes_0 1 rfl rfl)
theorem dX19_undoes_4 : decode cX19_undoes 4 = .ok (.getfield 7, 3) := dk_180 0 7 (dk_at dksX19_undoes_0 4 rfl rfl)
theorem dX19_undoes_7 : decode cX19_undoes 7 = .ok (.aload_n 0, 1) := dk_42 (dk_at dksX19_undoes_0 7 rfl rfl)
theorem dX19_undoes_8 : decode cX19_undoes 8 = .ok (.getfield 31, 3) := dk_180 0 31 (dk_at dksX19_undoes_0 8 rfl rfl)
theorem dX19_undoes_11 : decode cX19_undoes 11 = .ok (.invokevirtual 13, 3) := dk_182 0 13 (dk_at dksX19_undoes_0 11 rfl rfl)
theorem dX19_undoes_14 : decode cX19_undoes 14 = .ok (.aload_n 0, 1) := dk_42 (dk_at dksX19_undoes_0 14 rfl rfl)
theorem dX19_undoes_15 : decode cX19_undoes 15 = .ok (.getfield 34, 3) := dk_180 0 34 (dk_at dksX19_undoes_0 15 rfl rfl)
theorem dX19_undoes_18 : decode cX19_undoes 18 = .ok (.putfield 19, 3) := dk_181 0 19 (dk_at dksX19_undoes_0 18 rfl rfl)
theorem dX19_undoes_21 : decode cX19_undoes 21 = .ok (.return_, 1) := dk_177 (dk_at dksX19_undoes_0 21 rfl rfl)
theorem fo_X19_1 : g_fo RX19 1 [19] 3 := ⟨_, _, _, Or.inl q753, fun ci h => by
  simp only [List.mem_cons, List.not_mem_nil, or_false] at h; rcases h with rfl
  · exact ⟨_, _, _, rfl, by decide, rfl, rfl, Or.inl rfl, in_X19⟩⟩
theorem fo_X19_31 : g_fo RX19 31 [16, 17, 18, 19] 0 := ⟨_, _, _, Or.inl q664, fun ci h => by
  simp only [List.mem_cons, List.not_mem_nil, or_false] at h; rcases h with rfl | rfl | rfl | rfl
  · exact ⟨_, _, _, rfl, by decide, rfl, rfl, Or.inr q665, in_X16⟩
  · exact ⟨_, _, _, rfl, by decide, rfl, rfl, Or.inr q665, in_X17⟩
  · exact ⟨_, _, _, rfl, by decide, rfl, rfl, Or.inr q665, in_X18⟩
  · exact ⟨_, _, _, rfl, by decide, rfl, rfl, Or.inr q665, in_X19⟩⟩
theorem fo_X19_34 : g_fo RX19 34 [16, 17, 18, 19] 1 := ⟨_, _, _, Or.inl q675, fun ci h => by
  simp only [List.mem_cons, List.not_mem_nil, or_false] at h; rcases h with rfl | rfl | rfl | rfl
  · exact ⟨_, _, _, rfl, by decide, rfl, rfl, Or.inr q676, in_X16⟩
  · exact ⟨_, _, _, rfl, by decide, rfl, rfl, Or.inr q676, in_X17⟩
  · exact ⟨_, _, _, rfl, by decide, rfl, rfl, Or.inr q676, in_X18⟩
  · exact ⟨_, _, _, rfl, by decide, rfl, rfl, Or.inr q676, in_X19⟩⟩
theorem fp_X19_19 : g_fp RX19 19 [4, 5, 6, 7, 8, 9] 2 .int false := ⟨_, _, _, Or.inl q158, by decide +kernel, fun ci h => by
  simp only [List.mem_cons, List.not_mem_nil, or_false] at h; rcases h with rfl | rfl | rfl | rfl | rfl | rfl
  · exact ⟨_, _, _, tyX4, rfl, by decide, rfl, rfl, Or.inl rfl, in_X4, rfl, (fun h => by cases h), tyX4_ok, (by decide +kernel)⟩
  · exact ⟨_, _, _, tyX5, rfl, by decide, rfl, rfl, Or.inl rfl, in_X5, rfl, (fun h => by cases h), tyX5_ok, (by decide +kernel)⟩
  · exact ⟨_, _, _, tyX6, rfl, by decide, rfl, rfl, Or.inl rfl, in_X6, rfl, (fun h => by cases h), tyX6_ok, (by decide +kernel)⟩
  · exact ⟨_, _, _, tyX7, rfl, by decide, rfl, rfl, Or.inl rfl, in_X7, rfl, (fun h => by cases h), tyX7_ok, (by decide +kernel)⟩
  · exact ⟨_, _, _, tyX8, rfl, by decide, rfl, rfl, Or.inl rfl, in_X8, rfl, (fun h => by cases h), tyX8_ok, (by decide +kernel)⟩
  · exact ⟨_, _, _, tyX9, rfl, by decide, rfl, rfl, Or.inl rfl, in_X9, rfl, (fun h => by cases h), tyX9_ok, (by decide +kernel)⟩⟩
section CP
variable {Γ : Gc} {p : Program} {l : Launch} {e : Env} {s : State} {m : MethodId} {args : Array Value} {below : List Frame} {meth : Method} {c : Code} {ex : Nat → Option Nat} {z : Nat} {tF : St}
noncomputable def fX19_undoes (ex : Nat → Option Nat) (z : Nat) (h0 : Nat) (t : St) : Option (Unit × St) := cgA [19] 3 t h0 fun v1 => cgA [0] 0 t v1 fun v2 => cgI [16, 17, 18, 19] 0 t h0 fun v3 => ccast [1] t v2 (gb (fX1_clock ex (z + t.2.1) v2 v3 (t.1, 0, 0)) t fun r4 t5 => cgI [16, 17, 18, 19] 1 t5 h0 fun v11 => cput [4, 5, 6, 7, 8, 9] 2 t5 r4 (.int v11) fun t12 => some ((), t12))
set_option maxHeartbeats 4000000 in
theorem wX19_undoes {rF : Unit} (hex : ex = Γ.2.2.2.2) (X : g_X Γ p s m args meth c cX19_undoes 1 RX19) (hr : meth.sig.returnType = none) (h0 : Nat) (t : St) : Wf Γ p l e 4 85 s m args below meth c 1 (g_ι z) v_v rF tF 0 [(0, .ref h0)] [] t (fX19_undoes ex z h0 t) := by
  unfold fX19_undoes
  refine g_aload_n (pc := 0) X 0 dX19_undoes_0 rfl rfl ?_
  refine cg_getA (pc := 1) X fo_X19_1 dX19_undoes_1 (fun v1 => ?_)
  refine cg_getA (pc := 4) X fo_X19_7 dX19_undoes_4 (fun v2 => ?_)
  refine g_aload_n (pc := 7) X 0 dX19_undoes_7 rfl rfl ?_
  refine cg_getI (pc := 8) X fo_X19_31 dX19_undoes_8 (fun v3 => ?_)
  refine g_bD_a (pc := 11) X (cs := [1]) (As := [.int v3]) (rest := []) (b := v2) (n := 1) dX19_undoes_11 rfl rfl (Nat.le_of_ble_eq_true rfl) (fun fl6 ci7 fs8 hs9 hci10 r u h => ?_) (fun r4 t5 => ?_)
  · obtain rfl := List.mem_singleton.mp hci10
    exact ⟨_, _, _, yX1_clock, _, _, _, 3, 64, rfl, kX1_clock hex h, Or.inl (cwV 1 X.2.2.2.2.1 (lw_V q751 q374 q375 q71 q376) rfl rfl rfl dmV_X1_clock ⟨Nat.le_of_ble_eq_true rfl, Nat.le_of_ble_eq_true rfl⟩)⟩
  refine g_aload_n (pc := 14) X 0 dX19_undoes_14 rfl rfl ?_
  refine cg_getI (pc := 15) X fo_X19_34 dX19_undoes_15 (fun v11 => ?_)
  refine cg_put (pc := 18) X fp_X19_19 dX19_undoes_18 (fun h => by cases h) rfl rfl (fun t12 => ?_)
  exact g_vret (pc := 21) X hr dX19_undoes_21
theorem kX19_undoes {ex : Nat → Option Nat} {z : Nat} {h0 : Nat} {σ : Sg} {r : Unit} {u : St} (hex : ex = Γ.2.2.2.2) (h : fX19_undoes ex z h0 (σ, 0, 0) = some (r, u)) : g_C Γ l yX19_undoes cX19_undoes 1 none 4 85 [.ref h0] σ z v_v r (g_ι z u) :=
  g_met (ι := g_ι z) (t := (σ, 0, 0)) [.ref h0] (by decide) (Nat.le_of_ble_eq_true rfl) h rfl (fun p e s m args below meth c X hr hn => wX19_undoes hex X hr h0 (σ, 0, 0))
end CP
noncomputable def fv_X15_undoes (ex : Nat → Option Nat) (z : Nat) (h0 : Nat) (t : St) : Option (Unit × St) := ccls t h0 fun ci => if ci = 16 then fX16_undoes ex z h0 t else if ci = 17 then fX17_undoes ex z h0 t else if ci = 18 then fX18_undoes ex z h0 t else if ci = 19 then fX19_undoes ex z h0 t else none
theorem fv_X15_undoes_16 {ex : Nat → Option Nat} {z : Nat} {h0 : Nat} {σ : Sg} {fl : Bool} {fs : List Value} (hs : σ h0 = some (fl, .inr (16, fs))) : fv_X15_undoes ex z h0 (σ, 0, 0) = fX16_undoes ex z h0 (σ, 0, 0) := by simp [fv_X15_undoes, ccls, hs]
theorem fv_X15_undoes_17 {ex : Nat → Option Nat} {z : Nat} {h0 : Nat} {σ : Sg} {fl : Bool} {fs : List Value} (hs : σ h0 = some (fl, .inr (17, fs))) : fv_X15_undoes ex z h0 (σ, 0, 0) = fX17_undoes ex z h0 (σ, 0, 0) := by simp [fv_X15_undoes, ccls, hs]
theorem fv_X15_undoes_18 {ex : Nat → Option Nat} {z : Nat} {h0 : Nat} {σ : Sg} {fl : Bool} {fs : List Value} (hs : σ h0 = some (fl, .inr (18, fs))) : fv_X15_undoes ex z h0 (σ, 0, 0) = fX18_undoes ex z h0 (σ, 0, 0) := by simp [fv_X15_undoes, ccls, hs]
theorem fv_X15_undoes_19 {ex : Nat → Option Nat} {z : Nat} {h0 : Nat} {σ : Sg} {fl : Bool} {fs : List Value} (hs : σ h0 = some (fl, .inr (19, fs))) : fv_X15_undoes ex z h0 (σ, 0, 0) = fX19_undoes ex z h0 (σ, 0, 0) := by simp [fv_X15_undoes, ccls, hs]
abbrev cJ2_grow : ByteArray := prog_50_method_7_code
def yJ2_grow : MethodName := ⟨RJ2, "grow", "()[Ljava/lang/Object;"⟩
def dkwJ2_grow_0 : List UInt8 := [42, 42, 180, 0, 48, 4, 96, 182, 0, 69, 176]
abbrev dktJ2_grow_0 : List UInt8 := dkwJ2_grow_0 ++ []
theorem dksJ2_grow_0 : cJ2_grow.data.toList.drop 0 = dktJ2_grow_0 := by decide +kernel
theorem dJ2_grow_0 : decode cJ2_grow 0 = .ok (.aload_n 0, 1) := dk_42 (dk_at dksJ2_grow_0 0 rfl rfl)
theorem dJ2_grow_1 : decode cJ2_grow 1 = .ok (.aload_n 0, 1) := dk_42 (dk_at dksJ2_grow_0 1 rfl rfl)
theorem dJ2_grow_2 : decode cJ2_grow 2 = .ok (.getfield 48, 3) := dk_180 0 48 (dk_at dksJ2_grow_0 2 rfl rfl)
theorem dJ2_grow_5 : decode cJ2_grow 5 = .ok (.iconst 1, 1) := dk_4 (dk_at dksJ2_grow_0 5 rfl rfl)
theorem dJ2_grow_6 : decode cJ2_grow 6 = .ok (.iadd, 1) := dk_96 (dk_at dksJ2_grow_0 6 rfl rfl)
theorem dJ2_grow_7 : decode cJ2_grow 7 = .ok (.invokevirtual 69, 3) := dk_182 0 69 (dk_at dksJ2_grow_0 7 rfl rfl)
theorem dJ2_grow_10 : decode cJ2_grow 10 = .ok (.areturn, 1) := dk_176 (dk_at dksJ2_grow_0 10 rfl rfl)
theorem dmV_J2_grow_2 : yJ2_grow_2.cls = RJ2 ∧ yJ2_grow_2.cls ≠ "java/lang/invoke/MethodHandle" ∧ yJ2_grow_2.cls ≠ "java/lang/invoke/VarHandle" ∧ (parseMethodDescriptor yJ2_grow_2.desc).map (fun d => d.parameters.length) = some 1 := by decide +kernel
section CP
variable {Γ : Gc} {p : Program} {l : Launch} {e : Env} {s : State} {m : MethodId} {args : Array Value} {below : List Frame} {meth : Method} {c : Code} {ex : Nat → Option Nat} {z : Nat} {tF : St}
noncomputable def fJ2_grow (ex : Nat → Option Nat) (z : Nat) (h0 : Nat) (t : St) : Option (Nat × St) := cgI [15] 2 t h0 fun v1 => ccast [15] t h0 (gb (fJ2_grow_2 ex (z + t.2.1) h0 (v1 + 1) (t.1, 0, 0)) t fun r2 t3 => some (r2, t3))
set_option maxHeartbeats 4000000 in
theorem wJ2_grow {rF : Nat} (hex : ex = Γ.2.2.2.2) (X : g_X Γ p s m args meth c cJ2_grow 1 RJ2) (hr : meth.sig.returnType = (some (.array (.object "java/lang/Object")))) (h0 : Nat) (t : St) : Wf Γ p l e 4 88 s m args below meth c 1 (g_ι z) v_a rF tF 0 [(0, .ref h0)] [] t (fJ2_grow ex z h0 t) := by
  unfold fJ2_grow
  refine g_aload_n (pc := 0) X 0 dJ2_grow_0 rfl rfl ?_
  refine g_aload_n (pc := 1) X 0 dJ2_grow_1 rfl rfl ?_
  refine cg_getI (pc := 2) X fo_J2_48 dJ2_grow_2 (fun v1 => ?_)
  refine g_iconst (pc := 5) X 1 dJ2_grow_5 rfl ?_
  refine g_iadd (pc := 6) X dJ2_grow_6 ?_
  refine g_bD_a (pc := 7) X (cs := [15]) (As := [.int (v1 + 1)]) (rest := []) (b := h0) (n := 1) dJ2_grow_7 rfl rfl (Nat.le_of_ble_eq_true rfl) (fun fl4 ci5 fs6 hs7 hci8 r u h => ?_) (fun r2 t3 => ?_)
  · obtain rfl := List.mem_singleton.mp hci8
    exact ⟨_, _, _, yJ2_grow_2, _, _, _, 3, 65, rfl, kJ2_grow_2 hex h, Or.inl (cwV 1 X.2.2.2.2.1 (lw_V q267 q269 qs2 q74 q270) rfl rfl rfl dmV_J2_grow_2 ⟨Nat.le_of_ble_eq_true rfl, Nat.le_of_ble_eq_true rfl⟩)⟩
  exact g_aret (pc := 10) X hr (Or.inr ⟨_, rfl⟩) dJ2_grow_10
theorem kJ2_grow {ex : Nat → Option Nat} {z : Nat} {h0 : Nat} {σ : Sg} {r : Nat} {u : St} (hex : ex = Γ.2.2.2.2) (h : fJ2_grow ex z h0 (σ, 0, 0) = some (r, u)) : g_C Γ l yJ2_grow cJ2_grow 1 (some (.array (.object "java/lang/Object"))) 4 88 [.ref h0] σ z v_a r (g_ι z u) :=
  g_met (ι := g_ι z) (t := (σ, 0, 0)) [.ref h0] (by decide) (Nat.le_of_ble_eq_true rfl) h rfl (fun p e s m args below meth c X hr hn => wJ2_grow hex X hr h0 (σ, 0, 0))
end CP
abbrev cJ2_addAll : ByteArray := prog_50_method_41_code
def yJ2_addAll : MethodName := ⟨RJ2, "addAll", "(Ljava/util/Collection;)Z"⟩
def dkwJ2_addAll_3 : List UInt8 := [181, 0, 48, 4, 172]
abbrev dktJ2_addAll_3 : List UInt8 := dkwJ2_addAll_3 ++ []
def dkwJ2_addAll_2 : List UInt8 := [21, 5, 29, 96, 182, 0, 69, 58, 4, 44, 3, 25, 4, 21, 5, 29, 184, 0, 112, 42, 21, 5, 29, 96]
abbrev dktJ2_addAll_2 : List UInt8 := dkwJ2_addAll_2 ++ dktJ2_addAll_3
def dkwJ2_addAll_1 : List UInt8 := [3, 172, 29, 42, 180, 0, 9, 89, 58, 4, 190, 42, 180, 0, 48, 89, 54, 5, 100, 164, 0, 13, 42]
abbrev dktJ2_addAll_1 : List UInt8 := dkwJ2_addAll_1 ++ dktJ2_addAll_2
def dkwJ2_addAll_0 : List UInt8 := [43, 185, 0, 42, 1, 0, 77, 42, 89, 180, 0, 63, 4, 96, 181, 0, 63, 44, 190, 62, 29, 154, 0, 5]
abbrev dktJ2_addAll_0 : List UInt8 := dkwJ2_addAll_0 ++ dktJ2_addAll_1
theorem dksJ2_addAll_0 : cJ2_addAll.data.toList.drop 0 = dktJ2_addAll_0 := by decide +kernel
theorem dksJ2_addAll_1 : cJ2_addAll.data.toList.drop 24 = dktJ2_addAll_1 := dk_seg dksJ2_addAll_0 24 rfl rfl
theorem dksJ2_addAll_2 : cJ2_addAll.data.toList.drop 47 = dktJ2_addAll_2 := dk_seg dksJ2_addAll_1 23 rfl rfl
theorem dksJ2_addAll_3 : cJ2_addAll.data.toList.drop 71 = dktJ2_addAll_3 := dk_seg dksJ2_addAll_2 24 rfl rfl
theorem dJ2_addAll_0 : decode cJ2_addAll 0 = .ok (.aload_n 1, 1) := dk_43 (dk_at dksJ2_addAll_0 0 rfl rfl)
theorem dJ2_addAll_1 : decode cJ2_addAll 1 = .ok (.invokeinterface 42 1, 5) := by decide +kernel
theorem dJ2_addAll_6 : decode cJ2_addAll 6 = .ok (.astore_n 2, 1) := dk_77 (dk_at dksJ2_addAll_0 6 rfl rfl)
theorem dJ2_addAll_7 : decode cJ2_addAll 7 = .ok (.aload_n 0, 1) := dk_42 (dk_at dksJ2_addAll_0 7 rfl rfl)
theorem dJ2_addAll_8 : decode cJ2_addAll 8 = .ok (.dup, 1) := dk_89 (dk_at dksJ2_addAll_0 8 rfl rfl)
theorem dJ2_addAll_9 : decode cJ2_addAll 9 = .ok (.getfield 63, 3) := dk_180 0 63 (dk_at dksJ2_addAll_0 9 rfl rfl)
theorem dJ2_addAll_12 : decode cJ2_addAll 12 = .ok (.iconst 1, 1) := dk_4 (dk_at dksJ2_addAll_0 12 rfl rfl)
theorem dJ2_addAll_13 : decode cJ2_addAll 13 = .ok (.iadd, 1) := dk_96 (dk_at dksJ2_addAll_0 13 rfl rfl)
theorem dJ2_addAll_14 : decode cJ2_addAll 14 = .ok (.putfield 63, 3) := dk_181 0 63 (dk_at dksJ2_addAll_0 14 rfl rfl)
theorem dJ2_addAll_17 : decode cJ2_addAll 17 = .ok (.aload_n 2, 1) := dk_44 (dk_at dksJ2_addAll_0 17 rfl rfl)
theorem dJ2_addAll_18 : decode cJ2_addAll 18 = .ok (.arraylength, 1) := dk_190 (dk_at dksJ2_addAll_0 18 rfl rfl)
theorem dJ2_addAll_19 : decode cJ2_addAll 19 = .ok (.istore_n 3, 1) := dk_62 (dk_at dksJ2_addAll_0 19 rfl rfl)
theorem dJ2_addAll_20 : decode cJ2_addAll 20 = .ok (.iload_n 3, 1) := dk_29 (dk_at dksJ2_addAll_0 20 rfl rfl)
theorem dJ2_addAll_21 : decode cJ2_addAll 21 = .ok (.ifCond .ne 5, 3) := dk_154 0 5 (dk_at dksJ2_addAll_0 21 rfl rfl)
theorem dJ2_addAll_24 : decode cJ2_addAll 24 = .ok (.iconst 0, 1) := dk_3 (dk_at dksJ2_addAll_1 0 rfl rfl)
theorem dJ2_addAll_25 : decode cJ2_addAll 25 = .ok (.ireturn, 1) := dk_172 (dk_at dksJ2_addAll_1 1 rfl rfl)
theorem dJ2_addAll_26 : decode cJ2_addAll 26 = .ok (.iload_n 3, 1) := dk_29 (dk_at dksJ2_addAll_1 2 rfl rfl)
theorem dJ2_addAll_27 : decode cJ2_addAll 27 = .ok (.aload_n 0, 1) := dk_42 (dk_at dksJ2_addAll_1 3 rfl rfl)
theorem dJ2_addAll_28 : decode cJ2_addAll 28 = .ok (.getfield 9, 3) := dk_180 0 9 (dk_at dksJ2_addAll_1 4 rfl rfl)
theorem dJ2_addAll_31 : decode cJ2_addAll 31 = .ok (.dup, 1) := dk_89 (dk_at dksJ2_addAll_1 7 rfl rfl)
theorem dJ2_addAll_32 : decode cJ2_addAll 32 = .ok (.astore 4, 2) := dk_58 4 (dk_at dksJ2_addAll_1 8 rfl rfl)
theorem dJ2_addAll_34 : decode cJ2_addAll 34 = .ok (.arraylength, 1) := dk_190 (dk_at dksJ2_addAll_1 10 rfl rfl)
theorem dJ2_addAll_35 : decode cJ2_addAll 35 = .ok (.aload_n 0, 1) := dk_42 (dk_at dksJ2_addAll_1 11 rfl rfl)
theorem dJ2_addAll_36 : decode cJ2_addAll 36 = .ok (.getfield 48, 3) := dk_180 0 48 (dk_at dksJ2_addAll_1 12 rfl rfl)
theorem dJ2_addAll_39 : decode cJ2_addAll 39 = .ok (.dup, 1) := dk_89 (dk_at dksJ2_addAll_1 15 rfl rfl)
theorem dJ2_addAll_40 : decode cJ2_addAll 40 = .ok (.istore 5, 2) := dk_54 5 (dk_at dksJ2_addAll_1 16 rfl rfl)
theorem dJ2_addAll_42 : decode cJ2_addAll 42 = .ok (.isub, 1) := dk_100 (dk_at dksJ2_addAll_1 18 rfl rfl)
theorem dJ2_addAll_43 : decode cJ2_addAll 43 = .ok (.if_icmp .le 13, 3) := dk_164 0 13 (dk_at dksJ2_addAll_1 19 rfl rfl)
theorem dJ2_addAll_46 : decode cJ2_addAll 46 = .ok (.aload_n 0, 1) := dk_42 (dk_at dksJ2_addAll_1 22 rfl rfl)
theorem dJ2_addAll_47 : decode cJ2_addAll 47 = .ok (.iload 5, 2) := dk_21 5 (dk_at dksJ2_addAll_2 0 rfl rfl)
theorem dJ2_addAll_49 : decode cJ2_addAll 49 = .ok (.iload_n 3, 1) := dk_29 (dk_at dksJ2_addAll_2 2 rfl rfl)
theorem dJ2_addAll_50 : decode cJ2_addAll 50 = .ok (.iadd, 1) := dk_96 (dk_at dksJ2_addAll_2 3 rfl rfl)
theorem dJ2_addAll_51 : decode cJ2_addAll 51 = .ok (.invokevirtual 69, 3) := dk_182 0 69 (dk_at dksJ2_addAll_2 4 rfl rfl)
theorem dJ2_addAll_54 : decode cJ2_addAll 54 = .ok (.astore 4, 2) := dk_58 4 (dk_at dksJ2_addAll_2 7 rfl rfl)
theorem dJ2_addAll_56 : decode cJ2_addAll 56 = .ok (.aload_n 2, 1) := dk_44 (dk_at dksJ2_addAll_2 9 rfl rfl)
theorem dJ2_addAll_57 : decode cJ2_addAll 57 = .ok (.iconst 0, 1) := dk_3 (dk_at dksJ2_addAll_2 10 rfl rfl)
theorem dJ2_addAll_58 : decode cJ2_addAll 58 = .ok (.aload 4, 2) := dk_25 4 (dk_at dksJ2_addAll_2 11 rfl rfl)
theorem dJ2_addAll_60 : decode cJ2_addAll 60 = .ok (.iload 5, 2) := dk_21 5 (dk_at dksJ2_addAll_2 13 rfl rfl)
theorem dJ2_addAll_62 : decode cJ2_addAll 62 = .ok (.iload_n 3, 1) := dk_29 (dk_at dksJ2_addAll_2 15 rfl rfl)
theorem dJ2_addAll_63 : decode cJ2_addAll 63 = .ok (.invokestatic 112, 3) := dk_184 0 112 (dk_at dksJ2_addAll_2 16 rfl rfl)
theorem dJ2_addAll_66 : decode cJ2_addAll 66 = .ok (.aload_n 0, 1) := dk_42 (dk_at dksJ2_addAll_2 19 rfl rfl)
theorem dJ2_addAll_67 : decode cJ2_addAll 67 = .ok (.iload 5, 2) := dk_21 5 (dk_at dksJ2_addAll_2 20 rfl rfl)
theorem dJ2_addAll_69 : decode cJ2_addAll 69 = .ok (.iload_n 3, 1) := dk_29 (dk_at dksJ2_addAll_2 22 rfl rfl)
theorem dJ2_addAll_70 : decode cJ2_addAll 70 = .ok (.iadd, 1) := dk_96 (dk_at dksJ2_addAll_2 23 rfl rfl)
theorem dJ2_addAll_71 : decode cJ2_addAll 71 = .ok (.putfield 48, 3) := dk_181 0 48 (dk_at dksJ2_addAll_3 0 rfl rfl)
theorem dJ2_addAll_74 : decode cJ2_addAll 74 = .ok (.iconst 1, 1) := dk_4 (dk_at dksJ2_addAll_3 3 rfl rfl)
theorem dJ2_addAll_75 : decode cJ2_addAll 75 = .ok (.ireturn, 1) := dk_172 (dk_at dksJ2_addAll_3 4 rfl rfl)
theorem dmF_I_toArray0 : (⟨"java/util/Collection", "toArray", "()[Ljava/lang/Object;"⟩ : MethodName).cls ≠ "java/lang/invoke/MethodHandle" ∧ (⟨"java/util/Collection", "toArray", "()[Ljava/lang/Object;"⟩ : MethodName).cls ≠ "java/lang/invoke/VarHandle" ∧ (parseMethodDescriptor (⟨"java/util/Collection", "toArray", "()[Ljava/lang/Object;"⟩ : MethodName).desc).map (fun d => d.parameters.length) = some 0 := by decide +kernel
section CP
variable {Γ : Gc} {p : Program} {l : Launch} {e : Env} {s : State} {m : MethodId} {args : Array Value} {below : List Frame} {meth : Method} {c : Code} {ex : Nat → Option Nat} {z : Nat} {tF : St}
noncomputable def fJ2_addAll_56 (ex : Nat → Option Nat) (z : Nat) (h0 : Nat) (h2 : Nat) (x3 : Int32) (h4 : Nat) (x5 : Int32) (t : St) : Option (Int32 × St) := ccopyQ 4 [4, 5, 6, 7, 8, 9, 11, 12, 13, 14, 16, 17, 18, 19, 20] t h2 0 h4 x5 x3 fun t1 => cput [15] 2 t1 h0 (.int (x5 + x3)) fun t2 => some (1, t2)
set_option maxHeartbeats 4000000 in
theorem wJ2_addAll_56 {rF : Int32} (hex : ex = Γ.2.2.2.2) (X : g_X Γ p s m args meth c cJ2_addAll 6 RJ2) (hr : meth.sig.returnType = (some .boolean)) (h0 : Nat) (h2 : Nat) (x3 : Int32) (h4 : Nat) (x5 : Int32) (t : St) : Wf Γ p l e 4 88 s m args below meth c 6 (g_ι z) v_i rF tF 56 [(0, .ref h0), (2, .ref h2), (3, .int x3), (4, .ref h4), (5, .int x5)] [] t (fJ2_addAll_56 ex z h0 h2 x3 h4 x5 t) := by
  unfold fJ2_addAll_56
  refine g_aload_n (pc := 56) X 1 dJ2_addAll_56 rfl rfl ?_
  refine g_iconst (pc := 57) X 0 dJ2_addAll_57 rfl ?_
  refine g_aload (pc := 58) X 3 dJ2_addAll_58 rfl ?_
  refine g_iload (pc := 60) X 4 dJ2_addAll_60 rfl ?_
  refine g_iload_n (pc := 62) X 2 dJ2_addAll_62 rfl rfl ?_
  refine cg_copyQ (pc := 63) X (j := 4) (cs := [4, 5, 6, 7, 8, 9, 11, 12, 13, 14, 16, 17, 18, 19, 20]) rfl cf_java_lang_Object_15 dJ2_addAll_63 q349 q328 q327 q86 (Nat.le_of_ble_eq_true rfl) (Nat.le_of_ble_eq_true rfl) (fun t1 => ?_)
  refine g_aload_n (pc := 66) X 0 dJ2_addAll_66 rfl rfl ?_
  refine g_iload (pc := 67) X 4 dJ2_addAll_67 rfl ?_
  refine g_iload_n (pc := 69) X 2 dJ2_addAll_69 rfl rfl ?_
  refine g_iadd (pc := 70) X dJ2_addAll_70 ?_
  refine cg_put (pc := 71) X fp_J2_48 dJ2_addAll_71 (fun h => by cases h) rfl rfl (fun t2 => ?_)
  refine g_iconst (pc := 74) X 1 dJ2_addAll_74 rfl ?_
  exact g_zret (pc := 75) X hr rfl dJ2_addAll_75
noncomputable def fJ2_addAll (ex : Nat → Option Nat) (z : Nat) (h0 : Nat) (h1 : Nat) (t : St) : Option (Int32 × St) := ccast [15] t h1 (gb (fJ2_toArray ex (z + t.2.1) h1 (t.1, 0, 0)) t fun r1 t2 => cgI [15] 0 t2 h0 fun v8 => cput [15] 0 t2 h0 (.int (v8 + 1)) fun t9 => calen t9 r1 fun v10 => if v10 = 0 then some (0, t9) else cgA [15] 1 t9 h0 fun v11 => calen t9 v11 fun v12 => cgI [15] 2 t9 h0 fun v13 => if v10 ≤ v12 - v13 then fJ2_addAll_56 ex z h0 r1 v10 v11 v13 t9 else ccast [15] t9 h0 (gb (fJ2_grow_2 ex (z + t9.2.1) h0 (v13 + v10) (t9.1, 0, 0)) t9 fun r14 t15 => fJ2_addAll_56 ex z h0 r1 v10 r14 v13 t15))
set_option maxHeartbeats 4000000 in
theorem wJ2_addAll {rF : Int32} (hex : ex = Γ.2.2.2.2) (X : g_X Γ p s m args meth c cJ2_addAll 6 RJ2) (hr : meth.sig.returnType = (some .boolean)) (h0 : Nat) (h1 : Nat) (t : St) : Wf Γ p l e 4 88 s m args below meth c 6 (g_ι z) v_i rF tF 0 [(0, .ref h0), (1, .ref h1)] [] t (fJ2_addAll ex z h0 h1 t) := by
  unfold fJ2_addAll
  refine g_aload_n (pc := 0) X 1 dJ2_addAll_0 rfl rfl ?_
  refine g_bDF_a (pc := 1) X (cs := [15]) (As := []) (rest := []) (b := h1) (n := 0) dJ2_addAll_1 rfl rfl (Nat.le_of_ble_eq_true rfl) (fun fl3 ci4 fs5 hs6 hci7 r u h => ?_) (fun r1 t2 => ?_)
  · obtain rfl := List.mem_singleton.mp hci7
    exact ⟨_, _, _, yJ2_toArray, _, _, _, 3, 65, rfl, kJ2_toArray hex h, ⟨_, va_cwF 0 X.2.2.2.2.1 (lw_F q1350 q1354 q1356 q74 q1358) rfl rfl rfl (X.2.2.2.2.2.2.1.fw ⟨by decide, by decide⟩ q1352 q1351 q1357 q1355 q1353) dmF_I_toArray0 ⟨Nat.le_of_ble_eq_true rfl, Nat.le_of_ble_eq_true rfl⟩⟩⟩
  refine g_astore_n (pc := 6) X (lv' := [(2, .ref r1), (0, .ref h0), (1, .ref h1)]) dJ2_addAll_6 rfl (by decide) rfl ?_
  refine g_aload_n (pc := 7) X 1 dJ2_addAll_7 rfl rfl ?_
  refine g_dup (pc := 8) X dJ2_addAll_8 rfl ?_
  refine cg_getI (pc := 9) X fo_J2_63 dJ2_addAll_9 (fun v8 => ?_)
  refine g_iconst (pc := 12) X 1 dJ2_addAll_12 rfl ?_
  refine g_iadd (pc := 13) X dJ2_addAll_13 ?_
  refine cg_put (pc := 14) X fp_J2_63 dJ2_addAll_14 (fun h => by cases h) rfl rfl (fun t9 => ?_)
  refine g_aload_n (pc := 17) X 0 dJ2_addAll_17 rfl rfl ?_
  refine cg_alen (pc := 18) X dJ2_addAll_18 (fun v10 => ?_)
  refine g_istore_n (pc := 19) X (lv' := [(3, .int v10), (2, .ref r1), (0, .ref h0), (1, .ref h1)]) dJ2_addAll_19 rfl (by decide) rfl ?_
  refine g_iload_n (pc := 20) X 0 dJ2_addAll_20 rfl rfl ?_
  refine g_if_ne (pc := 21) X 26 dJ2_addAll_21 (by decide) ?_ ?_
  · refine g_iload_n (pc := 26) X 0 dJ2_addAll_26 rfl rfl ?_
    refine g_aload_n (pc := 27) X 2 dJ2_addAll_27 rfl rfl ?_
    refine cg_getA (pc := 28) X fo_J2_9 dJ2_addAll_28 (fun v11 => ?_)
    refine g_dup (pc := 31) X dJ2_addAll_31 rfl ?_
    refine g_astore (pc := 32) X (lv' := [(4, .ref v11), (3, .int v10), (2, .ref r1), (0, .ref h0), (1, .ref h1)]) dJ2_addAll_32 (by decide) rfl ?_
    refine cg_alen (pc := 34) X dJ2_addAll_34 (fun v12 => ?_)
    refine g_aload_n (pc := 35) X 3 dJ2_addAll_35 rfl rfl ?_
    refine cg_getI (pc := 36) X fo_J2_48 dJ2_addAll_36 (fun v13 => ?_)
    refine g_dup (pc := 39) X dJ2_addAll_39 rfl ?_
    refine g_istore (pc := 40) X (lv' := [(5, .int v13), (4, .ref v11), (3, .int v10), (2, .ref r1), (0, .ref h0), (1, .ref h1)]) dJ2_addAll_40 (by decide) rfl ?_
    refine g_isub (pc := 42) X dJ2_addAll_42 ?_
    refine g_icmp_le (pc := 43) X 56 dJ2_addAll_43 (by decide) ?_ ?_
    · exact g_lv (pc := 56) (lv' := [(0, .ref h0), (2, .ref r1), (3, .int v10), (4, .ref v11), (5, .int v13)]) [4, 3, 2, 1, 0] rfl (wJ2_addAll_56 hex X hr h0 r1 v10 v11 v13 t9)
    · refine g_aload_n (pc := 46) X 4 dJ2_addAll_46 rfl rfl ?_
      refine g_iload (pc := 47) X 0 dJ2_addAll_47 rfl ?_
      refine g_iload_n (pc := 49) X 2 dJ2_addAll_49 rfl rfl ?_
      refine g_iadd (pc := 50) X dJ2_addAll_50 ?_
      refine g_bD_a (pc := 51) X (cs := [15]) (As := [.int (v13 + v10)]) (rest := []) (b := h0) (n := 1) dJ2_addAll_51 rfl rfl (Nat.le_of_ble_eq_true rfl) (fun fl16 ci17 fs18 hs19 hci20 r u h => ?_) (fun r14 t15 => ?_)
      · obtain rfl := List.mem_singleton.mp hci20
        exact ⟨_, _, _, yJ2_grow_2, _, _, _, 3, 65, rfl, kJ2_grow_2 hex h, Or.inl (cwV 1 X.2.2.2.2.1 (lw_V q267 q269 qs2 q74 q270) rfl rfl rfl dmV_J2_grow_2 ⟨Nat.le_of_ble_eq_true rfl, Nat.le_of_ble_eq_true rfl⟩)⟩
      refine g_astore (pc := 54) X (lv' := [(4, .ref r14), (5, .int v13), (3, .int v10), (2, .ref r1), (0, .ref h0), (1, .ref h1)]) dJ2_addAll_54 (by decide) rfl ?_
      exact g_lv (pc := 56) (lv' := [(0, .ref h0), (2, .ref r1), (3, .int v10), (4, .ref r14), (5, .int v13)]) [4, 3, 2, 0, 1] rfl (wJ2_addAll_56 hex X hr h0 r1 v10 r14 v13 t15)
  · refine g_iconst (pc := 24) X 0 dJ2_addAll_24 rfl ?_
    exact g_zret (pc := 25) X hr rfl dJ2_addAll_25
theorem kJ2_addAll {ex : Nat → Option Nat} {z : Nat} {h0 : Nat} {h1 : Nat} {σ : Sg} {r : Int32} {u : St} (hex : ex = Γ.2.2.2.2) (h : fJ2_addAll ex z h0 h1 (σ, 0, 0) = some (r, u)) : g_C Γ l yJ2_addAll cJ2_addAll 6 (some .boolean) 4 88 [.ref h0, .ref h1] σ z v_i r (g_ι z u) :=
  g_met (ι := g_ι z) (t := (σ, 0, 0)) [.ref h0, .ref h1] (by decide) (Nat.le_of_ble_eq_true rfl) h rfl (fun p e s m args below meth c X hr hn => wJ2_addAll hex X hr h0 h1 (σ, 0, 0))
end CP
abbrev cJ8_indexOf : ByteArray := prog_41_method_79_code
def yJ8_indexOf : MethodName := ⟨RJ8, "indexOf", "(I)I"⟩
def dkwJ8_indexOf_0 : List UInt8 := [42, 27, 3, 182, 2, 121, 172]
abbrev dktJ8_indexOf_0 : List UInt8 := dkwJ8_indexOf_0 ++ []
theorem dksJ8_indexOf_0 : cJ8_indexOf.data.toList.drop 0 = dktJ8_indexOf_0 := by decide +kernel
theorem dJ8_indexOf_0 : decode cJ8_indexOf 0 = .ok (.aload_n 0, 1) := dk_42 (dk_at dksJ8_indexOf_0 0 rfl rfl)
theorem dJ8_indexOf_1 : decode cJ8_indexOf 1 = .ok (.iload_n 1, 1) := dk_27 (dk_at dksJ8_indexOf_0 1 rfl rfl)
theorem dJ8_indexOf_2 : decode cJ8_indexOf 2 = .ok (.iconst 0, 1) := dk_3 (dk_at dksJ8_indexOf_0 2 rfl rfl)
theorem dJ8_indexOf_3 : decode cJ8_indexOf 3 = .ok (.invokevirtual 633, 3) := dk_182 2 121 (dk_at dksJ8_indexOf_0 3 rfl rfl)
theorem dJ8_indexOf_6 : decode cJ8_indexOf 6 = .ok (.ireturn, 1) := dk_172 (dk_at dksJ8_indexOf_0 6 rfl rfl)
theorem dmV_J8_indexOf_2 : yJ8_indexOf_2.cls = RJ8 ∧ yJ8_indexOf_2.cls ≠ "java/lang/invoke/MethodHandle" ∧ yJ8_indexOf_2.cls ≠ "java/lang/invoke/VarHandle" ∧ (parseMethodDescriptor yJ8_indexOf_2.desc).map (fun d => d.parameters.length) = some 2 := by decide +kernel
section CP
variable {Γ : Gc} {p : Program} {l : Launch} {e : Env} {s : State} {m : MethodId} {args : Array Value} {below : List Frame} {meth : Method} {c : Code} {ex : Nat → Option Nat} {z : Nat} {tF : St}
noncomputable def fJ8_indexOf (ex : Nat → Option Nat) (z : Nat) (h0 : Nat) (x1 : Int32) (t : St) : Option (Int32 × St) := ccast [21] t h0 (gb (fJ8_indexOf_2 ex (z + t.2.1) h0 x1 0 (t.1, 0, 0)) t fun r1 t2 => some (r1, t2))
set_option maxHeartbeats 4000000 in
theorem wJ8_indexOf {rF : Int32} (hex : ex = Γ.2.2.2.2) (X : g_X Γ p s m args meth c cJ8_indexOf 2 RJ8) (hr : meth.sig.returnType = (some .int)) (h0 : Nat) (x1 : Int32) (t : St) : Wf Γ p l e 3 70 s m args below meth c 2 (g_ι z) v_i rF tF 0 [(0, .ref h0), (1, .int x1)] [] t (fJ8_indexOf ex z h0 x1 t) := by
  unfold fJ8_indexOf
  refine g_aload_n (pc := 0) X 0 dJ8_indexOf_0 rfl rfl ?_
  refine g_iload_n (pc := 1) X 1 dJ8_indexOf_1 rfl rfl ?_
  refine g_iconst (pc := 2) X 0 dJ8_indexOf_2 rfl ?_
  refine g_bD_i (pc := 3) X (cs := [21]) (As := [.int x1, .int 0]) (rest := []) (b := h0) (n := 2) dJ8_indexOf_3 rfl rfl (Nat.le_of_ble_eq_true rfl) (fun fl3 ci4 fs5 hs6 hci7 r u h => ?_) (fun r1 t2 => ?_)
  · obtain rfl := List.mem_singleton.mp hci7
    exact ⟨_, _, _, yJ8_indexOf_2, _, _, _, 2, 48, rfl, kJ8_indexOf_2 hex h, Or.inl (cwV 2 X.2.2.2.2.1 (lw_V q1107 q1108 q1109 q89 q1110) rfl rfl rfl dmV_J8_indexOf_2 ⟨Nat.le_of_ble_eq_true rfl, Nat.le_of_ble_eq_true rfl⟩)⟩
  exact g_iret (pc := 6) X hr dJ8_indexOf_6
theorem kJ8_indexOf {ex : Nat → Option Nat} {z : Nat} {h0 : Nat} {x1 : Int32} {σ : Sg} {r : Int32} {u : St} (hex : ex = Γ.2.2.2.2) (h : fJ8_indexOf ex z h0 x1 (σ, 0, 0) = some (r, u)) : g_C Γ l yJ8_indexOf cJ8_indexOf 2 (some .int) 3 70 [.ref h0, .int x1] σ z v_i r (g_ι z u) :=
  g_met (ι := g_ι z) (t := (σ, 0, 0)) [.ref h0, .int x1] (by decide) (Nat.le_of_ble_eq_true rfl) h rfl (fun p e s m args below meth c X hr hn => wJ8_indexOf hex X hr h0 x1 (σ, 0, 0))
end CP
abbrev cX0_rate : ByteArray := prog_1_method_10_code
def yX0_rate : MethodName := ⟨RX0, "rate", "(I)I"⟩
def dkwX0_rate_1 : List UInt8 := [17, 252, 23, 172]
abbrev dktX0_rate_1 : List UInt8 := dkwX0_rate_1 ++ []
def dkwX0_rate_0 : List UInt8 := [42, 27, 182, 0, 107, 153, 0, 17, 42, 180, 0, 38, 27, 182, 0, 111, 180, 0, 32, 167, 0, 6]
abbrev dktX0_rate_0 : List UInt8 := dkwX0_rate_0 ++ dktX0_rate_1
theorem dksX0_rate_0 : cX0_rate.data.toList.drop 0 = dktX0_rate_0 := by decide +kernel
theorem dksX0_rate_1 : cX0_rate.data.toList.drop 22 = dktX0_rate_1 := dk_seg dksX0_rate_0 22 rfl rfl
theorem dX0_rate_0 : decode cX0_rate 0 = .ok (.aload_n 0, 1) := dk_42 (dk_at dksX0_rate_0 0 rfl rfl)
theorem dX0_rate_1 : decode cX0_rate 1 = .ok (.iload_n 1, 1) := dk_27 (dk_at dksX0_rate_0 1 rfl rfl)
theorem dX0_rate_2 : decode cX0_rate 2 = .ok (.invokevirtual 107, 3) := dk_182 0 107 (dk_at dksX0_rate_0 2 rfl rfl)
theorem dX0_rate_5 : decode cX0_rate 5 = .ok (.ifCond .eq 17, 3) := dk_153 0 17 (dk_at dksX0_rate_0 5 rfl rfl)
theorem dX0_rate_8 : decode cX0_rate 8 = .ok (.aload_n 0, 1) := dk_42 (dk_at dksX0_rate_0 8 rfl rfl)
theorem dX0_rate_9 : decode cX0_rate 9 = .ok (.getfield 38, 3) := dk_180 0 38 (dk_at dksX0_rate_0 9 rfl rfl)
theorem dX0_rate_12 : decode cX0_rate 12 = .ok (.iload_n 1, 1) := dk_27 (dk_at dksX0_rate_0 12 rfl rfl)
theorem dX0_rate_13 : decode cX0_rate 13 = .ok (.invokevirtual 111, 3) := dk_182 0 111 (dk_at dksX0_rate_0 13 rfl rfl)
theorem dX0_rate_16 : decode cX0_rate 16 = .ok (.getfield 32, 3) := dk_180 0 32 (dk_at dksX0_rate_0 16 rfl rfl)
theorem dX0_rate_19 : decode cX0_rate 19 = .ok (.goto 6, 3) := dk_167 0 6 (dk_at dksX0_rate_0 19 rfl rfl)
theorem dX0_rate_22 : decode cX0_rate 22 = .ok (.sipush (-1001), 3) := dk_17 252 23 (dk_at dksX0_rate_1 0 rfl rfl)
theorem dX0_rate_25 : decode cX0_rate 25 = .ok (.ireturn, 1) := dk_172 (dk_at dksX0_rate_1 3 rfl rfl)
theorem fo_X0_32 : g_fo RX0 32 [4, 5, 6, 7, 8, 9] 2 := ⟨_, _, _, Or.inl q159, fun ci h => by
  simp only [List.mem_cons, List.not_mem_nil, or_false] at h; rcases h with rfl | rfl | rfl | rfl | rfl | rfl
  · exact ⟨_, _, _, rfl, by decide, rfl, rfl, Or.inl rfl, in_X4⟩
  · exact ⟨_, _, _, rfl, by decide, rfl, rfl, Or.inl rfl, in_X5⟩
  · exact ⟨_, _, _, rfl, by decide, rfl, rfl, Or.inl rfl, in_X6⟩
  · exact ⟨_, _, _, rfl, by decide, rfl, rfl, Or.inl rfl, in_X7⟩
  · exact ⟨_, _, _, rfl, by decide, rfl, rfl, Or.inl rfl, in_X8⟩
  · exact ⟨_, _, _, rfl, by decide, rfl, rfl, Or.inl rfl, in_X9⟩⟩
section CP
variable {Γ : Gc} {p : Program} {l : Launch} {e : Env} {s : State} {m : MethodId} {args : Array Value} {below : List Frame} {meth : Method} {c : Code} {ex : Nat → Option Nat} {z : Nat} {tF : St}
noncomputable def fX0_rate (ex : Nat → Option Nat) (z : Nat) (h0 : Nat) (x1 : Int32) (t : St) : Option (Int32 × St) := ccast [0] t h0 (gb (fX0_isClock ex (z + t.2.1) h0 x1 (t.1, 0, 0)) t fun r1 t2 => if r1 = 0 then some ((-1001), t2) else cgA [0] 0 t2 h0 fun v8 => ccast [1] t2 v8 (gb (fX1_clock ex (z + t2.2.1) v8 x1 (t2.1, 0, 0)) t2 fun r9 t10 => cgI [4, 5, 6, 7, 8, 9] 2 t10 r9 fun v16 => some (v16, t10)))
set_option maxHeartbeats 4000000 in
theorem wX0_rate {rF : Int32} (hex : ex = Γ.2.2.2.2) (X : g_X Γ p s m args meth c cX0_rate 2 RX0) (hr : meth.sig.returnType = (some .int)) (h0 : Nat) (x1 : Int32) (t : St) : Wf Γ p l e 4 85 s m args below meth c 2 (g_ι z) v_i rF tF 0 [(0, .ref h0), (1, .int x1)] [] t (fX0_rate ex z h0 x1 t) := by
  unfold fX0_rate
  refine g_aload_n (pc := 0) X 0 dX0_rate_0 rfl rfl ?_
  refine g_iload_n (pc := 1) X 1 dX0_rate_1 rfl rfl ?_
  refine g_bD_i (pc := 2) X (cs := [0]) (As := [.int x1]) (rest := []) (b := h0) (n := 1) dX0_rate_2 rfl rfl (Nat.le_of_ble_eq_true rfl) (fun fl3 ci4 fs5 hs6 hci7 r u h => ?_) (fun r1 t2 => ?_)
  · obtain rfl := List.mem_singleton.mp hci7
    exact ⟨_, _, _, yX0_isClock, _, _, _, 2, 40, rfl, kX0_isClock hex h, Or.inl (cwV 1 X.2.2.2.2.1 (lw_V q368 q370 qs4 q70 q372) rfl rfl rfl dmV_X0_isClock ⟨Nat.le_of_ble_eq_true rfl, Nat.le_of_ble_eq_true rfl⟩)⟩
  refine g_if_eq (pc := 5) X 22 dX0_rate_5 (by decide) ?_ ?_
  · refine g_sipush (pc := 22) X (-1001) dX0_rate_22 rfl ?_
    exact g_iret (pc := 25) X hr dX0_rate_25
  · refine g_aload_n (pc := 8) X 0 dX0_rate_8 rfl rfl ?_
    refine cg_getA (pc := 9) X fo_X0_38 dX0_rate_9 (fun v8 => ?_)
    refine g_iload_n (pc := 12) X 1 dX0_rate_12 rfl rfl ?_
    refine g_bD_a (pc := 13) X (cs := [1]) (As := [.int x1]) (rest := []) (b := v8) (n := 1) dX0_rate_13 rfl rfl (Nat.le_of_ble_eq_true rfl) (fun fl11 ci12 fs13 hs14 hci15 r u h => ?_) (fun r9 t10 => ?_)
    · obtain rfl := List.mem_singleton.mp hci15
      exact ⟨_, _, _, yX1_clock, _, _, _, 3, 64, rfl, kX1_clock hex h, Or.inl (cwV 1 X.2.2.2.2.1 (lw_V q373 q374 q375 q71 q376) rfl rfl rfl dmV_X1_clock ⟨Nat.le_of_ble_eq_true rfl, Nat.le_of_ble_eq_true rfl⟩)⟩
    refine cg_getI (pc := 16) X fo_X0_32 dX0_rate_16 (fun v16 => ?_)
    refine g_goto (pc := 19) X 25 dX0_rate_19 (by decide) ?_
    exact g_iret (pc := 25) X hr dX0_rate_25
theorem kX0_rate {ex : Nat → Option Nat} {z : Nat} {h0 : Nat} {x1 : Int32} {σ : Sg} {r : Int32} {u : St} (hex : ex = Γ.2.2.2.2) (h : fX0_rate ex z h0 x1 (σ, 0, 0) = some (r, u)) : g_C Γ l yX0_rate cX0_rate 2 (some .int) 4 85 [.ref h0, .int x1] σ z v_i r (g_ι z u) :=
  g_met (ι := g_ι z) (t := (σ, 0, 0)) [.ref h0, .int x1] (by decide) (Nat.le_of_ble_eq_true rfl) h rfl (fun p e s m args below meth c X hr hn => wX0_rate hex X hr h0 x1 (σ, 0, 0))
end CP
abbrev cX0_count : ByteArray := prog_1_method_14_code
def yX0_count : MethodName := ⟨RX0, "count", "(I)I"⟩
def dkwX0_count_4 : List UInt8 := [42, 180, 0, 101, 182, 0, 92, 172, 42, 180, 0, 38, 182, 0, 162, 172, 2, 172]
abbrev dktX0_count_4 : List UInt8 := dkwX0_count_4 ++ []
def dkwX0_count_3 : List UInt8 := [42, 180, 0, 38, 182, 0, 156, 172, 42, 180, 0, 38, 180, 0, 159, 172, 42, 180, 0, 89, 182, 0, 92, 172]
abbrev dktX0_count_3 : List UInt8 := dkwX0_count_3 ++ dktX0_count_4
def dkwX0_count_2 : List UInt8 := [42, 180, 0, 38, 180, 0, 150, 172, 42, 180, 0, 38, 182, 0, 42, 172, 42, 180, 0, 38, 180, 0, 153, 172]
abbrev dktX0_count_2 : List UInt8 := dkwX0_count_2 ++ dktX0_count_3
def dkwX0_count_1 : List UInt8 := [170, 0, 0, 0, 0, 0, 111, 0, 0, 0, 0, 0, 0, 0, 7, 0, 0, 0, 47, 0, 0, 0, 55, 0, 0, 0, 63, 0, 0, 0, 71, 0, 0, 0, 79, 0, 0, 0, 87, 0, 0, 0, 95, 0, 0, 0, 103]
abbrev dktX0_count_1 : List UInt8 := dkwX0_count_1 ++ dktX0_count_2
def dkwX0_count_0 : List UInt8 := [27]
abbrev dktX0_count_0 : List UInt8 := dkwX0_count_0 ++ dktX0_count_1
theorem dksX0_count_0 : cX0_count.data.toList.drop 0 = dktX0_count_0 := by decide +kernel
theorem dksX0_count_1 : cX0_count.data.toList.drop 1 = dktX0_count_1 := dk_seg dksX0_count_0 1 rfl rfl
theorem dksX0_count_2 : cX0_count.data.toList.drop 48 = dktX0_count_2 := dk_seg dksX0_count_1 47 rfl rfl
theorem dksX0_count_3 : cX0_count.data.toList.drop 72 = dktX0_count_3 := dk_seg dksX0_count_2 24 rfl rfl
theorem dksX0_count_4 : cX0_count.data.toList.drop 96 = dktX0_count_4 := dk_seg dksX0_count_3 24 rfl rfl
theorem dX0_count_0 : decode cX0_count 0 = .ok (.iload_n 1, 1) := dk_27 (dk_at dksX0_count_0 0 rfl rfl)
theorem dX0_count_1 : decode cX0_count 1 = .ok (.tableswitch 111 0 7 #[47, 55, 63, 71, 79, 87, 95, 103], 47) := by decide +kernel
theorem dX0_count_48 : decode cX0_count 48 = .ok (.aload_n 0, 1) := dk_42 (dk_at dksX0_count_2 0 rfl rfl)
theorem dX0_count_49 : decode cX0_count 49 = .ok (.getfield 38, 3) := dk_180 0 38 (dk_at dksX0_count_2 1 rfl rfl)
theorem dX0_count_52 : decode cX0_count 52 = .ok (.getfield 150, 3) := dk_180 0 150 (dk_at dksX0_count_2 4 rfl rfl)
theorem dX0_count_55 : decode cX0_count 55 = .ok (.ireturn, 1) := dk_172 (dk_at dksX0_count_2 7 rfl rfl)
theorem dX0_count_56 : decode cX0_count 56 = .ok (.aload_n 0, 1) := dk_42 (dk_at dksX0_count_2 8 rfl rfl)
theorem dX0_count_57 : decode cX0_count 57 = .ok (.getfield 38, 3) := dk_180 0 38 (dk_at dksX0_count_2 9 rfl rfl)
theorem dX0_count_60 : decode cX0_count 60 = .ok (.invokevirtual 42, 3) := dk_182 0 42 (dk_at dksX0_count_2 12 rfl rfl)
theorem dX0_count_63 : decode cX0_count 63 = .ok (.ireturn, 1) := dk_172 (dk_at dksX0_count_2 15 rfl rfl)
theorem dX0_count_64 : decode cX0_count 64 = .ok (.aload_n 0, 1) := dk_42 (dk_at dksX0_count_2 16 rfl rfl)
theorem dX0_count_65 : decode cX0_count 65 = .ok (.getfield 38, 3) := dk_180 0 38 (dk_at dksX0_count_2 17 rfl rfl)
theorem dX0_count_68 : decode cX0_count 68 = .ok (.getfield 153, 3) := dk_180 0 153 (dk_at dksX0_count_2 20 rfl rfl)
theorem dX0_count_71 : decode cX0_count 71 = .ok (.ireturn, 1) := dk_172 (dk_at dksX0_count_2 23 rfl rfl)
theorem dX0_count_72 : decode cX0_count 72 = .ok (.aload_n 0, 1) := dk_42 (dk_at dksX0_count_3 0 rfl rfl)
theorem dX0_count_73 : decode cX0_count 73 = .ok (.getfield 38, 3) := dk_180 0 38 (dk_at dksX0_count_3 1 rfl rfl)
theorem dX0_count_76 : decode cX0_count 76 = .ok (.invokevirtual 156, 3) := dk_182 0 156 (dk_at dksX0_count_3 4 rfl rfl)
theorem dX0_count_79 : decode cX0_count 79 = .ok (.ireturn, 1) := dk_172 (dk_at dksX0_count_3 7 rfl rfl)
theorem dX0_count_80 : decode cX0_count 80 = .ok (.aload_n 0, 1) := dk_42 (dk_at dksX0_count_3 8 rfl rfl)
theorem dX0_count_81 : decode cX0_count 81 = .ok (.getfield 38, 3) := dk_180 0 38 (dk_at dksX0_count_3 9 rfl rfl)
theorem dX0_count_84 : decode cX0_count 84 = .ok (.getfield 159, 3) := dk_180 0 159 (dk_at dksX0_count_3 12 rfl rfl)
theorem dX0_count_87 : decode cX0_count 87 = .ok (.ireturn, 1) := dk_172 (dk_at dksX0_count_3 15 rfl rfl)
theorem dX0_count_88 : decode cX0_count 88 = .ok (.aload_n 0, 1) := dk_42 (dk_at dksX0_count_3 16 rfl rfl)
theorem dX0_count_89 : decode cX0_count 89 = .ok (.getfield 89, 3) := dk_180 0 89 (dk_at dksX0_count_3 17 rfl rfl)
theorem dX0_count_92 : decode cX0_count 92 = .ok (.invokevirtual 92, 3) := dk_182 0 92 (dk_at dksX0_count_3 20 rfl rfl)
theorem dX0_count_95 : decode cX0_count 95 = .ok (.ireturn, 1) := dk_172 (dk_at dksX0_count_3 23 rfl rfl)
theorem dX0_count_96 : decode cX0_count 96 = .ok (.aload_n 0, 1) := dk_42 (dk_at dksX0_count_4 0 rfl rfl)
theorem dX0_count_97 : decode cX0_count 97 = .ok (.getfield 101, 3) := dk_180 0 101 (dk_at dksX0_count_4 1 rfl rfl)
theorem dX0_count_100 : decode cX0_count 100 = .ok (.invokevirtual 92, 3) := dk_182 0 92 (dk_at dksX0_count_4 4 rfl rfl)
theorem dX0_count_103 : decode cX0_count 103 = .ok (.ireturn, 1) := dk_172 (dk_at dksX0_count_4 7 rfl rfl)
theorem dX0_count_104 : decode cX0_count 104 = .ok (.aload_n 0, 1) := dk_42 (dk_at dksX0_count_4 8 rfl rfl)
theorem dX0_count_105 : decode cX0_count 105 = .ok (.getfield 38, 3) := dk_180 0 38 (dk_at dksX0_count_4 9 rfl rfl)
theorem dX0_count_108 : decode cX0_count 108 = .ok (.invokevirtual 162, 3) := dk_182 0 162 (dk_at dksX0_count_4 12 rfl rfl)
theorem dX0_count_111 : decode cX0_count 111 = .ok (.ireturn, 1) := dk_172 (dk_at dksX0_count_4 15 rfl rfl)
theorem dX0_count_112 : decode cX0_count 112 = .ok (.iconst (-1), 1) := dk_2 (dk_at dksX0_count_4 16 rfl rfl)
theorem dX0_count_113 : decode cX0_count 113 = .ok (.ireturn, 1) := dk_172 (dk_at dksX0_count_4 17 rfl rfl)
theorem fo_X0_150 : g_fo RX0 150 [1] 0 := ⟨_, _, _, Or.inr ⟨_, q1560⟩, fun ci h => by
  simp only [List.mem_cons, List.not_mem_nil, or_false] at h; rcases h with rfl
  · exact ⟨_, _, _, rfl, by decide, rfl, rfl, Or.inl rfl, in_X1⟩⟩
theorem fo_X0_153 : g_fo RX0 153 [1] 3 := ⟨_, _, _, Or.inr ⟨_, q1567⟩, fun ci h => by
  simp only [List.mem_cons, List.not_mem_nil, or_false] at h; rcases h with rfl
  · exact ⟨_, _, _, rfl, by decide, rfl, rfl, Or.inl rfl, in_X1⟩⟩
theorem fo_X0_159 : g_fo RX0 159 [1] 8 := ⟨_, _, _, Or.inr ⟨_, q1577⟩, fun ci h => by
  simp only [List.mem_cons, List.not_mem_nil, or_false] at h; rcases h with rfl
  · exact ⟨_, _, _, rfl, by decide, rfl, rfl, Or.inl rfl, in_X1⟩⟩
theorem dmV_X1_homes : yX1_homes.cls = RX1 ∧ yX1_homes.cls ≠ "java/lang/invoke/MethodHandle" ∧ yX1_homes.cls ≠ "java/lang/invoke/VarHandle" ∧ (parseMethodDescriptor yX1_homes.desc).map (fun d => d.parameters.length) = some 0 := by decide +kernel
theorem dmV_X1_ties : yX1_ties.cls = RX1 ∧ yX1_ties.cls ≠ "java/lang/invoke/MethodHandle" ∧ yX1_ties.cls ≠ "java/lang/invoke/VarHandle" ∧ (parseMethodDescriptor yX1_ties.desc).map (fun d => d.parameters.length) = some 0 := by decide +kernel
section CP
variable {Γ : Gc} {p : Program} {l : Launch} {e : Env} {s : State} {m : MethodId} {args : Array Value} {below : List Frame} {meth : Method} {c : Code} {ex : Nat → Option Nat} {z : Nat} {tF : St}
noncomputable def fX0_count (ex : Nat → Option Nat) (z : Nat) (h0 : Nat) (x1 : Int32) (t : St) : Option (Int32 × St) := if x1 = 0 then cgA [0] 0 t h0 fun v2 => cgI [1] 0 t v2 fun v3 => some (v3, t) else if x1 = 1 then cgA [0] 0 t h0 fun v5 => ccast [1] t v5 (gb (fX1_size ex (z + t.2.1) v5 (t.1, 0, 0)) t fun r6 t7 => some (r6, t7)) else if x1 = 2 then cgA [0] 0 t h0 fun v14 => cgI [1] 3 t v14 fun v15 => some (v15, t) else if x1 = 3 then cgA [0] 0 t h0 fun v17 => ccast [1] t v17 (gb (fX1_homes ex (z + t.2.1) v17 (t.1, 0, 0)) t fun r18 t19 => some (r18, t19)) else if x1 = 4 then cgA [0] 0 t h0 fun v26 => cgI [1] 8 t v26 fun v27 => some (v27, t) else if x1 = 5 then cgA [0] 4 t h0 fun v29 => ccast [15] t v29 (gb (fJ2_size ex (z + t.2.1) v29 (t.1, 0, 0)) t fun r30 t31 => some (r30, t31)) else if x1 = 6 then cgA [0] 2 t h0 fun v38 => ccast [15] t v38 (gb (fJ2_size ex (z + t.2.1) v38 (t.1, 0, 0)) t fun r39 t40 => some (r39, t40)) else if x1 = 7 then cgA [0] 0 t h0 fun v47 => ccast [1] t v47 (gb (fX1_ties ex (z + t.2.1) v47 (t.1, 0, 0)) t fun r48 t49 => some (r48, t49)) else some ((-1), t)
set_option maxHeartbeats 4000000 in
theorem wX0_count {rF : Int32} (hex : ex = Γ.2.2.2.2) (X : g_X Γ p s m args meth c cX0_count 2 RX0) (hr : meth.sig.returnType = (some .int)) (h0 : Nat) (x1 : Int32) (t : St) : Wf Γ p l e 4 87 s m args below meth c 2 (g_ι z) v_i rF tF 0 [(0, .ref h0), (1, .int x1)] [] t (fX0_count ex z h0 x1 t) := by
  unfold fX0_count
  refine g_iload_n (pc := 0) X 1 dX0_count_0 rfl rfl ?_
  refine g_by (pc := 1) (fun hc1 => ?_) (fun hc1 => ?_)
  · refine g_tswI (pc := 1) X 0 48 dX0_count_1 hc1 (by decide) (by decide) rfl (by decide) ?_
    refine g_aload_n (pc := 48) X 0 dX0_count_48 rfl rfl ?_
    refine cg_getA (pc := 49) X fo_X0_38 dX0_count_49 (fun v2 => ?_)
    refine cg_getI (pc := 52) X fo_X0_150 dX0_count_52 (fun v3 => ?_)
    exact g_iret (pc := 55) X hr dX0_count_55
  refine g_by (pc := 1) (fun hc4 => ?_) (fun hc4 => ?_)
  · refine g_tswI (pc := 1) X 1 56 dX0_count_1 hc4 (by decide) (by decide) rfl (by decide) ?_
    refine g_aload_n (pc := 56) X 0 dX0_count_56 rfl rfl ?_
    refine cg_getA (pc := 57) X fo_X0_38 dX0_count_57 (fun v5 => ?_)
    refine g_bD_i (pc := 60) X (cs := [1]) (As := []) (rest := []) (b := v5) (n := 0) dX0_count_60 rfl rfl (Nat.le_of_ble_eq_true rfl) (fun fl8 ci9 fs10 hs11 hci12 r u h => ?_) (fun r6 t7 => ?_)
    · obtain rfl := List.mem_singleton.mp hci12
      exact ⟨_, _, _, yX1_size, _, _, _, 1, 20, rfl, kX1_size hex h, Or.inl (cwV 0 X.2.2.2.2.1 (lw_V q129 q130 q131 q71 q132) rfl rfl rfl dmV_X1_size ⟨Nat.le_of_ble_eq_true rfl, Nat.le_of_ble_eq_true rfl⟩)⟩
    exact g_iret (pc := 63) X hr dX0_count_63
  refine g_by (pc := 1) (fun hc13 => ?_) (fun hc13 => ?_)
  · refine g_tswI (pc := 1) X 2 64 dX0_count_1 hc13 (by decide) (by decide) rfl (by decide) ?_
    refine g_aload_n (pc := 64) X 0 dX0_count_64 rfl rfl ?_
    refine cg_getA (pc := 65) X fo_X0_38 dX0_count_65 (fun v14 => ?_)
    refine cg_getI (pc := 68) X fo_X0_153 dX0_count_68 (fun v15 => ?_)
    exact g_iret (pc := 71) X hr dX0_count_71
  refine g_by (pc := 1) (fun hc16 => ?_) (fun hc16 => ?_)
  · refine g_tswI (pc := 1) X 3 72 dX0_count_1 hc16 (by decide) (by decide) rfl (by decide) ?_
    refine g_aload_n (pc := 72) X 0 dX0_count_72 rfl rfl ?_
    refine cg_getA (pc := 73) X fo_X0_38 dX0_count_73 (fun v17 => ?_)
    refine g_bD_i (pc := 76) X (cs := [1]) (As := []) (rest := []) (b := v17) (n := 0) dX0_count_76 rfl rfl (Nat.le_of_ble_eq_true rfl) (fun fl20 ci21 fs22 hs23 hci24 r u h => ?_) (fun r18 t19 => ?_)
    · obtain rfl := List.mem_singleton.mp hci24
      exact ⟨_, _, _, yX1_homes, _, _, _, 3, 64, rfl, kX1_homes hex h, Or.inl (cwV 0 X.2.2.2.2.1 (lw_V q489 q490 q491 q71 q492) rfl rfl rfl dmV_X1_homes ⟨Nat.le_of_ble_eq_true rfl, Nat.le_of_ble_eq_true rfl⟩)⟩
    exact g_iret (pc := 79) X hr dX0_count_79
  refine g_by (pc := 1) (fun hc25 => ?_) (fun hc25 => ?_)
  · refine g_tswI (pc := 1) X 4 80 dX0_count_1 hc25 (by decide) (by decide) rfl (by decide) ?_
    refine g_aload_n (pc := 80) X 0 dX0_count_80 rfl rfl ?_
    refine cg_getA (pc := 81) X fo_X0_38 dX0_count_81 (fun v26 => ?_)
    refine cg_getI (pc := 84) X fo_X0_159 dX0_count_84 (fun v27 => ?_)
    exact g_iret (pc := 87) X hr dX0_count_87
  refine g_by (pc := 1) (fun hc28 => ?_) (fun hc28 => ?_)
  · refine g_tswI (pc := 1) X 5 88 dX0_count_1 hc28 (by decide) (by decide) rfl (by decide) ?_
    refine g_aload_n (pc := 88) X 0 dX0_count_88 rfl rfl ?_
    refine cg_getA (pc := 89) X fo_X0_89 dX0_count_89 (fun v29 => ?_)
    refine g_bD_i (pc := 92) X (cs := [15]) (As := []) (rest := []) (b := v29) (n := 0) dX0_count_92 rfl rfl (Nat.le_of_ble_eq_true rfl) (fun fl32 ci33 fs34 hs35 hci36 r u h => ?_) (fun r30 t31 => ?_)
    · obtain rfl := List.mem_singleton.mp hci36
      exact ⟨_, _, _, yJ2_size, _, _, _, 0, 0, rfl, kJ2_size hex h, Or.inl (cwV 0 X.2.2.2.2.1 (lw_V q350 q134 q135 q74 q136) rfl rfl rfl dmV_J2_size ⟨Nat.le_of_ble_eq_true rfl, Nat.le_of_ble_eq_true rfl⟩)⟩
    exact g_iret (pc := 95) X hr dX0_count_95
  refine g_by (pc := 1) (fun hc37 => ?_) (fun hc37 => ?_)
  · refine g_tswI (pc := 1) X 6 96 dX0_count_1 hc37 (by decide) (by decide) rfl (by decide) ?_
    refine g_aload_n (pc := 96) X 0 dX0_count_96 rfl rfl ?_
    refine cg_getA (pc := 97) X fo_X0_101 dX0_count_97 (fun v38 => ?_)
    refine g_bD_i (pc := 100) X (cs := [15]) (As := []) (rest := []) (b := v38) (n := 0) dX0_count_100 rfl rfl (Nat.le_of_ble_eq_true rfl) (fun fl41 ci42 fs43 hs44 hci45 r u h => ?_) (fun r39 t40 => ?_)
    · obtain rfl := List.mem_singleton.mp hci45
      exact ⟨_, _, _, yJ2_size, _, _, _, 0, 0, rfl, kJ2_size hex h, Or.inl (cwV 0 X.2.2.2.2.1 (lw_V q350 q134 q135 q74 q136) rfl rfl rfl dmV_J2_size ⟨Nat.le_of_ble_eq_true rfl, Nat.le_of_ble_eq_true rfl⟩)⟩
    exact g_iret (pc := 103) X hr dX0_count_103
  refine g_by (pc := 1) (fun hc46 => ?_) (fun hc46 => ?_)
  · refine g_tswI (pc := 1) X 7 104 dX0_count_1 hc46 (by decide) (by decide) rfl (by decide) ?_
    refine g_aload_n (pc := 104) X 0 dX0_count_104 rfl rfl ?_
    refine cg_getA (pc := 105) X fo_X0_38 dX0_count_105 (fun v47 => ?_)
    refine g_bD_i (pc := 108) X (cs := [1]) (As := []) (rest := []) (b := v47) (n := 0) dX0_count_108 rfl rfl (Nat.le_of_ble_eq_true rfl) (fun fl50 ci51 fs52 hs53 hci54 r u h => ?_) (fun r48 t49 => ?_)
    · obtain rfl := List.mem_singleton.mp hci54
      exact ⟨_, _, _, yX1_ties, _, _, _, 3, 64, rfl, kX1_ties hex h, Or.inl (cwV 0 X.2.2.2.2.1 (lw_V q503 q504 q505 q71 q506) rfl rfl rfl dmV_X1_ties ⟨Nat.le_of_ble_eq_true rfl, Nat.le_of_ble_eq_true rfl⟩)⟩
    exact g_iret (pc := 111) X hr dX0_count_111
  refine g_tswO (pc := 1) X 8 112 dX0_count_1 (fun j hj => by match j, hj with | 0, _ => exact hc1 | 1, _ => exact hc4 | 2, _ => exact hc13 | 3, _ => exact hc16 | 4, _ => exact hc25 | 5, _ => exact hc28 | 6, _ => exact hc37 | 7, _ => exact hc46) (by decide) (by decide) (by decide) ?_
  refine g_iconst (pc := 112) X (-1) dX0_count_112 rfl ?_
  exact g_iret (pc := 113) X hr dX0_count_113
theorem kX0_count {ex : Nat → Option Nat} {z : Nat} {h0 : Nat} {x1 : Int32} {σ : Sg} {r : Int32} {u : St} (hex : ex = Γ.2.2.2.2) (h : fX0_count ex z h0 x1 (σ, 0, 0) = some (r, u)) : g_C Γ l yX0_count cX0_count 2 (some .int) 4 87 [.ref h0, .int x1] σ z v_i r (g_ι z u) :=
  g_met (ι := g_ι z) (t := (σ, 0, 0)) [.ref h0, .int x1] (by decide) (Nat.le_of_ble_eq_true rfl) h rfl (fun p e s m args below meth c X hr hn => wX0_count hex X hr h0 x1 (σ, 0, 0))
end CP
abbrev cX0_place : ByteArray := prog_1_method_16_code
def yX0_place : MethodName := ⟨RX0, "place", "(I)I"⟩
def dkwX0_place_1 : List UInt8 := [167, 0, 4, 2, 172]
abbrev dktX0_place_1 : List UInt8 := dkwX0_place_1 ++ []
def dkwX0_place_0 : List UInt8 := [42, 27, 182, 0, 107, 153, 0, 21, 42, 180, 0, 38, 42, 180, 0, 38, 27, 182, 0, 111, 182, 0, 165]
abbrev dktX0_place_0 : List UInt8 := dkwX0_place_0 ++ dktX0_place_1
theorem dksX0_place_0 : cX0_place.data.toList.drop 0 = dktX0_place_0 := by decide +kernel
theorem dksX0_place_1 : cX0_place.data.toList.drop 23 = dktX0_place_1 := dk_seg dksX0_place_0 23 rfl rfl
theorem dX0_place_0 : decode cX0_place 0 = .ok (.aload_n 0, 1) := dk_42 (dk_at dksX0_place_0 0 rfl rfl)
theorem dX0_place_1 : decode cX0_place 1 = .ok (.iload_n 1, 1) := dk_27 (dk_at dksX0_place_0 1 rfl rfl)
theorem dX0_place_2 : decode cX0_place 2 = .ok (.invokevirtual 107, 3) := dk_182 0 107 (dk_at dksX0_place_0 2 rfl rfl)
theorem dX0_place_5 : decode cX0_place 5 = .ok (.ifCond .eq 21, 3) := dk_153 0 21 (dk_at dksX0_place_0 5 rfl rfl)
theorem dX0_place_8 : decode cX0_place 8 = .ok (.aload_n 0, 1) := dk_42 (dk_at dksX0_place_0 8 rfl rfl)
theorem dX0_place_9 : decode cX0_place 9 = .ok (.getfield 38, 3) := dk_180 0 38 (dk_at dksX0_place_0 9 rfl rfl)
theorem dX0_place_12 : decode cX0_place 12 = .ok (.aload_n 0, 1) := dk_42 (dk_at dksX0_place_0 12 rfl rfl)
theorem dX0_place_13 : decode cX0_place 13 = .ok (.getfield 38, 3) := dk_180 0 38 (dk_at dksX0_place_0 13 rfl rfl)
theorem dX0_place_16 : decode cX0_place 16 = .ok (.iload_n 1, 1) := dk_27 (dk_at dksX0_place_0 16 rfl rfl)
theorem dX0_place_17 : decode cX0_place 17 = .ok (.invokevirtual 111, 3) := dk_182 0 111 (dk_at dksX0_place_0 17 rfl rfl)
theorem dX0_place_20 : decode cX0_place 20 = .ok (.invokevirtual 165, 3) := dk_182 0 165 (dk_at dksX0_place_0 20 rfl rfl)
theorem dX0_place_23 : decode cX0_place 23 = .ok (.goto 4, 3) := dk_167 0 4 (dk_at dksX0_place_1 0 rfl rfl)
theorem dX0_place_26 : decode cX0_place 26 = .ok (.iconst (-1), 1) := dk_2 (dk_at dksX0_place_1 3 rfl rfl)
theorem dX0_place_27 : decode cX0_place 27 = .ok (.ireturn, 1) := dk_172 (dk_at dksX0_place_1 4 rfl rfl)
theorem dmV_X1_place : yX1_place.cls = RX1 ∧ yX1_place.cls ≠ "java/lang/invoke/MethodHandle" ∧ yX1_place.cls ≠ "java/lang/invoke/VarHandle" ∧ (parseMethodDescriptor yX1_place.desc).map (fun d => d.parameters.length) = some 1 := by decide +kernel
section CP
variable {Γ : Gc} {p : Program} {l : Launch} {e : Env} {s : State} {m : MethodId} {args : Array Value} {below : List Frame} {meth : Method} {c : Code} {ex : Nat → Option Nat} {z : Nat} {tF : St}
noncomputable def fX0_place (ex : Nat → Option Nat) (z : Nat) (h0 : Nat) (x1 : Int32) (t : St) : Option (Int32 × St) := ccast [0] t h0 (gb (fX0_isClock ex (z + t.2.1) h0 x1 (t.1, 0, 0)) t fun r1 t2 => if r1 = 0 then some ((-1), t2) else cgA [0] 0 t2 h0 fun v8 => cgA [0] 0 t2 h0 fun v9 => ccast [1] t2 v9 (gb (fX1_clock ex (z + t2.2.1) v9 x1 (t2.1, 0, 0)) t2 fun r10 t11 => ccast [1] t11 v8 (gb (fX1_place ex (z + t11.2.1) v8 r10 (t11.1, 0, 0)) t11 fun r17 t18 => some (r17, t18))))
set_option maxHeartbeats 4000000 in
theorem wX0_place {rF : Int32} (hex : ex = Γ.2.2.2.2) (X : g_X Γ p s m args meth c cX0_place 2 RX0) (hr : meth.sig.returnType = (some .int)) (h0 : Nat) (x1 : Int32) (t : St) : Wf Γ p l e 4 87 s m args below meth c 2 (g_ι z) v_i rF tF 0 [(0, .ref h0), (1, .int x1)] [] t (fX0_place ex z h0 x1 t) := by
  unfold fX0_place
  refine g_aload_n (pc := 0) X 0 dX0_place_0 rfl rfl ?_
  refine g_iload_n (pc := 1) X 1 dX0_place_1 rfl rfl ?_
  refine g_bD_i (pc := 2) X (cs := [0]) (As := [.int x1]) (rest := []) (b := h0) (n := 1) dX0_place_2 rfl rfl (Nat.le_of_ble_eq_true rfl) (fun fl3 ci4 fs5 hs6 hci7 r u h => ?_) (fun r1 t2 => ?_)
  · obtain rfl := List.mem_singleton.mp hci7
    exact ⟨_, _, _, yX0_isClock, _, _, _, 2, 40, rfl, kX0_isClock hex h, Or.inl (cwV 1 X.2.2.2.2.1 (lw_V q368 q370 qs4 q70 q372) rfl rfl rfl dmV_X0_isClock ⟨Nat.le_of_ble_eq_true rfl, Nat.le_of_ble_eq_true rfl⟩)⟩
  refine g_if_eq (pc := 5) X 26 dX0_place_5 (by decide) ?_ ?_
  · refine g_iconst (pc := 26) X (-1) dX0_place_26 rfl ?_
    exact g_iret (pc := 27) X hr dX0_place_27
  · refine g_aload_n (pc := 8) X 0 dX0_place_8 rfl rfl ?_
    refine cg_getA (pc := 9) X fo_X0_38 dX0_place_9 (fun v8 => ?_)
    refine g_aload_n (pc := 12) X 0 dX0_place_12 rfl rfl ?_
    refine cg_getA (pc := 13) X fo_X0_38 dX0_place_13 (fun v9 => ?_)
    refine g_iload_n (pc := 16) X 1 dX0_place_16 rfl rfl ?_
    refine g_bD_a (pc := 17) X (cs := [1]) (As := [.int x1]) (rest := [.ref v8]) (b := v9) (n := 1) dX0_place_17 rfl rfl (Nat.le_of_ble_eq_true rfl) (fun fl12 ci13 fs14 hs15 hci16 r u h => ?_) (fun r10 t11 => ?_)
    · obtain rfl := List.mem_singleton.mp hci16
      exact ⟨_, _, _, yX1_clock, _, _, _, 3, 64, rfl, kX1_clock hex h, Or.inl (cwV 1 X.2.2.2.2.1 (lw_V q373 q374 q375 q71 q376) rfl rfl rfl dmV_X1_clock ⟨Nat.le_of_ble_eq_true rfl, Nat.le_of_ble_eq_true rfl⟩)⟩
    refine g_bD_i (pc := 20) X (cs := [1]) (As := [.ref r10]) (rest := []) (b := v8) (n := 1) dX0_place_20 rfl rfl (Nat.le_of_ble_eq_true rfl) (fun fl19 ci20 fs21 hs22 hci23 r u h => ?_) (fun r17 t18 => ?_)
    · obtain rfl := List.mem_singleton.mp hci23
      exact ⟨_, _, _, yX1_place, _, _, _, 3, 64, rfl, kX1_place hex h, Or.inl (cwV 1 X.2.2.2.2.1 (lw_V q526 q527 q528 q71 q529) rfl rfl rfl dmV_X1_place ⟨Nat.le_of_ble_eq_true rfl, Nat.le_of_ble_eq_true rfl⟩)⟩
    refine g_goto (pc := 23) X 27 dX0_place_23 (by decide) ?_
    exact g_iret (pc := 27) X hr dX0_place_27
theorem kX0_place {ex : Nat → Option Nat} {z : Nat} {h0 : Nat} {x1 : Int32} {σ : Sg} {r : Int32} {u : St} (hex : ex = Γ.2.2.2.2) (h : fX0_place ex z h0 x1 (σ, 0, 0) = some (r, u)) : g_C Γ l yX0_place cX0_place 2 (some .int) 4 87 [.ref h0, .int x1] σ z v_i r (g_ι z u) :=
  g_met (ι := g_ι z) (t := (σ, 0, 0)) [.ref h0, .int x1] (by decide) (Nat.le_of_ble_eq_true rfl) h rfl (fun p e s m args below meth c X hr hn => wX0_place hex X hr h0 x1 (σ, 0, 0))
end CP
abbrev cX0_undo : ByteArray := prog_1_method_22_code
def yX0_undo : MethodName := ⟨RX0, "undo", "()I"⟩
def dkwX0_undo_1 : List UInt8 := [4, 100, 182, 0, 80, 192, 0, 203, 182, 0, 205, 42, 180, 0, 101, 182, 0, 92, 172]
abbrev dktX0_undo_1 : List UInt8 := dkwX0_undo_1 ++ []
def dkwX0_undo_0 : List UInt8 := [42, 180, 0, 101, 182, 0, 199, 153, 0, 6, 16, 252, 172, 42, 180, 0, 101, 42, 180, 0, 101, 182, 0, 92]
abbrev dktX0_undo_0 : List UInt8 := dkwX0_undo_0 ++ dktX0_undo_1
theorem dksX0_undo_0 : cX0_undo.data.toList.drop 0 = dktX0_undo_0 := by decide +kernel
theorem dksX0_undo_1 : cX0_undo.data.toList.drop 24 = dktX0_undo_1 := dk_seg dksX0_undo_0 24 rfl rfl
theorem dX0_undo_0 : decode cX0_undo 0 = .ok (.aload_n 0, 1) := dk_42 (dk_at dksX0_undo_0 0 rfl rfl)
theorem dX0_undo_1 : decode cX0_undo 1 = .ok (.getfield 101, 3) := dk_180 0 101 (dk_at dksX0_undo_0 1 rfl rfl)
theorem dX0_undo_4 : decode cX0_undo 4 = .ok (.invokevirtual 199, 3) := dk_182 0 199 (dk_at dksX0_undo_0 4 rfl rfl)
theorem dX0_undo_7 : decode cX0_undo 7 = .ok (.ifCond .eq 6, 3) := dk_153 0 6 (dk_at dksX0_undo_0 7 rfl rfl)
theorem dX0_undo_10 : decode cX0_undo 10 = .ok (.bipush (-4), 2) := dk_16 252 (dk_at dksX0_undo_0 10 rfl rfl)
theorem dX0_undo_12 : decode cX0_undo 12 = .ok (.ireturn, 1) := dk_172 (dk_at dksX0_undo_0 12 rfl rfl)
theorem dX0_undo_13 : decode cX0_undo 13 = .ok (.aload_n 0, 1) := dk_42 (dk_at dksX0_undo_0 13 rfl rfl)
theorem dX0_undo_14 : decode cX0_undo 14 = .ok (.getfield 101, 3) := dk_180 0 101 (dk_at dksX0_undo_0 14 rfl rfl)
theorem dX0_undo_17 : decode cX0_undo 17 = .ok (.aload_n 0, 1) := dk_42 (dk_at dksX0_undo_0 17 rfl rfl)
theorem dX0_undo_18 : decode cX0_undo 18 = .ok (.getfield 101, 3) := dk_180 0 101 (dk_at dksX0_undo_0 18 rfl rfl)
theorem dX0_undo_21 : decode cX0_undo 21 = .ok (.invokevirtual 92, 3) := dk_182 0 92 (dk_at dksX0_undo_0 21 rfl rfl)
theorem dX0_undo_24 : decode cX0_undo 24 = .ok (.iconst 1, 1) := dk_4 (dk_at dksX0_undo_1 0 rfl rfl)
theorem dX0_undo_25 : decode cX0_undo 25 = .ok (.isub, 1) := dk_100 (dk_at dksX0_undo_1 1 rfl rfl)
theorem dX0_undo_26 : decode cX0_undo 26 = .ok (.invokevirtual 80, 3) := dk_182 0 80 (dk_at dksX0_undo_1 2 rfl rfl)
theorem dX0_undo_29 : decode cX0_undo 29 = .ok (.checkcast 203, 3) := dk_192 0 203 (dk_at dksX0_undo_1 5 rfl rfl)
theorem dX0_undo_32 : decode cX0_undo 32 = .ok (.invokevirtual 205, 3) := dk_182 0 205 (dk_at dksX0_undo_1 8 rfl rfl)
theorem dX0_undo_35 : decode cX0_undo 35 = .ok (.aload_n 0, 1) := dk_42 (dk_at dksX0_undo_1 11 rfl rfl)
theorem dX0_undo_36 : decode cX0_undo 36 = .ok (.getfield 101, 3) := dk_180 0 101 (dk_at dksX0_undo_1 12 rfl rfl)
theorem dX0_undo_39 : decode cX0_undo 39 = .ok (.invokevirtual 92, 3) := dk_182 0 92 (dk_at dksX0_undo_1 15 rfl rfl)
theorem dX0_undo_42 : decode cX0_undo 42 = .ok (.ireturn, 1) := dk_172 (dk_at dksX0_undo_1 18 rfl rfl)
theorem cf_LameClocks_Repair_4 : ∀ ci ∈ ([16, 17, 18, 19] : List Nat), ∃ (C : String) (T : u_T) (N : Nat), cls[ci]? = some (C, T, N) ∧ (C = "LameClocks$Repair" ∨ Cond.castable C "LameClocks$Repair" ∈ lw_tbl) := by
  intro ci h
  simp only [List.mem_cons, List.not_mem_nil, or_false] at h; rcases h with rfl | rfl | rfl | rfl
  · exact ⟨_, _, _, rfl, Or.inr q2179⟩
  · exact ⟨_, _, _, rfl, Or.inr q2181⟩
  · exact ⟨_, _, _, rfl, Or.inr q2182⟩
  · exact ⟨_, _, _, rfl, Or.inr q2180⟩
theorem dmV_J2_isEmpty : yJ2_isEmpty.cls = RJ2 ∧ yJ2_isEmpty.cls ≠ "java/lang/invoke/MethodHandle" ∧ yJ2_isEmpty.cls ≠ "java/lang/invoke/VarHandle" ∧ (parseMethodDescriptor yJ2_isEmpty.desc).map (fun d => d.parameters.length) = some 0 := by decide +kernel
theorem dmU_X15_undoes0 : "LameClocks$Repair" ≠ "java/lang/invoke/MethodHandle" ∧ "LameClocks$Repair" ≠ "java/lang/invoke/VarHandle" ∧ (parseMethodDescriptor "()V").map (fun d => d.parameters.length) = some 0 := by decide +kernel
section CP
variable {Γ : Gc} {p : Program} {l : Launch} {e : Env} {s : State} {m : MethodId} {args : Array Value} {below : List Frame} {meth : Method} {c : Code} {ex : Nat → Option Nat} {z : Nat} {tF : St}
noncomputable def fX0_undo (ex : Nat → Option Nat) (z : Nat) (h0 : Nat) (t : St) : Option (Int32 × St) := cgA [0] 2 t h0 fun v1 => ccast [15] t v1 (gb (fJ2_isEmpty ex (z + t.2.1) v1 (t.1, 0, 0)) t fun r2 t3 => if r2 = 0 then cgA [0] 2 t3 h0 fun v9 => cgA [0] 2 t3 h0 fun v10 => ccast [15] t3 v10 (gb (fJ2_size ex (z + t3.2.1) v10 (t3.1, 0, 0)) t3 fun r11 t12 => ccast [15] t12 v9 (gb (fJ2_remove ex (z + t12.2.1) v9 (r11 - 1) (t12.1, 0, 0)) t12 fun r18 t19 => ccast [16, 17, 18, 19] t19 r18 (ccast [16, 17, 18, 19] t19 r18 (gb (fv_X15_undoes ex (z + t19.2.1) r18 (t19.1, 0, 0)) t19 fun _ t26 => cgA [0] 2 t26 h0 fun v32 => ccast [15] t26 v32 (gb (fJ2_size ex (z + t26.2.1) v32 (t26.1, 0, 0)) t26 fun r33 t34 => some (r33, t34)))))) else some ((-4), t3))
set_option maxHeartbeats 4000000 in
theorem wX0_undo {rF : Int32} (hex : ex = Γ.2.2.2.2) (X : g_X Γ p s m args meth c cX0_undo 1 RX0) (hr : meth.sig.returnType = (some .int)) (h0 : Nat) (t : St) : Wf Γ p l e 5 105 s m args below meth c 1 (g_ι z) v_i rF tF 0 [(0, .ref h0)] [] t (fX0_undo ex z h0 t) := by
  unfold fX0_undo
  refine g_aload_n (pc := 0) X 0 dX0_undo_0 rfl rfl ?_
  refine cg_getA (pc := 1) X fo_X0_101 dX0_undo_1 (fun v1 => ?_)
  refine g_bD_i (pc := 4) X (cs := [15]) (As := []) (rest := []) (b := v1) (n := 0) dX0_undo_4 rfl rfl (Nat.le_of_ble_eq_true rfl) (fun fl4 ci5 fs6 hs7 hci8 r u h => ?_) (fun r2 t3 => ?_)
  · obtain rfl := List.mem_singleton.mp hci8
    exact ⟨_, _, _, yJ2_isEmpty, _, _, _, 0, 0, rfl, kJ2_isEmpty hex h, Or.inl (cwV 0 X.2.2.2.2.1 (lw_V q787 q788 q789 q74 q790) rfl rfl rfl dmV_J2_isEmpty ⟨Nat.le_of_ble_eq_true rfl, Nat.le_of_ble_eq_true rfl⟩)⟩
  refine g_if_eq (pc := 7) X 13 dX0_undo_7 (by decide) ?_ ?_
  · refine g_aload_n (pc := 13) X 0 dX0_undo_13 rfl rfl ?_
    refine cg_getA (pc := 14) X fo_X0_101 dX0_undo_14 (fun v9 => ?_)
    refine g_aload_n (pc := 17) X 0 dX0_undo_17 rfl rfl ?_
    refine cg_getA (pc := 18) X fo_X0_101 dX0_undo_18 (fun v10 => ?_)
    refine g_bD_i (pc := 21) X (cs := [15]) (As := []) (rest := [.ref v9]) (b := v10) (n := 0) dX0_undo_21 rfl rfl (Nat.le_of_ble_eq_true rfl) (fun fl13 ci14 fs15 hs16 hci17 r u h => ?_) (fun r11 t12 => ?_)
    · obtain rfl := List.mem_singleton.mp hci17
      exact ⟨_, _, _, yJ2_size, _, _, _, 0, 0, rfl, kJ2_size hex h, Or.inl (cwV 0 X.2.2.2.2.1 (lw_V q350 q134 q135 q74 q136) rfl rfl rfl dmV_J2_size ⟨Nat.le_of_ble_eq_true rfl, Nat.le_of_ble_eq_true rfl⟩)⟩
    refine g_iconst (pc := 24) X 1 dX0_undo_24 rfl ?_
    refine g_isub (pc := 25) X dX0_undo_25 ?_
    refine g_bD_a (pc := 26) X (cs := [15]) (As := [.int (r11 - 1)]) (rest := []) (b := v9) (n := 1) dX0_undo_26 rfl rfl (Nat.le_of_ble_eq_true rfl) (fun fl20 ci21 fs22 hs23 hci24 r u h => ?_) (fun r18 t19 => ?_)
    · obtain rfl := List.mem_singleton.mp hci24
      exact ⟨_, _, _, yJ2_remove, _, _, _, 2, 43, rfl, kJ2_remove hex h, Or.inl (cwV 1 X.2.2.2.2.1 (lw_V q335 q336 q337 q74 q338) rfl rfl rfl dmV_J2_remove ⟨Nat.le_of_ble_eq_true rfl, Nat.le_of_ble_eq_true rfl⟩)⟩
    refine cg_cast (pc := 29) X (cs := [16, 17, 18, 19]) q791 cf_LameClocks_Repair_4 dX0_undo_29 ?_
    refine g_bD_v (pc := 32) X (cs := [16, 17, 18, 19]) (As := []) (rest := []) (b := r18) (n := 0) dX0_undo_32 rfl rfl (Nat.le_of_ble_eq_true rfl) (fun fl27 ci28 fs29 hs30 hci31 r u h => ?_) (fun r25 t26 => ?_)
    · simp only [List.mem_cons, List.not_mem_nil, or_false] at hci31
      rcases hci31 with rfl | rfl | rfl | rfl
      · exact ⟨_, _, _, yX16_undoes, _, _, _, 0, 0, rfl, kX16_undoes hex (by rw [fv_X15_undoes_16 hs30] at h; exact h), Or.inr (Or.inl ⟨_, _, va_cwA 0 X.2.2.2.2.1 (lw_U q792 q794 q795 q796 q101 q797) rfl rfl rfl (X.2.2.2.2.2.2.1.declares q793) dmU_X15_undoes0 ⟨Nat.le_of_ble_eq_true rfl, Nat.le_of_ble_eq_true rfl⟩⟩)⟩
      · exact ⟨_, _, _, yX17_undoes, _, _, _, 4, 85, rfl, kX17_undoes hex (by rw [fv_X15_undoes_17 hs30] at h; exact h), Or.inr (Or.inl ⟨_, _, va_cwA 0 X.2.2.2.2.1 (lw_U q792 q794 q801 q802 q102 q803) rfl rfl rfl (X.2.2.2.2.2.2.1.declares q793) dmU_X15_undoes0 ⟨Nat.le_of_ble_eq_true rfl, Nat.le_of_ble_eq_true rfl⟩⟩)⟩
      · exact ⟨_, _, _, yX18_undoes, _, _, _, 4, 85, rfl, kX18_undoes hex (by rw [fv_X15_undoes_18 hs30] at h; exact h), Or.inr (Or.inl ⟨_, _, va_cwA 0 X.2.2.2.2.1 (lw_U q792 q794 q804 q805 q103 q806) rfl rfl rfl (X.2.2.2.2.2.2.1.declares q793) dmU_X15_undoes0 ⟨Nat.le_of_ble_eq_true rfl, Nat.le_of_ble_eq_true rfl⟩⟩)⟩
      · exact ⟨_, _, _, yX19_undoes, _, _, _, 4, 85, rfl, kX19_undoes hex (by rw [fv_X15_undoes_19 hs30] at h; exact h), Or.inr (Or.inl ⟨_, _, va_cwA 0 X.2.2.2.2.1 (lw_U q792 q794 q798 q799 q104 q800) rfl rfl rfl (X.2.2.2.2.2.2.1.declares q793) dmU_X15_undoes0 ⟨Nat.le_of_ble_eq_true rfl, Nat.le_of_ble_eq_true rfl⟩⟩)⟩
    refine g_aload_n (pc := 35) X 0 dX0_undo_35 rfl rfl ?_
    refine cg_getA (pc := 36) X fo_X0_101 dX0_undo_36 (fun v32 => ?_)
    refine g_bD_i (pc := 39) X (cs := [15]) (As := []) (rest := []) (b := v32) (n := 0) dX0_undo_39 rfl rfl (Nat.le_of_ble_eq_true rfl) (fun fl35 ci36 fs37 hs38 hci39 r u h => ?_) (fun r33 t34 => ?_)
    · obtain rfl := List.mem_singleton.mp hci39
      exact ⟨_, _, _, yJ2_size, _, _, _, 0, 0, rfl, kJ2_size hex h, Or.inl (cwV 0 X.2.2.2.2.1 (lw_V q350 q134 q135 q74 q136) rfl rfl rfl dmV_J2_size ⟨Nat.le_of_ble_eq_true rfl, Nat.le_of_ble_eq_true rfl⟩)⟩
    exact g_iret (pc := 42) X hr dX0_undo_42
  · refine g_bipush (pc := 10) X (-4) dX0_undo_10 rfl ?_
    exact g_iret (pc := 12) X hr dX0_undo_12
theorem kX0_undo {ex : Nat → Option Nat} {z : Nat} {h0 : Nat} {σ : Sg} {r : Int32} {u : St} (hex : ex = Γ.2.2.2.2) (h : fX0_undo ex z h0 (σ, 0, 0) = some (r, u)) : g_C Γ l yX0_undo cX0_undo 1 (some .int) 5 105 [.ref h0] σ z v_i r (g_ι z u) :=
  g_met (ι := g_ι z) (t := (σ, 0, 0)) [.ref h0] (by decide) (Nat.le_of_ble_eq_true rfl) h rfl (fun p e s m args below meth c X hr hn => wX0_undo hex X hr h0 (σ, 0, 0))
end CP
abbrev cX0_restart : ByteArray := prog_1_method_23_code
def yX0_restart : MethodName := ⟨RX0, "restart", "()I"⟩
def dkwX0_restart_1 : List UInt8 := [180, 0, 38, 3, 181, 0, 159, 42, 180, 0, 38, 182, 0, 208, 172]
abbrev dktX0_restart_1 : List UInt8 := dkwX0_restart_1 ++ []
def dkwX0_restart_0 : List UInt8 := [42, 180, 0, 101, 182, 0, 104, 42, 180, 0, 38, 3, 181, 0, 153, 42, 180, 0, 38, 3, 181, 0, 86, 42]
abbrev dktX0_restart_0 : List UInt8 := dkwX0_restart_0 ++ dktX0_restart_1
theorem dksX0_restart_0 : cX0_restart.data.toList.drop 0 = dktX0_restart_0 := by decide +kernel
theorem dksX0_restart_1 : cX0_restart.data.toList.drop 24 = dktX0_restart_1 := dk_seg dksX0_restart_0 24 rfl rfl
theorem dX0_restart_0 : decode cX0_restart 0 = .ok (.aload_n 0, 1) := dk_42 (dk_at dksX0_restart_0 0 rfl rfl)
theorem dX0_restart_1 : decode cX0_restart 1 = .ok (.getfield 101, 3) := dk_180 0 101 (dk_at dksX0_restart_0 1 rfl rfl)
theorem dX0_restart_4 : decode cX0_restart 4 = .ok (.invokevirtual 104, 3) := dk_182 0 104 (dk_at dksX0_restart_0 4 rfl rfl)
theorem dX0_restart_7 : decode cX0_restart 7 = .ok (.aload_n 0, 1) := dk_42 (dk_at dksX0_restart_0 7 rfl rfl)
theorem dX0_restart_8 : decode cX0_restart 8 = .ok (.getfield 38, 3) := dk_180 0 38 (dk_at dksX0_restart_0 8 rfl rfl)
theorem dX0_restart_11 : decode cX0_restart 11 = .ok (.iconst 0, 1) := dk_3 (dk_at dksX0_restart_0 11 rfl rfl)
theorem dX0_restart_12 : decode cX0_restart 12 = .ok (.putfield 153, 3) := dk_181 0 153 (dk_at dksX0_restart_0 12 rfl rfl)
theorem dX0_restart_15 : decode cX0_restart 15 = .ok (.aload_n 0, 1) := dk_42 (dk_at dksX0_restart_0 15 rfl rfl)
theorem dX0_restart_16 : decode cX0_restart 16 = .ok (.getfield 38, 3) := dk_180 0 38 (dk_at dksX0_restart_0 16 rfl rfl)
theorem dX0_restart_19 : decode cX0_restart 19 = .ok (.iconst 0, 1) := dk_3 (dk_at dksX0_restart_0 19 rfl rfl)
theorem dX0_restart_20 : decode cX0_restart 20 = .ok (.putfield 86, 3) := dk_181 0 86 (dk_at dksX0_restart_0 20 rfl rfl)
theorem dX0_restart_23 : decode cX0_restart 23 = .ok (.aload_n 0, 1) := dk_42 (dk_at dksX0_restart_0 23 rfl rfl)
theorem dX0_restart_24 : decode cX0_restart 24 = .ok (.getfield 38, 3) := dk_180 0 38 (dk_at dksX0_restart_1 0 rfl rfl)
theorem dX0_restart_27 : decode cX0_restart 27 = .ok (.iconst 0, 1) := dk_3 (dk_at dksX0_restart_1 3 rfl rfl)
theorem dX0_restart_28 : decode cX0_restart 28 = .ok (.putfield 159, 3) := dk_181 0 159 (dk_at dksX0_restart_1 4 rfl rfl)
theorem dX0_restart_31 : decode cX0_restart 31 = .ok (.aload_n 0, 1) := dk_42 (dk_at dksX0_restart_1 7 rfl rfl)
theorem dX0_restart_32 : decode cX0_restart 32 = .ok (.getfield 38, 3) := dk_180 0 38 (dk_at dksX0_restart_1 8 rfl rfl)
theorem dX0_restart_35 : decode cX0_restart 35 = .ok (.invokevirtual 208, 3) := dk_182 0 208 (dk_at dksX0_restart_1 11 rfl rfl)
theorem dX0_restart_38 : decode cX0_restart 38 = .ok (.ireturn, 1) := dk_172 (dk_at dksX0_restart_1 14 rfl rfl)
theorem fp_X0_153 : g_fp RX0 153 [1] 3 .int false := ⟨_, _, _, Or.inr ⟨rfl, _, q1567⟩, by decide +kernel, fun ci h => by
  simp only [List.mem_cons, List.not_mem_nil, or_false] at h; rcases h with rfl
  · exact ⟨_, _, _, tyX1, rfl, by decide, rfl, rfl, Or.inl rfl, in_X1, rfl, (fun h => by cases h), tyX1_ok, (by decide +kernel)⟩⟩
theorem fp_X0_159 : g_fp RX0 159 [1] 8 .int false := ⟨_, _, _, Or.inr ⟨rfl, _, q1577⟩, by decide +kernel, fun ci h => by
  simp only [List.mem_cons, List.not_mem_nil, or_false] at h; rcases h with rfl
  · exact ⟨_, _, _, tyX1, rfl, by decide, rfl, rfl, Or.inl rfl, in_X1, rfl, (fun h => by cases h), tyX1_ok, (by decide +kernel)⟩⟩
theorem dmV_X1_begins : yX1_begins.cls = RX1 ∧ yX1_begins.cls ≠ "java/lang/invoke/MethodHandle" ∧ yX1_begins.cls ≠ "java/lang/invoke/VarHandle" ∧ (parseMethodDescriptor yX1_begins.desc).map (fun d => d.parameters.length) = some 0 := by decide +kernel
section CP
variable {Γ : Gc} {p : Program} {l : Launch} {e : Env} {s : State} {m : MethodId} {args : Array Value} {below : List Frame} {meth : Method} {c : Code} {ex : Nat → Option Nat} {z : Nat} {tF : St}
noncomputable def fX0_restart (ex : Nat → Option Nat) (z : Nat) (h0 : Nat) (t : St) : Option (Int32 × St) := cgA [0] 2 t h0 fun v1 => ccast [15] t v1 (gb (fJ2_clear ex (z + t.2.1) v1 (t.1, 0, 0)) t fun _ t3 => cgA [0] 0 t3 h0 fun v9 => cput [1] 3 t3 v9 (.int 0) fun t10 => cgA [0] 0 t10 h0 fun v11 => cput [1] 7 t10 v11 (.int 0) fun t12 => cgA [0] 0 t12 h0 fun v13 => cput [1] 8 t12 v13 (.int 0) fun t14 => cgA [0] 0 t14 h0 fun v15 => ccast [1] t14 v15 (gb (fX1_begins ex (z + t14.2.1) v15 (t14.1, 0, 0)) t14 fun r16 t17 => some (r16, t17)))
set_option maxHeartbeats 4000000 in
theorem wX0_restart {rF : Int32} (hex : ex = Γ.2.2.2.2) (X : g_X Γ p s m args meth c cX0_restart 1 RX0) (hr : meth.sig.returnType = (some .int)) (h0 : Nat) (t : St) : Wf Γ p l e 4 87 s m args below meth c 1 (g_ι z) v_i rF tF 0 [(0, .ref h0)] [] t (fX0_restart ex z h0 t) := by
  unfold fX0_restart
  refine g_aload_n (pc := 0) X 0 dX0_restart_0 rfl rfl ?_
  refine cg_getA (pc := 1) X fo_X0_101 dX0_restart_1 (fun v1 => ?_)
  refine g_bD_v (pc := 4) X (cs := [15]) (As := []) (rest := []) (b := v1) (n := 0) dX0_restart_4 rfl rfl (Nat.le_of_ble_eq_true rfl) (fun fl4 ci5 fs6 hs7 hci8 r u h => ?_) (fun r2 t3 => ?_)
  · obtain rfl := List.mem_singleton.mp hci8
    exact ⟨_, _, _, yJ2_clear, _, _, _, 0, 0, rfl, kJ2_clear hex h, Or.inl (cwV 0 X.2.2.2.2.1 (lw_V q360 q361 q362 q74 q363) rfl rfl rfl dmV_J2_clear ⟨Nat.le_of_ble_eq_true rfl, Nat.le_of_ble_eq_true rfl⟩)⟩
  refine g_aload_n (pc := 7) X 0 dX0_restart_7 rfl rfl ?_
  refine cg_getA (pc := 8) X fo_X0_38 dX0_restart_8 (fun v9 => ?_)
  refine g_iconst (pc := 11) X 0 dX0_restart_11 rfl ?_
  refine cg_put (pc := 12) X fp_X0_153 dX0_restart_12 (fun h => by cases h) rfl rfl (fun t10 => ?_)
  refine g_aload_n (pc := 15) X 0 dX0_restart_15 rfl rfl ?_
  refine cg_getA (pc := 16) X fo_X0_38 dX0_restart_16 (fun v11 => ?_)
  refine g_iconst (pc := 19) X 0 dX0_restart_19 rfl ?_
  refine cg_put (pc := 20) X fp_X0_86 dX0_restart_20 (fun h => by cases h) rfl rfl (fun t12 => ?_)
  refine g_aload_n (pc := 23) X 0 dX0_restart_23 rfl rfl ?_
  refine cg_getA (pc := 24) X fo_X0_38 dX0_restart_24 (fun v13 => ?_)
  refine g_iconst (pc := 27) X 0 dX0_restart_27 rfl ?_
  refine cg_put (pc := 28) X fp_X0_159 dX0_restart_28 (fun h => by cases h) rfl rfl (fun t14 => ?_)
  refine g_aload_n (pc := 31) X 0 dX0_restart_31 rfl rfl ?_
  refine cg_getA (pc := 32) X fo_X0_38 dX0_restart_32 (fun v15 => ?_)
  refine g_bD_i (pc := 35) X (cs := [1]) (As := []) (rest := []) (b := v15) (n := 0) dX0_restart_35 rfl rfl (Nat.le_of_ble_eq_true rfl) (fun fl18 ci19 fs20 hs21 hci22 r u h => ?_) (fun r16 t17 => ?_)
  · obtain rfl := List.mem_singleton.mp hci22
    exact ⟨_, _, _, yX1_begins, _, _, _, 3, 64, rfl, kX1_begins hex h, Or.inl (cwV 0 X.2.2.2.2.1 (lw_V q811 q812 q813 q71 q814) rfl rfl rfl dmV_X1_begins ⟨Nat.le_of_ble_eq_true rfl, Nat.le_of_ble_eq_true rfl⟩)⟩
  exact g_iret (pc := 38) X hr dX0_restart_38
theorem kX0_restart {ex : Nat → Option Nat} {z : Nat} {h0 : Nat} {σ : Sg} {r : Int32} {u : St} (hex : ex = Γ.2.2.2.2) (h : fX0_restart ex z h0 (σ, 0, 0) = some (r, u)) : g_C Γ l yX0_restart cX0_restart 1 (some .int) 4 87 [.ref h0] σ z v_i r (g_ι z u) :=
  g_met (ι := g_ι z) (t := (σ, 0, 0)) [.ref h0] (by decide) (Nat.le_of_ble_eq_true rfl) h rfl (fun p e s m args below meth c X hr hn => wX0_restart hex X hr h0 (σ, 0, 0))
end CP
abbrev cX0_isAsTaken : ByteArray := prog_1_method_83_code
def yX0_isAsTaken : MethodName := ⟨RX0, "isAsTaken", "()Z"⟩
def dkwX0_isAsTaken_2 : List UInt8 := [132, 2, 1, 167, 255, 210, 27, 172]
abbrev dktX0_isAsTaken_2 : List UInt8 := dkwX0_isAsTaken_2 ++ []
def dkwX0_isAsTaken_1 : List UInt8 := [182, 0, 111, 180, 0, 116, 133, 42, 180, 1, 226, 28, 47, 148, 154, 0, 7, 4, 167, 0, 4, 3, 60]
abbrev dktX0_isAsTaken_1 : List UInt8 := dkwX0_isAsTaken_1 ++ dktX0_isAsTaken_2
def dkwX0_isAsTaken_0 : List UInt8 := [4, 60, 3, 61, 28, 42, 180, 0, 213, 182, 0, 42, 162, 0, 41, 27, 153, 0, 37, 42, 180, 0, 213, 28]
abbrev dktX0_isAsTaken_0 : List UInt8 := dkwX0_isAsTaken_0 ++ dktX0_isAsTaken_1
theorem dksX0_isAsTaken_0 : cX0_isAsTaken.data.toList.drop 0 = dktX0_isAsTaken_0 := by decide +kernel
theorem dksX0_isAsTaken_1 : cX0_isAsTaken.data.toList.drop 24 = dktX0_isAsTaken_1 := dk_seg dksX0_isAsTaken_0 24 rfl rfl
theorem dksX0_isAsTaken_2 : cX0_isAsTaken.data.toList.drop 47 = dktX0_isAsTaken_2 := dk_seg dksX0_isAsTaken_1 23 rfl rfl
theorem dX0_isAsTaken_0 : decode cX0_isAsTaken 0 = .ok (.iconst 1, 1) := dk_4 (dk_at dksX0_isAsTaken_0 0 rfl rfl)
theorem dX0_isAsTaken_1 : decode cX0_isAsTaken 1 = .ok (.istore_n 1, 1) := dk_60 (dk_at dksX0_isAsTaken_0 1 rfl rfl)
theorem dX0_isAsTaken_2 : decode cX0_isAsTaken 2 = .ok (.iconst 0, 1) := dk_3 (dk_at dksX0_isAsTaken_0 2 rfl rfl)
theorem dX0_isAsTaken_3 : decode cX0_isAsTaken 3 = .ok (.istore_n 2, 1) := dk_61 (dk_at dksX0_isAsTaken_0 3 rfl rfl)
theorem dX0_isAsTaken_4 : decode cX0_isAsTaken 4 = .ok (.iload_n 2, 1) := dk_28 (dk_at dksX0_isAsTaken_0 4 rfl rfl)
theorem dX0_isAsTaken_5 : decode cX0_isAsTaken 5 = .ok (.aload_n 0, 1) := dk_42 (dk_at dksX0_isAsTaken_0 5 rfl rfl)
theorem dX0_isAsTaken_6 : decode cX0_isAsTaken 6 = .ok (.getfield 213, 3) := dk_180 0 213 (dk_at dksX0_isAsTaken_0 6 rfl rfl)
theorem dX0_isAsTaken_9 : decode cX0_isAsTaken 9 = .ok (.invokevirtual 42, 3) := dk_182 0 42 (dk_at dksX0_isAsTaken_0 9 rfl rfl)
theorem dX0_isAsTaken_12 : decode cX0_isAsTaken 12 = .ok (.if_icmp .ge 41, 3) := dk_162 0 41 (dk_at dksX0_isAsTaken_0 12 rfl rfl)
theorem dX0_isAsTaken_15 : decode cX0_isAsTaken 15 = .ok (.iload_n 1, 1) := dk_27 (dk_at dksX0_isAsTaken_0 15 rfl rfl)
theorem dX0_isAsTaken_16 : decode cX0_isAsTaken 16 = .ok (.ifCond .eq 37, 3) := dk_153 0 37 (dk_at dksX0_isAsTaken_0 16 rfl rfl)
theorem dX0_isAsTaken_19 : decode cX0_isAsTaken 19 = .ok (.aload_n 0, 1) := dk_42 (dk_at dksX0_isAsTaken_0 19 rfl rfl)
theorem dX0_isAsTaken_20 : decode cX0_isAsTaken 20 = .ok (.getfield 213, 3) := dk_180 0 213 (dk_at dksX0_isAsTaken_0 20 rfl rfl)
theorem dX0_isAsTaken_23 : decode cX0_isAsTaken 23 = .ok (.iload_n 2, 1) := dk_28 (dk_at dksX0_isAsTaken_0 23 rfl rfl)
theorem dX0_isAsTaken_24 : decode cX0_isAsTaken 24 = .ok (.invokevirtual 111, 3) := dk_182 0 111 (dk_at dksX0_isAsTaken_1 0 rfl rfl)
theorem dX0_isAsTaken_27 : decode cX0_isAsTaken 27 = .ok (.getfield 116, 3) := dk_180 0 116 (dk_at dksX0_isAsTaken_1 3 rfl rfl)
theorem dX0_isAsTaken_30 : decode cX0_isAsTaken 30 = .ok (.i2l, 1) := dk_133 (dk_at dksX0_isAsTaken_1 6 rfl rfl)
theorem dX0_isAsTaken_31 : decode cX0_isAsTaken 31 = .ok (.aload_n 0, 1) := dk_42 (dk_at dksX0_isAsTaken_1 7 rfl rfl)
theorem dX0_isAsTaken_32 : decode cX0_isAsTaken 32 = .ok (.getfield 482, 3) := dk_180 1 226 (dk_at dksX0_isAsTaken_1 8 rfl rfl)
theorem dX0_isAsTaken_35 : decode cX0_isAsTaken 35 = .ok (.iload_n 2, 1) := dk_28 (dk_at dksX0_isAsTaken_1 11 rfl rfl)
theorem dX0_isAsTaken_36 : decode cX0_isAsTaken 36 = .ok (.laload, 1) := dk_47 (dk_at dksX0_isAsTaken_1 12 rfl rfl)
theorem dX0_isAsTaken_37 : decode cX0_isAsTaken 37 = .ok (.lcmp, 1) := dk_148 (dk_at dksX0_isAsTaken_1 13 rfl rfl)
theorem dX0_isAsTaken_38 : decode cX0_isAsTaken 38 = .ok (.ifCond .ne 7, 3) := dk_154 0 7 (dk_at dksX0_isAsTaken_1 14 rfl rfl)
theorem dX0_isAsTaken_41 : decode cX0_isAsTaken 41 = .ok (.iconst 1, 1) := dk_4 (dk_at dksX0_isAsTaken_1 17 rfl rfl)
theorem dX0_isAsTaken_42 : decode cX0_isAsTaken 42 = .ok (.goto 4, 3) := dk_167 0 4 (dk_at dksX0_isAsTaken_1 18 rfl rfl)
theorem dX0_isAsTaken_45 : decode cX0_isAsTaken 45 = .ok (.iconst 0, 1) := dk_3 (dk_at dksX0_isAsTaken_1 21 rfl rfl)
theorem dX0_isAsTaken_46 : decode cX0_isAsTaken 46 = .ok (.istore_n 1, 1) := dk_60 (dk_at dksX0_isAsTaken_1 22 rfl rfl)
theorem dX0_isAsTaken_47 : decode cX0_isAsTaken 47 = .ok (.iinc 2 1, 3) := dk_132 2 1 (dk_at dksX0_isAsTaken_2 0 rfl rfl)
theorem dX0_isAsTaken_50 : decode cX0_isAsTaken 50 = .ok (.goto (-46), 3) := dk_167 255 210 (dk_at dksX0_isAsTaken_2 3 rfl rfl)
theorem dX0_isAsTaken_53 : decode cX0_isAsTaken 53 = .ok (.iload_n 1, 1) := dk_27 (dk_at dksX0_isAsTaken_2 6 rfl rfl)
theorem dX0_isAsTaken_54 : decode cX0_isAsTaken 54 = .ok (.ireturn, 1) := dk_172 (dk_at dksX0_isAsTaken_2 7 rfl rfl)
theorem fo_X0_213 : g_fo RX0 213 [0] 1 := ⟨_, _, _, Or.inl q1616, fun ci h => by
  simp only [List.mem_cons, List.not_mem_nil, or_false] at h; rcases h with rfl
  · exact ⟨_, _, _, rfl, by decide, rfl, rfl, Or.inl rfl, in_X0⟩⟩
theorem fo_X0_116 : g_fo RX0 116 [4, 5, 6, 7, 8, 9] 4 := ⟨_, _, _, Or.inl q167, fun ci h => by
  simp only [List.mem_cons, List.not_mem_nil, or_false] at h; rcases h with rfl | rfl | rfl | rfl | rfl | rfl
  · exact ⟨_, _, _, rfl, by decide, rfl, rfl, Or.inl rfl, in_X4⟩
  · exact ⟨_, _, _, rfl, by decide, rfl, rfl, Or.inl rfl, in_X5⟩
  · exact ⟨_, _, _, rfl, by decide, rfl, rfl, Or.inl rfl, in_X6⟩
  · exact ⟨_, _, _, rfl, by decide, rfl, rfl, Or.inl rfl, in_X7⟩
  · exact ⟨_, _, _, rfl, by decide, rfl, rfl, Or.inl rfl, in_X8⟩
  · exact ⟨_, _, _, rfl, by decide, rfl, rfl, Or.inl rfl, in_X9⟩⟩
theorem fo_X0_482 : g_fo RX0 482 [0] 18 := ⟨_, _, _, Or.inl q1634, fun ci h => by
  simp only [List.mem_cons, List.not_mem_nil, or_false] at h; rcases h with rfl
  · exact ⟨_, _, _, rfl, by decide, rfl, rfl, Or.inl rfl, in_X0⟩⟩
section CP
variable {Γ : Gc} {p : Program} {l : Launch} {e : Env} {s : State} {m : MethodId} {args : Array Value} {below : List Frame} {meth : Method} {c : Code} {ex : Nat → Option Nat} {z : Nat} {tF : St}
noncomputable def fX0_isAsTaken_46 (ex : Nat → Option Nat) (z : Nat) (kc4 : Nat → Int32 → Int32 → St → Option (Int32 × St)) (h0 : Nat) (x2 : Int32) (s0 : Int32) (t : St) : Option (Int32 × St) := kc4 h0 s0 (x2 + 1) t
set_option maxHeartbeats 4000000 in
theorem wX0_isAsTaken_46 {rF : Int32} (hex : ex = Γ.2.2.2.2) (X : g_X Γ p s m args meth c cX0_isAsTaken 3 RX0) (hr : meth.sig.returnType = (some .boolean)) {kc4 : Nat → Int32 → Int32 → St → Option (Int32 × St)} (hk4 : ∀ (h0 : Nat) (x1 : Int32) (x2 : Int32) (t : St), Wf Γ p l e 4 85 s m args below meth c 3 (g_ι z) v_i rF tF 4 [(0, .ref h0), (1, .int x1), (2, .int x2)] [] t (kc4 h0 x1 x2 t)) (h0 : Nat) (x2 : Int32) (s0 : Int32) (t : St) : Wf Γ p l e 4 85 s m args below meth c 3 (g_ι z) v_i rF tF 46 [(0, .ref h0), (2, .int x2)] [.int s0] t (fX0_isAsTaken_46 ex z kc4 h0 x2 s0 t) := by
  unfold fX0_isAsTaken_46
  refine g_istore_n (pc := 46) X (lv' := [(1, .int s0), (0, .ref h0), (2, .int x2)]) dX0_isAsTaken_46 rfl (by decide) rfl ?_
  refine g_iinc (pc := 47) X 1 2 (lv' := [(2, .int (x2 + 1)), (1, .int s0), (0, .ref h0)]) dX0_isAsTaken_47 rfl rfl (by decide) rfl ?_
  refine g_goto (pc := 50) X 4 dX0_isAsTaken_50 (by decide) ?_
  exact g_lv (pc := 4) (lv' := [(0, .ref h0), (1, .int s0), (2, .int (x2 + 1))]) [2, 1, 0] rfl (hk4 h0 s0 (x2 + 1) t)
noncomputable def fX0_isAsTaken_4 (ex : Nat → Option Nat) (z : Nat) : Nat → Nat → Int32 → Int32 → St → Option (Int32 × St)
  | 0, _, _, _, _ => none
  | n + 1, h0, x1, x2, t => cgA [0] 1 t h0 fun v1 => ccast [1] t v1 (gb (fX1_size ex (z + t.2.1) v1 (t.1, 0, 0)) t fun r2 t3 => if r2 ≤ x2 then if x1 = 0 ∨ x1 = 1 then some (x1, t3) else none else if x1 = 0 then if x1 = 0 ∨ x1 = 1 then some (x1, t3) else none else cgA [0] 1 t3 h0 fun v9 => ccast [1] t3 v9 (gb (fX1_clock ex (z + t3.2.1) v9 x2 (t3.1, 0, 0)) t3 fun r10 t11 => cgI [4, 5, 6, 7, 8, 9] 4 t11 r10 fun v17 => cgA [0] 18 t11 h0 fun v18 => caldl t11 v18 x2 fun v19 => if (if v19 < v17.toInt64 then 1 else if v17.toInt64 = v19 then 0 else -1 : Int32) = 0 then fX0_isAsTaken_46 ex z (fun a0 a1 a2 a3 => fX0_isAsTaken_4 ex z n a0 a1 a2 a3) h0 x2 1 t11 else fX0_isAsTaken_46 ex z (fun a0 a1 a2 a3 => fX0_isAsTaken_4 ex z n a0 a1 a2 a3) h0 x2 0 t11))
set_option maxHeartbeats 4000000 in
theorem wX0_isAsTaken_4 {rF : Int32} (hex : ex = Γ.2.2.2.2) (X : g_X Γ p s m args meth c cX0_isAsTaken 3 RX0) (hr : meth.sig.returnType = (some .boolean)) (n : Nat) : ∀ (h0 : Nat) (x1 : Int32) (x2 : Int32) (t : St), Wf Γ p l e 4 85 s m args below meth c 3 (g_ι z) v_i rF tF 4 [(0, .ref h0), (1, .int x1), (2, .int x2)] [] t (fX0_isAsTaken_4 ex z n h0 x1 x2 t) := by
  induction n with
  | zero => intro h0 x1 x2 t; exact g_none
  | succ n ih =>
    intro h0 x1 x2 t
    rw [fX0_isAsTaken_4]
    refine g_iload_n (pc := 4) X 2 dX0_isAsTaken_4 rfl rfl ?_
    refine g_aload_n (pc := 5) X 0 dX0_isAsTaken_5 rfl rfl ?_
    refine cg_getA (pc := 6) X fo_X0_213 dX0_isAsTaken_6 (fun v1 => ?_)
    refine g_bD_i (pc := 9) X (cs := [1]) (As := []) (rest := [.int x2]) (b := v1) (n := 0) dX0_isAsTaken_9 rfl rfl (Nat.le_of_ble_eq_true rfl) (fun fl4 ci5 fs6 hs7 hci8 r u h => ?_) (fun r2 t3 => ?_)
    · obtain rfl := List.mem_singleton.mp hci8
      exact ⟨_, _, _, yX1_size, _, _, _, 1, 20, rfl, kX1_size hex h, Or.inl (cwV 0 X.2.2.2.2.1 (lw_V q129 q130 q131 q71 q132) rfl rfl rfl dmV_X1_size ⟨Nat.le_of_ble_eq_true rfl, Nat.le_of_ble_eq_true rfl⟩)⟩
    refine g_icmp_ge (pc := 12) X 53 dX0_isAsTaken_12 (by decide) ?_ ?_
    · refine g_iload_n (pc := 53) X 1 dX0_isAsTaken_53 rfl rfl ?_
      exact g_bret (pc := 54) X hr dX0_isAsTaken_54
    · refine g_iload_n (pc := 15) X 1 dX0_isAsTaken_15 rfl rfl ?_
      refine g_if_eq (pc := 16) X 53 dX0_isAsTaken_16 (by decide) ?_ ?_
      · refine g_iload_n (pc := 53) X 1 dX0_isAsTaken_53 rfl rfl ?_
        exact g_bret (pc := 54) X hr dX0_isAsTaken_54
      · refine g_aload_n (pc := 19) X 0 dX0_isAsTaken_19 rfl rfl ?_
        refine cg_getA (pc := 20) X fo_X0_213 dX0_isAsTaken_20 (fun v9 => ?_)
        refine g_iload_n (pc := 23) X 2 dX0_isAsTaken_23 rfl rfl ?_
        refine g_bD_a (pc := 24) X (cs := [1]) (As := [.int x2]) (rest := []) (b := v9) (n := 1) dX0_isAsTaken_24 rfl rfl (Nat.le_of_ble_eq_true rfl) (fun fl12 ci13 fs14 hs15 hci16 r u h => ?_) (fun r10 t11 => ?_)
        · obtain rfl := List.mem_singleton.mp hci16
          exact ⟨_, _, _, yX1_clock, _, _, _, 3, 64, rfl, kX1_clock hex h, Or.inl (cwV 1 X.2.2.2.2.1 (lw_V q373 q374 q375 q71 q376) rfl rfl rfl dmV_X1_clock ⟨Nat.le_of_ble_eq_true rfl, Nat.le_of_ble_eq_true rfl⟩)⟩
        refine cg_getI (pc := 27) X fo_X0_116 dX0_isAsTaken_27 (fun v17 => ?_)
        refine g_i2l (pc := 30) X dX0_isAsTaken_30 ?_
        refine g_aload_n (pc := 31) X 0 dX0_isAsTaken_31 rfl rfl ?_
        refine cg_getA (pc := 32) X fo_X0_482 dX0_isAsTaken_32 (fun v18 => ?_)
        refine g_iload_n (pc := 35) X 2 dX0_isAsTaken_35 rfl rfl ?_
        refine cg_lald (pc := 36) X dX0_isAsTaken_36 (fun v19 => ?_)
        refine g_lcmp (pc := 37) X dX0_isAsTaken_37 ?_
        refine g_if_ne (pc := 38) X 45 dX0_isAsTaken_38 (by decide) ?_ ?_
        · refine g_iconst (pc := 45) X 0 dX0_isAsTaken_45 rfl ?_
          exact g_lv (pc := 46) (lv' := [(0, .ref h0), (2, .int x2)]) [0, 2] rfl (wX0_isAsTaken_46 hex X hr (fun a0 a1 a2 a3 => ih a0 a1 a2 a3) h0 x2 0 t11)
        · refine g_iconst (pc := 41) X 1 dX0_isAsTaken_41 rfl ?_
          refine g_goto (pc := 42) X 46 dX0_isAsTaken_42 (by decide) ?_
          exact g_lv (pc := 46) (lv' := [(0, .ref h0), (2, .int x2)]) [0, 2] rfl (wX0_isAsTaken_46 hex X hr (fun a0 a1 a2 a3 => ih a0 a1 a2 a3) h0 x2 1 t11)
noncomputable def fX0_isAsTaken (ex : Nat → Option Nat) (z : Nat) (h0 : Nat) (t : St) : Option (Int32 × St) := fX0_isAsTaken_4 ex z 1000 h0 1 0 t
set_option maxHeartbeats 4000000 in
theorem wX0_isAsTaken {rF : Int32} (hex : ex = Γ.2.2.2.2) (X : g_X Γ p s m args meth c cX0_isAsTaken 3 RX0) (hr : meth.sig.returnType = (some .boolean)) (h0 : Nat) (t : St) : Wf Γ p l e 4 85 s m args below meth c 3 (g_ι z) v_i rF tF 0 [(0, .ref h0)] [] t (fX0_isAsTaken ex z h0 t) := by
  unfold fX0_isAsTaken
  refine g_iconst (pc := 0) X 1 dX0_isAsTaken_0 rfl ?_
  refine g_istore_n (pc := 1) X (lv' := [(1, .int 1), (0, .ref h0)]) dX0_isAsTaken_1 rfl (by decide) rfl ?_
  refine g_iconst (pc := 2) X 0 dX0_isAsTaken_2 rfl ?_
  refine g_istore_n (pc := 3) X (lv' := [(2, .int 0), (1, .int 1), (0, .ref h0)]) dX0_isAsTaken_3 rfl (by decide) rfl ?_
  exact g_lv (pc := 4) (lv' := [(0, .ref h0), (1, .int 1), (2, .int 0)]) [2, 1, 0] rfl (wX0_isAsTaken_4 hex X hr 1000 h0 1 0 t)
theorem kX0_isAsTaken {ex : Nat → Option Nat} {z : Nat} {h0 : Nat} {σ : Sg} {r : Int32} {u : St} (hex : ex = Γ.2.2.2.2) (h : fX0_isAsTaken ex z h0 (σ, 0, 0) = some (r, u)) : g_C Γ l yX0_isAsTaken cX0_isAsTaken 3 (some .boolean) 4 85 [.ref h0] σ z v_i r (g_ι z u) :=
  g_met (ι := g_ι z) (t := (σ, 0, 0)) [.ref h0] (by decide) (Nat.le_of_ble_eq_true rfl) h rfl (fun p e s m args below meth c X hr hn => wX0_isAsTaken hex X hr h0 (σ, 0, 0))
end CP
abbrev cJ2_add_2 : ByteArray := prog_50_method_24_code
def yJ2_add_2 : MethodName := ⟨RJ2, "add", "(Ljava/lang/Object;[Ljava/lang/Object;I)V"⟩
def dkwJ2_add_2_0 : List UInt8 := [29, 44, 190, 160, 0, 8, 42, 182, 0, 129, 77, 44, 29, 43, 83, 42, 29, 4, 96, 181, 0, 48, 177]
abbrev dktJ2_add_2_0 : List UInt8 := dkwJ2_add_2_0 ++ []
theorem dksJ2_add_2_0 : cJ2_add_2.data.toList.drop 0 = dktJ2_add_2_0 := by decide +kernel
theorem dJ2_add_2_0 : decode cJ2_add_2 0 = .ok (.iload_n 3, 1) := dk_29 (dk_at dksJ2_add_2_0 0 rfl rfl)
theorem dJ2_add_2_1 : decode cJ2_add_2 1 = .ok (.aload_n 2, 1) := dk_44 (dk_at dksJ2_add_2_0 1 rfl rfl)
theorem dJ2_add_2_2 : decode cJ2_add_2 2 = .ok (.arraylength, 1) := dk_190 (dk_at dksJ2_add_2_0 2 rfl rfl)
theorem dJ2_add_2_3 : decode cJ2_add_2 3 = .ok (.if_icmp .ne 8, 3) := dk_160 0 8 (dk_at dksJ2_add_2_0 3 rfl rfl)
theorem dJ2_add_2_6 : decode cJ2_add_2 6 = .ok (.aload_n 0, 1) := dk_42 (dk_at dksJ2_add_2_0 6 rfl rfl)
theorem dJ2_add_2_7 : decode cJ2_add_2 7 = .ok (.invokevirtual 129, 3) := dk_182 0 129 (dk_at dksJ2_add_2_0 7 rfl rfl)
theorem dJ2_add_2_10 : decode cJ2_add_2 10 = .ok (.astore_n 2, 1) := dk_77 (dk_at dksJ2_add_2_0 10 rfl rfl)
theorem dJ2_add_2_11 : decode cJ2_add_2 11 = .ok (.aload_n 2, 1) := dk_44 (dk_at dksJ2_add_2_0 11 rfl rfl)
theorem dJ2_add_2_12 : decode cJ2_add_2 12 = .ok (.iload_n 3, 1) := dk_29 (dk_at dksJ2_add_2_0 12 rfl rfl)
theorem dJ2_add_2_13 : decode cJ2_add_2 13 = .ok (.aload_n 1, 1) := dk_43 (dk_at dksJ2_add_2_0 13 rfl rfl)
theorem dJ2_add_2_14 : decode cJ2_add_2 14 = .ok (.aastore, 1) := dk_83 (dk_at dksJ2_add_2_0 14 rfl rfl)
theorem dJ2_add_2_15 : decode cJ2_add_2 15 = .ok (.aload_n 0, 1) := dk_42 (dk_at dksJ2_add_2_0 15 rfl rfl)
theorem dJ2_add_2_16 : decode cJ2_add_2 16 = .ok (.iload_n 3, 1) := dk_29 (dk_at dksJ2_add_2_0 16 rfl rfl)
theorem dJ2_add_2_17 : decode cJ2_add_2 17 = .ok (.iconst 1, 1) := dk_4 (dk_at dksJ2_add_2_0 17 rfl rfl)
theorem dJ2_add_2_18 : decode cJ2_add_2 18 = .ok (.iadd, 1) := dk_96 (dk_at dksJ2_add_2_0 18 rfl rfl)
theorem dJ2_add_2_19 : decode cJ2_add_2 19 = .ok (.putfield 48, 3) := dk_181 0 48 (dk_at dksJ2_add_2_0 19 rfl rfl)
theorem dJ2_add_2_22 : decode cJ2_add_2 22 = .ok (.return_, 1) := dk_177 (dk_at dksJ2_add_2_0 22 rfl rfl)
theorem dmV_J2_grow : yJ2_grow.cls = RJ2 ∧ yJ2_grow.cls ≠ "java/lang/invoke/MethodHandle" ∧ yJ2_grow.cls ≠ "java/lang/invoke/VarHandle" ∧ (parseMethodDescriptor yJ2_grow.desc).map (fun d => d.parameters.length) = some 0 := by decide +kernel
section CP
variable {Γ : Gc} {p : Program} {l : Launch} {e : Env} {s : State} {m : MethodId} {args : Array Value} {below : List Frame} {meth : Method} {c : Code} {ex : Nat → Option Nat} {z : Nat} {tF : St}
noncomputable def fJ2_add_2_11 (ex : Nat → Option Nat) (z : Nat) (h0 : Nat) (h1 : Nat) (h2 : Nat) (x3 : Int32) (t : St) : Option (Unit × St) := castA 4 [4, 5, 6, 7, 8, 9, 11, 12, 13, 14, 16, 17, 18, 19, 20] t h2 x3 h1 fun t1 => cput [15] 2 t1 h0 (.int (x3 + 1)) fun t2 => some ((), t2)
set_option maxHeartbeats 4000000 in
theorem wJ2_add_2_11 {rF : Unit} (hex : ex = Γ.2.2.2.2) (X : g_X Γ p s m args meth c cJ2_add_2 4 RJ2) (hr : meth.sig.returnType = none) (h0 : Nat) (h1 : Nat) (h2 : Nat) (x3 : Int32) (t : St) : Wf Γ p l e 5 108 s m args below meth c 4 (g_ι z) v_v rF tF 11 [(0, .ref h0), (1, .ref h1), (2, .ref h2), (3, .int x3)] [] t (fJ2_add_2_11 ex z h0 h1 h2 x3 t) := by
  unfold fJ2_add_2_11
  refine g_aload_n (pc := 11) X 2 dJ2_add_2_11 rfl rfl ?_
  refine g_iload_n (pc := 12) X 3 dJ2_add_2_12 rfl rfl ?_
  refine g_aload_n (pc := 13) X 1 dJ2_add_2_13 rfl rfl ?_
  refine cg_astA (pc := 14) X (j := 4) (cs := [4, 5, 6, 7, 8, 9, 11, 12, 13, 14, 16, 17, 18, 19, 20]) rfl cf_java_lang_Object_15 dJ2_add_2_14 (fun t1 => ?_)
  refine g_aload_n (pc := 15) X 0 dJ2_add_2_15 rfl rfl ?_
  refine g_iload_n (pc := 16) X 3 dJ2_add_2_16 rfl rfl ?_
  refine g_iconst (pc := 17) X 1 dJ2_add_2_17 rfl ?_
  refine g_iadd (pc := 18) X dJ2_add_2_18 ?_
  refine cg_put (pc := 19) X fp_J2_48 dJ2_add_2_19 (fun h => by cases h) rfl rfl (fun t2 => ?_)
  exact g_vret (pc := 22) X hr dJ2_add_2_22
noncomputable def fJ2_add_2 (ex : Nat → Option Nat) (z : Nat) (h0 : Nat) (h1 : Nat) (h2 : Nat) (x3 : Int32) (t : St) : Option (Unit × St) := calen t h2 fun v1 => if x3 = v1 then ccast [15] t h0 (gb (fJ2_grow ex (z + t.2.1) h0 (t.1, 0, 0)) t fun r2 t3 => fJ2_add_2_11 ex z h0 h1 r2 x3 t3) else fJ2_add_2_11 ex z h0 h1 h2 x3 t
set_option maxHeartbeats 4000000 in
theorem wJ2_add_2 {rF : Unit} (hex : ex = Γ.2.2.2.2) (X : g_X Γ p s m args meth c cJ2_add_2 4 RJ2) (hr : meth.sig.returnType = none) (h0 : Nat) (h1 : Nat) (h2 : Nat) (x3 : Int32) (t : St) : Wf Γ p l e 5 108 s m args below meth c 4 (g_ι z) v_v rF tF 0 [(0, .ref h0), (1, .ref h1), (2, .ref h2), (3, .int x3)] [] t (fJ2_add_2 ex z h0 h1 h2 x3 t) := by
  unfold fJ2_add_2
  refine g_iload_n (pc := 0) X 3 dJ2_add_2_0 rfl rfl ?_
  refine g_aload_n (pc := 1) X 2 dJ2_add_2_1 rfl rfl ?_
  refine cg_alen (pc := 2) X dJ2_add_2_2 (fun v1 => ?_)
  refine g_icmp_ne (pc := 3) X 11 dJ2_add_2_3 (by decide) ?_ ?_
  · exact g_lv (pc := 11) (lv' := [(0, .ref h0), (1, .ref h1), (2, .ref h2), (3, .int x3)]) [0, 1, 2, 3] rfl (wJ2_add_2_11 hex X hr h0 h1 h2 x3 t)
  · refine g_aload_n (pc := 6) X 0 dJ2_add_2_6 rfl rfl ?_
    refine g_bD_a (pc := 7) X (cs := [15]) (As := []) (rest := []) (b := h0) (n := 0) dJ2_add_2_7 rfl rfl (Nat.le_of_ble_eq_true rfl) (fun fl4 ci5 fs6 hs7 hci8 r u h => ?_) (fun r2 t3 => ?_)
    · obtain rfl := List.mem_singleton.mp hci8
      exact ⟨_, _, _, yJ2_grow, _, _, _, 4, 88, rfl, kJ2_grow hex h, Or.inl (cwV 0 X.2.2.2.2.1 (lw_V q263 q265 qs1 q74 q266) rfl rfl rfl dmV_J2_grow ⟨Nat.le_of_ble_eq_true rfl, Nat.le_of_ble_eq_true rfl⟩)⟩
    refine g_astore_n (pc := 10) X (lv' := [(2, .ref r2), (0, .ref h0), (1, .ref h1), (3, .int x3)]) dJ2_add_2_10 rfl (by decide) rfl ?_
    exact g_lv (pc := 11) (lv' := [(0, .ref h0), (1, .ref h1), (2, .ref r2), (3, .int x3)]) [1, 2, 0, 3] rfl (wJ2_add_2_11 hex X hr h0 h1 r2 x3 t3)
theorem kJ2_add_2 {ex : Nat → Option Nat} {z : Nat} {h0 : Nat} {h1 : Nat} {h2 : Nat} {x3 : Int32} {σ : Sg} {r : Unit} {u : St} (hex : ex = Γ.2.2.2.2) (h : fJ2_add_2 ex z h0 h1 h2 x3 (σ, 0, 0) = some (r, u)) : g_C Γ l yJ2_add_2 cJ2_add_2 4 none 5 108 [.ref h0, .ref h1, .ref h2, .int x3] σ z v_v r (g_ι z u) :=
  g_met (ι := g_ι z) (t := (σ, 0, 0)) [.ref h0, .ref h1, .ref h2, .int x3] (by decide) (Nat.le_of_ble_eq_true rfl) h rfl (fun p e s m args below meth c X hr hn => wJ2_add_2 hex X hr h0 h1 h2 x3 (σ, 0, 0))
end CP
