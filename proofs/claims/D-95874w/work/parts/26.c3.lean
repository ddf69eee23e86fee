/-! the component, its methods: X4_turns, X4_takes, X5_init, X5_kind, X5_far, X6_init, X6_kind, X6_isRunning, X7_init, X7_kind, X8_init, X8_kind, X9_init, X9_kind, (virtual), (virtual), (virtual), J3_newLength, J5_copyOf, J6_checkIndex, J8_length, J9_indexOf, X0_isMade, X0_made_2, X0_isClock, X0_isWindow (printed by gen/cmain.py) -/
set_option maxRecDepth 100000
theorem q78 : (Jvm.Cond.initialized "LameClocks$Cuckoo") ∈ lw_all := lw_g (lw_at lw_m1 9 rfl) rfl
theorem q79 : (Jvm.Cond.initialized "LameClocks$Stopped") ∈ lw_all := lw_g (lw_at lw_m1 10 rfl) rfl
theorem q80 : (Jvm.Cond.initialized "LameClocks$Sundial") ∈ lw_all := lw_g (lw_at lw_m1 11 rfl) rfl
theorem q81 : (Jvm.Cond.initialized "LameClocks$Twin") ∈ lw_all := lw_g (lw_at lw_m1 12 rfl) rfl
theorem q82 : (Jvm.Cond.initialized "LameClocks$Mayor") ∈ lw_all := lw_g (lw_at lw_m1 13 rfl) rfl
theorem q85 : (Jvm.Cond.initialized "java/util/Arrays") ∈ lw_all := lw_g (lw_at lw_m1 16 rfl) rfl
theorem q90 : (Jvm.Cond.initialized "java/lang/StringLatin1") ∈ lw_all := lw_g (lw_at lw_m1 21 rfl) rfl
theorem q120 : (Jvm.Cond.code ({ cls := "LameClocks", name := "isMade", desc := "(IIII)Z" } : Jvm.MethodName) prog_1_method_6_code (4 : Nat) (Option.some Jvm.ClassFile.FieldType.boolean)) ∈ lw_all := lw_g (lw_at lw_m1 51 rfl) rfl
theorem q121 : (Jvm.Cond.constantLong "LameClocks" (55 : Nat) (5 : Int64)) ∈ lw_all := lw_g (lw_at lw_m1 52 rfl) rfl
theorem q125 : (Jvm.Cond.constantLong "LameClocks" (57 : Nat) (719 : Int64)) ∈ lw_all := lw_g (lw_at lw_m1 56 rfl) rfl
theorem q126 : (Jvm.Cond.constantLong "LameClocks" (59 : Nat) (-30 : Int64)) ∈ lw_all := lw_g (lw_at lw_m1 57 rfl) rfl
theorem q127 : (Jvm.Cond.constantLong "LameClocks" (61 : Nat) (30 : Int64)) ∈ lw_all := lw_g (lw_at lw_m1 58 rfl) rfl
theorem q128 : (Jvm.Cond.constantLong "LameClocks" (63 : Nat) (99 : Int64)) ∈ lw_all := lw_g (lw_at lw_m1 59 rfl) rfl
theorem q129 : (Jvm.Cond.methodLink "LameClocks" (42 : Nat) ({ cls := "LameClocks$Race", name := "size", desc := "()I" } : Jvm.MethodName)) ∈ lw_all := lw_g (lw_at lw_m1 60 rfl) rfl
theorem q130 : (Jvm.Cond.instanceMethod ({ cls := "LameClocks$Race", name := "size", desc := "()I" } : Jvm.MethodName)) ∈ lw_all := lw_g (lw_at lw_m1 61 rfl) rfl
theorem q131 : (Jvm.Cond.selects "LameClocks$Race" ({ cls := "LameClocks$Race", name := "size", desc := "()I" } : Jvm.MethodName) ({ cls := "LameClocks$Race", name := "size", desc := "()I" } : Jvm.MethodName)) ∈ lw_all := lw_g (lw_at lw_m1 62 rfl) rfl
theorem q142 : (Jvm.Cond.code ({ cls := "LameClocks", name := "made", desc := "(I)LLameClocks$Plain;" } : Jvm.MethodName) prog_1_method_2_code (1 : Nat) (Option.some (Jvm.ClassFile.FieldType.object "LameClocks$Plain"))) ∈ lw_all := lw_g (lw_at lw_m1 73 rfl) rfl
theorem q143 : (Jvm.Cond.classLink "LameClocks" (1 : Nat) "LameClocks$Plain") ∈ lw_all := lw_g (lw_at lw_m1 74 rfl) rfl
theorem q144 : (Jvm.Cond.instantiable "LameClocks$Plain" (6 : Nat)) ∈ lw_all := lw_g (lw_at lw_m1 75 rfl) rfl
theorem q145 : (Jvm.Cond.methodLinkNest "LameClocks" (3 : Nat) ({ cls := "LameClocks$Plain", name := "<init>", desc := "()V" } : Jvm.MethodName) "LameClocks") ∈ lw_tbl := lw_at lw_m1 76 rfl
theorem q146 : (Jvm.Cond.instanceMethod ({ cls := "LameClocks$Plain", name := "<init>", desc := "()V" } : Jvm.MethodName)) ∈ lw_all := lw_g (lw_at lw_m1 77 rfl) rfl
theorem q154 : (Jvm.Cond.fieldLink "LameClocks$Plain" (56 : Nat) "LameClocks$Plain" "number" "I") ∈ lw_all := lw_g (lw_at lw_m1 85 rfl) rfl
theorem q160 : (Jvm.Cond.fieldLink "LameClocks$Plain" (41 : Nat) "LameClocks$Plain" "rate" "I") ∈ lw_all := lw_g (lw_at lw_m1 91 rfl) rfl
theorem q162 : (Jvm.Cond.fieldLink "LameClocks$Stopped" (15 : Nat) "LameClocks$Stopped" "spring" "I") ∈ lw_all := lw_g (lw_at lw_m1 93 rfl) rfl
theorem q163 : (Jvm.Cond.sameField "LameClocks$Stopped" "LameClocks$Plain" "spring" "I") ∈ lw_all := lw_g (lw_at lw_m1 94 rfl) rfl
theorem q185 : (Jvm.Cond.classLink "LameClocks" (7 : Nat) "LameClocks$Cuckoo") ∈ lw_all := lw_g (lw_at lw_m1 116 rfl) rfl
theorem q186 : (Jvm.Cond.instantiable "LameClocks$Cuckoo" (6 : Nat)) ∈ lw_all := lw_g (lw_at lw_m1 117 rfl) rfl
theorem q187 : (Jvm.Cond.methodLinkNest "LameClocks" (9 : Nat) ({ cls := "LameClocks$Cuckoo", name := "<init>", desc := "()V" } : Jvm.MethodName) "LameClocks") ∈ lw_tbl := lw_at lw_m1 118 rfl
theorem q188 : (Jvm.Cond.instanceMethod ({ cls := "LameClocks$Cuckoo", name := "<init>", desc := "()V" } : Jvm.MethodName)) ∈ lw_all := lw_g (lw_at lw_m1 119 rfl) rfl
theorem q189 : (Jvm.Cond.code ({ cls := "LameClocks$Cuckoo", name := "<init>", desc := "()V" } : Jvm.MethodName) prog_6_method_1_code (1 : Nat) (Option.none : Option Jvm.ClassFile.FieldType)) ∈ lw_all := lw_g (lw_at lw_m1 120 rfl) rfl
theorem q190 : (Jvm.Cond.methodLinkNest "LameClocks$Cuckoo" (3 : Nat) ({ cls := "LameClocks$Plain", name := "<init>", desc := "()V" } : Jvm.MethodName) "LameClocks") ∈ lw_tbl := lw_at lw_m1 121 rfl
theorem q197 : (Jvm.Cond.superclass "LameClocks$Cuckoo" "LameClocks$Plain") ∈ lw_all := lw_g (lw_at lw_m1 128 rfl) rfl
theorem q198 : (Jvm.Cond.classLink "LameClocks" (10 : Nat) "LameClocks$Stopped") ∈ lw_all := lw_g (lw_at lw_m1 129 rfl) rfl
theorem q199 : (Jvm.Cond.instantiable "LameClocks$Stopped" (6 : Nat)) ∈ lw_all := lw_g (lw_at lw_m1 130 rfl) rfl
theorem q200 : (Jvm.Cond.methodLinkNest "LameClocks" (12 : Nat) ({ cls := "LameClocks$Stopped", name := "<init>", desc := "()V" } : Jvm.MethodName) "LameClocks") ∈ lw_tbl := lw_at lw_m1 131 rfl
theorem q201 : (Jvm.Cond.instanceMethod ({ cls := "LameClocks$Stopped", name := "<init>", desc := "()V" } : Jvm.MethodName)) ∈ lw_all := lw_g (lw_at lw_m1 132 rfl) rfl
theorem q202 : (Jvm.Cond.code ({ cls := "LameClocks$Stopped", name := "<init>", desc := "()V" } : Jvm.MethodName) prog_14_method_1_code (1 : Nat) (Option.none : Option Jvm.ClassFile.FieldType)) ∈ lw_all := lw_g (lw_at lw_m1 133 rfl) rfl
theorem q203 : (Jvm.Cond.methodLinkNest "LameClocks$Stopped" (1 : Nat) ({ cls := "LameClocks$Plain", name := "<init>", desc := "()V" } : Jvm.MethodName) "LameClocks") ∈ lw_tbl := lw_at lw_m1 134 rfl
theorem q210 : (Jvm.Cond.superclass "LameClocks$Stopped" "LameClocks$Plain") ∈ lw_all := lw_g (lw_at lw_m1 141 rfl) rfl
theorem q211 : (Jvm.Cond.classLink "LameClocks" (13 : Nat) "LameClocks$Sundial") ∈ lw_all := lw_g (lw_at lw_m1 142 rfl) rfl
theorem q212 : (Jvm.Cond.instantiable "LameClocks$Sundial" (6 : Nat)) ∈ lw_all := lw_g (lw_at lw_m1 143 rfl) rfl
theorem q213 : (Jvm.Cond.methodLinkNest "LameClocks" (15 : Nat) ({ cls := "LameClocks$Sundial", name := "<init>", desc := "()V" } : Jvm.MethodName) "LameClocks") ∈ lw_tbl := lw_at lw_m1 144 rfl
theorem q214 : (Jvm.Cond.instanceMethod ({ cls := "LameClocks$Sundial", name := "<init>", desc := "()V" } : Jvm.MethodName)) ∈ lw_all := lw_g (lw_at lw_m1 145 rfl) rfl
theorem q215 : (Jvm.Cond.code ({ cls := "LameClocks$Sundial", name := "<init>", desc := "()V" } : Jvm.MethodName) prog_16_method_1_code (1 : Nat) (Option.none : Option Jvm.ClassFile.FieldType)) ∈ lw_all := lw_g (lw_at lw_m1 146 rfl) rfl
theorem q216 : (Jvm.Cond.methodLinkNest "LameClocks$Sundial" (3 : Nat) ({ cls := "LameClocks$Stopped", name := "<init>", desc := "()V" } : Jvm.MethodName) "LameClocks") ∈ lw_tbl := lw_at lw_m1 147 rfl
theorem q223 : (Jvm.Cond.superclass "LameClocks$Sundial" "LameClocks$Stopped") ∈ lw_all := lw_g (lw_at lw_m1 154 rfl) rfl
theorem q224 : (Jvm.Cond.classLink "LameClocks" (16 : Nat) "LameClocks$Twin") ∈ lw_all := lw_g (lw_at lw_m1 155 rfl) rfl
theorem q225 : (Jvm.Cond.instantiable "LameClocks$Twin" (6 : Nat)) ∈ lw_all := lw_g (lw_at lw_m1 156 rfl) rfl
theorem q226 : (Jvm.Cond.methodLinkNest "LameClocks" (18 : Nat) ({ cls := "LameClocks$Twin", name := "<init>", desc := "()V" } : Jvm.MethodName) "LameClocks") ∈ lw_tbl := lw_at lw_m1 157 rfl
theorem q227 : (Jvm.Cond.instanceMethod ({ cls := "LameClocks$Twin", name := "<init>", desc := "()V" } : Jvm.MethodName)) ∈ lw_all := lw_g (lw_at lw_m1 158 rfl) rfl
theorem q228 : (Jvm.Cond.code ({ cls := "LameClocks$Twin", name := "<init>", desc := "()V" } : Jvm.MethodName) prog_20_method_1_code (1 : Nat) (Option.none : Option Jvm.ClassFile.FieldType)) ∈ lw_all := lw_g (lw_at lw_m1 159 rfl) rfl
theorem q229 : (Jvm.Cond.methodLinkNest "LameClocks$Twin" (1 : Nat) ({ cls := "LameClocks$Plain", name := "<init>", desc := "()V" } : Jvm.MethodName) "LameClocks") ∈ lw_tbl := lw_at lw_m1 160 rfl
theorem q236 : (Jvm.Cond.superclass "LameClocks$Twin" "LameClocks$Plain") ∈ lw_all := lw_g (lw_at lw_m1 167 rfl) rfl
theorem q237 : (Jvm.Cond.classLink "LameClocks" (19 : Nat) "LameClocks$Mayor") ∈ lw_all := lw_g (lw_at lw_m1 168 rfl) rfl
theorem q238 : (Jvm.Cond.instantiable "LameClocks$Mayor" (6 : Nat)) ∈ lw_all := lw_g (lw_at lw_m1 169 rfl) rfl
theorem q239 : (Jvm.Cond.methodLinkNest "LameClocks" (21 : Nat) ({ cls := "LameClocks$Mayor", name := "<init>", desc := "()V" } : Jvm.MethodName) "LameClocks") ∈ lw_tbl := lw_at lw_m1 170 rfl
theorem q240 : (Jvm.Cond.instanceMethod ({ cls := "LameClocks$Mayor", name := "<init>", desc := "()V" } : Jvm.MethodName)) ∈ lw_all := lw_g (lw_at lw_m1 171 rfl) rfl
theorem q241 : (Jvm.Cond.code ({ cls := "LameClocks$Mayor", name := "<init>", desc := "()V" } : Jvm.MethodName) prog_9_method_1_code (1 : Nat) (Option.none : Option Jvm.ClassFile.FieldType)) ∈ lw_all := lw_g (lw_at lw_m1 172 rfl) rfl
theorem q242 : (Jvm.Cond.methodLinkNest "LameClocks$Mayor" (3 : Nat) ({ cls := "LameClocks$Plain", name := "<init>", desc := "()V" } : Jvm.MethodName) "LameClocks") ∈ lw_tbl := lw_at lw_m1 173 rfl
theorem q249 : (Jvm.Cond.superclass "LameClocks$Mayor" "LameClocks$Plain") ∈ lw_all := lw_g (lw_at lw_m1 180 rfl) rfl
theorem q275 : (Jvm.Cond.code ({ cls := "jdk/internal/util/ArraysSupport", name := "newLength", desc := "(III)I" } : Jvm.MethodName) prog_57_method_27_code (4 : Nat) (Option.some Jvm.ClassFile.FieldType.int)) ∈ lw_all := lw_g (lw_at lw_m1 206 rfl) rfl
theorem q276 : (Jvm.Cond.methodLink "jdk/internal/util/ArraysSupport" (194 : Nat) ({ cls := "java/lang/Math", name := "max", desc := "(II)I" } : Jvm.MethodName)) ∈ lw_all := lw_g (lw_at lw_m1 207 rfl) rfl
theorem q277 : (Jvm.Cond.static ({ cls := "java/lang/Math", name := "max", desc := "(II)I" } : Jvm.MethodName)) ∈ lw_all := lw_g (lw_at lw_m1 208 rfl) rfl
theorem q285 : (Jvm.Cond.code ({ cls := "java/util/Arrays", name := "copyOf", desc := "([Ljava/lang/Object;I)[Ljava/lang/Object;" } : Jvm.MethodName) prog_51_method_119_code (2 : Nat) (Option.some (Jvm.ClassFile.FieldType.array (Jvm.ClassFile.FieldType.object "java/lang/Object")))) ∈ lw_all := lw_g (lw_at lw_m1 216 rfl) rfl
theorem q286 : (Jvm.Cond.methodLink "java/util/Arrays" (86 : Nat) ({ cls := "java/lang/Object", name := "getClass", desc := "()Ljava/lang/Class;" } : Jvm.MethodName)) ∈ lw_all := lw_g (lw_at lw_m1 217 rfl) rfl
theorem q287 : (Jvm.Cond.instanceMethod ({ cls := "java/lang/Object", name := "getClass", desc := "()Ljava/lang/Class;" } : Jvm.MethodName)) ∈ lw_all := lw_g (lw_at lw_m1 218 rfl) rfl
theorem q316 : (Jvm.Cond.native ({ cls := "java/lang/Object", name := "getClass", desc := "()Ljava/lang/Class;" } : Jvm.MethodName)) ∈ lw_all := lw_g (lw_at lw_m2 7 rfl) rfl
theorem q317 : (Jvm.Cond.methodLink "java/util/Arrays" (300 : Nat) ({ cls := "java/util/Arrays", name := "copyOf", desc := "([Ljava/lang/Object;ILjava/lang/Class;)[Ljava/lang/Object;" } : Jvm.MethodName)) ∈ lw_all := lw_g (lw_at lw_m2 8 rfl) rfl
theorem q318 : (Jvm.Cond.static ({ cls := "java/util/Arrays", name := "copyOf", desc := "([Ljava/lang/Object;ILjava/lang/Class;)[Ljava/lang/Object;" } : Jvm.MethodName)) ∈ lw_all := lw_g (lw_at lw_m2 9 rfl) rfl
theorem q341 : (Jvm.Cond.code ({ cls := "java/util/Objects", name := "checkIndex", desc := "(II)I" } : Jvm.MethodName) prog_54_method_17_code (2 : Nat) (Option.some Jvm.ClassFile.FieldType.int)) ∈ lw_all := lw_g (lw_at lw_m2 32 rfl) rfl
theorem q342 : (Jvm.Cond.methodLink "java/util/Objects" (105 : Nat) ({ cls := "jdk/internal/util/Preconditions", name := "checkIndex", desc := "(IILjava/util/function/BiFunction;)I" } : Jvm.MethodName)) ∈ lw_all := lw_g (lw_at lw_m2 33 rfl) rfl
theorem q343 : (Jvm.Cond.static ({ cls := "jdk/internal/util/Preconditions", name := "checkIndex", desc := "(IILjava/util/function/BiFunction;)I" } : Jvm.MethodName)) ∈ lw_all := lw_g (lw_at lw_m2 34 rfl) rfl
theorem q372 : (Jvm.Cond.code ({ cls := "LameClocks", name := "isClock", desc := "(I)Z" } : Jvm.MethodName) prog_1_method_4_code (2 : Nat) (Option.some Jvm.ClassFile.FieldType.boolean)) ∈ lw_all := lw_g (lw_at lw_m2 63 rfl) rfl
theorem q380 : (Jvm.Cond.instanceMethod ({ cls := "LameClocks$Plain", name := "kind", desc := "()I" } : Jvm.MethodName)) ∈ lw_all := lw_g (lw_at lw_m2 71 rfl) rfl
theorem q382 : (Jvm.Cond.sameMethod "LameClocks$Plain" "LameClocks$Plain" "kind" "()I") ∈ lw_all := lw_g (lw_at lw_m2 73 rfl) rfl
theorem q385 : (Jvm.Cond.code ({ cls := "LameClocks$Cuckoo", name := "kind", desc := "()I" } : Jvm.MethodName) prog_6_method_2_code (1 : Nat) (Option.some Jvm.ClassFile.FieldType.int)) ∈ lw_all := lw_g (lw_at lw_m2 76 rfl) rfl
theorem q386 : (Jvm.Cond.methodLink "LameClocks$Cuckoo" (9 : Nat) ({ cls := "LameClocks$Plain", name := "kind", desc := "()I" } : Jvm.MethodName)) ∈ lw_all := lw_g (lw_at lw_m2 77 rfl) rfl
theorem q389 : (Jvm.Cond.code ({ cls := "LameClocks$Mayor", name := "kind", desc := "()I" } : Jvm.MethodName) prog_9_method_2_code (1 : Nat) (Option.some Jvm.ClassFile.FieldType.int)) ∈ lw_all := lw_g (lw_at lw_m2 80 rfl) rfl
theorem q390 : (Jvm.Cond.methodLink "LameClocks$Mayor" (9 : Nat) ({ cls := "LameClocks$Plain", name := "kind", desc := "()I" } : Jvm.MethodName)) ∈ lw_all := lw_g (lw_at lw_m2 81 rfl) rfl
theorem q392 : (Jvm.Cond.instanceMethod ({ cls := "LameClocks$Stopped", name := "kind", desc := "()I" } : Jvm.MethodName)) ∈ lw_all := lw_g (lw_at lw_m2 83 rfl) rfl
theorem q393 : (Jvm.Cond.code ({ cls := "LameClocks$Stopped", name := "kind", desc := "()I" } : Jvm.MethodName) prog_14_method_2_code (1 : Nat) (Option.some Jvm.ClassFile.FieldType.int)) ∈ lw_all := lw_g (lw_at lw_m2 84 rfl) rfl
theorem q394 : (Jvm.Cond.methodLink "LameClocks$Stopped" (7 : Nat) ({ cls := "LameClocks$Plain", name := "kind", desc := "()I" } : Jvm.MethodName)) ∈ lw_all := lw_g (lw_at lw_m2 85 rfl) rfl
theorem q397 : (Jvm.Cond.code ({ cls := "LameClocks$Sundial", name := "kind", desc := "()I" } : Jvm.MethodName) prog_16_method_2_code (1 : Nat) (Option.some Jvm.ClassFile.FieldType.int)) ∈ lw_all := lw_g (lw_at lw_m2 88 rfl) rfl
theorem q398 : (Jvm.Cond.methodLink "LameClocks$Sundial" (9 : Nat) ({ cls := "LameClocks$Stopped", name := "kind", desc := "()I" } : Jvm.MethodName)) ∈ lw_all := lw_g (lw_at lw_m2 89 rfl) rfl
theorem q401 : (Jvm.Cond.code ({ cls := "LameClocks$Twin", name := "kind", desc := "()I" } : Jvm.MethodName) prog_20_method_2_code (1 : Nat) (Option.some Jvm.ClassFile.FieldType.int)) ∈ lw_all := lw_g (lw_at lw_m2 92 rfl) rfl
theorem q402 : (Jvm.Cond.methodLink "LameClocks$Twin" (7 : Nat) ({ cls := "LameClocks$Plain", name := "kind", desc := "()I" } : Jvm.MethodName)) ∈ lw_all := lw_g (lw_at lw_m2 93 rfl) rfl
theorem q466 : (Jvm.Cond.code ({ cls := "LameClocks", name := "isWindow", desc := "(I)Z" } : Jvm.MethodName) prog_1_method_5_code (2 : Nat) (Option.some Jvm.ClassFile.FieldType.boolean)) ∈ lw_all := lw_g (lw_at lw_m2 157 rfl) rfl
theorem q467 : (Jvm.Cond.methodLink "LameClocks" (52 : Nat) ({ cls := "LameClocks$Race", name := "home", desc := "()I" } : Jvm.MethodName)) ∈ lw_all := lw_g (lw_at lw_m2 158 rfl) rfl
theorem q469 : (Jvm.Cond.selects "LameClocks$Race" ({ cls := "LameClocks$Race", name := "home", desc := "()I" } : Jvm.MethodName) ({ cls := "LameClocks$Race", name := "home", desc := "()I" } : Jvm.MethodName)) ∈ lw_all := lw_g (lw_at lw_m2 160 rfl) rfl
theorem q555 : (Jvm.Cond.interfaceMethod "LameClocks$Street" "LameClocks$Street" "sky" "()I") ∈ lw_tbl := lw_at lw_m3 6 rfl
theorem q556 : (Jvm.Cond.declares ({ cls := "LameClocks$Street", name := "sky", desc := "()I" } : Jvm.MethodName)) ∈ lw_tbl := lw_at lw_m3 7 rfl
theorem q557 : (Jvm.Cond.selects "LameClocks$Race" ({ cls := "LameClocks$Street", name := "sky", desc := "()I" } : Jvm.MethodName) ({ cls := "LameClocks$Race", name := "sky", desc := "()I" } : Jvm.MethodName)) ∈ lw_all := lw_g (lw_at lw_m3 8 rfl) rfl
theorem q558 : (Jvm.Cond.unhidden "LameClocks$Race" "sky" "()I") ∈ lw_tbl := lw_at lw_m3 9 rfl
theorem q559 : (Jvm.Cond.instanceMethod ({ cls := "LameClocks$Race", name := "sky", desc := "()I" } : Jvm.MethodName)) ∈ lw_all := lw_g (lw_at lw_m3 10 rfl) rfl
theorem q560 : (Jvm.Cond.publicMethod ({ cls := "LameClocks$Race", name := "sky", desc := "()I" } : Jvm.MethodName)) ∈ lw_tbl := lw_at lw_m3 11 rfl
theorem q583 : (Jvm.Cond.instanceMethod ({ cls := "LameClocks$Plain", name := "far", desc := "(LLameClocks$Street;)I" } : Jvm.MethodName)) ∈ lw_all := lw_g (lw_at lw_m3 34 rfl) rfl
theorem q585 : (Jvm.Cond.sameMethod "LameClocks$Plain" "LameClocks$Plain" "far" "(LLameClocks$Street;)I") ∈ lw_all := lw_g (lw_at lw_m3 36 rfl) rfl
theorem q588 : (Jvm.Cond.code ({ cls := "LameClocks$Cuckoo", name := "far", desc := "(LLameClocks$Street;)I" } : Jvm.MethodName) prog_6_method_3_code (2 : Nat) (Option.some Jvm.ClassFile.FieldType.int)) ∈ lw_all := lw_g (lw_at lw_m3 39 rfl) rfl
theorem q590 : (Jvm.Cond.methodLink "LameClocks$Cuckoo" (13 : Nat) ({ cls := "LameClocks$Street", name := "sky", desc := "()I" } : Jvm.MethodName)) ∈ lw_all := lw_g (lw_at lw_m3 41 rfl) rfl
theorem q591 : (Jvm.Cond.methodLink "LameClocks$Cuckoo" (18 : Nat) ({ cls := "LameClocks$Plain", name := "far", desc := "(LLameClocks$Street;)I" } : Jvm.MethodName)) ∈ lw_all := lw_g (lw_at lw_m3 42 rfl) rfl
theorem q633 : (Jvm.Cond.instanceMethod ({ cls := "LameClocks$Plain", name := "isRunning", desc := "()Z" } : Jvm.MethodName)) ∈ lw_all := lw_g (lw_at lw_m3 84 rfl) rfl
theorem q635 : (Jvm.Cond.sameMethod "LameClocks$Plain" "LameClocks$Plain" "isRunning" "()Z") ∈ lw_all := lw_g (lw_at lw_m3 86 rfl) rfl
theorem q640 : (Jvm.Cond.code ({ cls := "LameClocks$Stopped", name := "isRunning", desc := "()Z" } : Jvm.MethodName) prog_14_method_3_code (1 : Nat) (Option.some Jvm.ClassFile.FieldType.boolean)) ∈ lw_all := lw_g (lw_at lw_m3 91 rfl) rfl
theorem q641 : (Jvm.Cond.methodLink "LameClocks$Stopped" (11 : Nat) ({ cls := "LameClocks$Plain", name := "isRunning", desc := "()Z" } : Jvm.MethodName)) ∈ lw_all := lw_g (lw_at lw_m3 92 rfl) rfl
theorem q741 : (Jvm.Cond.code ({ cls := "LameClocks$Plain", name := "turns", desc := "(I)V" } : Jvm.MethodName) prog_11_method_10_code (2 : Nat) (Option.none : Option Jvm.ClassFile.FieldType)) ∈ lw_all := lw_g (lw_at lw_m3 192 rfl) rfl
theorem q854 : (Jvm.Cond.code ({ cls := "LameClocks$Plain", name := "takes", desc := "(LLameClocks$Plain;)V" } : Jvm.MethodName) prog_11_method_14_code (2 : Nat) (Option.none : Option Jvm.ClassFile.FieldType)) ∈ lw_all := lw_g (lw_at lw_m4 65 rfl) rfl
theorem q1120 : (Jvm.Cond.code ({ cls := "java/lang/String", name := "length", desc := "()I" } : Jvm.MethodName) prog_41_method_54_code (1 : Nat) (Option.some Jvm.ClassFile.FieldType.int)) ∈ lw_all := lw_g (lw_at lw_m5 91 rfl) rfl
theorem q1121 : (Jvm.Cond.methodLink "java/lang/String" (335 : Nat) ({ cls := "java/lang/String", name := "coder", desc := "()B" } : Jvm.MethodName)) ∈ lw_all := lw_g (lw_at lw_m5 92 rfl) rfl
theorem q1122 : (Jvm.Cond.instanceMethod ({ cls := "java/lang/String", name := "coder", desc := "()B" } : Jvm.MethodName)) ∈ lw_all := lw_g (lw_at lw_m5 93 rfl) rfl
theorem q1123 : (Jvm.Cond.selects "java/lang/String" ({ cls := "java/lang/String", name := "coder", desc := "()B" } : Jvm.MethodName) ({ cls := "java/lang/String", name := "coder", desc := "()B" } : Jvm.MethodName)) ∈ lw_all := lw_g (lw_at lw_m5 94 rfl) rfl
theorem q1127 : (Jvm.Cond.code ({ cls := "java/lang/StringLatin1", name := "indexOf", desc := "([BIII)I" } : Jvm.MethodName) prog_42_method_22_code (4 : Nat) (Option.some Jvm.ClassFile.FieldType.int)) ∈ lw_all := lw_g (lw_at lw_m5 98 rfl) rfl
theorem q1128 : (Jvm.Cond.methodLink "java/lang/StringLatin1" (88 : Nat) ({ cls := "java/lang/StringLatin1", name := "canEncode", desc := "(I)Z" } : Jvm.MethodName)) ∈ lw_all := lw_g (lw_at lw_m5 99 rfl) rfl
theorem q1129 : (Jvm.Cond.static ({ cls := "java/lang/StringLatin1", name := "canEncode", desc := "(I)Z" } : Jvm.MethodName)) ∈ lw_all := lw_g (lw_at lw_m5 100 rfl) rfl
theorem q1131 : (Jvm.Cond.methodLink "java/lang/StringLatin1" (92 : Nat) ({ cls := "java/lang/Math", name := "max", desc := "(II)I" } : Jvm.MethodName)) ∈ lw_all := lw_g (lw_at lw_m5 102 rfl) rfl
theorem q1132 : (Jvm.Cond.methodLink "java/lang/StringLatin1" (38 : Nat) ({ cls := "java/lang/Math", name := "min", desc := "(II)I" } : Jvm.MethodName)) ∈ lw_all := lw_g (lw_at lw_m5 103 rfl) rfl
theorem q1133 : (Jvm.Cond.methodLink "java/lang/StringLatin1" (95 : Nat) ({ cls := "java/lang/StringLatin1", name := "indexOfChar", desc := "([BIII)I" } : Jvm.MethodName)) ∈ lw_all := lw_g (lw_at lw_m5 104 rfl) rfl
theorem q1134 : (Jvm.Cond.static ({ cls := "java/lang/StringLatin1", name := "indexOfChar", desc := "([BIII)I" } : Jvm.MethodName)) ∈ lw_all := lw_g (lw_at lw_m5 105 rfl) rfl
theorem q2170 : (Jvm.Cond.sameMethod "LameClocks$Stopped" "LameClocks$Stopped" "kind" "()I") ∈ lw_all := lw_g (lw_at lw_m9 181 rfl) rfl
theorem q2213 : (Jvm.Cond.selects "[Ljava/lang/Object;" ({ cls := "java/lang/Object", name := "getClass", desc := "()Ljava/lang/Class;" } : Jvm.MethodName) ({ cls := "java/lang/Object", name := "getClass", desc := "()Ljava/lang/Class;" } : Jvm.MethodName)) ∈ lw_all := lw_g (lw_at lw_m9 224 rfl) rfl
theorem q2214 : (Jvm.Cond.declares ({ cls := "java/lang/Object", name := "getClass", desc := "()Ljava/lang/Class;" } : Jvm.MethodName)) ∈ lw_tbl := lw_at lw_m9 225 rfl
theorem q2223 : (Jvm.Cond.fieldLink "java/lang/String" (9 : Nat) "java/lang/String" "value" "[B") ∈ lw_all := lw_g (lw_at lw_m9 234 rfl) rfl
abbrev cX4_turns : ByteArray := prog_11_method_10_code
def yX4_turns : MethodName := ⟨RX4, "turns", "(I)V"⟩
def dkwX4_turns_0 : List UInt8 := [42, 42, 180, 0, 15, 27, 96, 17, 2, 208, 112, 181, 0, 15, 177]
abbrev dktX4_turns_0 : List UInt8 := dkwX4_turns_0 ++ []
theorem dksX4_turns_0 : cX4_turns.data.toList.drop 0 = dktX4_turns_0 := by decide +kernel
theorem dX4_turns_0 : decode cX4_turns 0 = .ok (.aload_n 0, 1) := dk_42 (dk_at dksX4_turns_0 0 rfl rfl)
theorem dX4_turns_1 : decode cX4_turns 1 = .ok (.aload_n 0, 1) := dk_42 (dk_at dksX4_turns_0 1 rfl rfl)
theorem dX4_turns_2 : decode cX4_turns 2 = .ok (.getfield 15, 3) := dk_180 0 15 (dk_at dksX4_turns_0 2 rfl rfl)
theorem dX4_turns_5 : decode cX4_turns 5 = .ok (.iload_n 1, 1) := dk_27 (dk_at dksX4_turns_0 5 rfl rfl)
theorem dX4_turns_6 : decode cX4_turns 6 = .ok (.iadd, 1) := dk_96 (dk_at dksX4_turns_0 6 rfl rfl)
theorem dX4_turns_7 : decode cX4_turns 7 = .ok (.sipush 720, 3) := dk_17 2 208 (dk_at dksX4_turns_0 7 rfl rfl)
theorem dX4_turns_10 : decode cX4_turns 10 = .ok (.irem, 1) := dk_112 (dk_at dksX4_turns_0 10 rfl rfl)
theorem dX4_turns_11 : decode cX4_turns 11 = .ok (.putfield 15, 3) := dk_181 0 15 (dk_at dksX4_turns_0 11 rfl rfl)
theorem dX4_turns_14 : decode cX4_turns 14 = .ok (.return_, 1) := dk_177 (dk_at dksX4_turns_0 14 rfl rfl)
theorem fp_X4_15 : g_fp RX4 15 [4, 5, 6, 7, 8, 9] 1 .int false := ⟨_, _, _, Or.inl q156, by decide +kernel, fun ci h => by
  simp only [List.mem_cons, List.not_mem_nil, or_false] at h; rcases h with rfl | rfl | rfl | rfl | rfl | rfl
  · exact ⟨_, _, _, tyX4, rfl, by decide, rfl, rfl, Or.inl rfl, in_X4, rfl, (fun h => by cases h), tyX4_ok, (by decide +kernel)⟩
  · exact ⟨_, _, _, tyX5, rfl, by decide, rfl, rfl, Or.inl rfl, in_X5, rfl, (fun h => by cases h), tyX5_ok, (by decide +kernel)⟩
  · exact ⟨_, _, _, tyX6, rfl, by decide, rfl, rfl, Or.inl rfl, in_X6, rfl, (fun h => by cases h), tyX6_ok, (by decide +kernel)⟩
  · exact ⟨_, _, _, tyX7, rfl, by decide, rfl, rfl, Or.inl rfl, in_X7, rfl, (fun h => by cases h), tyX7_ok, (by decide +kernel)⟩
  · exact ⟨_, _, _, tyX8, rfl, by decide, rfl, rfl, Or.inl rfl, in_X8, rfl, (fun h => by cases h), tyX8_ok, (by decide +kernel)⟩
  · exact ⟨_, _, _, tyX9, rfl, by decide, rfl, rfl, Or.inl rfl, in_X9, rfl, (fun h => by cases h), tyX9_ok, (by decide +kernel)⟩⟩
section CP
variable {Γ : Gc} {p : Program} {l : Launch} {e : Env} {s : State} {m : MethodId} {args : Array Value} {below : List Frame} {meth : Method} {c : Code} {ex : Nat → Option Nat} {z : Nat} {tF : St}
noncomputable def fX4_turns (ex : Nat → Option Nat) (z : Nat) (h0 : Nat) (x1 : Int32) (t : St) : Option (Unit × St) := cgI [4, 5, 6, 7, 8, 9] 1 t h0 fun v1 => cput [4, 5, 6, 7, 8, 9] 1 t h0 (.int ((v1 + x1) - (v1 + x1) / 720 * 720)) fun t2 => some ((), t2)
set_option maxHeartbeats 4000000 in
theorem wX4_turns {rF : Unit} (hex : ex = Γ.2.2.2.2) (X : g_X Γ p s m args meth c cX4_turns 2 RX4) (hr : meth.sig.returnType = none) (h0 : Nat) (x1 : Int32) (t : St) : Wf Γ p l e 0 0 s m args below meth c 2 (g_ι z) v_v rF tF 0 [(0, .ref h0), (1, .int x1)] [] t (fX4_turns ex z h0 x1 t) := by
  unfold fX4_turns
  refine g_aload_n (pc := 0) X 0 dX4_turns_0 rfl rfl ?_
  refine g_aload_n (pc := 1) X 0 dX4_turns_1 rfl rfl ?_
  refine cg_getI (pc := 2) X fo_X4_15 dX4_turns_2 (fun v1 => ?_)
  refine g_iload_n (pc := 5) X 1 dX4_turns_5 rfl rfl ?_
  refine g_iadd (pc := 6) X dX4_turns_6 ?_
  refine g_sipush (pc := 7) X 720 dX4_turns_7 rfl ?_
  refine g_irem (pc := 10) X dX4_turns_10 (by decide) ?_
  refine cg_put (pc := 11) X fp_X4_15 dX4_turns_11 (fun h => by cases h) rfl rfl (fun t2 => ?_)
  exact g_vret (pc := 14) X hr dX4_turns_14
theorem kX4_turns {ex : Nat → Option Nat} {z : Nat} {h0 : Nat} {x1 : Int32} {σ : Sg} {r : Unit} {u : St} (hex : ex = Γ.2.2.2.2) (h : fX4_turns ex z h0 x1 (σ, 0, 0) = some (r, u)) : g_C Γ l yX4_turns cX4_turns 2 none 0 0 [.ref h0, .int x1] σ z v_v r (g_ι z u) :=
  g_met (ι := g_ι z) (t := (σ, 0, 0)) [.ref h0, .int x1] (by decide) (Nat.le_of_ble_eq_true rfl) h rfl (fun p e s m args below meth c X hr hn => wX4_turns hex X hr h0 x1 (σ, 0, 0))
end CP
abbrev cX4_takes : ByteArray := prog_11_method_14_code
def yX4_takes : MethodName := ⟨RX4, "takes", "(LLameClocks$Plain;)V"⟩
def dkwX4_takes_2 : List UInt8 := [177]
abbrev dktX4_takes_2 : List UInt8 := dkwX4_takes_2 ++ []
def dkwX4_takes_1 : List UInt8 := [42, 43, 180, 0, 34, 181, 0, 34, 42, 43, 180, 0, 25, 181, 0, 25, 42, 43, 180, 0, 9, 181, 0, 9]
abbrev dktX4_takes_1 : List UInt8 := dkwX4_takes_1 ++ dktX4_takes_2
def dkwX4_takes_0 : List UInt8 := [42, 43, 180, 0, 56, 181, 0, 56, 42, 43, 180, 0, 15, 181, 0, 15, 42, 43, 180, 0, 41, 181, 0, 41]
abbrev dktX4_takes_0 : List UInt8 := dkwX4_takes_0 ++ dktX4_takes_1
theorem dksX4_takes_0 : cX4_takes.data.toList.drop 0 = dktX4_takes_0 := by decide +kernel
theorem dksX4_takes_1 : cX4_takes.data.toList.drop 24 = dktX4_takes_1 := dk_seg dksX4_takes_0 24 rfl rfl
theorem dksX4_takes_2 : cX4_takes.data.toList.drop 48 = dktX4_takes_2 := dk_seg dksX4_takes_1 24 rfl rfl
theorem dX4_takes_0 : decode cX4_takes 0 = .ok (.aload_n 0, 1) := dk_42 (dk_at dksX4_takes_0 0 rfl rfl)
theorem dX4_takes_1 : decode cX4_takes 1 = .ok (.aload_n 1, 1) := dk_43 (dk_at dksX4_takes_0 1 rfl rfl)
theorem dX4_takes_2 : decode cX4_takes 2 = .ok (.getfield 56, 3) := dk_180 0 56 (dk_at dksX4_takes_0 2 rfl rfl)
theorem dX4_takes_5 : decode cX4_takes 5 = .ok (.putfield 56, 3) := dk_181 0 56 (dk_at dksX4_takes_0 5 rfl rfl)
theorem dX4_takes_8 : decode cX4_takes 8 = .ok (.aload_n 0, 1) := dk_42 (dk_at dksX4_takes_0 8 rfl rfl)
theorem dX4_takes_9 : decode cX4_takes 9 = .ok (.aload_n 1, 1) := dk_43 (dk_at dksX4_takes_0 9 rfl rfl)
theorem dX4_takes_10 : decode cX4_takes 10 = .ok (.getfield 15, 3) := dk_180 0 15 (dk_at dksX4_takes_0 10 rfl rfl)
theorem dX4_takes_13 : decode cX4_takes 13 = .ok (.putfield 15, 3) := dk_181 0 15 (dk_at dksX4_takes_0 13 rfl rfl)
theorem dX4_takes_16 : decode cX4_takes 16 = .ok (.aload_n 0, 1) := dk_42 (dk_at dksX4_takes_0 16 rfl rfl)
theorem dX4_takes_17 : decode cX4_takes 17 = .ok (.aload_n 1, 1) := dk_43 (dk_at dksX4_takes_0 17 rfl rfl)
theorem dX4_takes_18 : decode cX4_takes 18 = .ok (.getfield 41, 3) := dk_180 0 41 (dk_at dksX4_takes_0 18 rfl rfl)
theorem dX4_takes_21 : decode cX4_takes 21 = .ok (.putfield 41, 3) := dk_181 0 41 (dk_at dksX4_takes_0 21 rfl rfl)
theorem dX4_takes_24 : decode cX4_takes 24 = .ok (.aload_n 0, 1) := dk_42 (dk_at dksX4_takes_1 0 rfl rfl)
theorem dX4_takes_25 : decode cX4_takes 25 = .ok (.aload_n 1, 1) := dk_43 (dk_at dksX4_takes_1 1 rfl rfl)
theorem dX4_takes_26 : decode cX4_takes 26 = .ok (.getfield 34, 3) := dk_180 0 34 (dk_at dksX4_takes_1 2 rfl rfl)
theorem dX4_takes_29 : decode cX4_takes 29 = .ok (.putfield 34, 3) := dk_181 0 34 (dk_at dksX4_takes_1 5 rfl rfl)
theorem dX4_takes_32 : decode cX4_takes 32 = .ok (.aload_n 0, 1) := dk_42 (dk_at dksX4_takes_1 8 rfl rfl)
theorem dX4_takes_33 : decode cX4_takes 33 = .ok (.aload_n 1, 1) := dk_43 (dk_at dksX4_takes_1 9 rfl rfl)
theorem dX4_takes_34 : decode cX4_takes 34 = .ok (.getfield 25, 3) := dk_180 0 25 (dk_at dksX4_takes_1 10 rfl rfl)
theorem dX4_takes_37 : decode cX4_takes 37 = .ok (.putfield 25, 3) := dk_181 0 25 (dk_at dksX4_takes_1 13 rfl rfl)
theorem dX4_takes_40 : decode cX4_takes 40 = .ok (.aload_n 0, 1) := dk_42 (dk_at dksX4_takes_1 16 rfl rfl)
theorem dX4_takes_41 : decode cX4_takes 41 = .ok (.aload_n 1, 1) := dk_43 (dk_at dksX4_takes_1 17 rfl rfl)
theorem dX4_takes_42 : decode cX4_takes 42 = .ok (.getfield 9, 3) := dk_180 0 9 (dk_at dksX4_takes_1 18 rfl rfl)
theorem dX4_takes_45 : decode cX4_takes 45 = .ok (.putfield 9, 3) := dk_181 0 9 (dk_at dksX4_takes_1 21 rfl rfl)
theorem dX4_takes_48 : decode cX4_takes 48 = .ok (.return_, 1) := dk_177 (dk_at dksX4_takes_2 0 rfl rfl)
theorem fo_X4_56 : g_fo RX4 56 [4, 5, 6, 7, 8, 9] 0 := ⟨_, _, _, Or.inl q154, fun ci h => by
  simp only [List.mem_cons, List.not_mem_nil, or_false] at h; rcases h with rfl | rfl | rfl | rfl | rfl | rfl
  · exact ⟨_, _, _, rfl, by decide, rfl, rfl, Or.inl rfl, in_X4⟩
  · exact ⟨_, _, _, rfl, by decide, rfl, rfl, Or.inl rfl, in_X5⟩
  · exact ⟨_, _, _, rfl, by decide, rfl, rfl, Or.inl rfl, in_X6⟩
  · exact ⟨_, _, _, rfl, by decide, rfl, rfl, Or.inl rfl, in_X7⟩
  · exact ⟨_, _, _, rfl, by decide, rfl, rfl, Or.inl rfl, in_X8⟩
  · exact ⟨_, _, _, rfl, by decide, rfl, rfl, Or.inl rfl, in_X9⟩⟩
theorem fp_X4_56 : g_fp RX4 56 [4, 5, 6, 7, 8, 9] 0 .int false := ⟨_, _, _, Or.inl q154, by decide +kernel, fun ci h => by
  simp only [List.mem_cons, List.not_mem_nil, or_false] at h; rcases h with rfl | rfl | rfl | rfl | rfl | rfl
  · exact ⟨_, _, _, tyX4, rfl, by decide, rfl, rfl, Or.inl rfl, in_X4, rfl, (fun h => by cases h), tyX4_ok, (by decide +kernel)⟩
  · exact ⟨_, _, _, tyX5, rfl, by decide, rfl, rfl, Or.inl rfl, in_X5, rfl, (fun h => by cases h), tyX5_ok, (by decide +kernel)⟩
  · exact ⟨_, _, _, tyX6, rfl, by decide, rfl, rfl, Or.inl rfl, in_X6, rfl, (fun h => by cases h), tyX6_ok, (by decide +kernel)⟩
  · exact ⟨_, _, _, tyX7, rfl, by decide, rfl, rfl, Or.inl rfl, in_X7, rfl, (fun h => by cases h), tyX7_ok, (by decide +kernel)⟩
  · exact ⟨_, _, _, tyX8, rfl, by decide, rfl, rfl, Or.inl rfl, in_X8, rfl, (fun h => by cases h), tyX8_ok, (by decide +kernel)⟩
  · exact ⟨_, _, _, tyX9, rfl, by decide, rfl, rfl, Or.inl rfl, in_X9, rfl, (fun h => by cases h), tyX9_ok, (by decide +kernel)⟩⟩
theorem fo_X4_41 : g_fo RX4 41 [4, 5, 6, 7, 8, 9] 2 := ⟨_, _, _, Or.inl q160, fun ci h => by
  simp only [List.mem_cons, List.not_mem_nil, or_false] at h; rcases h with rfl | rfl | rfl | rfl | rfl | rfl
  · exact ⟨_, _, _, rfl, by decide, rfl, rfl, Or.inl rfl, in_X4⟩
  · exact ⟨_, _, _, rfl, by decide, rfl, rfl, Or.inl rfl, in_X5⟩
  · exact ⟨_, _, _, rfl, by decide, rfl, rfl, Or.inl rfl, in_X6⟩
  · exact ⟨_, _, _, rfl, by decide, rfl, rfl, Or.inl rfl, in_X7⟩
  · exact ⟨_, _, _, rfl, by decide, rfl, rfl, Or.inl rfl, in_X8⟩
  · exact ⟨_, _, _, rfl, by decide, rfl, rfl, Or.inl rfl, in_X9⟩⟩
theorem fp_X4_41 : g_fp RX4 41 [4, 5, 6, 7, 8, 9] 2 .int false := ⟨_, _, _, Or.inl q160, by decide +kernel, fun ci h => by
  simp only [List.mem_cons, List.not_mem_nil, or_false] at h; rcases h with rfl | rfl | rfl | rfl | rfl | rfl
  · exact ⟨_, _, _, tyX4, rfl, by decide, rfl, rfl, Or.inl rfl, in_X4, rfl, (fun h => by cases h), tyX4_ok, (by decide +kernel)⟩
  · exact ⟨_, _, _, tyX5, rfl, by decide, rfl, rfl, Or.inl rfl, in_X5, rfl, (fun h => by cases h), tyX5_ok, (by decide +kernel)⟩
  · exact ⟨_, _, _, tyX6, rfl, by decide, rfl, rfl, Or.inl rfl, in_X6, rfl, (fun h => by cases h), tyX6_ok, (by decide +kernel)⟩
  · exact ⟨_, _, _, tyX7, rfl, by decide, rfl, rfl, Or.inl rfl, in_X7, rfl, (fun h => by cases h), tyX7_ok, (by decide +kernel)⟩
  · exact ⟨_, _, _, tyX8, rfl, by decide, rfl, rfl, Or.inl rfl, in_X8, rfl, (fun h => by cases h), tyX8_ok, (by decide +kernel)⟩
  · exact ⟨_, _, _, tyX9, rfl, by decide, rfl, rfl, Or.inl rfl, in_X9, rfl, (fun h => by cases h), tyX9_ok, (by decide +kernel)⟩⟩
theorem fp_X4_25 : g_fp RX4 25 [4, 5, 6, 7, 8, 9] 4 .int false := ⟨_, _, _, Or.inl q166, by decide +kernel, fun ci h => by
  simp only [List.mem_cons, List.not_mem_nil, or_false] at h; rcases h with rfl | rfl | rfl | rfl | rfl | rfl
  · exact ⟨_, _, _, tyX4, rfl, by decide, rfl, rfl, Or.inl rfl, in_X4, rfl, (fun h => by cases h), tyX4_ok, (by decide +kernel)⟩
  · exact ⟨_, _, _, tyX5, rfl, by decide, rfl, rfl, Or.inl rfl, in_X5, rfl, (fun h => by cases h), tyX5_ok, (by decide +kernel)⟩
  · exact ⟨_, _, _, tyX6, rfl, by decide, rfl, rfl, Or.inl rfl, in_X6, rfl, (fun h => by cases h), tyX6_ok, (by decide +kernel)⟩
  · exact ⟨_, _, _, tyX7, rfl, by decide, rfl, rfl, Or.inl rfl, in_X7, rfl, (fun h => by cases h), tyX7_ok, (by decide +kernel)⟩
  · exact ⟨_, _, _, tyX8, rfl, by decide, rfl, rfl, Or.inl rfl, in_X8, rfl, (fun h => by cases h), tyX8_ok, (by decide +kernel)⟩
  · exact ⟨_, _, _, tyX9, rfl, by decide, rfl, rfl, Or.inl rfl, in_X9, rfl, (fun h => by cases h), tyX9_ok, (by decide +kernel)⟩⟩
section CP
variable {Γ : Gc} {p : Program} {l : Launch} {e : Env} {s : State} {m : MethodId} {args : Array Value} {below : List Frame} {meth : Method} {c : Code} {ex : Nat → Option Nat} {z : Nat} {tF : St}
noncomputable def fX4_takes (ex : Nat → Option Nat) (z : Nat) (h0 : Nat) (h1 : Nat) (t : St) : Option (Unit × St) := cgI [4, 5, 6, 7, 8, 9] 0 t h1 fun v1 => cput [4, 5, 6, 7, 8, 9] 0 t h0 (.int v1) fun t2 => cgI [4, 5, 6, 7, 8, 9] 1 t2 h1 fun v3 => cput [4, 5, 6, 7, 8, 9] 1 t2 h0 (.int v3) fun t4 => cgI [4, 5, 6, 7, 8, 9] 2 t4 h1 fun v5 => cput [4, 5, 6, 7, 8, 9] 2 t4 h0 (.int v5) fun t6 => cgI [4, 5, 6, 7, 8, 9] 3 t6 h1 fun v7 => cput [4, 5, 6, 7, 8, 9] 3 t6 h0 (.int v7) fun t8 => cgI [4, 5, 6, 7, 8, 9] 4 t8 h1 fun v9 => cput [4, 5, 6, 7, 8, 9] 4 t8 h0 (.int v9) fun t10 => cgI [4, 5, 6, 7, 8, 9] 5 t10 h1 fun v11 => cput [4, 5, 6, 7, 8, 9] 5 t10 h0 (.int v11) fun t12 => some ((), t12)
set_option maxHeartbeats 4000000 in
theorem wX4_takes {rF : Unit} (hex : ex = Γ.2.2.2.2) (X : g_X Γ p s m args meth c cX4_takes 2 RX4) (hr : meth.sig.returnType = none) (h0 : Nat) (h1 : Nat) (t : St) : Wf Γ p l e 0 0 s m args below meth c 2 (g_ι z) v_v rF tF 0 [(0, .ref h0), (1, .ref h1)] [] t (fX4_takes ex z h0 h1 t) := by
  unfold fX4_takes
  refine g_aload_n (pc := 0) X 0 dX4_takes_0 rfl rfl ?_
  refine g_aload_n (pc := 1) X 1 dX4_takes_1 rfl rfl ?_
  refine cg_getI (pc := 2) X fo_X4_56 dX4_takes_2 (fun v1 => ?_)
  refine cg_put (pc := 5) X fp_X4_56 dX4_takes_5 (fun h => by cases h) rfl rfl (fun t2 => ?_)
  refine g_aload_n (pc := 8) X 0 dX4_takes_8 rfl rfl ?_
  refine g_aload_n (pc := 9) X 1 dX4_takes_9 rfl rfl ?_
  refine cg_getI (pc := 10) X fo_X4_15 dX4_takes_10 (fun v3 => ?_)
  refine cg_put (pc := 13) X fp_X4_15 dX4_takes_13 (fun h => by cases h) rfl rfl (fun t4 => ?_)
  refine g_aload_n (pc := 16) X 0 dX4_takes_16 rfl rfl ?_
  refine g_aload_n (pc := 17) X 1 dX4_takes_17 rfl rfl ?_
  refine cg_getI (pc := 18) X fo_X4_41 dX4_takes_18 (fun v5 => ?_)
  refine cg_put (pc := 21) X fp_X4_41 dX4_takes_21 (fun h => by cases h) rfl rfl (fun t6 => ?_)
  refine g_aload_n (pc := 24) X 0 dX4_takes_24 rfl rfl ?_
  refine g_aload_n (pc := 25) X 1 dX4_takes_25 rfl rfl ?_
  refine cg_getI (pc := 26) X fo_X4_34 dX4_takes_26 (fun v7 => ?_)
  refine cg_put (pc := 29) X fp_X4_34 dX4_takes_29 (fun h => by cases h) rfl rfl (fun t8 => ?_)
  refine g_aload_n (pc := 32) X 0 dX4_takes_32 rfl rfl ?_
  refine g_aload_n (pc := 33) X 1 dX4_takes_33 rfl rfl ?_
  refine cg_getI (pc := 34) X fo_X4_25 dX4_takes_34 (fun v9 => ?_)
  refine cg_put (pc := 37) X fp_X4_25 dX4_takes_37 (fun h => by cases h) rfl rfl (fun t10 => ?_)
  refine g_aload_n (pc := 40) X 0 dX4_takes_40 rfl rfl ?_
  refine g_aload_n (pc := 41) X 1 dX4_takes_41 rfl rfl ?_
  refine cg_getI (pc := 42) X fo_X4_9 dX4_takes_42 (fun v11 => ?_)
  refine cg_put (pc := 45) X fp_X4_9 dX4_takes_45 (fun h => by cases h) rfl rfl (fun t12 => ?_)
  exact g_vret (pc := 48) X hr dX4_takes_48
theorem kX4_takes {ex : Nat → Option Nat} {z : Nat} {h0 : Nat} {h1 : Nat} {σ : Sg} {r : Unit} {u : St} (hex : ex = Γ.2.2.2.2) (h : fX4_takes ex z h0 h1 (σ, 0, 0) = some (r, u)) : g_C Γ l yX4_takes cX4_takes 2 none 0 0 [.ref h0, .ref h1] σ z v_v r (g_ι z u) :=
  g_met (ι := g_ι z) (t := (σ, 0, 0)) [.ref h0, .ref h1] (by decide) (Nat.le_of_ble_eq_true rfl) h rfl (fun p e s m args below meth c X hr hn => wX4_takes hex X hr h0 h1 (σ, 0, 0))
end CP
abbrev cX5_init : ByteArray := prog_6_method_1_code
def yX5_init : MethodName := ⟨RX5, "<init>", "()V"⟩
theorem dX5_init_0 : decode cX5_init 0 = .ok (.aload_n 0, 1) := by decide +kernel
theorem dX5_init_1 : decode cX5_init 1 = .ok (.invokespecial 3, 3) := by decide +kernel
theorem dX5_init_4 : decode cX5_init 4 = .ok (.return_, 1) := by decide +kernel
theorem dmS_X4_init : yX4_init.cls ≠ "java/lang/invoke/MethodHandle" ∧ yX4_init.cls ≠ "java/lang/invoke/VarHandle" ∧ (parseMethodDescriptor yX4_init.desc).map (fun d => d.parameters.length) = some 0 := by decide +kernel
section CP
variable {Γ : Gc} {p : Program} {l : Launch} {e : Env} {s : State} {m : MethodId} {args : Array Value} {below : List Frame} {meth : Method} {c : Code} {ex : Nat → Option Nat} {z : Nat} {tF : St}
noncomputable def fX5_init (ex : Nat → Option Nat) (z : Nat) (h0 : Nat) (t : St) : Option (Unit × St) := gb (fX4_init ex (z + t.2.1) h0 (t.1, 0, 0)) t fun _ t2 => some ((), t2)
set_option maxHeartbeats 4000000 in
theorem wX5_init {rF : Unit} (hex : ex = Γ.2.2.2.2) (X : g_X Γ p s m args meth c cX5_init 1 RX5) (hr : meth.sig.returnType = none) (hin : meth.name = "<init>") (h0 : Nat) (t : St) : Wf Γ p l e 2 32 s m args below meth c 1 (g_ι z) v_v rF tF 0 [(0, .ref h0)] [] t (fX5_init ex z h0 t) := by
  unfold fX5_init
  refine g_aload_n (pc := 0) X 0 dX5_init_0 rfl rfl ?_
  refine g_bIN_v (pc := 1) X (y := yX4_init) (As := []) (rest := []) (b := h0) (fr' := 1) (lo' := 12) (fun _ => ⟨va_cnB 0 X.2.2.2.2.1 (lw_meth q147) rfl rfl rfl (X.2.2.2.2.2.2.1.nestM q190) (X.2.2.2.2.1 _ q77) dmS_X4_init ⟨Nat.le_of_ble_eq_true rfl, Nat.le_of_ble_eq_true rfl⟩, rfl, X.2.2.2.2.1 _ q146⟩) dX5_init_1 rfl rfl (Nat.le_of_ble_eq_true rfl) (fun r u h => kX4_init hex h) (fun r1 t2 => ?_)
  exact g_vret (pc := 4) X hr dX5_init_4
theorem kX5_init {ex : Nat → Option Nat} {z : Nat} {h0 : Nat} {σ : Sg} {r : Unit} {u : St} (hex : ex = Γ.2.2.2.2) (h : fX5_init ex z h0 (σ, 0, 0) = some (r, u)) : g_C Γ l yX5_init cX5_init 1 none 2 32 [.ref h0] σ z v_v r (g_ι z u) :=
  g_met (ι := g_ι z) (t := (σ, 0, 0)) [.ref h0] (by decide) (Nat.le_of_ble_eq_true rfl) h rfl (fun p e s m args below meth c X hr hn => wX5_init hex X hr hn h0 (σ, 0, 0))
end CP
abbrev cX5_kind : ByteArray := prog_6_method_2_code
def yX5_kind : MethodName := ⟨RX5, "kind", "()I"⟩
def dkwX5_kind_0 : List UInt8 := [42, 183, 0, 9, 4, 96, 172]
abbrev dktX5_kind_0 : List UInt8 := dkwX5_kind_0 ++ []
theorem dksX5_kind_0 : cX5_kind.data.toList.drop 0 = dktX5_kind_0 := by decide +kernel
theorem dX5_kind_0 : decode cX5_kind 0 = .ok (.aload_n 0, 1) := dk_42 (dk_at dksX5_kind_0 0 rfl rfl)
theorem dX5_kind_1 : decode cX5_kind 1 = .ok (.invokespecial 9, 3) := dk_183 0 9 (dk_at dksX5_kind_0 1 rfl rfl)
theorem dX5_kind_4 : decode cX5_kind 4 = .ok (.iconst 1, 1) := dk_4 (dk_at dksX5_kind_0 4 rfl rfl)
theorem dX5_kind_5 : decode cX5_kind 5 = .ok (.iadd, 1) := dk_96 (dk_at dksX5_kind_0 5 rfl rfl)
theorem dX5_kind_6 : decode cX5_kind 6 = .ok (.ireturn, 1) := dk_172 (dk_at dksX5_kind_0 6 rfl rfl)
theorem dmN_X4_kind : yX4_kind.name ≠ "<init>" ∧ (parseMethodDescriptor yX4_kind.desc).map (fun d => d.parameters.length) = some 0 := by decide +kernel
section CP
variable {Γ : Gc} {p : Program} {l : Launch} {e : Env} {s : State} {m : MethodId} {args : Array Value} {below : List Frame} {meth : Method} {c : Code} {ex : Nat → Option Nat} {z : Nat} {tF : St}
noncomputable def fX5_kind (ex : Nat → Option Nat) (z : Nat) (h0 : Nat) (t : St) : Option (Int32 × St) := ccast [5] t h0 (gb (fX4_kind ex (z + t.2.1) h0 (t.1, 0, 0)) t fun r1 t2 => some (r1 + 1, t2))
set_option maxHeartbeats 4000000 in
theorem wX5_kind {rF : Int32} (hex : ex = Γ.2.2.2.2) (X : g_X Γ p s m args meth c cX5_kind 1 RX5) (hr : meth.sig.returnType = (some .int)) (h0 : Nat) (t : St) : Wf Γ p l e 1 20 s m args below meth c 1 (g_ι z) v_i rF tF 0 [(0, .ref h0)] [] t (fX5_kind ex z h0 t) := by
  unfold fX5_kind
  refine g_aload_n (pc := 0) X 0 dX5_kind_0 rfl rfl ?_
  refine g_recv (pc := 1) (cs := [5]) (fun fl3 ci4 fs5 hs6 hci7 => ?_)
  obtain ⟨C9, T9, N9, hc9⟩ := g_clsOf (cs := [5]) (by decide) hci7
  refine g_bSU_i (pc := 1) X (C := C9) (y := yX4_kind) (As := []) (rest := []) (b := h0) (fr' := 0) (lo' := 0) (fun _ => va_cwSU 0 X.2.2.2.2.1 (lw_SU q386 q382 q197 q380 q77 q403) rfl rfl rfl dmN_X4_kind ⟨Nat.le_of_ble_eq_true rfl, Nat.le_of_ble_eq_true rfl⟩) dX5_kind_1 hs6 ⟨_, _, hc9⟩ rfl rfl (Nat.le_of_ble_eq_true rfl) (fun r u h => kX4_kind hex h) (fun r1 t2 => ?_)
  refine g_iconst (pc := 4) X 1 dX5_kind_4 rfl ?_
  refine g_iadd (pc := 5) X dX5_kind_5 ?_
  exact g_iret (pc := 6) X hr dX5_kind_6
theorem kX5_kind {ex : Nat → Option Nat} {z : Nat} {h0 : Nat} {σ : Sg} {r : Int32} {u : St} (hex : ex = Γ.2.2.2.2) (h : fX5_kind ex z h0 (σ, 0, 0) = some (r, u)) : g_C Γ l yX5_kind cX5_kind 1 (some .int) 1 20 [.ref h0] σ z v_i r (g_ι z u) :=
  g_met (ι := g_ι z) (t := (σ, 0, 0)) [.ref h0] (by decide) (Nat.le_of_ble_eq_true rfl) h rfl (fun p e s m args below meth c X hr hn => wX5_kind hex X hr h0 (σ, 0, 0))
end CP
abbrev cX5_far : ByteArray := prog_6_method_3_code
def yX5_far : MethodName := ⟨RX5, "far", "(LLameClocks$Street;)I"⟩
def dkwX5_far_1 : List UInt8 := [183, 0, 18, 172]
abbrev dktX5_far_1 : List UInt8 := dkwX5_far_1 ++ []
def dkwX5_far_0 : List UInt8 := [43, 185, 0, 13, 1, 0, 4, 160, 0, 13, 5, 42, 43, 183, 0, 18, 104, 167, 0, 8, 42, 43]
abbrev dktX5_far_0 : List UInt8 := dkwX5_far_0 ++ dktX5_far_1
theorem dksX5_far_0 : cX5_far.data.toList.drop 0 = dktX5_far_0 := by decide +kernel
theorem dksX5_far_1 : cX5_far.data.toList.drop 22 = dktX5_far_1 := dk_seg dksX5_far_0 22 rfl rfl
theorem dX5_far_0 : decode cX5_far 0 = .ok (.aload_n 1, 1) := dk_43 (dk_at dksX5_far_0 0 rfl rfl)
theorem dX5_far_1 : decode cX5_far 1 = .ok (.invokeinterface 13 1, 5) := by decide +kernel
theorem dX5_far_6 : decode cX5_far 6 = .ok (.iconst 1, 1) := dk_4 (dk_at dksX5_far_0 6 rfl rfl)
theorem dX5_far_7 : decode cX5_far 7 = .ok (.if_icmp .ne 13, 3) := dk_160 0 13 (dk_at dksX5_far_0 7 rfl rfl)
theorem dX5_far_10 : decode cX5_far 10 = .ok (.iconst 2, 1) := dk_5 (dk_at dksX5_far_0 10 rfl rfl)
theorem dX5_far_11 : decode cX5_far 11 = .ok (.aload_n 0, 1) := dk_42 (dk_at dksX5_far_0 11 rfl rfl)
theorem dX5_far_12 : decode cX5_far 12 = .ok (.aload_n 1, 1) := dk_43 (dk_at dksX5_far_0 12 rfl rfl)
theorem dX5_far_13 : decode cX5_far 13 = .ok (.invokespecial 18, 3) := dk_183 0 18 (dk_at dksX5_far_0 13 rfl rfl)
theorem dX5_far_16 : decode cX5_far 16 = .ok (.imul, 1) := dk_104 (dk_at dksX5_far_0 16 rfl rfl)
theorem dX5_far_17 : decode cX5_far 17 = .ok (.goto 8, 3) := dk_167 0 8 (dk_at dksX5_far_0 17 rfl rfl)
theorem dX5_far_20 : decode cX5_far 20 = .ok (.aload_n 0, 1) := dk_42 (dk_at dksX5_far_0 20 rfl rfl)
theorem dX5_far_21 : decode cX5_far 21 = .ok (.aload_n 1, 1) := dk_43 (dk_at dksX5_far_0 21 rfl rfl)
theorem dX5_far_22 : decode cX5_far 22 = .ok (.invokespecial 18, 3) := dk_183 0 18 (dk_at dksX5_far_1 0 rfl rfl)
theorem dX5_far_25 : decode cX5_far 25 = .ok (.ireturn, 1) := dk_172 (dk_at dksX5_far_1 3 rfl rfl)
theorem dmF_X21_sky0 : (⟨"LameClocks$Street", "sky", "()I"⟩ : MethodName).cls ≠ "java/lang/invoke/MethodHandle" ∧ (⟨"LameClocks$Street", "sky", "()I"⟩ : MethodName).cls ≠ "java/lang/invoke/VarHandle" ∧ (parseMethodDescriptor (⟨"LameClocks$Street", "sky", "()I"⟩ : MethodName).desc).map (fun d => d.parameters.length) = some 0 := by decide +kernel
theorem dmN_X4_far : yX4_far.name ≠ "<init>" ∧ (parseMethodDescriptor yX4_far.desc).map (fun d => d.parameters.length) = some 1 := by decide +kernel
section CP
variable {Γ : Gc} {p : Program} {l : Launch} {e : Env} {s : State} {m : MethodId} {args : Array Value} {below : List Frame} {meth : Method} {c : Code} {ex : Nat → Option Nat} {z : Nat} {tF : St}
noncomputable def fX5_far (ex : Nat → Option Nat) (z : Nat) (h0 : Nat) (h1 : Nat) (t : St) : Option (Int32 × St) := ccast [1] t h1 (gb (fX1_sky ex (z + t.2.1) h1 (t.1, 0, 0)) t fun r1 t2 => if r1 = 1 then ccast [5] t2 h0 (gb (fX4_far ex (z + t2.2.1) h0 h1 (t2.1, 0, 0)) t2 fun r15 t16 => some (2 * r15, t16)) else ccast [5] t2 h0 (gb (fX4_far ex (z + t2.2.1) h0 h1 (t2.1, 0, 0)) t2 fun r8 t9 => some (r8, t9)))
set_option maxHeartbeats 4000000 in
theorem wX5_far {rF : Int32} (hex : ex = Γ.2.2.2.2) (X : g_X Γ p s m args meth c cX5_far 2 RX5) (hr : meth.sig.returnType = (some .int)) (h0 : Nat) (h1 : Nat) (t : St) : Wf Γ p l e 1 21 s m args below meth c 2 (g_ι z) v_i rF tF 0 [(0, .ref h0), (1, .ref h1)] [] t (fX5_far ex z h0 h1 t) := by
  unfold fX5_far
  refine g_aload_n (pc := 0) X 1 dX5_far_0 rfl rfl ?_
  refine g_bDF_i (pc := 1) X (cs := [1]) (As := []) (rest := []) (b := h1) (n := 0) dX5_far_1 rfl rfl (Nat.le_of_ble_eq_true rfl) (fun fl3 ci4 fs5 hs6 hci7 r u h => ?_) (fun r1 t2 => ?_)
  · obtain rfl := List.mem_singleton.mp hci7
    exact ⟨_, _, _, yX1_sky, _, _, _, 0, 0, rfl, kX1_sky hex h, ⟨_, va_cwF 0 X.2.2.2.2.1 (lw_F q590 q557 q559 q71 q561) rfl rfl rfl (X.2.2.2.2.2.2.1.fw ⟨by decide, by decide⟩ q556 q555 q560 q558 q418) dmF_X21_sky0 ⟨Nat.le_of_ble_eq_true rfl, Nat.le_of_ble_eq_true rfl⟩⟩⟩
  refine g_iconst (pc := 6) X 1 dX5_far_6 rfl ?_
  refine g_icmp_ne (pc := 7) X 20 dX5_far_7 (by decide) ?_ ?_
  · refine g_aload_n (pc := 20) X 0 dX5_far_20 rfl rfl ?_
    refine g_aload_n (pc := 21) X 1 dX5_far_21 rfl rfl ?_
    refine g_recv (pc := 22) (cs := [5]) (fun fl10 ci11 fs12 hs13 hci14 => ?_)
    obtain ⟨C9, T9, N9, hc9⟩ := g_clsOf (cs := [5]) (by decide) hci14
    refine g_bSU_i (pc := 22) X (C := C9) (y := yX4_far) (As := [.ref h1]) (rest := []) (b := h0) (fr' := 0) (lo' := 0) (fun _ => va_cwSU 1 X.2.2.2.2.1 (lw_SU q591 q585 q197 q583 q77 q596) rfl rfl rfl dmN_X4_far ⟨Nat.le_of_ble_eq_true rfl, Nat.le_of_ble_eq_true rfl⟩) dX5_far_22 hs13 ⟨_, _, hc9⟩ rfl rfl (Nat.le_of_ble_eq_true rfl) (fun r u h => kX4_far hex h) (fun r8 t9 => ?_)
    exact g_iret (pc := 25) X hr dX5_far_25
  · refine g_iconst (pc := 10) X 2 dX5_far_10 rfl ?_
    refine g_aload_n (pc := 11) X 0 dX5_far_11 rfl rfl ?_
    refine g_aload_n (pc := 12) X 1 dX5_far_12 rfl rfl ?_
    refine g_recv (pc := 13) (cs := [5]) (fun fl17 ci18 fs19 hs20 hci21 => ?_)
    obtain ⟨C9, T9, N9, hc9⟩ := g_clsOf (cs := [5]) (by decide) hci21
    refine g_bSU_i (pc := 13) X (C := C9) (y := yX4_far) (As := [.ref h1]) (rest := [.int 2]) (b := h0) (fr' := 0) (lo' := 0) (fun _ => va_cwSU 1 X.2.2.2.2.1 (lw_SU q591 q585 q197 q583 q77 q596) rfl rfl rfl dmN_X4_far ⟨Nat.le_of_ble_eq_true rfl, Nat.le_of_ble_eq_true rfl⟩) dX5_far_13 hs20 ⟨_, _, hc9⟩ rfl rfl (Nat.le_of_ble_eq_true rfl) (fun r u h => kX4_far hex h) (fun r15 t16 => ?_)
    refine g_imul (pc := 16) X dX5_far_16 ?_
    refine g_goto (pc := 17) X 25 dX5_far_17 (by decide) ?_
    exact g_iret (pc := 25) X hr dX5_far_25
theorem kX5_far {ex : Nat → Option Nat} {z : Nat} {h0 : Nat} {h1 : Nat} {σ : Sg} {r : Int32} {u : St} (hex : ex = Γ.2.2.2.2) (h : fX5_far ex z h0 h1 (σ, 0, 0) = some (r, u)) : g_C Γ l yX5_far cX5_far 2 (some .int) 1 21 [.ref h0, .ref h1] σ z v_i r (g_ι z u) :=
  g_met (ι := g_ι z) (t := (σ, 0, 0)) [.ref h0, .ref h1] (by decide) (Nat.le_of_ble_eq_true rfl) h rfl (fun p e s m args below meth c X hr hn => wX5_far hex X hr h0 h1 (σ, 0, 0))
end CP
abbrev cX6_init : ByteArray := prog_14_method_1_code
def yX6_init : MethodName := ⟨RX6, "<init>", "()V"⟩
theorem dX6_init_0 : decode cX6_init 0 = .ok (.aload_n 0, 1) := by decide +kernel
theorem dX6_init_1 : decode cX6_init 1 = .ok (.invokespecial 1, 3) := by decide +kernel
theorem dX6_init_4 : decode cX6_init 4 = .ok (.return_, 1) := by decide +kernel
section CP
variable {Γ : Gc} {p : Program} {l : Launch} {e : Env} {s : State} {m : MethodId} {args : Array Value} {below : List Frame} {meth : Method} {c : Code} {ex : Nat → Option Nat} {z : Nat} {tF : St}
noncomputable def fX6_init (ex : Nat → Option Nat) (z : Nat) (h0 : Nat) (t : St) : Option (Unit × St) := gb (fX4_init ex (z + t.2.1) h0 (t.1, 0, 0)) t fun _ t2 => some ((), t2)
set_option maxHeartbeats 4000000 in
theorem wX6_init {rF : Unit} (hex : ex = Γ.2.2.2.2) (X : g_X Γ p s m args meth c cX6_init 1 RX6) (hr : meth.sig.returnType = none) (hin : meth.name = "<init>") (h0 : Nat) (t : St) : Wf Γ p l e 2 32 s m args below meth c 1 (g_ι z) v_v rF tF 0 [(0, .ref h0)] [] t (fX6_init ex z h0 t) := by
  unfold fX6_init
  refine g_aload_n (pc := 0) X 0 dX6_init_0 rfl rfl ?_
  refine g_bIN_v (pc := 1) X (y := yX4_init) (As := []) (rest := []) (b := h0) (fr' := 1) (lo' := 12) (fun _ => ⟨va_cnB 0 X.2.2.2.2.1 (lw_meth q147) rfl rfl rfl (X.2.2.2.2.2.2.1.nestM q203) (X.2.2.2.2.1 _ q77) dmS_X4_init ⟨Nat.le_of_ble_eq_true rfl, Nat.le_of_ble_eq_true rfl⟩, rfl, X.2.2.2.2.1 _ q146⟩) dX6_init_1 rfl rfl (Nat.le_of_ble_eq_true rfl) (fun r u h => kX4_init hex h) (fun r1 t2 => ?_)
  exact g_vret (pc := 4) X hr dX6_init_4
theorem kX6_init {ex : Nat → Option Nat} {z : Nat} {h0 : Nat} {σ : Sg} {r : Unit} {u : St} (hex : ex = Γ.2.2.2.2) (h : fX6_init ex z h0 (σ, 0, 0) = some (r, u)) : g_C Γ l yX6_init cX6_init 1 none 2 32 [.ref h0] σ z v_v r (g_ι z u) :=
  g_met (ι := g_ι z) (t := (σ, 0, 0)) [.ref h0] (by decide) (Nat.le_of_ble_eq_true rfl) h rfl (fun p e s m args below meth c X hr hn => wX6_init hex X hr hn h0 (σ, 0, 0))
end CP
abbrev cX6_kind : ByteArray := prog_14_method_2_code
def yX6_kind : MethodName := ⟨RX6, "kind", "()I"⟩
def dkwX6_kind_0 : List UInt8 := [42, 183, 0, 7, 5, 96, 172]
abbrev dktX6_kind_0 : List UInt8 := dkwX6_kind_0 ++ []
theorem dksX6_kind_0 : cX6_kind.data.toList.drop 0 = dktX6_kind_0 := by decide +kernel
theorem dX6_kind_0 : decode cX6_kind 0 = .ok (.aload_n 0, 1) := dk_42 (dk_at dksX6_kind_0 0 rfl rfl)
theorem dX6_kind_1 : decode cX6_kind 1 = .ok (.invokespecial 7, 3) := dk_183 0 7 (dk_at dksX6_kind_0 1 rfl rfl)
theorem dX6_kind_4 : decode cX6_kind 4 = .ok (.iconst 2, 1) := dk_5 (dk_at dksX6_kind_0 4 rfl rfl)
theorem dX6_kind_5 : decode cX6_kind 5 = .ok (.iadd, 1) := dk_96 (dk_at dksX6_kind_0 5 rfl rfl)
theorem dX6_kind_6 : decode cX6_kind 6 = .ok (.ireturn, 1) := dk_172 (dk_at dksX6_kind_0 6 rfl rfl)
section CP
variable {Γ : Gc} {p : Program} {l : Launch} {e : Env} {s : State} {m : MethodId} {args : Array Value} {below : List Frame} {meth : Method} {c : Code} {ex : Nat → Option Nat} {z : Nat} {tF : St}
noncomputable def fX6_kind (ex : Nat → Option Nat) (z : Nat) (h0 : Nat) (t : St) : Option (Int32 × St) := ccast [6, 7] t h0 (gb (fX4_kind ex (z + t.2.1) h0 (t.1, 0, 0)) t fun r1 t2 => some (r1 + 2, t2))
set_option maxHeartbeats 4000000 in
theorem wX6_kind {rF : Int32} (hex : ex = Γ.2.2.2.2) (X : g_X Γ p s m args meth c cX6_kind 1 RX6) (hr : meth.sig.returnType = (some .int)) (h0 : Nat) (t : St) : Wf Γ p l e 1 20 s m args below meth c 1 (g_ι z) v_i rF tF 0 [(0, .ref h0)] [] t (fX6_kind ex z h0 t) := by
  unfold fX6_kind
  refine g_aload_n (pc := 0) X 0 dX6_kind_0 rfl rfl ?_
  refine g_recv (pc := 1) (cs := [6, 7]) (fun fl3 ci4 fs5 hs6 hci7 => ?_)
  obtain ⟨C9, T9, N9, hc9⟩ := g_clsOf (cs := [6, 7]) (by decide) hci7
  refine g_bSU_i (pc := 1) X (C := C9) (y := yX4_kind) (As := []) (rest := []) (b := h0) (fr' := 0) (lo' := 0) (fun _ => va_cwSU 0 X.2.2.2.2.1 (lw_SU q394 q382 q210 q380 q77 q403) rfl rfl rfl dmN_X4_kind ⟨Nat.le_of_ble_eq_true rfl, Nat.le_of_ble_eq_true rfl⟩) dX6_kind_1 hs6 ⟨_, _, hc9⟩ rfl rfl (Nat.le_of_ble_eq_true rfl) (fun r u h => kX4_kind hex h) (fun r1 t2 => ?_)
  refine g_iconst (pc := 4) X 2 dX6_kind_4 rfl ?_
  refine g_iadd (pc := 5) X dX6_kind_5 ?_
  exact g_iret (pc := 6) X hr dX6_kind_6
theorem kX6_kind {ex : Nat → Option Nat} {z : Nat} {h0 : Nat} {σ : Sg} {r : Int32} {u : St} (hex : ex = Γ.2.2.2.2) (h : fX6_kind ex z h0 (σ, 0, 0) = some (r, u)) : g_C Γ l yX6_kind cX6_kind 1 (some .int) 1 20 [.ref h0] σ z v_i r (g_ι z u) :=
  g_met (ι := g_ι z) (t := (σ, 0, 0)) [.ref h0] (by decide) (Nat.le_of_ble_eq_true rfl) h rfl (fun p e s m args below meth c X hr hn => wX6_kind hex X hr h0 (σ, 0, 0))
end CP
abbrev cX6_isRunning : ByteArray := prog_14_method_3_code
def yX6_isRunning : MethodName := ⟨RX6, "isRunning", "()Z"⟩
def dkwX6_isRunning_0 : List UInt8 := [42, 183, 0, 11, 154, 0, 14, 42, 180, 0, 15, 156, 0, 7, 4, 167, 0, 4, 3, 172]
abbrev dktX6_isRunning_0 : List UInt8 := dkwX6_isRunning_0 ++ []
theorem dksX6_isRunning_0 : cX6_isRunning.data.toList.drop 0 = dktX6_isRunning_0 := by decide +kernel
theorem dX6_isRunning_0 : decode cX6_isRunning 0 = .ok (.aload_n 0, 1) := dk_42 (dk_at dksX6_isRunning_0 0 rfl rfl)
theorem dX6_isRunning_1 : decode cX6_isRunning 1 = .ok (.invokespecial 11, 3) := dk_183 0 11 (dk_at dksX6_isRunning_0 1 rfl rfl)
theorem dX6_isRunning_4 : decode cX6_isRunning 4 = .ok (.ifCond .ne 14, 3) := dk_154 0 14 (dk_at dksX6_isRunning_0 4 rfl rfl)
theorem dX6_isRunning_7 : decode cX6_isRunning 7 = .ok (.aload_n 0, 1) := dk_42 (dk_at dksX6_isRunning_0 7 rfl rfl)
theorem dX6_isRunning_8 : decode cX6_isRunning 8 = .ok (.getfield 15, 3) := dk_180 0 15 (dk_at dksX6_isRunning_0 8 rfl rfl)
theorem dX6_isRunning_11 : decode cX6_isRunning 11 = .ok (.ifCond .ge 7, 3) := dk_156 0 7 (dk_at dksX6_isRunning_0 11 rfl rfl)
theorem dX6_isRunning_14 : decode cX6_isRunning 14 = .ok (.iconst 1, 1) := dk_4 (dk_at dksX6_isRunning_0 14 rfl rfl)
theorem dX6_isRunning_15 : decode cX6_isRunning 15 = .ok (.goto 4, 3) := dk_167 0 4 (dk_at dksX6_isRunning_0 15 rfl rfl)
theorem dX6_isRunning_18 : decode cX6_isRunning 18 = .ok (.iconst 0, 1) := dk_3 (dk_at dksX6_isRunning_0 18 rfl rfl)
theorem dX6_isRunning_19 : decode cX6_isRunning 19 = .ok (.ireturn, 1) := dk_172 (dk_at dksX6_isRunning_0 19 rfl rfl)
theorem fo_X6_15 : g_fo RX6 15 [4, 5, 6, 7, 8, 9] 3 := ⟨_, _, _, Or.inl q162, fun ci h => by
  simp only [List.mem_cons, List.not_mem_nil, or_false] at h; rcases h with rfl | rfl | rfl | rfl | rfl | rfl
  · exact ⟨_, _, _, rfl, by decide, rfl, rfl, Or.inr q163, in_X4⟩
  · exact ⟨_, _, _, rfl, by decide, rfl, rfl, Or.inr q163, in_X5⟩
  · exact ⟨_, _, _, rfl, by decide, rfl, rfl, Or.inr q163, in_X6⟩
  · exact ⟨_, _, _, rfl, by decide, rfl, rfl, Or.inr q163, in_X7⟩
  · exact ⟨_, _, _, rfl, by decide, rfl, rfl, Or.inr q163, in_X8⟩
  · exact ⟨_, _, _, rfl, by decide, rfl, rfl, Or.inr q163, in_X9⟩⟩
theorem dmN_X4_isRunning : yX4_isRunning.name ≠ "<init>" ∧ (parseMethodDescriptor yX4_isRunning.desc).map (fun d => d.parameters.length) = some 0 := by decide +kernel
section CP
variable {Γ : Gc} {p : Program} {l : Launch} {e : Env} {s : State} {m : MethodId} {args : Array Value} {below : List Frame} {meth : Method} {c : Code} {ex : Nat → Option Nat} {z : Nat} {tF : St}
noncomputable def fX6_isRunning (ex : Nat → Option Nat) (z : Nat) (h0 : Nat) (t : St) : Option (Int32 × St) := ccast [6, 7] t h0 (gb (fX4_isRunning ex (z + t.2.1) h0 (t.1, 0, 0)) t fun r1 t2 => if r1 = 0 then cgI [4, 5, 6, 7, 8, 9] 3 t2 h0 fun v8 => if 0 ≤ v8 then some (0, t2) else some (1, t2) else some (0, t2))
set_option maxHeartbeats 4000000 in
theorem wX6_isRunning {rF : Int32} (hex : ex = Γ.2.2.2.2) (X : g_X Γ p s m args meth c cX6_isRunning 1 RX6) (hr : meth.sig.returnType = (some .boolean)) (h0 : Nat) (t : St) : Wf Γ p l e 1 20 s m args below meth c 1 (g_ι z) v_i rF tF 0 [(0, .ref h0)] [] t (fX6_isRunning ex z h0 t) := by
  unfold fX6_isRunning
  refine g_aload_n (pc := 0) X 0 dX6_isRunning_0 rfl rfl ?_
  refine g_recv (pc := 1) (cs := [6, 7]) (fun fl3 ci4 fs5 hs6 hci7 => ?_)
  obtain ⟨C9, T9, N9, hc9⟩ := g_clsOf (cs := [6, 7]) (by decide) hci7
  refine g_bSU_i (pc := 1) X (C := C9) (y := yX4_isRunning) (As := []) (rest := []) (b := h0) (fr' := 0) (lo' := 0) (fun _ => va_cwSU 0 X.2.2.2.2.1 (lw_SU q641 q635 q210 q633 q77 q644) rfl rfl rfl dmN_X4_isRunning ⟨Nat.le_of_ble_eq_true rfl, Nat.le_of_ble_eq_true rfl⟩) dX6_isRunning_1 hs6 ⟨_, _, hc9⟩ rfl rfl (Nat.le_of_ble_eq_true rfl) (fun r u h => kX4_isRunning hex h) (fun r1 t2 => ?_)
  refine g_if_ne (pc := 4) X 18 dX6_isRunning_4 (by decide) ?_ ?_
  · refine g_iconst (pc := 18) X 0 dX6_isRunning_18 rfl ?_
    exact g_zret (pc := 19) X hr rfl dX6_isRunning_19
  · refine g_aload_n (pc := 7) X 0 dX6_isRunning_7 rfl rfl ?_
    refine cg_getI (pc := 8) X fo_X6_15 dX6_isRunning_8 (fun v8 => ?_)
    refine g_if_ge (pc := 11) X 18 dX6_isRunning_11 (by decide) ?_ ?_
    · refine g_iconst (pc := 18) X 0 dX6_isRunning_18 rfl ?_
      exact g_zret (pc := 19) X hr rfl dX6_isRunning_19
    · refine g_iconst (pc := 14) X 1 dX6_isRunning_14 rfl ?_
      refine g_goto (pc := 15) X 19 dX6_isRunning_15 (by decide) ?_
      exact g_zret (pc := 19) X hr rfl dX6_isRunning_19
theorem kX6_isRunning {ex : Nat → Option Nat} {z : Nat} {h0 : Nat} {σ : Sg} {r : Int32} {u : St} (hex : ex = Γ.2.2.2.2) (h : fX6_isRunning ex z h0 (σ, 0, 0) = some (r, u)) : g_C Γ l yX6_isRunning cX6_isRunning 1 (some .boolean) 1 20 [.ref h0] σ z v_i r (g_ι z u) :=
  g_met (ι := g_ι z) (t := (σ, 0, 0)) [.ref h0] (by decide) (Nat.le_of_ble_eq_true rfl) h rfl (fun p e s m args below meth c X hr hn => wX6_isRunning hex X hr h0 (σ, 0, 0))
end CP
abbrev cX7_init : ByteArray := prog_16_method_1_code
def yX7_init : MethodName := ⟨RX7, "<init>", "()V"⟩
theorem dX7_init_0 : decode cX7_init 0 = .ok (.aload_n 0, 1) := by decide +kernel
theorem dX7_init_1 : decode cX7_init 1 = .ok (.invokespecial 3, 3) := by decide +kernel
theorem dX7_init_4 : decode cX7_init 4 = .ok (.return_, 1) := by decide +kernel
theorem dmS_X6_init : yX6_init.cls ≠ "java/lang/invoke/MethodHandle" ∧ yX6_init.cls ≠ "java/lang/invoke/VarHandle" ∧ (parseMethodDescriptor yX6_init.desc).map (fun d => d.parameters.length) = some 0 := by decide +kernel
section CP
variable {Γ : Gc} {p : Program} {l : Launch} {e : Env} {s : State} {m : MethodId} {args : Array Value} {below : List Frame} {meth : Method} {c : Code} {ex : Nat → Option Nat} {z : Nat} {tF : St}
noncomputable def fX7_init (ex : Nat → Option Nat) (z : Nat) (h0 : Nat) (t : St) : Option (Unit × St) := gb (fX6_init ex (z + t.2.1) h0 (t.1, 0, 0)) t fun _ t2 => some ((), t2)
set_option maxHeartbeats 4000000 in
theorem wX7_init {rF : Unit} (hex : ex = Γ.2.2.2.2) (X : g_X Γ p s m args meth c cX7_init 1 RX7) (hr : meth.sig.returnType = none) (hin : meth.name = "<init>") (h0 : Nat) (t : St) : Wf Γ p l e 3 52 s m args below meth c 1 (g_ι z) v_v rF tF 0 [(0, .ref h0)] [] t (fX7_init ex z h0 t) := by
  unfold fX7_init
  refine g_aload_n (pc := 0) X 0 dX7_init_0 rfl rfl ?_
  refine g_bIN_v (pc := 1) X (y := yX6_init) (As := []) (rest := []) (b := h0) (fr' := 2) (lo' := 32) (fun _ => ⟨va_cnB 0 X.2.2.2.2.1 (lw_meth q202) rfl rfl rfl (X.2.2.2.2.2.2.1.nestM q216) (X.2.2.2.2.1 _ q79) dmS_X6_init ⟨Nat.le_of_ble_eq_true rfl, Nat.le_of_ble_eq_true rfl⟩, rfl, X.2.2.2.2.1 _ q201⟩) dX7_init_1 rfl rfl (Nat.le_of_ble_eq_true rfl) (fun r u h => kX6_init hex h) (fun r1 t2 => ?_)
  exact g_vret (pc := 4) X hr dX7_init_4
theorem kX7_init {ex : Nat → Option Nat} {z : Nat} {h0 : Nat} {σ : Sg} {r : Unit} {u : St} (hex : ex = Γ.2.2.2.2) (h : fX7_init ex z h0 (σ, 0, 0) = some (r, u)) : g_C Γ l yX7_init cX7_init 1 none 3 52 [.ref h0] σ z v_v r (g_ι z u) :=
  g_met (ι := g_ι z) (t := (σ, 0, 0)) [.ref h0] (by decide) (Nat.le_of_ble_eq_true rfl) h rfl (fun p e s m args below meth c X hr hn => wX7_init hex X hr hn h0 (σ, 0, 0))
end CP
abbrev cX7_kind : ByteArray := prog_16_method_2_code
def yX7_kind : MethodName := ⟨RX7, "kind", "()I"⟩
def dkwX7_kind_0 : List UInt8 := [42, 183, 0, 9, 4, 96, 172]
abbrev dktX7_kind_0 : List UInt8 := dkwX7_kind_0 ++ []
theorem dksX7_kind_0 : cX7_kind.data.toList.drop 0 = dktX7_kind_0 := by decide +kernel
theorem dX7_kind_0 : decode cX7_kind 0 = .ok (.aload_n 0, 1) := dk_42 (dk_at dksX7_kind_0 0 rfl rfl)
theorem dX7_kind_1 : decode cX7_kind 1 = .ok (.invokespecial 9, 3) := dk_183 0 9 (dk_at dksX7_kind_0 1 rfl rfl)
theorem dX7_kind_4 : decode cX7_kind 4 = .ok (.iconst 1, 1) := dk_4 (dk_at dksX7_kind_0 4 rfl rfl)
theorem dX7_kind_5 : decode cX7_kind 5 = .ok (.iadd, 1) := dk_96 (dk_at dksX7_kind_0 5 rfl rfl)
theorem dX7_kind_6 : decode cX7_kind 6 = .ok (.ireturn, 1) := dk_172 (dk_at dksX7_kind_0 6 rfl rfl)
theorem dmN_X6_kind : yX6_kind.name ≠ "<init>" ∧ (parseMethodDescriptor yX6_kind.desc).map (fun d => d.parameters.length) = some 0 := by decide +kernel
section CP
variable {Γ : Gc} {p : Program} {l : Launch} {e : Env} {s : State} {m : MethodId} {args : Array Value} {below : List Frame} {meth : Method} {c : Code} {ex : Nat → Option Nat} {z : Nat} {tF : St}
noncomputable def fX7_kind (ex : Nat → Option Nat) (z : Nat) (h0 : Nat) (t : St) : Option (Int32 × St) := ccast [7] t h0 (gb (fX6_kind ex (z + t.2.1) h0 (t.1, 0, 0)) t fun r1 t2 => some (r1 + 1, t2))
set_option maxHeartbeats 4000000 in
theorem wX7_kind {rF : Int32} (hex : ex = Γ.2.2.2.2) (X : g_X Γ p s m args meth c cX7_kind 1 RX7) (hr : meth.sig.returnType = (some .int)) (h0 : Nat) (t : St) : Wf Γ p l e 2 40 s m args below meth c 1 (g_ι z) v_i rF tF 0 [(0, .ref h0)] [] t (fX7_kind ex z h0 t) := by
  unfold fX7_kind
  refine g_aload_n (pc := 0) X 0 dX7_kind_0 rfl rfl ?_
  refine g_recv (pc := 1) (cs := [7]) (fun fl3 ci4 fs5 hs6 hci7 => ?_)
  obtain ⟨C9, T9, N9, hc9⟩ := g_clsOf (cs := [7]) (by decide) hci7
  refine g_bSU_i (pc := 1) X (C := C9) (y := yX6_kind) (As := []) (rest := []) (b := h0) (fr' := 1) (lo' := 20) (fun _ => va_cwSU 0 X.2.2.2.2.1 (lw_SU q398 q2170 q223 q392 q79 q393) rfl rfl rfl dmN_X6_kind ⟨Nat.le_of_ble_eq_true rfl, Nat.le_of_ble_eq_true rfl⟩) dX7_kind_1 hs6 ⟨_, _, hc9⟩ rfl rfl (Nat.le_of_ble_eq_true rfl) (fun r u h => kX6_kind hex h) (fun r1 t2 => ?_)
  refine g_iconst (pc := 4) X 1 dX7_kind_4 rfl ?_
  refine g_iadd (pc := 5) X dX7_kind_5 ?_
  exact g_iret (pc := 6) X hr dX7_kind_6
theorem kX7_kind {ex : Nat → Option Nat} {z : Nat} {h0 : Nat} {σ : Sg} {r : Int32} {u : St} (hex : ex = Γ.2.2.2.2) (h : fX7_kind ex z h0 (σ, 0, 0) = some (r, u)) : g_C Γ l yX7_kind cX7_kind 1 (some .int) 2 40 [.ref h0] σ z v_i r (g_ι z u) :=
  g_met (ι := g_ι z) (t := (σ, 0, 0)) [.ref h0] (by decide) (Nat.le_of_ble_eq_true rfl) h rfl (fun p e s m args below meth c X hr hn => wX7_kind hex X hr h0 (σ, 0, 0))
end CP
abbrev cX8_init : ByteArray := prog_20_method_1_code
def yX8_init : MethodName := ⟨RX8, "<init>", "()V"⟩
theorem dX8_init_0 : decode cX8_init 0 = .ok (.aload_n 0, 1) := by decide +kernel
theorem dX8_init_1 : decode cX8_init 1 = .ok (.invokespecial 1, 3) := by decide +kernel
theorem dX8_init_4 : decode cX8_init 4 = .ok (.return_, 1) := by decide +kernel
section CP
variable {Γ : Gc} {p : Program} {l : Launch} {e : Env} {s : State} {m : MethodId} {args : Array Value} {below : List Frame} {meth : Method} {c : Code} {ex : Nat → Option Nat} {z : Nat} {tF : St}
noncomputable def fX8_init (ex : Nat → Option Nat) (z : Nat) (h0 : Nat) (t : St) : Option (Unit × St) := gb (fX4_init ex (z + t.2.1) h0 (t.1, 0, 0)) t fun _ t2 => some ((), t2)
set_option maxHeartbeats 4000000 in
theorem wX8_init {rF : Unit} (hex : ex = Γ.2.2.2.2) (X : g_X Γ p s m args meth c cX8_init 1 RX8) (hr : meth.sig.returnType = none) (hin : meth.name = "<init>") (h0 : Nat) (t : St) : Wf Γ p l e 2 32 s m args below meth c 1 (g_ι z) v_v rF tF 0 [(0, .ref h0)] [] t (fX8_init ex z h0 t) := by
  unfold fX8_init
  refine g_aload_n (pc := 0) X 0 dX8_init_0 rfl rfl ?_
  refine g_bIN_v (pc := 1) X (y := yX4_init) (As := []) (rest := []) (b := h0) (fr' := 1) (lo' := 12) (fun _ => ⟨va_cnB 0 X.2.2.2.2.1 (lw_meth q147) rfl rfl rfl (X.2.2.2.2.2.2.1.nestM q229) (X.2.2.2.2.1 _ q77) dmS_X4_init ⟨Nat.le_of_ble_eq_true rfl, Nat.le_of_ble_eq_true rfl⟩, rfl, X.2.2.2.2.1 _ q146⟩) dX8_init_1 rfl rfl (Nat.le_of_ble_eq_true rfl) (fun r u h => kX4_init hex h) (fun r1 t2 => ?_)
  exact g_vret (pc := 4) X hr dX8_init_4
theorem kX8_init {ex : Nat → Option Nat} {z : Nat} {h0 : Nat} {σ : Sg} {r : Unit} {u : St} (hex : ex = Γ.2.2.2.2) (h : fX8_init ex z h0 (σ, 0, 0) = some (r, u)) : g_C Γ l yX8_init cX8_init 1 none 2 32 [.ref h0] σ z v_v r (g_ι z u) :=
  g_met (ι := g_ι z) (t := (σ, 0, 0)) [.ref h0] (by decide) (Nat.le_of_ble_eq_true rfl) h rfl (fun p e s m args below meth c X hr hn => wX8_init hex X hr hn h0 (σ, 0, 0))
end CP
abbrev cX8_kind : ByteArray := prog_20_method_2_code
def yX8_kind : MethodName := ⟨RX8, "kind", "()I"⟩
def dkwX8_kind_0 : List UInt8 := [42, 183, 0, 7, 7, 96, 172]
abbrev dktX8_kind_0 : List UInt8 := dkwX8_kind_0 ++ []
theorem dksX8_kind_0 : cX8_kind.data.toList.drop 0 = dktX8_kind_0 := by decide +kernel
theorem dX8_kind_0 : decode cX8_kind 0 = .ok (.aload_n 0, 1) := dk_42 (dk_at dksX8_kind_0 0 rfl rfl)
theorem dX8_kind_1 : decode cX8_kind 1 = .ok (.invokespecial 7, 3) := dk_183 0 7 (dk_at dksX8_kind_0 1 rfl rfl)
theorem dX8_kind_4 : decode cX8_kind 4 = .ok (.iconst 4, 1) := dk_7 (dk_at dksX8_kind_0 4 rfl rfl)
theorem dX8_kind_5 : decode cX8_kind 5 = .ok (.iadd, 1) := dk_96 (dk_at dksX8_kind_0 5 rfl rfl)
theorem dX8_kind_6 : decode cX8_kind 6 = .ok (.ireturn, 1) := dk_172 (dk_at dksX8_kind_0 6 rfl rfl)
section CP
variable {Γ : Gc} {p : Program} {l : Launch} {e : Env} {s : State} {m : MethodId} {args : Array Value} {below : List Frame} {meth : Method} {c : Code} {ex : Nat → Option Nat} {z : Nat} {tF : St}
noncomputable def fX8_kind (ex : Nat → Option Nat) (z : Nat) (h0 : Nat) (t : St) : Option (Int32 × St) := ccast [8] t h0 (gb (fX4_kind ex (z + t.2.1) h0 (t.1, 0, 0)) t fun r1 t2 => some (r1 + 4, t2))
set_option maxHeartbeats 4000000 in
theorem wX8_kind {rF : Int32} (hex : ex = Γ.2.2.2.2) (X : g_X Γ p s m args meth c cX8_kind 1 RX8) (hr : meth.sig.returnType = (some .int)) (h0 : Nat) (t : St) : Wf Γ p l e 1 20 s m args below meth c 1 (g_ι z) v_i rF tF 0 [(0, .ref h0)] [] t (fX8_kind ex z h0 t) := by
  unfold fX8_kind
  refine g_aload_n (pc := 0) X 0 dX8_kind_0 rfl rfl ?_
  refine g_recv (pc := 1) (cs := [8]) (fun fl3 ci4 fs5 hs6 hci7 => ?_)
  obtain ⟨C9, T9, N9, hc9⟩ := g_clsOf (cs := [8]) (by decide) hci7
  refine g_bSU_i (pc := 1) X (C := C9) (y := yX4_kind) (As := []) (rest := []) (b := h0) (fr' := 0) (lo' := 0) (fun _ => va_cwSU 0 X.2.2.2.2.1 (lw_SU q402 q382 q236 q380 q77 q403) rfl rfl rfl dmN_X4_kind ⟨Nat.le_of_ble_eq_true rfl, Nat.le_of_ble_eq_true rfl⟩) dX8_kind_1 hs6 ⟨_, _, hc9⟩ rfl rfl (Nat.le_of_ble_eq_true rfl) (fun r u h => kX4_kind hex h) (fun r1 t2 => ?_)
  refine g_iconst (pc := 4) X 4 dX8_kind_4 rfl ?_
  refine g_iadd (pc := 5) X dX8_kind_5 ?_
  exact g_iret (pc := 6) X hr dX8_kind_6
theorem kX8_kind {ex : Nat → Option Nat} {z : Nat} {h0 : Nat} {σ : Sg} {r : Int32} {u : St} (hex : ex = Γ.2.2.2.2) (h : fX8_kind ex z h0 (σ, 0, 0) = some (r, u)) : g_C Γ l yX8_kind cX8_kind 1 (some .int) 1 20 [.ref h0] σ z v_i r (g_ι z u) :=
  g_met (ι := g_ι z) (t := (σ, 0, 0)) [.ref h0] (by decide) (Nat.le_of_ble_eq_true rfl) h rfl (fun p e s m args below meth c X hr hn => wX8_kind hex X hr h0 (σ, 0, 0))
end CP
abbrev cX9_init : ByteArray := prog_9_method_1_code
def yX9_init : MethodName := ⟨RX9, "<init>", "()V"⟩
theorem dX9_init_0 : decode cX9_init 0 = .ok (.aload_n 0, 1) := by decide +kernel
theorem dX9_init_1 : decode cX9_init 1 = .ok (.invokespecial 3, 3) := by decide +kernel
theorem dX9_init_4 : decode cX9_init 4 = .ok (.return_, 1) := by decide +kernel
section CP
variable {Γ : Gc} {p : Program} {l : Launch} {e : Env} {s : State} {m : MethodId} {args : Array Value} {below : List Frame} {meth : Method} {c : Code} {ex : Nat → Option Nat} {z : Nat} {tF : St}
noncomputable def fX9_init (ex : Nat → Option Nat) (z : Nat) (h0 : Nat) (t : St) : Option (Unit × St) := gb (fX4_init ex (z + t.2.1) h0 (t.1, 0, 0)) t fun _ t2 => some ((), t2)
set_option maxHeartbeats 4000000 in
theorem wX9_init {rF : Unit} (hex : ex = Γ.2.2.2.2) (X : g_X Γ p s m args meth c cX9_init 1 RX9) (hr : meth.sig.returnType = none) (hin : meth.name = "<init>") (h0 : Nat) (t : St) : Wf Γ p l e 2 32 s m args below meth c 1 (g_ι z) v_v rF tF 0 [(0, .ref h0)] [] t (fX9_init ex z h0 t) := by
  unfold fX9_init
  refine g_aload_n (pc := 0) X 0 dX9_init_0 rfl rfl ?_
  refine g_bIN_v (pc := 1) X (y := yX4_init) (As := []) (rest := []) (b := h0) (fr' := 1) (lo' := 12) (fun _ => ⟨va_cnB 0 X.2.2.2.2.1 (lw_meth q147) rfl rfl rfl (X.2.2.2.2.2.2.1.nestM q242) (X.2.2.2.2.1 _ q77) dmS_X4_init ⟨Nat.le_of_ble_eq_true rfl, Nat.le_of_ble_eq_true rfl⟩, rfl, X.2.2.2.2.1 _ q146⟩) dX9_init_1 rfl rfl (Nat.le_of_ble_eq_true rfl) (fun r u h => kX4_init hex h) (fun r1 t2 => ?_)
  exact g_vret (pc := 4) X hr dX9_init_4
theorem kX9_init {ex : Nat → Option Nat} {z : Nat} {h0 : Nat} {σ : Sg} {r : Unit} {u : St} (hex : ex = Γ.2.2.2.2) (h : fX9_init ex z h0 (σ, 0, 0) = some (r, u)) : g_C Γ l yX9_init cX9_init 1 none 2 32 [.ref h0] σ z v_v r (g_ι z u) :=
  g_met (ι := g_ι z) (t := (σ, 0, 0)) [.ref h0] (by decide) (Nat.le_of_ble_eq_true rfl) h rfl (fun p e s m args below meth c X hr hn => wX9_init hex X hr hn h0 (σ, 0, 0))
end CP
abbrev cX9_kind : ByteArray := prog_9_method_2_code
def yX9_kind : MethodName := ⟨RX9, "kind", "()I"⟩
def dkwX9_kind_0 : List UInt8 := [42, 183, 0, 9, 8, 96, 172]
abbrev dktX9_kind_0 : List UInt8 := dkwX9_kind_0 ++ []
theorem dksX9_kind_0 : cX9_kind.data.toList.drop 0 = dktX9_kind_0 := by decide +kernel
theorem dX9_kind_0 : decode cX9_kind 0 = .ok (.aload_n 0, 1) := dk_42 (dk_at dksX9_kind_0 0 rfl rfl)
theorem dX9_kind_1 : decode cX9_kind 1 = .ok (.invokespecial 9, 3) := dk_183 0 9 (dk_at dksX9_kind_0 1 rfl rfl)
theorem dX9_kind_4 : decode cX9_kind 4 = .ok (.iconst 5, 1) := dk_8 (dk_at dksX9_kind_0 4 rfl rfl)
theorem dX9_kind_5 : decode cX9_kind 5 = .ok (.iadd, 1) := dk_96 (dk_at dksX9_kind_0 5 rfl rfl)
theorem dX9_kind_6 : decode cX9_kind 6 = .ok (.ireturn, 1) := dk_172 (dk_at dksX9_kind_0 6 rfl rfl)
section CP
variable {Γ : Gc} {p : Program} {l : Launch} {e : Env} {s : State} {m : MethodId} {args : Array Value} {below : List Frame} {meth : Method} {c : Code} {ex : Nat → Option Nat} {z : Nat} {tF : St}
noncomputable def fX9_kind (ex : Nat → Option Nat) (z : Nat) (h0 : Nat) (t : St) : Option (Int32 × St) := ccast [9] t h0 (gb (fX4_kind ex (z + t.2.1) h0 (t.1, 0, 0)) t fun r1 t2 => some (r1 + 5, t2))
set_option maxHeartbeats 4000000 in
theorem wX9_kind {rF : Int32} (hex : ex = Γ.2.2.2.2) (X : g_X Γ p s m args meth c cX9_kind 1 RX9) (hr : meth.sig.returnType = (some .int)) (h0 : Nat) (t : St) : Wf Γ p l e 1 20 s m args below meth c 1 (g_ι z) v_i rF tF 0 [(0, .ref h0)] [] t (fX9_kind ex z h0 t) := by
  unfold fX9_kind
  refine g_aload_n (pc := 0) X 0 dX9_kind_0 rfl rfl ?_
  refine g_recv (pc := 1) (cs := [9]) (fun fl3 ci4 fs5 hs6 hci7 => ?_)
  obtain ⟨C9, T9, N9, hc9⟩ := g_clsOf (cs := [9]) (by decide) hci7
  refine g_bSU_i (pc := 1) X (C := C9) (y := yX4_kind) (As := []) (rest := []) (b := h0) (fr' := 0) (lo' := 0) (fun _ => va_cwSU 0 X.2.2.2.2.1 (lw_SU q390 q382 q249 q380 q77 q403) rfl rfl rfl dmN_X4_kind ⟨Nat.le_of_ble_eq_true rfl, Nat.le_of_ble_eq_true rfl⟩) dX9_kind_1 hs6 ⟨_, _, hc9⟩ rfl rfl (Nat.le_of_ble_eq_true rfl) (fun r u h => kX4_kind hex h) (fun r1 t2 => ?_)
  refine g_iconst (pc := 4) X 5 dX9_kind_4 rfl ?_
  refine g_iadd (pc := 5) X dX9_kind_5 ?_
  exact g_iret (pc := 6) X hr dX9_kind_6
theorem kX9_kind {ex : Nat → Option Nat} {z : Nat} {h0 : Nat} {σ : Sg} {r : Int32} {u : St} (hex : ex = Γ.2.2.2.2) (h : fX9_kind ex z h0 (σ, 0, 0) = some (r, u)) : g_C Γ l yX9_kind cX9_kind 1 (some .int) 1 20 [.ref h0] σ z v_i r (g_ι z u) :=
  g_met (ι := g_ι z) (t := (σ, 0, 0)) [.ref h0] (by decide) (Nat.le_of_ble_eq_true rfl) h rfl (fun p e s m args below meth c X hr hn => wX9_kind hex X hr h0 (σ, 0, 0))
end CP
noncomputable def fv_X4_kind (ex : Nat → Option Nat) (z : Nat) (h0 : Nat) (t : St) : Option (Int32 × St) := ccls t h0 fun ci => if ci = 4 then fX4_kind ex z h0 t else if ci = 5 then fX5_kind ex z h0 t else if ci = 6 then fX6_kind ex z h0 t else if ci = 7 then fX7_kind ex z h0 t else if ci = 8 then fX8_kind ex z h0 t else if ci = 9 then fX9_kind ex z h0 t else none
theorem fv_X4_kind_4 {ex : Nat → Option Nat} {z : Nat} {h0 : Nat} {σ : Sg} {fl : Bool} {fs : List Value} (hs : σ h0 = some (fl, .inr (4, fs))) : fv_X4_kind ex z h0 (σ, 0, 0) = fX4_kind ex z h0 (σ, 0, 0) := by simp [fv_X4_kind, ccls, hs]
theorem fv_X4_kind_5 {ex : Nat → Option Nat} {z : Nat} {h0 : Nat} {σ : Sg} {fl : Bool} {fs : List Value} (hs : σ h0 = some (fl, .inr (5, fs))) : fv_X4_kind ex z h0 (σ, 0, 0) = fX5_kind ex z h0 (σ, 0, 0) := by simp [fv_X4_kind, ccls, hs]
theorem fv_X4_kind_6 {ex : Nat → Option Nat} {z : Nat} {h0 : Nat} {σ : Sg} {fl : Bool} {fs : List Value} (hs : σ h0 = some (fl, .inr (6, fs))) : fv_X4_kind ex z h0 (σ, 0, 0) = fX6_kind ex z h0 (σ, 0, 0) := by simp [fv_X4_kind, ccls, hs]
theorem fv_X4_kind_7 {ex : Nat → Option Nat} {z : Nat} {h0 : Nat} {σ : Sg} {fl : Bool} {fs : List Value} (hs : σ h0 = some (fl, .inr (7, fs))) : fv_X4_kind ex z h0 (σ, 0, 0) = fX7_kind ex z h0 (σ, 0, 0) := by simp [fv_X4_kind, ccls, hs]
theorem fv_X4_kind_8 {ex : Nat → Option Nat} {z : Nat} {h0 : Nat} {σ : Sg} {fl : Bool} {fs : List Value} (hs : σ h0 = some (fl, .inr (8, fs))) : fv_X4_kind ex z h0 (σ, 0, 0) = fX8_kind ex z h0 (σ, 0, 0) := by simp [fv_X4_kind, ccls, hs]
theorem fv_X4_kind_9 {ex : Nat → Option Nat} {z : Nat} {h0 : Nat} {σ : Sg} {fl : Bool} {fs : List Value} (hs : σ h0 = some (fl, .inr (9, fs))) : fv_X4_kind ex z h0 (σ, 0, 0) = fX9_kind ex z h0 (σ, 0, 0) := by simp [fv_X4_kind, ccls, hs]
noncomputable def fv_X4_far (ex : Nat → Option Nat) (z : Nat) (h0 : Nat) (h1 : Nat) (t : St) : Option (Int32 × St) := ccls t h0 fun ci => if ci = 4 then fX4_far ex z h0 h1 t else if ci = 5 then fX5_far ex z h0 h1 t else if ci = 6 then fX4_far ex z h0 h1 t else if ci = 7 then fX4_far ex z h0 h1 t else if ci = 8 then fX4_far ex z h0 h1 t else if ci = 9 then fX4_far ex z h0 h1 t else none
theorem fv_X4_far_4 {ex : Nat → Option Nat} {z : Nat} {h0 : Nat} {h1 : Nat} {σ : Sg} {fl : Bool} {fs : List Value} (hs : σ h0 = some (fl, .inr (4, fs))) : fv_X4_far ex z h0 h1 (σ, 0, 0) = fX4_far ex z h0 h1 (σ, 0, 0) := by simp [fv_X4_far, ccls, hs]
theorem fv_X4_far_5 {ex : Nat → Option Nat} {z : Nat} {h0 : Nat} {h1 : Nat} {σ : Sg} {fl : Bool} {fs : List Value} (hs : σ h0 = some (fl, .inr (5, fs))) : fv_X4_far ex z h0 h1 (σ, 0, 0) = fX5_far ex z h0 h1 (σ, 0, 0) := by simp [fv_X4_far, ccls, hs]
theorem fv_X4_far_6 {ex : Nat → Option Nat} {z : Nat} {h0 : Nat} {h1 : Nat} {σ : Sg} {fl : Bool} {fs : List Value} (hs : σ h0 = some (fl, .inr (6, fs))) : fv_X4_far ex z h0 h1 (σ, 0, 0) = fX4_far ex z h0 h1 (σ, 0, 0) := by simp [fv_X4_far, ccls, hs]
theorem fv_X4_far_7 {ex : Nat → Option Nat} {z : Nat} {h0 : Nat} {h1 : Nat} {σ : Sg} {fl : Bool} {fs : List Value} (hs : σ h0 = some (fl, .inr (7, fs))) : fv_X4_far ex z h0 h1 (σ, 0, 0) = fX4_far ex z h0 h1 (σ, 0, 0) := by simp [fv_X4_far, ccls, hs]
theorem fv_X4_far_8 {ex : Nat → Option Nat} {z : Nat} {h0 : Nat} {h1 : Nat} {σ : Sg} {fl : Bool} {fs : List Value} (hs : σ h0 = some (fl, .inr (8, fs))) : fv_X4_far ex z h0 h1 (σ, 0, 0) = fX4_far ex z h0 h1 (σ, 0, 0) := by simp [fv_X4_far, ccls, hs]
theorem fv_X4_far_9 {ex : Nat → Option Nat} {z : Nat} {h0 : Nat} {h1 : Nat} {σ : Sg} {fl : Bool} {fs : List Value} (hs : σ h0 = some (fl, .inr (9, fs))) : fv_X4_far ex z h0 h1 (σ, 0, 0) = fX4_far ex z h0 h1 (σ, 0, 0) := by simp [fv_X4_far, ccls, hs]
noncomputable def fv_X4_isRunning (ex : Nat → Option Nat) (z : Nat) (h0 : Nat) (t : St) : Option (Int32 × St) := ccls t h0 fun ci => if ci = 4 then fX4_isRunning ex z h0 t else if ci = 5 then fX4_isRunning ex z h0 t else if ci = 6 then fX6_isRunning ex z h0 t else if ci = 7 then fX6_isRunning ex z h0 t else if ci = 8 then fX4_isRunning ex z h0 t else if ci = 9 then fX4_isRunning ex z h0 t else none
theorem fv_X4_isRunning_4 {ex : Nat → Option Nat} {z : Nat} {h0 : Nat} {σ : Sg} {fl : Bool} {fs : List Value} (hs : σ h0 = some (fl, .inr (4, fs))) : fv_X4_isRunning ex z h0 (σ, 0, 0) = fX4_isRunning ex z h0 (σ, 0, 0) := by simp [fv_X4_isRunning, ccls, hs]
theorem fv_X4_isRunning_5 {ex : Nat → Option Nat} {z : Nat} {h0 : Nat} {σ : Sg} {fl : Bool} {fs : List Value} (hs : σ h0 = some (fl, .inr (5, fs))) : fv_X4_isRunning ex z h0 (σ, 0, 0) = fX4_isRunning ex z h0 (σ, 0, 0) := by simp [fv_X4_isRunning, ccls, hs]
theorem fv_X4_isRunning_6 {ex : Nat → Option Nat} {z : Nat} {h0 : Nat} {σ : Sg} {fl : Bool} {fs : List Value} (hs : σ h0 = some (fl, .inr (6, fs))) : fv_X4_isRunning ex z h0 (σ, 0, 0) = fX6_isRunning ex z h0 (σ, 0, 0) := by simp [fv_X4_isRunning, ccls, hs]
theorem fv_X4_isRunning_7 {ex : Nat → Option Nat} {z : Nat} {h0 : Nat} {σ : Sg} {fl : Bool} {fs : List Value} (hs : σ h0 = some (fl, .inr (7, fs))) : fv_X4_isRunning ex z h0 (σ, 0, 0) = fX6_isRunning ex z h0 (σ, 0, 0) := by simp [fv_X4_isRunning, ccls, hs]
theorem fv_X4_isRunning_8 {ex : Nat → Option Nat} {z : Nat} {h0 : Nat} {σ : Sg} {fl : Bool} {fs : List Value} (hs : σ h0 = some (fl, .inr (8, fs))) : fv_X4_isRunning ex z h0 (σ, 0, 0) = fX4_isRunning ex z h0 (σ, 0, 0) := by simp [fv_X4_isRunning, ccls, hs]
theorem fv_X4_isRunning_9 {ex : Nat → Option Nat} {z : Nat} {h0 : Nat} {σ : Sg} {fl : Bool} {fs : List Value} (hs : σ h0 = some (fl, .inr (9, fs))) : fv_X4_isRunning ex z h0 (σ, 0, 0) = fX4_isRunning ex z h0 (σ, 0, 0) := by simp [fv_X4_isRunning, ccls, hs]
abbrev cJ3_newLength : ByteArray := prog_57_method_27_code
def yJ3_newLength : MethodName := ⟨RJ3, "newLength", "(III)I"⟩
def dkwJ3_newLength_1 : List UInt8 := [184, 0, 201, 172]
abbrev dktJ3_newLength_1 : List UInt8 := dkwJ3_newLength_1 ++ []
def dkwJ3_newLength_0 : List UInt8 := [26, 27, 28, 184, 0, 194, 96, 62, 3, 29, 162, 0, 11, 29, 18, 200, 163, 0, 5, 29, 172, 26, 27]
abbrev dktJ3_newLength_0 : List UInt8 := dkwJ3_newLength_0 ++ dktJ3_newLength_1
theorem dksJ3_newLength_0 : cJ3_newLength.data.toList.drop 0 = dktJ3_newLength_0 := by decide +kernel
theorem dksJ3_newLength_1 : cJ3_newLength.data.toList.drop 23 = dktJ3_newLength_1 := dk_seg dksJ3_newLength_0 23 rfl rfl
theorem dJ3_newLength_0 : decode cJ3_newLength 0 = .ok (.iload_n 0, 1) := dk_26 (dk_at dksJ3_newLength_0 0 rfl rfl)
theorem dJ3_newLength_1 : decode cJ3_newLength 1 = .ok (.iload_n 1, 1) := dk_27 (dk_at dksJ3_newLength_0 1 rfl rfl)
theorem dJ3_newLength_2 : decode cJ3_newLength 2 = .ok (.iload_n 2, 1) := dk_28 (dk_at dksJ3_newLength_0 2 rfl rfl)
theorem dJ3_newLength_3 : decode cJ3_newLength 3 = .ok (.invokestatic 194, 3) := dk_184 0 194 (dk_at dksJ3_newLength_0 3 rfl rfl)
theorem dJ3_newLength_6 : decode cJ3_newLength 6 = .ok (.iadd, 1) := dk_96 (dk_at dksJ3_newLength_0 6 rfl rfl)
theorem dJ3_newLength_7 : decode cJ3_newLength 7 = .ok (.istore_n 3, 1) := dk_62 (dk_at dksJ3_newLength_0 7 rfl rfl)
theorem dJ3_newLength_8 : decode cJ3_newLength 8 = .ok (.iconst 0, 1) := dk_3 (dk_at dksJ3_newLength_0 8 rfl rfl)
theorem dJ3_newLength_9 : decode cJ3_newLength 9 = .ok (.iload_n 3, 1) := dk_29 (dk_at dksJ3_newLength_0 9 rfl rfl)
theorem dJ3_newLength_10 : decode cJ3_newLength 10 = .ok (.if_icmp .ge 11, 3) := dk_162 0 11 (dk_at dksJ3_newLength_0 10 rfl rfl)
theorem dJ3_newLength_13 : decode cJ3_newLength 13 = .ok (.iload_n 3, 1) := dk_29 (dk_at dksJ3_newLength_0 13 rfl rfl)
theorem dJ3_newLength_14 : decode cJ3_newLength 14 = .ok (.ldc 200, 2) := dk_18 200 (dk_at dksJ3_newLength_0 14 rfl rfl)
theorem dJ3_newLength_16 : decode cJ3_newLength 16 = .ok (.if_icmp .gt 5, 3) := dk_163 0 5 (dk_at dksJ3_newLength_0 16 rfl rfl)
theorem dJ3_newLength_19 : decode cJ3_newLength 19 = .ok (.iload_n 3, 1) := dk_29 (dk_at dksJ3_newLength_0 19 rfl rfl)
theorem dJ3_newLength_20 : decode cJ3_newLength 20 = .ok (.ireturn, 1) := dk_172 (dk_at dksJ3_newLength_0 20 rfl rfl)
theorem dJ3_newLength_21 : decode cJ3_newLength 21 = .ok (.iload_n 0, 1) := dk_26 (dk_at dksJ3_newLength_0 21 rfl rfl)
theorem dJ3_newLength_22 : decode cJ3_newLength 22 = .ok (.iload_n 1, 1) := dk_27 (dk_at dksJ3_newLength_0 22 rfl rfl)
theorem dJ3_newLength_23 : decode cJ3_newLength 23 = .ok (.invokestatic 201, 3) := dk_184 0 201 (dk_at dksJ3_newLength_1 0 rfl rfl)
theorem dJ3_newLength_26 : decode cJ3_newLength 26 = .ok (.ireturn, 1) := dk_172 (dk_at dksJ3_newLength_1 3 rfl rfl)
theorem dmS_J4_max : yJ4_max.cls ≠ "java/lang/invoke/MethodHandle" ∧ yJ4_max.cls ≠ "java/lang/invoke/VarHandle" ∧ (parseMethodDescriptor yJ4_max.desc).map (fun d => d.parameters.length) = some 2 := by decide +kernel
section CP
variable {Γ : Gc} {p : Program} {l : Launch} {e : Env} {s : State} {m : MethodId} {args : Array Value} {below : List Frame} {meth : Method} {c : Code} {ex : Nat → Option Nat} {z : Nat} {tF : St}
noncomputable def fJ3_newLength (ex : Nat → Option Nat) (z : Nat) (x0 : Int32) (x1 : Int32) (x2 : Int32) (t : St) : Option (Int32 × St) := gb (fJ4_max ex (z + t.2.1) x1 x2 (t.1, 0, 0)) t fun r1 t2 => lt (x0 + r1) fun y3 => if y3 ≤ 0 then none else if 2147483639 < y3 then none else some (y3, t2)
set_option maxHeartbeats 4000000 in
theorem wJ3_newLength {rF : Int32} (hex : ex = Γ.2.2.2.2) (X : g_X Γ p s m args meth c cJ3_newLength 4 RJ3) (hr : meth.sig.returnType = (some .int)) (x0 : Int32) (x1 : Int32) (x2 : Int32) (t : St) : Wf Γ p l e 1 21 s m args below meth c 4 (g_ι z) v_i rF tF 0 [(0, .int x0), (1, .int x1), (2, .int x2)] [] t (fJ3_newLength ex z x0 x1 x2 t) := by
  unfold fJ3_newLength
  refine g_iload_n (pc := 0) X 0 dJ3_newLength_0 rfl rfl ?_
  refine g_iload_n (pc := 1) X 1 dJ3_newLength_1 rfl rfl ?_
  refine g_iload_n (pc := 2) X 2 dJ3_newLength_2 rfl rfl ?_
  refine g_bS_i (pc := 3) X (y := yJ4_max) (As := [.int x1, .int x2]) (rest := [.int x0]) (fr' := 0) (lo' := 0) (fun _ => va_cwS 2 X.2.2.2.2.1 (lw_S q276 q277 q84 q278) rfl rfl rfl dmS_J4_max ⟨Nat.le_of_ble_eq_true rfl, Nat.le_of_ble_eq_true rfl⟩) dJ3_newLength_3 rfl rfl (Nat.le_of_ble_eq_true rfl) (fun r u h => kJ4_max hex h) (fun r1 t2 => ?_)
  refine g_iadd (pc := 6) X dJ3_newLength_6 ?_
  refine g_lti (pc := 7) (fun y3 => ?_)
  refine g_istore_n (pc := 7) X (lv' := [(3, .int y3), (0, .int x0), (1, .int x1), (2, .int x2)]) dJ3_newLength_7 rfl (by decide) rfl ?_
  refine g_iconst (pc := 8) X 0 dJ3_newLength_8 rfl ?_
  refine g_iload_n (pc := 9) X 0 dJ3_newLength_9 rfl rfl ?_
  refine g_icmp_ge (pc := 10) X 21 dJ3_newLength_10 (by decide) ?_ ?_
  · refine g_iload_n (pc := 21) X 1 dJ3_newLength_21 rfl rfl ?_
    refine g_iload_n (pc := 22) X 2 dJ3_newLength_22 rfl rfl ?_
    exact g_none
  · refine g_iload_n (pc := 13) X 0 dJ3_newLength_13 rfl rfl ?_
    refine g_ldc (pc := 14) X 2147483639 dJ3_newLength_14 q279 ?_
    refine g_icmp_gt (pc := 16) X 21 dJ3_newLength_16 (by decide) ?_ ?_
    · refine g_iload_n (pc := 21) X 1 dJ3_newLength_21 rfl rfl ?_
      refine g_iload_n (pc := 22) X 2 dJ3_newLength_22 rfl rfl ?_
      exact g_none
    · refine g_iload_n (pc := 19) X 0 dJ3_newLength_19 rfl rfl ?_
      exact g_iret (pc := 20) X hr dJ3_newLength_20
theorem kJ3_newLength {ex : Nat → Option Nat} {z : Nat} {x0 : Int32} {x1 : Int32} {x2 : Int32} {σ : Sg} {r : Int32} {u : St} (hex : ex = Γ.2.2.2.2) (h : fJ3_newLength ex z x0 x1 x2 (σ, 0, 0) = some (r, u)) : g_C Γ l yJ3_newLength cJ3_newLength 4 (some .int) 1 21 [.int x0, .int x1, .int x2] σ z v_i r (g_ι z u) :=
  g_met (ι := g_ι z) (t := (σ, 0, 0)) [.int x0, .int x1, .int x2] (by decide) (Nat.le_of_ble_eq_true rfl) h rfl (fun p e s m args below meth c X hr hn => wJ3_newLength hex X hr x0 x1 x2 (σ, 0, 0))
end CP
abbrev cJ5_copyOf : ByteArray := prog_51_method_119_code
def yJ5_copyOf : MethodName := ⟨RJ5, "copyOf", "([Ljava/lang/Object;I)[Ljava/lang/Object;"⟩
def dkwJ5_copyOf_0 : List UInt8 := [42, 27, 42, 182, 0, 86, 184, 1, 44, 176]
abbrev dktJ5_copyOf_0 : List UInt8 := dkwJ5_copyOf_0 ++ []
theorem dksJ5_copyOf_0 : cJ5_copyOf.data.toList.drop 0 = dktJ5_copyOf_0 := by decide +kernel
theorem dJ5_copyOf_0 : decode cJ5_copyOf 0 = .ok (.aload_n 0, 1) := dk_42 (dk_at dksJ5_copyOf_0 0 rfl rfl)
theorem dJ5_copyOf_1 : decode cJ5_copyOf 1 = .ok (.iload_n 1, 1) := dk_27 (dk_at dksJ5_copyOf_0 1 rfl rfl)
theorem dJ5_copyOf_2 : decode cJ5_copyOf 2 = .ok (.aload_n 0, 1) := dk_42 (dk_at dksJ5_copyOf_0 2 rfl rfl)
theorem dJ5_copyOf_3 : decode cJ5_copyOf 3 = .ok (.invokevirtual 86, 3) := dk_182 0 86 (dk_at dksJ5_copyOf_0 3 rfl rfl)
theorem dJ5_copyOf_6 : decode cJ5_copyOf 6 = .ok (.invokestatic 300, 3) := dk_184 1 44 (dk_at dksJ5_copyOf_0 6 rfl rfl)
theorem dJ5_copyOf_9 : decode cJ5_copyOf 9 = .ok (.areturn, 1) := dk_176 (dk_at dksJ5_copyOf_0 9 rfl rfl)
theorem dmS_J5_copyOf_2 : yJ5_copyOf_2.cls ≠ "java/lang/invoke/MethodHandle" ∧ yJ5_copyOf_2.cls ≠ "java/lang/invoke/VarHandle" ∧ (parseMethodDescriptor yJ5_copyOf_2.desc).map (fun d => d.parameters.length) = some 3 := by decide +kernel
section CP
variable {Γ : Gc} {p : Program} {l : Launch} {e : Env} {s : State} {m : MethodId} {args : Array Value} {below : List Frame} {meth : Method} {c : Code} {ex : Nat → Option Nat} {z : Nat} {tF : St}
noncomputable def fJ5_copyOf (ex : Nat → Option Nat) (z : Nat) (h0 : Nat) (x1 : Int32) (t : St) : Option (Nat × St) := ckind 4 t h0 (gb (fJ5_copyOf_2 ex (z + t.2.1) h0 x1 (ex 6) (t.1, 0, 0)) t fun r1 t2 => some (r1, t2))
set_option maxHeartbeats 4000000 in
theorem wJ5_copyOf {rF : Nat} (hex : ex = Γ.2.2.2.2) (X : g_X Γ p s m args meth c cJ5_copyOf 2 RJ5) (hr : meth.sig.returnType = (some (.array (.object "java/lang/Object")))) (h0 : Nat) (x1 : Int32) (t : St) : Wf Γ p l e 2 44 s m args below meth c 2 (g_ι z) v_a rF tF 0 [(0, .ref h0), (1, .int x1)] [] t (fJ5_copyOf ex z h0 x1 t) := by
  unfold fJ5_copyOf
  refine g_aload_n (pc := 0) X 0 dJ5_copyOf_0 rfl rfl ?_
  refine g_iload_n (pc := 1) X 1 dJ5_copyOf_1 rfl rfl ?_
  refine g_aload_n (pc := 2) X 0 dJ5_copyOf_2 rfl rfl ?_
  refine cg_getC (pc := 3) X hex dJ5_copyOf_3 q286 q2214 q2213 q287 q316 (Nat.le_of_ble_eq_true rfl) (Nat.le_of_ble_eq_true rfl) ?_
  refine g_bS_a (pc := 6) X (y := yJ5_copyOf_2) (As := [.ref h0, .int x1, va_rf (ex 6)]) (rest := []) (fr' := 1) (lo' := 21) (fun _ => va_cwS 3 X.2.2.2.2.1 (lw_S q317 q318 q85 q319) rfl rfl rfl dmS_J5_copyOf_2 ⟨Nat.le_of_ble_eq_true rfl, Nat.le_of_ble_eq_true rfl⟩) dJ5_copyOf_6 rfl rfl (Nat.le_of_ble_eq_true rfl) (fun r u h => kJ5_copyOf_2 hex h) (fun r1 t2 => ?_)
  exact g_aret (pc := 9) X hr (Or.inr ⟨_, rfl⟩) dJ5_copyOf_9
theorem kJ5_copyOf {ex : Nat → Option Nat} {z : Nat} {h0 : Nat} {x1 : Int32} {σ : Sg} {r : Nat} {u : St} (hex : ex = Γ.2.2.2.2) (h : fJ5_copyOf ex z h0 x1 (σ, 0, 0) = some (r, u)) : g_C Γ l yJ5_copyOf cJ5_copyOf 2 (some (.array (.object "java/lang/Object"))) 2 44 [.ref h0, .int x1] σ z v_a r (g_ι z u) :=
  g_met (ι := g_ι z) (t := (σ, 0, 0)) [.ref h0, .int x1] (by decide) (Nat.le_of_ble_eq_true rfl) h rfl (fun p e s m args below meth c X hr hn => wJ5_copyOf hex X hr h0 x1 (σ, 0, 0))
end CP
abbrev cJ6_checkIndex : ByteArray := prog_54_method_17_code
def yJ6_checkIndex : MethodName := ⟨RJ6, "checkIndex", "(II)I"⟩
def dkwJ6_checkIndex_0 : List UInt8 := [26, 27, 1, 184, 0, 105, 172]
abbrev dktJ6_checkIndex_0 : List UInt8 := dkwJ6_checkIndex_0 ++ []
theorem dksJ6_checkIndex_0 : cJ6_checkIndex.data.toList.drop 0 = dktJ6_checkIndex_0 := by decide +kernel
theorem dJ6_checkIndex_0 : decode cJ6_checkIndex 0 = .ok (.iload_n 0, 1) := dk_26 (dk_at dksJ6_checkIndex_0 0 rfl rfl)
theorem dJ6_checkIndex_1 : decode cJ6_checkIndex 1 = .ok (.iload_n 1, 1) := dk_27 (dk_at dksJ6_checkIndex_0 1 rfl rfl)
theorem dJ6_checkIndex_2 : decode cJ6_checkIndex 2 = .ok (.aconst_null, 1) := dk_1 (dk_at dksJ6_checkIndex_0 2 rfl rfl)
theorem dJ6_checkIndex_3 : decode cJ6_checkIndex 3 = .ok (.invokestatic 105, 3) := dk_184 0 105 (dk_at dksJ6_checkIndex_0 3 rfl rfl)
theorem dJ6_checkIndex_6 : decode cJ6_checkIndex 6 = .ok (.ireturn, 1) := dk_172 (dk_at dksJ6_checkIndex_0 6 rfl rfl)
theorem dmS_J7_checkIndex : yJ7_checkIndex.cls ≠ "java/lang/invoke/MethodHandle" ∧ yJ7_checkIndex.cls ≠ "java/lang/invoke/VarHandle" ∧ (parseMethodDescriptor yJ7_checkIndex.desc).map (fun d => d.parameters.length) = some 3 := by decide +kernel
section CP
variable {Γ : Gc} {p : Program} {l : Launch} {e : Env} {s : State} {m : MethodId} {args : Array Value} {below : List Frame} {meth : Method} {c : Code} {ex : Nat → Option Nat} {z : Nat} {tF : St}
noncomputable def fJ6_checkIndex (ex : Nat → Option Nat) (z : Nat) (x0 : Int32) (x1 : Int32) (t : St) : Option (Int32 × St) := gb (fJ7_checkIndex ex (z + t.2.1) x0 x1 none (t.1, 0, 0)) t fun r1 t2 => some (r1, t2)
set_option maxHeartbeats 4000000 in
theorem wJ6_checkIndex {rF : Int32} (hex : ex = Γ.2.2.2.2) (X : g_X Γ p s m args meth c cJ6_checkIndex 2 RJ6) (hr : meth.sig.returnType = (some .int)) (x0 : Int32) (x1 : Int32) (t : St) : Wf Γ p l e 1 22 s m args below meth c 2 (g_ι z) v_i rF tF 0 [(0, .int x0), (1, .int x1)] [] t (fJ6_checkIndex ex z x0 x1 t) := by
  unfold fJ6_checkIndex
  refine g_iload_n (pc := 0) X 0 dJ6_checkIndex_0 rfl rfl ?_
  refine g_iload_n (pc := 1) X 1 dJ6_checkIndex_1 rfl rfl ?_
  refine g_null (pc := 2) X dJ6_checkIndex_2 ?_
  refine g_bS_i (pc := 3) X (y := yJ7_checkIndex) (As := [.int x0, .int x1, .null]) (rest := []) (fr' := 0) (lo' := 0) (fun _ => va_cwS 3 X.2.2.2.2.1 (lw_S q342 q343 q88 q344) rfl rfl rfl dmS_J7_checkIndex ⟨Nat.le_of_ble_eq_true rfl, Nat.le_of_ble_eq_true rfl⟩) dJ6_checkIndex_3 rfl rfl (Nat.le_of_ble_eq_true rfl) (fun r u h => kJ7_checkIndex hex h) (fun r1 t2 => ?_)
  exact g_iret (pc := 6) X hr dJ6_checkIndex_6
theorem kJ6_checkIndex {ex : Nat → Option Nat} {z : Nat} {x0 : Int32} {x1 : Int32} {σ : Sg} {r : Int32} {u : St} (hex : ex = Γ.2.2.2.2) (h : fJ6_checkIndex ex z x0 x1 (σ, 0, 0) = some (r, u)) : g_C Γ l yJ6_checkIndex cJ6_checkIndex 2 (some .int) 1 22 [.int x0, .int x1] σ z v_i r (g_ι z u) :=
  g_met (ι := g_ι z) (t := (σ, 0, 0)) [.int x0, .int x1] (by decide) (Nat.le_of_ble_eq_true rfl) h rfl (fun p e s m args below meth c X hr hn => wJ6_checkIndex hex X hr x0 x1 (σ, 0, 0))
end CP
abbrev cJ8_length : ByteArray := prog_41_method_54_code
def yJ8_length : MethodName := ⟨RJ8, "length", "()I"⟩
def dkwJ8_length_0 : List UInt8 := [42, 180, 0, 9, 190, 42, 182, 1, 79, 122, 172]
abbrev dktJ8_length_0 : List UInt8 := dkwJ8_length_0 ++ []
theorem dksJ8_length_0 : cJ8_length.data.toList.drop 0 = dktJ8_length_0 := by decide +kernel
theorem dJ8_length_0 : decode cJ8_length 0 = .ok (.aload_n 0, 1) := dk_42 (dk_at dksJ8_length_0 0 rfl rfl)
theorem dJ8_length_1 : decode cJ8_length 1 = .ok (.getfield 9, 3) := dk_180 0 9 (dk_at dksJ8_length_0 1 rfl rfl)
theorem dJ8_length_4 : decode cJ8_length 4 = .ok (.arraylength, 1) := dk_190 (dk_at dksJ8_length_0 4 rfl rfl)
theorem dJ8_length_5 : decode cJ8_length 5 = .ok (.aload_n 0, 1) := dk_42 (dk_at dksJ8_length_0 5 rfl rfl)
theorem dJ8_length_6 : decode cJ8_length 6 = .ok (.invokevirtual 335, 3) := dk_182 1 79 (dk_at dksJ8_length_0 6 rfl rfl)
theorem dJ8_length_9 : decode cJ8_length 9 = .ok (.ishr, 1) := dk_122 (dk_at dksJ8_length_0 9 rfl rfl)
theorem dJ8_length_10 : decode cJ8_length 10 = .ok (.ireturn, 1) := dk_172 (dk_at dksJ8_length_0 10 rfl rfl)
theorem fo_J8_9 : g_fo RJ8 9 [21] 0 := ⟨_, _, _, Or.inl q2223, fun ci h => by
  simp only [List.mem_cons, List.not_mem_nil, or_false] at h; rcases h with rfl
  · exact ⟨_, _, _, rfl, by decide, rfl, rfl, Or.inl rfl, in_J8⟩⟩
theorem dmV_J8_coder : yJ8_coder.cls = RJ8 ∧ yJ8_coder.cls ≠ "java/lang/invoke/MethodHandle" ∧ yJ8_coder.cls ≠ "java/lang/invoke/VarHandle" ∧ (parseMethodDescriptor yJ8_coder.desc).map (fun d => d.parameters.length) = some 0 := by decide +kernel
section CP
variable {Γ : Gc} {p : Program} {l : Launch} {e : Env} {s : State} {m : MethodId} {args : Array Value} {below : List Frame} {meth : Method} {c : Code} {ex : Nat → Option Nat} {z : Nat} {tF : St}
noncomputable def fJ8_length (ex : Nat → Option Nat) (z : Nat) (h0 : Nat) (t : St) : Option (Int32 × St) := cgA [21] 0 t h0 fun v1 => calen t v1 fun v2 => ccast [21] t h0 (gb (fJ8_coder ex (z + t.2.1) h0 (t.1, 0, 0)) t fun r3 t4 => some (v2 >>> (r3 &&& 31), t4))
set_option maxHeartbeats 4000000 in
theorem wJ8_length {rF : Int32} (hex : ex = Γ.2.2.2.2) (X : g_X Γ p s m args meth c cJ8_length 1 RJ8) (hr : meth.sig.returnType = (some .int)) (h0 : Nat) (t : St) : Wf Γ p l e 1 20 s m args below meth c 1 (g_ι z) v_i rF tF 0 [(0, .ref h0)] [] t (fJ8_length ex z h0 t) := by
  unfold fJ8_length
  refine g_aload_n (pc := 0) X 0 dJ8_length_0 rfl rfl ?_
  refine cg_getA (pc := 1) X fo_J8_9 dJ8_length_1 (fun v1 => ?_)
  refine cg_alen (pc := 4) X dJ8_length_4 (fun v2 => ?_)
  refine g_aload_n (pc := 5) X 0 dJ8_length_5 rfl rfl ?_
  refine g_bD_i (pc := 6) X (cs := [21]) (As := []) (rest := [.int v2]) (b := h0) (n := 0) dJ8_length_6 rfl rfl (Nat.le_of_ble_eq_true rfl) (fun fl5 ci6 fs7 hs8 hci9 r u h => ?_) (fun r3 t4 => ?_)
  · obtain rfl := List.mem_singleton.mp hci9
    exact ⟨_, _, _, yJ8_coder, _, _, _, 0, 0, rfl, kJ8_coder hex h, Or.inl (cwV 0 X.2.2.2.2.1 (lw_V q1121 q1122 q1123 q89 q1124) rfl rfl rfl dmV_J8_coder ⟨Nat.le_of_ble_eq_true rfl, Nat.le_of_ble_eq_true rfl⟩)⟩
  refine g_ishr (pc := 9) X dJ8_length_9 ?_
  exact g_iret (pc := 10) X hr dJ8_length_10
theorem kJ8_length {ex : Nat → Option Nat} {z : Nat} {h0 : Nat} {σ : Sg} {r : Int32} {u : St} (hex : ex = Γ.2.2.2.2) (h : fJ8_length ex z h0 (σ, 0, 0) = some (r, u)) : g_C Γ l yJ8_length cJ8_length 1 (some .int) 1 20 [.ref h0] σ z v_i r (g_ι z u) :=
  g_met (ι := g_ι z) (t := (σ, 0, 0)) [.ref h0] (by decide) (Nat.le_of_ble_eq_true rfl) h rfl (fun p e s m args below meth c X hr hn => wJ8_length hex X hr h0 (σ, 0, 0))
end CP
abbrev cJ9_indexOf : ByteArray := prog_42_method_22_code
def yJ9_indexOf : MethodName := ⟨RJ9, "indexOf", "([BIII)I"⟩
def dkwJ9_indexOf_1 : List UInt8 := [161, 0, 5, 2, 172, 42, 27, 28, 29, 184, 0, 95, 172]
abbrev dktJ9_indexOf_1 : List UInt8 := dkwJ9_indexOf_1 ++ []
def dkwJ9_indexOf_0 : List UInt8 := [27, 184, 0, 88, 154, 0, 5, 2, 172, 28, 3, 184, 0, 92, 61, 29, 42, 190, 184, 0, 38, 62, 28, 29]
abbrev dktJ9_indexOf_0 : List UInt8 := dkwJ9_indexOf_0 ++ dktJ9_indexOf_1
theorem dksJ9_indexOf_0 : cJ9_indexOf.data.toList.drop 0 = dktJ9_indexOf_0 := by decide +kernel
theorem dksJ9_indexOf_1 : cJ9_indexOf.data.toList.drop 24 = dktJ9_indexOf_1 := dk_seg dksJ9_indexOf_0 24 rfl rfl
theorem dJ9_indexOf_0 : decode cJ9_indexOf 0 = .ok (.iload_n 1, 1) := dk_27 (dk_at dksJ9_indexOf_0 0 rfl rfl)
theorem dJ9_indexOf_1 : decode cJ9_indexOf 1 = .ok (.invokestatic 88, 3) := dk_184 0 88 (dk_at dksJ9_indexOf_0 1 rfl rfl)
theorem dJ9_indexOf_4 : decode cJ9_indexOf 4 = .ok (.ifCond .ne 5, 3) := dk_154 0 5 (dk_at dksJ9_indexOf_0 4 rfl rfl)
theorem dJ9_indexOf_7 : decode cJ9_indexOf 7 = .ok (.iconst (-1), 1) := dk_2 (dk_at dksJ9_indexOf_0 7 rfl rfl)
theorem dJ9_indexOf_8 : decode cJ9_indexOf 8 = .ok (.ireturn, 1) := dk_172 (dk_at dksJ9_indexOf_0 8 rfl rfl)
theorem dJ9_indexOf_9 : decode cJ9_indexOf 9 = .ok (.iload_n 2, 1) := dk_28 (dk_at dksJ9_indexOf_0 9 rfl rfl)
theorem dJ9_indexOf_10 : decode cJ9_indexOf 10 = .ok (.iconst 0, 1) := dk_3 (dk_at dksJ9_indexOf_0 10 rfl rfl)
theorem dJ9_indexOf_11 : decode cJ9_indexOf 11 = .ok (.invokestatic 92, 3) := dk_184 0 92 (dk_at dksJ9_indexOf_0 11 rfl rfl)
theorem dJ9_indexOf_14 : decode cJ9_indexOf 14 = .ok (.istore_n 2, 1) := dk_61 (dk_at dksJ9_indexOf_0 14 rfl rfl)
theorem dJ9_indexOf_15 : decode cJ9_indexOf 15 = .ok (.iload_n 3, 1) := dk_29 (dk_at dksJ9_indexOf_0 15 rfl rfl)
theorem dJ9_indexOf_16 : decode cJ9_indexOf 16 = .ok (.aload_n 0, 1) := dk_42 (dk_at dksJ9_indexOf_0 16 rfl rfl)
theorem dJ9_indexOf_17 : decode cJ9_indexOf 17 = .ok (.arraylength, 1) := dk_190 (dk_at dksJ9_indexOf_0 17 rfl rfl)
theorem dJ9_indexOf_18 : decode cJ9_indexOf 18 = .ok (.invokestatic 38, 3) := dk_184 0 38 (dk_at dksJ9_indexOf_0 18 rfl rfl)
theorem dJ9_indexOf_21 : decode cJ9_indexOf 21 = .ok (.istore_n 3, 1) := dk_62 (dk_at dksJ9_indexOf_0 21 rfl rfl)
theorem dJ9_indexOf_22 : decode cJ9_indexOf 22 = .ok (.iload_n 2, 1) := dk_28 (dk_at dksJ9_indexOf_0 22 rfl rfl)
theorem dJ9_indexOf_23 : decode cJ9_indexOf 23 = .ok (.iload_n 3, 1) := dk_29 (dk_at dksJ9_indexOf_0 23 rfl rfl)
theorem dJ9_indexOf_24 : decode cJ9_indexOf 24 = .ok (.if_icmp .lt 5, 3) := dk_161 0 5 (dk_at dksJ9_indexOf_1 0 rfl rfl)
theorem dJ9_indexOf_27 : decode cJ9_indexOf 27 = .ok (.iconst (-1), 1) := dk_2 (dk_at dksJ9_indexOf_1 3 rfl rfl)
theorem dJ9_indexOf_28 : decode cJ9_indexOf 28 = .ok (.ireturn, 1) := dk_172 (dk_at dksJ9_indexOf_1 4 rfl rfl)
theorem dJ9_indexOf_29 : decode cJ9_indexOf 29 = .ok (.aload_n 0, 1) := dk_42 (dk_at dksJ9_indexOf_1 5 rfl rfl)
theorem dJ9_indexOf_30 : decode cJ9_indexOf 30 = .ok (.iload_n 1, 1) := dk_27 (dk_at dksJ9_indexOf_1 6 rfl rfl)
theorem dJ9_indexOf_31 : decode cJ9_indexOf 31 = .ok (.iload_n 2, 1) := dk_28 (dk_at dksJ9_indexOf_1 7 rfl rfl)
theorem dJ9_indexOf_32 : decode cJ9_indexOf 32 = .ok (.iload_n 3, 1) := dk_29 (dk_at dksJ9_indexOf_1 8 rfl rfl)
theorem dJ9_indexOf_33 : decode cJ9_indexOf 33 = .ok (.invokestatic 95, 3) := dk_184 0 95 (dk_at dksJ9_indexOf_1 9 rfl rfl)
theorem dJ9_indexOf_36 : decode cJ9_indexOf 36 = .ok (.ireturn, 1) := dk_172 (dk_at dksJ9_indexOf_1 12 rfl rfl)
theorem dmS_J9_canEncode : yJ9_canEncode.cls ≠ "java/lang/invoke/MethodHandle" ∧ yJ9_canEncode.cls ≠ "java/lang/invoke/VarHandle" ∧ (parseMethodDescriptor yJ9_canEncode.desc).map (fun d => d.parameters.length) = some 1 := by decide +kernel
theorem dmS_J9_indexOfChar : yJ9_indexOfChar.cls ≠ "java/lang/invoke/MethodHandle" ∧ yJ9_indexOfChar.cls ≠ "java/lang/invoke/VarHandle" ∧ (parseMethodDescriptor yJ9_indexOfChar.desc).map (fun d => d.parameters.length) = some 4 := by decide +kernel
section CP
variable {Γ : Gc} {p : Program} {l : Launch} {e : Env} {s : State} {m : MethodId} {args : Array Value} {below : List Frame} {meth : Method} {c : Code} {ex : Nat → Option Nat} {z : Nat} {tF : St}
noncomputable def fJ9_indexOf (ex : Nat → Option Nat) (z : Nat) (h0 : Nat) (x1 : Int32) (x2 : Int32) (x3 : Int32) (t : St) : Option (Int32 × St) := gb (fJ9_canEncode ex (z + t.2.1) x1 (t.1, 0, 0)) t fun r1 t2 => if r1 = 0 then some ((-1), t2) else gb (fJ4_max ex (z + t2.2.1) x2 0 (t2.1, 0, 0)) t2 fun r3 t4 => calen t4 h0 fun v5 => gb (fJ4_min ex (z + t4.2.1) x3 v5 (t4.1, 0, 0)) t4 fun r6 t7 => if r3 < r6 then gb (fJ9_indexOfChar ex (z + t7.2.1) h0 x1 r3 r6 (t7.1, 0, 0)) t7 fun r8 t9 => some (r8, t9) else some ((-1), t7)
set_option maxHeartbeats 4000000 in
theorem wJ9_indexOf {rF : Int32} (hex : ex = Γ.2.2.2.2) (X : g_X Γ p s m args meth c cJ9_indexOf 4 RJ9) (hr : meth.sig.returnType = (some .int)) (h0 : Nat) (x1 : Int32) (x2 : Int32) (x3 : Int32) (t : St) : Wf Γ p l e 1 25 s m args below meth c 4 (g_ι z) v_i rF tF 0 [(0, .ref h0), (1, .int x1), (2, .int x2), (3, .int x3)] [] t (fJ9_indexOf ex z h0 x1 x2 x3 t) := by
  unfold fJ9_indexOf
  refine g_iload_n (pc := 0) X 1 dJ9_indexOf_0 rfl rfl ?_
  refine g_bS_i (pc := 1) X (y := yJ9_canEncode) (As := [.int x1]) (rest := []) (fr' := 0) (lo' := 0) (fun _ => va_cwS 1 X.2.2.2.2.1 (lw_S q1128 q1129 q90 q1130) rfl rfl rfl dmS_J9_canEncode ⟨Nat.le_of_ble_eq_true rfl, Nat.le_of_ble_eq_true rfl⟩) dJ9_indexOf_1 rfl rfl (Nat.le_of_ble_eq_true rfl) (fun r u h => kJ9_canEncode hex h) (fun r1 t2 => ?_)
  refine g_if_ne (pc := 4) X 9 dJ9_indexOf_4 (by decide) ?_ ?_
  · refine g_iload_n (pc := 9) X 2 dJ9_indexOf_9 rfl rfl ?_
    refine g_iconst (pc := 10) X 0 dJ9_indexOf_10 rfl ?_
    refine g_bS_i (pc := 11) X (y := yJ4_max) (As := [.int x2, .int 0]) (rest := []) (fr' := 0) (lo' := 0) (fun _ => va_cwS 2 X.2.2.2.2.1 (lw_S q1131 q277 q84 q278) rfl rfl rfl dmS_J4_max ⟨Nat.le_of_ble_eq_true rfl, Nat.le_of_ble_eq_true rfl⟩) dJ9_indexOf_11 rfl rfl (Nat.le_of_ble_eq_true rfl) (fun r u h => kJ4_max hex h) (fun r3 t4 => ?_)
    refine g_istore_n (pc := 14) X (lv' := [(2, .int r3), (0, .ref h0), (1, .int x1), (3, .int x3)]) dJ9_indexOf_14 rfl (by decide) rfl ?_
    refine g_iload_n (pc := 15) X 3 dJ9_indexOf_15 rfl rfl ?_
    refine g_aload_n (pc := 16) X 1 dJ9_indexOf_16 rfl rfl ?_
    refine cg_alen (pc := 17) X dJ9_indexOf_17 (fun v5 => ?_)
    refine g_bS_i (pc := 18) X (y := yJ4_min) (As := [.int x3, .int v5]) (rest := []) (fr' := 0) (lo' := 0) (fun _ => va_cwS 2 X.2.2.2.2.1 (lw_S q1132 q324 q84 q325) rfl rfl rfl dmS_J4_min ⟨Nat.le_of_ble_eq_true rfl, Nat.le_of_ble_eq_true rfl⟩) dJ9_indexOf_18 rfl rfl (Nat.le_of_ble_eq_true rfl) (fun r u h => kJ4_min hex h) (fun r6 t7 => ?_)
    refine g_istore_n (pc := 21) X (lv' := [(3, .int r6), (2, .int r3), (0, .ref h0), (1, .int x1)]) dJ9_indexOf_21 rfl (by decide) rfl ?_
    refine g_iload_n (pc := 22) X 1 dJ9_indexOf_22 rfl rfl ?_
    refine g_iload_n (pc := 23) X 0 dJ9_indexOf_23 rfl rfl ?_
    refine g_icmp_lt (pc := 24) X 29 dJ9_indexOf_24 (by decide) ?_ ?_
    · refine g_aload_n (pc := 29) X 2 dJ9_indexOf_29 rfl rfl ?_
      refine g_iload_n (pc := 30) X 3 dJ9_indexOf_30 rfl rfl ?_
      refine g_iload_n (pc := 31) X 1 dJ9_indexOf_31 rfl rfl ?_
      refine g_iload_n (pc := 32) X 0 dJ9_indexOf_32 rfl rfl ?_
      refine g_bS_i (pc := 33) X (y := yJ9_indexOfChar) (As := [.ref h0, .int x1, .int r3, .int r6]) (rest := []) (fr' := 0) (lo' := 0) (fun _ => va_cwS 4 X.2.2.2.2.1 (lw_S q1133 q1134 q90 q1135) rfl rfl rfl dmS_J9_indexOfChar ⟨Nat.le_of_ble_eq_true rfl, Nat.le_of_ble_eq_true rfl⟩) dJ9_indexOf_33 rfl rfl (Nat.le_of_ble_eq_true rfl) (fun r u h => kJ9_indexOfChar hex h) (fun r8 t9 => ?_)
      exact g_iret (pc := 36) X hr dJ9_indexOf_36
    · refine g_iconst (pc := 27) X (-1) dJ9_indexOf_27 rfl ?_
      exact g_iret (pc := 28) X hr dJ9_indexOf_28
  · refine g_iconst (pc := 7) X (-1) dJ9_indexOf_7 rfl ?_
    exact g_iret (pc := 8) X hr dJ9_indexOf_8
theorem kJ9_indexOf {ex : Nat → Option Nat} {z : Nat} {h0 : Nat} {x1 : Int32} {x2 : Int32} {x3 : Int32} {σ : Sg} {r : Int32} {u : St} (hex : ex = Γ.2.2.2.2) (h : fJ9_indexOf ex z h0 x1 x2 x3 (σ, 0, 0) = some (r, u)) : g_C Γ l yJ9_indexOf cJ9_indexOf 4 (some .int) 1 25 [.ref h0, .int x1, .int x2, .int x3] σ z v_i r (g_ι z u) :=
  g_met (ι := g_ι z) (t := (σ, 0, 0)) [.ref h0, .int x1, .int x2, .int x3] (by decide) (Nat.le_of_ble_eq_true rfl) h rfl (fun p e s m args below meth c X hr hn => wJ9_indexOf hex X hr h0 x1 x2 x3 (σ, 0, 0))
end CP
abbrev cX0_isMade : ByteArray := prog_1_method_6_code
def yX0_isMade : MethodName := ⟨RX0, "isMade", "(IIII)Z"⟩
def dkwX0_isMade_2 : List UInt8 := [153, 0, 7, 4, 167, 0, 4, 3, 172]
abbrev dktX0_isMade_2 : List UInt8 := dkwX0_isMade_2 ++ []
def dkwX0_isMade_1 : List UInt8 := [28, 133, 20, 0, 59, 20, 0, 61, 184, 0, 48, 153, 0, 19, 29, 133, 9, 20, 0, 63, 184, 0, 48]
abbrev dktX0_isMade_1 : List UInt8 := dkwX0_isMade_1 ++ dktX0_isMade_2
def dkwX0_isMade_0 : List UInt8 := [26, 133, 9, 20, 0, 55, 184, 0, 48, 153, 0, 45, 27, 133, 9, 20, 0, 57, 184, 0, 48, 153, 0, 33]
abbrev dktX0_isMade_0 : List UInt8 := dkwX0_isMade_0 ++ dktX0_isMade_1
theorem dksX0_isMade_0 : cX0_isMade.data.toList.drop 0 = dktX0_isMade_0 := by decide +kernel
theorem dksX0_isMade_1 : cX0_isMade.data.toList.drop 24 = dktX0_isMade_1 := dk_seg dksX0_isMade_0 24 rfl rfl
theorem dksX0_isMade_2 : cX0_isMade.data.toList.drop 47 = dktX0_isMade_2 := dk_seg dksX0_isMade_1 23 rfl rfl
theorem dX0_isMade_0 : decode cX0_isMade 0 = .ok (.iload_n 0, 1) := dk_26 (dk_at dksX0_isMade_0 0 rfl rfl)
theorem dX0_isMade_1 : decode cX0_isMade 1 = .ok (.i2l, 1) := dk_133 (dk_at dksX0_isMade_0 1 rfl rfl)
theorem dX0_isMade_2 : decode cX0_isMade 2 = .ok (.lconst 0, 1) := dk_9 (dk_at dksX0_isMade_0 2 rfl rfl)
theorem dX0_isMade_3 : decode cX0_isMade 3 = .ok (.ldc2_w 55, 3) := dk_20 0 55 (dk_at dksX0_isMade_0 3 rfl rfl)
theorem dX0_isMade_6 : decode cX0_isMade 6 = .ok (.invokestatic 48, 3) := dk_184 0 48 (dk_at dksX0_isMade_0 6 rfl rfl)
theorem dX0_isMade_9 : decode cX0_isMade 9 = .ok (.ifCond .eq 45, 3) := dk_153 0 45 (dk_at dksX0_isMade_0 9 rfl rfl)
theorem dX0_isMade_12 : decode cX0_isMade 12 = .ok (.iload_n 1, 1) := dk_27 (dk_at dksX0_isMade_0 12 rfl rfl)
theorem dX0_isMade_13 : decode cX0_isMade 13 = .ok (.i2l, 1) := dk_133 (dk_at dksX0_isMade_0 13 rfl rfl)
theorem dX0_isMade_14 : decode cX0_isMade 14 = .ok (.lconst 0, 1) := dk_9 (dk_at dksX0_isMade_0 14 rfl rfl)
theorem dX0_isMade_15 : decode cX0_isMade 15 = .ok (.ldc2_w 57, 3) := dk_20 0 57 (dk_at dksX0_isMade_0 15 rfl rfl)
theorem dX0_isMade_18 : decode cX0_isMade 18 = .ok (.invokestatic 48, 3) := dk_184 0 48 (dk_at dksX0_isMade_0 18 rfl rfl)
theorem dX0_isMade_21 : decode cX0_isMade 21 = .ok (.ifCond .eq 33, 3) := dk_153 0 33 (dk_at dksX0_isMade_0 21 rfl rfl)
theorem dX0_isMade_24 : decode cX0_isMade 24 = .ok (.iload_n 2, 1) := dk_28 (dk_at dksX0_isMade_1 0 rfl rfl)
theorem dX0_isMade_25 : decode cX0_isMade 25 = .ok (.i2l, 1) := dk_133 (dk_at dksX0_isMade_1 1 rfl rfl)
theorem dX0_isMade_26 : decode cX0_isMade 26 = .ok (.ldc2_w 59, 3) := dk_20 0 59 (dk_at dksX0_isMade_1 2 rfl rfl)
theorem dX0_isMade_29 : decode cX0_isMade 29 = .ok (.ldc2_w 61, 3) := dk_20 0 61 (dk_at dksX0_isMade_1 5 rfl rfl)
theorem dX0_isMade_32 : decode cX0_isMade 32 = .ok (.invokestatic 48, 3) := dk_184 0 48 (dk_at dksX0_isMade_1 8 rfl rfl)
theorem dX0_isMade_35 : decode cX0_isMade 35 = .ok (.ifCond .eq 19, 3) := dk_153 0 19 (dk_at dksX0_isMade_1 11 rfl rfl)
theorem dX0_isMade_38 : decode cX0_isMade 38 = .ok (.iload_n 3, 1) := dk_29 (dk_at dksX0_isMade_1 14 rfl rfl)
theorem dX0_isMade_39 : decode cX0_isMade 39 = .ok (.i2l, 1) := dk_133 (dk_at dksX0_isMade_1 15 rfl rfl)
theorem dX0_isMade_40 : decode cX0_isMade 40 = .ok (.lconst 0, 1) := dk_9 (dk_at dksX0_isMade_1 16 rfl rfl)
theorem dX0_isMade_41 : decode cX0_isMade 41 = .ok (.ldc2_w 63, 3) := dk_20 0 63 (dk_at dksX0_isMade_1 17 rfl rfl)
theorem dX0_isMade_44 : decode cX0_isMade 44 = .ok (.invokestatic 48, 3) := dk_184 0 48 (dk_at dksX0_isMade_1 20 rfl rfl)
theorem dX0_isMade_47 : decode cX0_isMade 47 = .ok (.ifCond .eq 7, 3) := dk_153 0 7 (dk_at dksX0_isMade_2 0 rfl rfl)
theorem dX0_isMade_50 : decode cX0_isMade 50 = .ok (.iconst 1, 1) := dk_4 (dk_at dksX0_isMade_2 3 rfl rfl)
theorem dX0_isMade_51 : decode cX0_isMade 51 = .ok (.goto 4, 3) := dk_167 0 4 (dk_at dksX0_isMade_2 4 rfl rfl)
theorem dX0_isMade_54 : decode cX0_isMade 54 = .ok (.iconst 0, 1) := dk_3 (dk_at dksX0_isMade_2 7 rfl rfl)
theorem dX0_isMade_55 : decode cX0_isMade 55 = .ok (.ireturn, 1) := dk_172 (dk_at dksX0_isMade_2 8 rfl rfl)
section CP
variable {Γ : Gc} {p : Program} {l : Launch} {e : Env} {s : State} {m : MethodId} {args : Array Value} {below : List Frame} {meth : Method} {c : Code} {ex : Nat → Option Nat} {z : Nat} {tF : St}
noncomputable def fX0_isMade (ex : Nat → Option Nat) (z : Nat) (x0 : Int32) (x1 : Int32) (x2 : Int32) (x3 : Int32) (t : St) : Option (Int32 × St) := gb (fX0_in ex (z + t.2.1) x0.toInt64 0 5 (t.1, 0, 0)) t fun r1 t2 => if r1 = 0 then some (0, t2) else gb (fX0_in ex (z + t2.2.1) x1.toInt64 0 719 (t2.1, 0, 0)) t2 fun r3 t4 => if r3 = 0 then some (0, t4) else gb (fX0_in ex (z + t4.2.1) x2.toInt64 (-30) 30 (t4.1, 0, 0)) t4 fun r5 t6 => if r5 = 0 then some (0, t6) else gb (fX0_in ex (z + t6.2.1) x3.toInt64 0 99 (t6.1, 0, 0)) t6 fun r7 t8 => if r7 = 0 then some (0, t8) else some (1, t8)
set_option maxHeartbeats 4000000 in
theorem wX0_isMade {rF : Int32} (hex : ex = Γ.2.2.2.2) (X : g_X Γ p s m args meth c cX0_isMade 4 RX0) (hr : meth.sig.returnType = (some .boolean)) (x0 : Int32) (x1 : Int32) (x2 : Int32) (x3 : Int32) (t : St) : Wf Γ p l e 1 25 s m args below meth c 4 (g_ι z) v_i rF tF 0 [(0, .int x0), (1, .int x1), (2, .int x2), (3, .int x3)] [] t (fX0_isMade ex z x0 x1 x2 x3 t) := by
  unfold fX0_isMade
  refine g_iload_n (pc := 0) X 0 dX0_isMade_0 rfl rfl ?_
  refine g_i2l (pc := 1) X dX0_isMade_1 ?_
  refine g_lconst (pc := 2) X 0 dX0_isMade_2 rfl ?_
  refine g_ldc2 (pc := 3) X 5 dX0_isMade_3 q121 ?_
  refine g_bS_i (pc := 6) X (y := yX0_in) (As := [.long x0.toInt64, .long 0, .long 5]) (rest := []) (fr' := 0) (lo' := 0) (fun _ => va_cwS 3 X.2.2.2.2.1 (lw_S q122 q123 q70 q124) rfl rfl rfl dmS_X0_in ⟨Nat.le_of_ble_eq_true rfl, Nat.le_of_ble_eq_true rfl⟩) dX0_isMade_6 rfl rfl (Nat.le_of_ble_eq_true rfl) (fun r u h => kX0_in hex h) (fun r1 t2 => ?_)
  refine g_if_eq (pc := 9) X 54 dX0_isMade_9 (by decide) ?_ ?_
  · refine g_iconst (pc := 54) X 0 dX0_isMade_54 rfl ?_
    exact g_zret (pc := 55) X hr rfl dX0_isMade_55
  · refine g_iload_n (pc := 12) X 1 dX0_isMade_12 rfl rfl ?_
    refine g_i2l (pc := 13) X dX0_isMade_13 ?_
    refine g_lconst (pc := 14) X 0 dX0_isMade_14 rfl ?_
    refine g_ldc2 (pc := 15) X 719 dX0_isMade_15 q125 ?_
    refine g_bS_i (pc := 18) X (y := yX0_in) (As := [.long x1.toInt64, .long 0, .long 719]) (rest := []) (fr' := 0) (lo' := 0) (fun _ => va_cwS 3 X.2.2.2.2.1 (lw_S q122 q123 q70 q124) rfl rfl rfl dmS_X0_in ⟨Nat.le_of_ble_eq_true rfl, Nat.le_of_ble_eq_true rfl⟩) dX0_isMade_18 rfl rfl (Nat.le_of_ble_eq_true rfl) (fun r u h => kX0_in hex h) (fun r3 t4 => ?_)
    refine g_if_eq (pc := 21) X 54 dX0_isMade_21 (by decide) ?_ ?_
    · refine g_iconst (pc := 54) X 0 dX0_isMade_54 rfl ?_
      exact g_zret (pc := 55) X hr rfl dX0_isMade_55
    · refine g_iload_n (pc := 24) X 2 dX0_isMade_24 rfl rfl ?_
      refine g_i2l (pc := 25) X dX0_isMade_25 ?_
      refine g_ldc2 (pc := 26) X (-30) dX0_isMade_26 q126 ?_
      refine g_ldc2 (pc := 29) X 30 dX0_isMade_29 q127 ?_
      refine g_bS_i (pc := 32) X (y := yX0_in) (As := [.long x2.toInt64, .long (-30), .long 30]) (rest := []) (fr' := 0) (lo' := 0) (fun _ => va_cwS 3 X.2.2.2.2.1 (lw_S q122 q123 q70 q124) rfl rfl rfl dmS_X0_in ⟨Nat.le_of_ble_eq_true rfl, Nat.le_of_ble_eq_true rfl⟩) dX0_isMade_32 rfl rfl (Nat.le_of_ble_eq_true rfl) (fun r u h => kX0_in hex h) (fun r5 t6 => ?_)
      refine g_if_eq (pc := 35) X 54 dX0_isMade_35 (by decide) ?_ ?_
      · refine g_iconst (pc := 54) X 0 dX0_isMade_54 rfl ?_
        exact g_zret (pc := 55) X hr rfl dX0_isMade_55
      · refine g_iload_n (pc := 38) X 3 dX0_isMade_38 rfl rfl ?_
        refine g_i2l (pc := 39) X dX0_isMade_39 ?_
        refine g_lconst (pc := 40) X 0 dX0_isMade_40 rfl ?_
        refine g_ldc2 (pc := 41) X 99 dX0_isMade_41 q128 ?_
        refine g_bS_i (pc := 44) X (y := yX0_in) (As := [.long x3.toInt64, .long 0, .long 99]) (rest := []) (fr' := 0) (lo' := 0) (fun _ => va_cwS 3 X.2.2.2.2.1 (lw_S q122 q123 q70 q124) rfl rfl rfl dmS_X0_in ⟨Nat.le_of_ble_eq_true rfl, Nat.le_of_ble_eq_true rfl⟩) dX0_isMade_44 rfl rfl (Nat.le_of_ble_eq_true rfl) (fun r u h => kX0_in hex h) (fun r7 t8 => ?_)
        refine g_if_eq (pc := 47) X 54 dX0_isMade_47 (by decide) ?_ ?_
        · refine g_iconst (pc := 54) X 0 dX0_isMade_54 rfl ?_
          exact g_zret (pc := 55) X hr rfl dX0_isMade_55
        · refine g_iconst (pc := 50) X 1 dX0_isMade_50 rfl ?_
          refine g_goto (pc := 51) X 55 dX0_isMade_51 (by decide) ?_
          exact g_zret (pc := 55) X hr rfl dX0_isMade_55
theorem kX0_isMade {ex : Nat → Option Nat} {z : Nat} {x0 : Int32} {x1 : Int32} {x2 : Int32} {x3 : Int32} {σ : Sg} {r : Int32} {u : St} (hex : ex = Γ.2.2.2.2) (h : fX0_isMade ex z x0 x1 x2 x3 (σ, 0, 0) = some (r, u)) : g_C Γ l yX0_isMade cX0_isMade 4 (some .boolean) 1 25 [.int x0, .int x1, .int x2, .int x3] σ z v_i r (g_ι z u) :=
  g_met (ι := g_ι z) (t := (σ, 0, 0)) [.int x0, .int x1, .int x2, .int x3] (by decide) (Nat.le_of_ble_eq_true rfl) h rfl (fun p e s m args below meth c X hr hn => wX0_isMade hex X hr x0 x1 x2 x3 (σ, 0, 0))
end CP
abbrev cX0_made_2 : ByteArray := prog_1_method_2_code
def yX0_made_2 : MethodName := ⟨RX0, "made", "(I)LLameClocks$Plain;"⟩
def dkwX0_made_2_3 : List UInt8 := [187, 0, 13, 89, 183, 0, 15, 176, 187, 0, 16, 89, 183, 0, 18, 176, 187, 0, 19, 89, 183, 0, 21, 176]
abbrev dktX0_made_2_3 : List UInt8 := dkwX0_made_2_3 ++ []
def dkwX0_made_2_2 : List UInt8 := [187, 0, 1, 89, 183, 0, 3, 176, 187, 0, 7, 89, 183, 0, 9, 176, 187, 0, 10, 89, 183, 0, 12, 176]
abbrev dktX0_made_2_2 : List UInt8 := dkwX0_made_2_2 ++ dktX0_made_2_3
def dkwX0_made_2_1 : List UInt8 := [170, 0, 0, 0, 0, 0, 75, 0, 0, 0, 0, 0, 0, 0, 4, 0, 0, 0, 35, 0, 0, 0, 43, 0, 0, 0, 51, 0, 0, 0, 59, 0, 0, 0, 67]
abbrev dktX0_made_2_1 : List UInt8 := dkwX0_made_2_1 ++ dktX0_made_2_2
def dkwX0_made_2_0 : List UInt8 := [26]
abbrev dktX0_made_2_0 : List UInt8 := dkwX0_made_2_0 ++ dktX0_made_2_1
theorem dksX0_made_2_0 : cX0_made_2.data.toList.drop 0 = dktX0_made_2_0 := by decide +kernel
theorem dksX0_made_2_1 : cX0_made_2.data.toList.drop 1 = dktX0_made_2_1 := dk_seg dksX0_made_2_0 1 rfl rfl
theorem dksX0_made_2_2 : cX0_made_2.data.toList.drop 36 = dktX0_made_2_2 := dk_seg dksX0_made_2_1 35 rfl rfl
theorem dksX0_made_2_3 : cX0_made_2.data.toList.drop 60 = dktX0_made_2_3 := dk_seg dksX0_made_2_2 24 rfl rfl
theorem dX0_made_2_0 : decode cX0_made_2 0 = .ok (.iload_n 0, 1) := dk_26 (dk_at dksX0_made_2_0 0 rfl rfl)
theorem dX0_made_2_1 : decode cX0_made_2 1 = .ok (.tableswitch 75 0 4 #[35, 43, 51, 59, 67], 35) := by decide +kernel
theorem dX0_made_2_36 : decode cX0_made_2 36 = .ok (.new 1, 3) := dk_187 0 1 (dk_at dksX0_made_2_2 0 rfl rfl)
theorem dX0_made_2_39 : decode cX0_made_2 39 = .ok (.dup, 1) := dk_89 (dk_at dksX0_made_2_2 3 rfl rfl)
theorem dX0_made_2_40 : decode cX0_made_2 40 = .ok (.invokespecial 3, 3) := dk_183 0 3 (dk_at dksX0_made_2_2 4 rfl rfl)
theorem dX0_made_2_43 : decode cX0_made_2 43 = .ok (.areturn, 1) := dk_176 (dk_at dksX0_made_2_2 7 rfl rfl)
theorem dX0_made_2_44 : decode cX0_made_2 44 = .ok (.new 7, 3) := dk_187 0 7 (dk_at dksX0_made_2_2 8 rfl rfl)
theorem dX0_made_2_47 : decode cX0_made_2 47 = .ok (.dup, 1) := dk_89 (dk_at dksX0_made_2_2 11 rfl rfl)
theorem dX0_made_2_48 : decode cX0_made_2 48 = .ok (.invokespecial 9, 3) := dk_183 0 9 (dk_at dksX0_made_2_2 12 rfl rfl)
theorem dX0_made_2_51 : decode cX0_made_2 51 = .ok (.areturn, 1) := dk_176 (dk_at dksX0_made_2_2 15 rfl rfl)
theorem dX0_made_2_52 : decode cX0_made_2 52 = .ok (.new 10, 3) := dk_187 0 10 (dk_at dksX0_made_2_2 16 rfl rfl)
theorem dX0_made_2_55 : decode cX0_made_2 55 = .ok (.dup, 1) := dk_89 (dk_at dksX0_made_2_2 19 rfl rfl)
theorem dX0_made_2_56 : decode cX0_made_2 56 = .ok (.invokespecial 12, 3) := dk_183 0 12 (dk_at dksX0_made_2_2 20 rfl rfl)
theorem dX0_made_2_59 : decode cX0_made_2 59 = .ok (.areturn, 1) := dk_176 (dk_at dksX0_made_2_2 23 rfl rfl)
theorem dX0_made_2_60 : decode cX0_made_2 60 = .ok (.new 13, 3) := dk_187 0 13 (dk_at dksX0_made_2_3 0 rfl rfl)
theorem dX0_made_2_63 : decode cX0_made_2 63 = .ok (.dup, 1) := dk_89 (dk_at dksX0_made_2_3 3 rfl rfl)
theorem dX0_made_2_64 : decode cX0_made_2 64 = .ok (.invokespecial 15, 3) := dk_183 0 15 (dk_at dksX0_made_2_3 4 rfl rfl)
theorem dX0_made_2_67 : decode cX0_made_2 67 = .ok (.areturn, 1) := dk_176 (dk_at dksX0_made_2_3 7 rfl rfl)
theorem dX0_made_2_68 : decode cX0_made_2 68 = .ok (.new 16, 3) := dk_187 0 16 (dk_at dksX0_made_2_3 8 rfl rfl)
theorem dX0_made_2_71 : decode cX0_made_2 71 = .ok (.dup, 1) := dk_89 (dk_at dksX0_made_2_3 11 rfl rfl)
theorem dX0_made_2_72 : decode cX0_made_2 72 = .ok (.invokespecial 18, 3) := dk_183 0 18 (dk_at dksX0_made_2_3 12 rfl rfl)
theorem dX0_made_2_75 : decode cX0_made_2 75 = .ok (.areturn, 1) := dk_176 (dk_at dksX0_made_2_3 15 rfl rfl)
theorem dX0_made_2_76 : decode cX0_made_2 76 = .ok (.new 19, 3) := dk_187 0 19 (dk_at dksX0_made_2_3 16 rfl rfl)
theorem dX0_made_2_79 : decode cX0_made_2 79 = .ok (.dup, 1) := dk_89 (dk_at dksX0_made_2_3 19 rfl rfl)
theorem dX0_made_2_80 : decode cX0_made_2 80 = .ok (.invokespecial 21, 3) := dk_183 0 21 (dk_at dksX0_made_2_3 20 rfl rfl)
theorem dX0_made_2_83 : decode cX0_made_2 83 = .ok (.areturn, 1) := dk_176 (dk_at dksX0_made_2_3 23 rfl rfl)
theorem nw_X0_1 : g_nw RX0 1 4 [.int 0, .int 0, .int 0, .int 0, .int 0, .int 0] 6 := ⟨_, _, _, tyX4, rfl, q143, q144, q77, in_X4, tyX4_ok, fun j hj => by
  match j, hj with
  | 0, _ => rfl
  | 1, _ => rfl
  | 2, _ => rfl
  | 3, _ => rfl
  | 4, _ => rfl
  | 5, _ => rfl⟩
theorem nw_X0_7 : g_nw RX0 7 5 [.int 0, .int 0, .int 0, .int 0, .int 0, .int 0] 6 := ⟨_, _, _, tyX5, rfl, q185, q186, q78, in_X5, tyX5_ok, fun j hj => by
  match j, hj with
  | 0, _ => rfl
  | 1, _ => rfl
  | 2, _ => rfl
  | 3, _ => rfl
  | 4, _ => rfl
  | 5, _ => rfl⟩
theorem nw_X0_10 : g_nw RX0 10 6 [.int 0, .int 0, .int 0, .int 0, .int 0, .int 0] 6 := ⟨_, _, _, tyX6, rfl, q198, q199, q79, in_X6, tyX6_ok, fun j hj => by
  match j, hj with
  | 0, _ => rfl
  | 1, _ => rfl
  | 2, _ => rfl
  | 3, _ => rfl
  | 4, _ => rfl
  | 5, _ => rfl⟩
theorem nw_X0_13 : g_nw RX0 13 7 [.int 0, .int 0, .int 0, .int 0, .int 0, .int 0] 6 := ⟨_, _, _, tyX7, rfl, q211, q212, q80, in_X7, tyX7_ok, fun j hj => by
  match j, hj with
  | 0, _ => rfl
  | 1, _ => rfl
  | 2, _ => rfl
  | 3, _ => rfl
  | 4, _ => rfl
  | 5, _ => rfl⟩
theorem nw_X0_16 : g_nw RX0 16 8 [.int 0, .int 0, .int 0, .int 0, .int 0, .int 0] 6 := ⟨_, _, _, tyX8, rfl, q224, q225, q81, in_X8, tyX8_ok, fun j hj => by
  match j, hj with
  | 0, _ => rfl
  | 1, _ => rfl
  | 2, _ => rfl
  | 3, _ => rfl
  | 4, _ => rfl
  | 5, _ => rfl⟩
theorem nw_X0_19 : g_nw RX0 19 9 [.int 0, .int 0, .int 0, .int 0, .int 0, .int 0] 6 := ⟨_, _, _, tyX9, rfl, q237, q238, q82, in_X9, tyX9_ok, fun j hj => by
  match j, hj with
  | 0, _ => rfl
  | 1, _ => rfl
  | 2, _ => rfl
  | 3, _ => rfl
  | 4, _ => rfl
  | 5, _ => rfl⟩
theorem dmS_X5_init : yX5_init.cls ≠ "java/lang/invoke/MethodHandle" ∧ yX5_init.cls ≠ "java/lang/invoke/VarHandle" ∧ (parseMethodDescriptor yX5_init.desc).map (fun d => d.parameters.length) = some 0 := by decide +kernel
theorem dmS_X7_init : yX7_init.cls ≠ "java/lang/invoke/MethodHandle" ∧ yX7_init.cls ≠ "java/lang/invoke/VarHandle" ∧ (parseMethodDescriptor yX7_init.desc).map (fun d => d.parameters.length) = some 0 := by decide +kernel
theorem dmS_X8_init : yX8_init.cls ≠ "java/lang/invoke/MethodHandle" ∧ yX8_init.cls ≠ "java/lang/invoke/VarHandle" ∧ (parseMethodDescriptor yX8_init.desc).map (fun d => d.parameters.length) = some 0 := by decide +kernel
theorem dmS_X9_init : yX9_init.cls ≠ "java/lang/invoke/MethodHandle" ∧ yX9_init.cls ≠ "java/lang/invoke/VarHandle" ∧ (parseMethodDescriptor yX9_init.desc).map (fun d => d.parameters.length) = some 0 := by decide +kernel
section CP
variable {Γ : Gc} {p : Program} {l : Launch} {e : Env} {s : State} {m : MethodId} {args : Array Value} {below : List Frame} {meth : Method} {c : Code} {ex : Nat → Option Nat} {z : Nat} {tF : St}
noncomputable def fX0_made_2 (ex : Nat → Option Nat) (z : Nat) (x0 : Int32) (t : St) : Option (Nat × St) := if x0 = 0 then cnew z 4 [.int 0, .int 0, .int 0, .int 0, .int 0, .int 0] 6 t fun a2 t3 => gb (fX4_init ex (z + t3.2.1) a2 (t3.1, 0, 0)) t3 fun _ t5 => some (a2, t5) else if x0 = 1 then cnew z 5 [.int 0, .int 0, .int 0, .int 0, .int 0, .int 0] 6 t fun a7 t8 => gb (fX5_init ex (z + t8.2.1) a7 (t8.1, 0, 0)) t8 fun _ t10 => some (a7, t10) else if x0 = 2 then cnew z 6 [.int 0, .int 0, .int 0, .int 0, .int 0, .int 0] 6 t fun a12 t13 => gb (fX6_init ex (z + t13.2.1) a12 (t13.1, 0, 0)) t13 fun _ t15 => some (a12, t15) else if x0 = 3 then cnew z 7 [.int 0, .int 0, .int 0, .int 0, .int 0, .int 0] 6 t fun a17 t18 => gb (fX7_init ex (z + t18.2.1) a17 (t18.1, 0, 0)) t18 fun _ t20 => some (a17, t20) else if x0 = 4 then cnew z 8 [.int 0, .int 0, .int 0, .int 0, .int 0, .int 0] 6 t fun a22 t23 => gb (fX8_init ex (z + t23.2.1) a22 (t23.1, 0, 0)) t23 fun _ t25 => some (a22, t25) else cnew z 9 [.int 0, .int 0, .int 0, .int 0, .int 0, .int 0] 6 t fun a26 t27 => gb (fX9_init ex (z + t27.2.1) a26 (t27.1, 0, 0)) t27 fun _ t29 => some (a26, t29)
set_option maxHeartbeats 4000000 in
theorem wX0_made_2 {rF : Nat} (hex : ex = Γ.2.2.2.2) (X : g_X Γ p s m args meth c cX0_made_2 1 RX0) (hr : meth.sig.returnType = (some (.object "LameClocks$Plain"))) (x0 : Int32) (t : St) : Wf Γ p l e 4 72 s m args below meth c 1 (g_ι z) v_a rF tF 0 [(0, .int x0)] [] t (fX0_made_2 ex z x0 t) := by
  unfold fX0_made_2
  refine g_iload_n (pc := 0) X 0 dX0_made_2_0 rfl rfl ?_
  refine g_by (pc := 1) (fun hc1 => ?_) (fun hc1 => ?_)
  · refine g_tswI (pc := 1) X 0 36 dX0_made_2_1 hc1 (by decide) (by decide) rfl (by decide) ?_
    refine cg_new (pc := 36) X nw_X0_1 dX0_made_2_36 (fun a2 t3 => ?_)
    refine g_dup (pc := 39) X dX0_made_2_39 rfl ?_
    refine g_bIN_v (pc := 40) X (y := yX4_init) (As := []) (rest := [.ref a2]) (b := a2) (fr' := 1) (lo' := 12) (fun _ => ⟨va_cnB 0 X.2.2.2.2.1 (lw_meth q147) rfl rfl rfl (X.2.2.2.2.2.2.1.nestM q145) (X.2.2.2.2.1 _ q77) dmS_X4_init ⟨Nat.le_of_ble_eq_true rfl, Nat.le_of_ble_eq_true rfl⟩, rfl, X.2.2.2.2.1 _ q146⟩) dX0_made_2_40 rfl rfl (Nat.le_of_ble_eq_true rfl) (fun r u h => kX4_init hex h) (fun r4 t5 => ?_)
    exact g_aret (pc := 43) X hr (Or.inl ⟨_, rfl⟩) dX0_made_2_43
  refine g_by (pc := 1) (fun hc6 => ?_) (fun hc6 => ?_)
  · refine g_tswI (pc := 1) X 1 44 dX0_made_2_1 hc6 (by decide) (by decide) rfl (by decide) ?_
    refine cg_new (pc := 44) X nw_X0_7 dX0_made_2_44 (fun a7 t8 => ?_)
    refine g_dup (pc := 47) X dX0_made_2_47 rfl ?_
    refine g_bIN_v (pc := 48) X (y := yX5_init) (As := []) (rest := [.ref a7]) (b := a7) (fr' := 2) (lo' := 32) (fun _ => ⟨va_cnB 0 X.2.2.2.2.1 (lw_meth q189) rfl rfl rfl (X.2.2.2.2.2.2.1.nestM q187) (X.2.2.2.2.1 _ q78) dmS_X5_init ⟨Nat.le_of_ble_eq_true rfl, Nat.le_of_ble_eq_true rfl⟩, rfl, X.2.2.2.2.1 _ q188⟩) dX0_made_2_48 rfl rfl (Nat.le_of_ble_eq_true rfl) (fun r u h => kX5_init hex h) (fun r9 t10 => ?_)
    exact g_aret (pc := 51) X hr (Or.inl ⟨_, rfl⟩) dX0_made_2_51
  refine g_by (pc := 1) (fun hc11 => ?_) (fun hc11 => ?_)
  · refine g_tswI (pc := 1) X 2 52 dX0_made_2_1 hc11 (by decide) (by decide) rfl (by decide) ?_
    refine cg_new (pc := 52) X nw_X0_10 dX0_made_2_52 (fun a12 t13 => ?_)
    refine g_dup (pc := 55) X dX0_made_2_55 rfl ?_
    refine g_bIN_v (pc := 56) X (y := yX6_init) (As := []) (rest := [.ref a12]) (b := a12) (fr' := 2) (lo' := 32) (fun _ => ⟨va_cnB 0 X.2.2.2.2.1 (lw_meth q202) rfl rfl rfl (X.2.2.2.2.2.2.1.nestM q200) (X.2.2.2.2.1 _ q79) dmS_X6_init ⟨Nat.le_of_ble_eq_true rfl, Nat.le_of_ble_eq_true rfl⟩, rfl, X.2.2.2.2.1 _ q201⟩) dX0_made_2_56 rfl rfl (Nat.le_of_ble_eq_true rfl) (fun r u h => kX6_init hex h) (fun r14 t15 => ?_)
    exact g_aret (pc := 59) X hr (Or.inl ⟨_, rfl⟩) dX0_made_2_59
  refine g_by (pc := 1) (fun hc16 => ?_) (fun hc16 => ?_)
  · refine g_tswI (pc := 1) X 3 60 dX0_made_2_1 hc16 (by decide) (by decide) rfl (by decide) ?_
    refine cg_new (pc := 60) X nw_X0_13 dX0_made_2_60 (fun a17 t18 => ?_)
    refine g_dup (pc := 63) X dX0_made_2_63 rfl ?_
    refine g_bIN_v (pc := 64) X (y := yX7_init) (As := []) (rest := [.ref a17]) (b := a17) (fr' := 3) (lo' := 52) (fun _ => ⟨va_cnB 0 X.2.2.2.2.1 (lw_meth q215) rfl rfl rfl (X.2.2.2.2.2.2.1.nestM q213) (X.2.2.2.2.1 _ q80) dmS_X7_init ⟨Nat.le_of_ble_eq_true rfl, Nat.le_of_ble_eq_true rfl⟩, rfl, X.2.2.2.2.1 _ q214⟩) dX0_made_2_64 rfl rfl (Nat.le_of_ble_eq_true rfl) (fun r u h => kX7_init hex h) (fun r19 t20 => ?_)
    exact g_aret (pc := 67) X hr (Or.inl ⟨_, rfl⟩) dX0_made_2_67
  refine g_by (pc := 1) (fun hc21 => ?_) (fun hc21 => ?_)
  · refine g_tswI (pc := 1) X 4 68 dX0_made_2_1 hc21 (by decide) (by decide) rfl (by decide) ?_
    refine cg_new (pc := 68) X nw_X0_16 dX0_made_2_68 (fun a22 t23 => ?_)
    refine g_dup (pc := 71) X dX0_made_2_71 rfl ?_
    refine g_bIN_v (pc := 72) X (y := yX8_init) (As := []) (rest := [.ref a22]) (b := a22) (fr' := 2) (lo' := 32) (fun _ => ⟨va_cnB 0 X.2.2.2.2.1 (lw_meth q228) rfl rfl rfl (X.2.2.2.2.2.2.1.nestM q226) (X.2.2.2.2.1 _ q81) dmS_X8_init ⟨Nat.le_of_ble_eq_true rfl, Nat.le_of_ble_eq_true rfl⟩, rfl, X.2.2.2.2.1 _ q227⟩) dX0_made_2_72 rfl rfl (Nat.le_of_ble_eq_true rfl) (fun r u h => kX8_init hex h) (fun r24 t25 => ?_)
    exact g_aret (pc := 75) X hr (Or.inl ⟨_, rfl⟩) dX0_made_2_75
  refine g_tswO (pc := 1) X 5 76 dX0_made_2_1 (fun j hj => by match j, hj with | 0, _ => exact hc1 | 1, _ => exact hc6 | 2, _ => exact hc11 | 3, _ => exact hc16 | 4, _ => exact hc21) (by decide) (by decide) (by decide) ?_
  refine cg_new (pc := 76) X nw_X0_19 dX0_made_2_76 (fun a26 t27 => ?_)
  refine g_dup (pc := 79) X dX0_made_2_79 rfl ?_
  refine g_bIN_v (pc := 80) X (y := yX9_init) (As := []) (rest := [.ref a26]) (b := a26) (fr' := 2) (lo' := 32) (fun _ => ⟨va_cnB 0 X.2.2.2.2.1 (lw_meth q241) rfl rfl rfl (X.2.2.2.2.2.2.1.nestM q239) (X.2.2.2.2.1 _ q82) dmS_X9_init ⟨Nat.le_of_ble_eq_true rfl, Nat.le_of_ble_eq_true rfl⟩, rfl, X.2.2.2.2.1 _ q240⟩) dX0_made_2_80 rfl rfl (Nat.le_of_ble_eq_true rfl) (fun r u h => kX9_init hex h) (fun r28 t29 => ?_)
  exact g_aret (pc := 83) X hr (Or.inl ⟨_, rfl⟩) dX0_made_2_83
theorem kX0_made_2 {ex : Nat → Option Nat} {z : Nat} {x0 : Int32} {σ : Sg} {r : Nat} {u : St} (hex : ex = Γ.2.2.2.2) (h : fX0_made_2 ex z x0 (σ, 0, 0) = some (r, u)) : g_C Γ l yX0_made_2 cX0_made_2 1 (some (.object "LameClocks$Plain")) 4 72 [.int x0] σ z v_a r (g_ι z u) :=
  g_met (ι := g_ι z) (t := (σ, 0, 0)) [.int x0] (by decide) (Nat.le_of_ble_eq_true rfl) h rfl (fun p e s m args below meth c X hr hn => wX0_made_2 hex X hr x0 (σ, 0, 0))
end CP
abbrev cX0_isClock : ByteArray := prog_1_method_4_code
def yX0_isClock : MethodName := ⟨RX0, "isClock", "(I)Z"⟩
def dkwX0_isClock_0 : List UInt8 := [27, 133, 9, 42, 180, 0, 38, 182, 0, 42, 4, 100, 133, 184, 0, 48, 172]
abbrev dktX0_isClock_0 : List UInt8 := dkwX0_isClock_0 ++ []
theorem dksX0_isClock_0 : cX0_isClock.data.toList.drop 0 = dktX0_isClock_0 := by decide +kernel
theorem dX0_isClock_0 : decode cX0_isClock 0 = .ok (.iload_n 1, 1) := dk_27 (dk_at dksX0_isClock_0 0 rfl rfl)
theorem dX0_isClock_1 : decode cX0_isClock 1 = .ok (.i2l, 1) := dk_133 (dk_at dksX0_isClock_0 1 rfl rfl)
theorem dX0_isClock_2 : decode cX0_isClock 2 = .ok (.lconst 0, 1) := dk_9 (dk_at dksX0_isClock_0 2 rfl rfl)
theorem dX0_isClock_3 : decode cX0_isClock 3 = .ok (.aload_n 0, 1) := dk_42 (dk_at dksX0_isClock_0 3 rfl rfl)
theorem dX0_isClock_4 : decode cX0_isClock 4 = .ok (.getfield 38, 3) := dk_180 0 38 (dk_at dksX0_isClock_0 4 rfl rfl)
theorem dX0_isClock_7 : decode cX0_isClock 7 = .ok (.invokevirtual 42, 3) := dk_182 0 42 (dk_at dksX0_isClock_0 7 rfl rfl)
theorem dX0_isClock_10 : decode cX0_isClock 10 = .ok (.iconst 1, 1) := dk_4 (dk_at dksX0_isClock_0 10 rfl rfl)
theorem dX0_isClock_11 : decode cX0_isClock 11 = .ok (.isub, 1) := dk_100 (dk_at dksX0_isClock_0 11 rfl rfl)
theorem dX0_isClock_12 : decode cX0_isClock 12 = .ok (.i2l, 1) := dk_133 (dk_at dksX0_isClock_0 12 rfl rfl)
theorem dX0_isClock_13 : decode cX0_isClock 13 = .ok (.invokestatic 48, 3) := dk_184 0 48 (dk_at dksX0_isClock_0 13 rfl rfl)
theorem dX0_isClock_16 : decode cX0_isClock 16 = .ok (.ireturn, 1) := dk_172 (dk_at dksX0_isClock_0 16 rfl rfl)
theorem dmV_X1_size : yX1_size.cls = RX1 ∧ yX1_size.cls ≠ "java/lang/invoke/MethodHandle" ∧ yX1_size.cls ≠ "java/lang/invoke/VarHandle" ∧ (parseMethodDescriptor yX1_size.desc).map (fun d => d.parameters.length) = some 0 := by decide +kernel
section CP
variable {Γ : Gc} {p : Program} {l : Launch} {e : Env} {s : State} {m : MethodId} {args : Array Value} {below : List Frame} {meth : Method} {c : Code} {ex : Nat → Option Nat} {z : Nat} {tF : St}
noncomputable def fX0_isClock (ex : Nat → Option Nat) (z : Nat) (h0 : Nat) (x1 : Int32) (t : St) : Option (Int32 × St) := cgA [0] 0 t h0 fun v1 => ccast [1] t v1 (gb (fX1_size ex (z + t.2.1) v1 (t.1, 0, 0)) t fun r2 t3 => gb (fX0_in ex (z + t3.2.1) x1.toInt64 0 ((r2 - 1).toInt64) (t3.1, 0, 0)) t3 fun r9 t10 => if r9 = 0 ∨ r9 = 1 then some (r9, t10) else none)
set_option maxHeartbeats 4000000 in
theorem wX0_isClock {rF : Int32} (hex : ex = Γ.2.2.2.2) (X : g_X Γ p s m args meth c cX0_isClock 2 RX0) (hr : meth.sig.returnType = (some .boolean)) (h0 : Nat) (x1 : Int32) (t : St) : Wf Γ p l e 2 40 s m args below meth c 2 (g_ι z) v_i rF tF 0 [(0, .ref h0), (1, .int x1)] [] t (fX0_isClock ex z h0 x1 t) := by
  unfold fX0_isClock
  refine g_iload_n (pc := 0) X 1 dX0_isClock_0 rfl rfl ?_
  refine g_i2l (pc := 1) X dX0_isClock_1 ?_
  refine g_lconst (pc := 2) X 0 dX0_isClock_2 rfl ?_
  refine g_aload_n (pc := 3) X 0 dX0_isClock_3 rfl rfl ?_
  refine cg_getA (pc := 4) X fo_X0_38 dX0_isClock_4 (fun v1 => ?_)
  refine g_bD_i (pc := 7) X (cs := [1]) (As := []) (rest := [.long 0, .long x1.toInt64]) (b := v1) (n := 0) dX0_isClock_7 rfl rfl (Nat.le_of_ble_eq_true rfl) (fun fl4 ci5 fs6 hs7 hci8 r u h => ?_) (fun r2 t3 => ?_)
  · obtain rfl := List.mem_singleton.mp hci8
    exact ⟨_, _, _, yX1_size, _, _, _, 1, 20, rfl, kX1_size hex h, Or.inl (cwV 0 X.2.2.2.2.1 (lw_V q129 q130 q131 q71 q132) rfl rfl rfl dmV_X1_size ⟨Nat.le_of_ble_eq_true rfl, Nat.le_of_ble_eq_true rfl⟩)⟩
  refine g_iconst (pc := 10) X 1 dX0_isClock_10 rfl ?_
  refine g_isub (pc := 11) X dX0_isClock_11 ?_
  refine g_i2l (pc := 12) X dX0_isClock_12 ?_
  refine g_bS_i (pc := 13) X (y := yX0_in) (As := [.long x1.toInt64, .long 0, .long ((r2 - 1).toInt64)]) (rest := []) (fr' := 0) (lo' := 0) (fun _ => va_cwS 3 X.2.2.2.2.1 (lw_S q122 q123 q70 q124) rfl rfl rfl dmS_X0_in ⟨Nat.le_of_ble_eq_true rfl, Nat.le_of_ble_eq_true rfl⟩) dX0_isClock_13 rfl rfl (Nat.le_of_ble_eq_true rfl) (fun r u h => kX0_in hex h) (fun r9 t10 => ?_)
  exact g_bret (pc := 16) X hr dX0_isClock_16
theorem kX0_isClock {ex : Nat → Option Nat} {z : Nat} {h0 : Nat} {x1 : Int32} {σ : Sg} {r : Int32} {u : St} (hex : ex = Γ.2.2.2.2) (h : fX0_isClock ex z h0 x1 (σ, 0, 0) = some (r, u)) : g_C Γ l yX0_isClock cX0_isClock 2 (some .boolean) 2 40 [.ref h0, .int x1] σ z v_i r (g_ι z u) :=
  g_met (ι := g_ι z) (t := (σ, 0, 0)) [.ref h0, .int x1] (by decide) (Nat.le_of_ble_eq_true rfl) h rfl (fun p e s m args below meth c X hr hn => wX0_isClock hex X hr h0 x1 (σ, 0, 0))
end CP
abbrev cX0_isWindow : ByteArray := prog_1_method_5_code
def yX0_isWindow : MethodName := ⟨RX0, "isWindow", "(I)Z"⟩
def dkwX0_isWindow_0 : List UInt8 := [27, 133, 9, 42, 180, 0, 38, 182, 0, 52, 133, 184, 0, 48, 172]
abbrev dktX0_isWindow_0 : List UInt8 := dkwX0_isWindow_0 ++ []
theorem dksX0_isWindow_0 : cX0_isWindow.data.toList.drop 0 = dktX0_isWindow_0 := by decide +kernel
theorem dX0_isWindow_0 : decode cX0_isWindow 0 = .ok (.iload_n 1, 1) := dk_27 (dk_at dksX0_isWindow_0 0 rfl rfl)
theorem dX0_isWindow_1 : decode cX0_isWindow 1 = .ok (.i2l, 1) := dk_133 (dk_at dksX0_isWindow_0 1 rfl rfl)
theorem dX0_isWindow_2 : decode cX0_isWindow 2 = .ok (.lconst 0, 1) := dk_9 (dk_at dksX0_isWindow_0 2 rfl rfl)
theorem dX0_isWindow_3 : decode cX0_isWindow 3 = .ok (.aload_n 0, 1) := dk_42 (dk_at dksX0_isWindow_0 3 rfl rfl)
theorem dX0_isWindow_4 : decode cX0_isWindow 4 = .ok (.getfield 38, 3) := dk_180 0 38 (dk_at dksX0_isWindow_0 4 rfl rfl)
theorem dX0_isWindow_7 : decode cX0_isWindow 7 = .ok (.invokevirtual 52, 3) := dk_182 0 52 (dk_at dksX0_isWindow_0 7 rfl rfl)
theorem dX0_isWindow_10 : decode cX0_isWindow 10 = .ok (.i2l, 1) := dk_133 (dk_at dksX0_isWindow_0 10 rfl rfl)
theorem dX0_isWindow_11 : decode cX0_isWindow 11 = .ok (.invokestatic 48, 3) := dk_184 0 48 (dk_at dksX0_isWindow_0 11 rfl rfl)
theorem dX0_isWindow_14 : decode cX0_isWindow 14 = .ok (.ireturn, 1) := dk_172 (dk_at dksX0_isWindow_0 14 rfl rfl)
theorem dmV_X1_home : yX1_home.cls = RX1 ∧ yX1_home.cls ≠ "java/lang/invoke/MethodHandle" ∧ yX1_home.cls ≠ "java/lang/invoke/VarHandle" ∧ (parseMethodDescriptor yX1_home.desc).map (fun d => d.parameters.length) = some 0 := by decide +kernel
section CP
variable {Γ : Gc} {p : Program} {l : Launch} {e : Env} {s : State} {m : MethodId} {args : Array Value} {below : List Frame} {meth : Method} {c : Code} {ex : Nat → Option Nat} {z : Nat} {tF : St}
noncomputable def fX0_isWindow (ex : Nat → Option Nat) (z : Nat) (h0 : Nat) (x1 : Int32) (t : St) : Option (Int32 × St) := cgA [0] 0 t h0 fun v1 => ccast [1] t v1 (gb (fX1_home ex (z + t.2.1) v1 (t.1, 0, 0)) t fun r2 t3 => gb (fX0_in ex (z + t3.2.1) x1.toInt64 0 r2.toInt64 (t3.1, 0, 0)) t3 fun r9 t10 => if r9 = 0 ∨ r9 = 1 then some (r9, t10) else none)
set_option maxHeartbeats 4000000 in
theorem wX0_isWindow {rF : Int32} (hex : ex = Γ.2.2.2.2) (X : g_X Γ p s m args meth c cX0_isWindow 2 RX0) (hr : meth.sig.returnType = (some .boolean)) (h0 : Nat) (x1 : Int32) (t : St) : Wf Γ p l e 1 25 s m args below meth c 2 (g_ι z) v_i rF tF 0 [(0, .ref h0), (1, .int x1)] [] t (fX0_isWindow ex z h0 x1 t) := by
  unfold fX0_isWindow
  refine g_iload_n (pc := 0) X 1 dX0_isWindow_0 rfl rfl ?_
  refine g_i2l (pc := 1) X dX0_isWindow_1 ?_
  refine g_lconst (pc := 2) X 0 dX0_isWindow_2 rfl ?_
  refine g_aload_n (pc := 3) X 0 dX0_isWindow_3 rfl rfl ?_
  refine cg_getA (pc := 4) X fo_X0_38 dX0_isWindow_4 (fun v1 => ?_)
  refine g_bD_i (pc := 7) X (cs := [1]) (As := []) (rest := [.long 0, .long x1.toInt64]) (b := v1) (n := 0) dX0_isWindow_7 rfl rfl (Nat.le_of_ble_eq_true rfl) (fun fl4 ci5 fs6 hs7 hci8 r u h => ?_) (fun r2 t3 => ?_)
  · obtain rfl := List.mem_singleton.mp hci8
    exact ⟨_, _, _, yX1_home, _, _, _, 0, 0, rfl, kX1_home hex h, Or.inl (cwV 0 X.2.2.2.2.1 (lw_V q467 q468 q469 q71 q470) rfl rfl rfl dmV_X1_home ⟨Nat.le_of_ble_eq_true rfl, Nat.le_of_ble_eq_true rfl⟩)⟩
  refine g_i2l (pc := 10) X dX0_isWindow_10 ?_
  refine g_bS_i (pc := 11) X (y := yX0_in) (As := [.long x1.toInt64, .long 0, .long r2.toInt64]) (rest := []) (fr' := 0) (lo' := 0) (fun _ => va_cwS 3 X.2.2.2.2.1 (lw_S q122 q123 q70 q124) rfl rfl rfl dmS_X0_in ⟨Nat.le_of_ble_eq_true rfl, Nat.le_of_ble_eq_true rfl⟩) dX0_isWindow_11 rfl rfl (Nat.le_of_ble_eq_true rfl) (fun r u h => kX0_in hex h) (fun r9 t10 => ?_)
  exact g_bret (pc := 14) X hr dX0_isWindow_14
theorem kX0_isWindow {ex : Nat → Option Nat} {z : Nat} {h0 : Nat} {x1 : Int32} {σ : Sg} {r : Int32} {u : St} (hex : ex = Γ.2.2.2.2) (h : fX0_isWindow ex z h0 x1 (σ, 0, 0) = some (r, u)) : g_C Γ l yX0_isWindow cX0_isWindow 2 (some .boolean) 1 25 [.ref h0, .int x1] σ z v_i r (g_ι z u) :=
  g_met (ι := g_ι z) (t := (σ, 0, 0)) [.ref h0, .int x1] (by decide) (Nat.le_of_ble_eq_true rfl) h rfl (fun p e s m args below meth c X hr hn => wX0_isWindow hex X hr h0 x1 (σ, 0, 0))
end CP
