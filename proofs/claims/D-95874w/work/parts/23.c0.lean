/-! the component, its methods: J0_init, J1_init, J11_isValidCodePoint, J11_highSurrogate, J11_lowSurrogate, J2_size, J2_fastRemove, J2_elementData, J2_clear, J2_isEmpty, J2_init, J3_hugeLength, J4_max, J4_min, J4_floorMod, J5_copyOf_2, J7_checkIndex, J7_checkFromToIndex, J8_isLatin1, J8_coder, J8_checkBoundsBeginEnd (printed by gen/cmain.py) -/
set_option maxRecDepth 100000
theorem q72 : (Jvm.Cond.initialized "java/util/AbstractCollection") ∈ lw_all := lw_g (lw_at lw_m1 3 rfl) rfl
theorem q73 : (Jvm.Cond.initialized "java/util/AbstractList") ∈ lw_all := lw_g (lw_at lw_m1 4 rfl) rfl
theorem q74 : (Jvm.Cond.initialized "java/util/ArrayList") ∈ lw_all := lw_g (lw_at lw_m1 5 rfl) rfl
theorem q84 : (Jvm.Cond.initialized "java/lang/Math") ∈ lw_all := lw_g (lw_at lw_m1 15 rfl) rfl
theorem q86 : (Jvm.Cond.initialized "java/lang/System") ∈ lw_all := lw_g (lw_at lw_m1 17 rfl) rfl
theorem q88 : (Jvm.Cond.initialized "jdk/internal/util/Preconditions") ∈ lw_all := lw_g (lw_at lw_m1 19 rfl) rfl
theorem q89 : (Jvm.Cond.initialized "java/lang/String") ∈ lw_all := lw_g (lw_at lw_m1 20 rfl) rfl
theorem q136 : (Jvm.Cond.code ({ cls := "java/util/ArrayList", name := "size", desc := "()I" } : Jvm.MethodName) prog_50_method_8_code (1 : Nat) (Option.some Jvm.ClassFile.FieldType.int)) ∈ lw_all := lw_g (lw_at lw_m1 67 rfl) rfl
theorem q149 : (Jvm.Cond.instanceMethod ({ cls := "java/lang/Object", name := "<init>", desc := "()V" } : Jvm.MethodName)) ∈ lw_all := lw_g (lw_at lw_m1 80 rfl) rfl
theorem q150 : (Jvm.Cond.code ({ cls := "java/lang/Object", name := "<init>", desc := "()V" } : Jvm.MethodName) object_method_1_code (1 : Nat) (Option.none : Option Jvm.ClassFile.FieldType)) ∈ lw_all := lw_g (lw_at lw_m1 81 rfl) rfl
theorem q271 : (Jvm.Cond.fieldLink "java/util/ArrayList" (39 : Nat) "java/util/ArrayList" "DEFAULTCAPACITY_EMPTY_ELEMENTDATA" "[Ljava/lang/Object;") ∈ lw_all := lw_g (lw_at lw_m1 202 rfl) rfl
theorem q272 : (Jvm.Cond.laysStatic "java/util/ArrayList" "DEFAULTCAPACITY_EMPTY_ELEMENTDATA" "[Ljava/lang/Object;") ∈ lw_tbl := lw_at lw_m1 203 rfl
theorem q278 : (Jvm.Cond.code ({ cls := "java/lang/Math", name := "max", desc := "(II)I" } : Jvm.MethodName) prog_37_method_65_code (2 : Nat) (Option.some Jvm.ClassFile.FieldType.int)) ∈ lw_all := lw_g (lw_at lw_m1 209 rfl) rfl
theorem q279 : (Jvm.Cond.constant "jdk/internal/util/ArraysSupport" (200 : Nat) (2147483639 : Int32)) ∈ lw_all := lw_g (lw_at lw_m1 210 rfl) rfl
theorem q282 : (Jvm.Cond.code ({ cls := "jdk/internal/util/ArraysSupport", name := "hugeLength", desc := "(II)I" } : Jvm.MethodName) prog_57_method_28_code (3 : Nat) (Option.some Jvm.ClassFile.FieldType.int)) ∈ lw_all := lw_g (lw_at lw_m1 213 rfl) rfl
theorem q319 : (Jvm.Cond.code ({ cls := "java/util/Arrays", name := "copyOf", desc := "([Ljava/lang/Object;ILjava/lang/Class;)[Ljava/lang/Object;" } : Jvm.MethodName) prog_51_method_120_code (4 : Nat) (Option.some (Jvm.ClassFile.FieldType.array (Jvm.ClassFile.FieldType.object "java/lang/Object")))) ∈ lw_all := lw_g (lw_at lw_m2 10 rfl) rfl
theorem q320 : (Jvm.Cond.classLink "java/util/Arrays" (110 : Nat) "[Ljava/lang/Object;") ∈ lw_all := lw_g (lw_at lw_m2 11 rfl) rfl
theorem q321 : (Jvm.Cond.arrayOver (Jvm.ClassFile.FieldType.object "java/lang/Object")) ∈ lw_tbl := lw_at lw_m2 12 rfl
theorem q322 : (Jvm.Cond.classLink "java/util/Arrays" (2 : Nat) "java/lang/Object") ∈ lw_all := lw_g (lw_at lw_m2 13 rfl) rfl
theorem q323 : (Jvm.Cond.methodLink "java/util/Arrays" (304 : Nat) ({ cls := "java/lang/Math", name := "min", desc := "(II)I" } : Jvm.MethodName)) ∈ lw_all := lw_g (lw_at lw_m2 14 rfl) rfl
theorem q324 : (Jvm.Cond.static ({ cls := "java/lang/Math", name := "min", desc := "(II)I" } : Jvm.MethodName)) ∈ lw_all := lw_g (lw_at lw_m2 15 rfl) rfl
theorem q325 : (Jvm.Cond.code ({ cls := "java/lang/Math", name := "min", desc := "(II)I" } : Jvm.MethodName) prog_37_method_69_code (2 : Nat) (Option.some Jvm.ClassFile.FieldType.int)) ∈ lw_all := lw_g (lw_at lw_m2 16 rfl) rfl
theorem q326 : (Jvm.Cond.methodLink "java/util/Arrays" (150 : Nat) ({ cls := "java/lang/System", name := "arraycopy", desc := "(Ljava/lang/Object;ILjava/lang/Object;II)V" } : Jvm.MethodName)) ∈ lw_all := lw_g (lw_at lw_m2 17 rfl) rfl
theorem q327 : (Jvm.Cond.static ({ cls := "java/lang/System", name := "arraycopy", desc := "(Ljava/lang/Object;ILjava/lang/Object;II)V" } : Jvm.MethodName)) ∈ lw_all := lw_g (lw_at lw_m2 18 rfl) rfl
theorem q328 : (Jvm.Cond.native ({ cls := "java/lang/System", name := "arraycopy", desc := "(Ljava/lang/Object;ILjava/lang/Object;II)V" } : Jvm.MethodName)) ∈ lw_all := lw_g (lw_at lw_m2 19 rfl) rfl
theorem q344 : (Jvm.Cond.code ({ cls := "jdk/internal/util/Preconditions", name := "checkIndex", desc := "(IILjava/util/function/BiFunction;)I" } : Jvm.MethodName) prog_58_method_11_code (3 : Nat) (Option.some Jvm.ClassFile.FieldType.int)) ∈ lw_all := lw_g (lw_at lw_m2 35 rfl) rfl
theorem q348 : (Jvm.Cond.code ({ cls := "java/util/ArrayList", name := "fastRemove", desc := "([Ljava/lang/Object;I)V" } : Jvm.MethodName) prog_50_method_39_code (4 : Nat) (Option.none : Option Jvm.ClassFile.FieldType)) ∈ lw_all := lw_g (lw_at lw_m2 39 rfl) rfl
theorem q349 : (Jvm.Cond.methodLink "java/util/ArrayList" (112 : Nat) ({ cls := "java/lang/System", name := "arraycopy", desc := "(Ljava/lang/Object;ILjava/lang/Object;II)V" } : Jvm.MethodName)) ∈ lw_all := lw_g (lw_at lw_m2 40 rfl) rfl
theorem q358 : (Jvm.Cond.code ({ cls := "java/util/ArrayList", name := "elementData", desc := "(I)Ljava/lang/Object;" } : Jvm.MethodName) prog_50_method_18_code (2 : Nat) (Option.some (Jvm.ClassFile.FieldType.object "java/lang/Object"))) ∈ lw_all := lw_g (lw_at lw_m2 49 rfl) rfl
theorem q363 : (Jvm.Cond.code ({ cls := "java/util/ArrayList", name := "clear", desc := "()V" } : Jvm.MethodName) prog_50_method_40_code (4 : Nat) (Option.none : Option Jvm.ClassFile.FieldType)) ∈ lw_all := lw_g (lw_at lw_m2 54 rfl) rfl
theorem q647 : (Jvm.Cond.code ({ cls := "java/lang/Math", name := "floorMod", desc := "(II)I" } : Jvm.MethodName) prog_37_method_50_code (3 : Nat) (Option.some Jvm.ClassFile.FieldType.int)) ∈ lw_all := lw_g (lw_at lw_m3 98 rfl) rfl
theorem q790 : (Jvm.Cond.code ({ cls := "java/util/ArrayList", name := "isEmpty", desc := "()Z" } : Jvm.MethodName) prog_50_method_9_code (1 : Nat) (Option.some Jvm.ClassFile.FieldType.boolean)) ∈ lw_all := lw_g (lw_at lw_m4 1 rfl) rfl
theorem q1114 : (Jvm.Cond.code ({ cls := "java/lang/String", name := "isLatin1", desc := "()Z" } : Jvm.MethodName) prog_41_method_154_code (1 : Nat) (Option.some Jvm.ClassFile.FieldType.boolean)) ∈ lw_all := lw_g (lw_at lw_m5 85 rfl) rfl
theorem q1115 : (Jvm.Cond.fieldLink "java/lang/String" (38 : Nat) "java/lang/String" "COMPACT_STRINGS" "Z") ∈ lw_all := lw_g (lw_at lw_m5 86 rfl) rfl
theorem q1116 : (Jvm.Cond.laysStatic "java/lang/String" "COMPACT_STRINGS" "Z") ∈ lw_tbl := lw_at lw_m5 87 rfl
theorem q1124 : (Jvm.Cond.code ({ cls := "java/lang/String", name := "coder", desc := "()B" } : Jvm.MethodName) prog_41_method_152_code (1 : Nat) (Option.some Jvm.ClassFile.FieldType.byte)) ∈ lw_all := lw_g (lw_at lw_m5 95 rfl) rfl
theorem q1153 : (Jvm.Cond.code ({ cls := "java/lang/String", name := "checkBoundsBeginEnd", desc := "(III)V" } : Jvm.MethodName) prog_41_method_158_code (3 : Nat) (Option.none : Option Jvm.ClassFile.FieldType)) ∈ lw_all := lw_g (lw_at lw_m5 124 rfl) rfl
theorem q1154 : (Jvm.Cond.fieldLink "java/lang/String" (1053 : Nat) "jdk/internal/util/Preconditions" "SIOOBE_FORMATTER" "Ljava/util/function/BiFunction;") ∈ lw_all := lw_g (lw_at lw_m5 125 rfl) rfl
theorem q1155 : (Jvm.Cond.laysStatic "jdk/internal/util/Preconditions" "SIOOBE_FORMATTER" "Ljava/util/function/BiFunction;") ∈ lw_tbl := lw_at lw_m5 126 rfl
theorem q1158 : (Jvm.Cond.code ({ cls := "jdk/internal/util/Preconditions", name := "checkFromToIndex", desc := "(IIILjava/util/function/BiFunction;)I" } : Jvm.MethodName) prog_58_method_12_code (4 : Nat) (Option.some Jvm.ClassFile.FieldType.int)) ∈ lw_all := lw_g (lw_at lw_m5 129 rfl) rfl
theorem q1176 : (Jvm.Cond.code ({ cls := "java/lang/Character", name := "isValidCodePoint", desc := "(I)Z" } : Jvm.MethodName) prog_30_method_11_code (2 : Nat) (Option.some Jvm.ClassFile.FieldType.boolean)) ∈ lw_all := lw_g (lw_at lw_m5 147 rfl) rfl
theorem q1179 : (Jvm.Cond.code ({ cls := "java/lang/Character", name := "highSurrogate", desc := "(I)C" } : Jvm.MethodName) prog_30_method_28_code (1 : Nat) (Option.some Jvm.ClassFile.FieldType.char)) ∈ lw_all := lw_g (lw_at lw_m5 150 rfl) rfl
theorem q1180 : (Jvm.Cond.constant "java/lang/Character" (110 : Nat) (55232 : Int32)) ∈ lw_all := lw_g (lw_at lw_m5 151 rfl) rfl
theorem q1183 : (Jvm.Cond.code ({ cls := "java/lang/Character", name := "lowSurrogate", desc := "(I)C" } : Jvm.MethodName) prog_30_method_29_code (1 : Nat) (Option.some Jvm.ClassFile.FieldType.char)) ∈ lw_all := lw_g (lw_at lw_m5 154 rfl) rfl
theorem q1184 : (Jvm.Cond.constant "java/lang/Character" (76 : Nat) (56320 : Int32)) ∈ lw_all := lw_g (lw_at lw_m5 155 rfl) rfl
theorem q1539 : (Jvm.Cond.code ({ cls := "java/util/ArrayList", name := "<init>", desc := "()V" } : Jvm.MethodName) prog_50_method_2_code (1 : Nat) (Option.none : Option Jvm.ClassFile.FieldType)) ∈ lw_all := lw_g (lw_at lw_m7 30 rfl) rfl
theorem q1540 : (Jvm.Cond.methodLink "java/util/ArrayList" (1 : Nat) ({ cls := "java/util/AbstractList", name := "<init>", desc := "()V" } : Jvm.MethodName)) ∈ lw_all := lw_g (lw_at lw_m7 31 rfl) rfl
theorem q1541 : (Jvm.Cond.instanceMethod ({ cls := "java/util/AbstractList", name := "<init>", desc := "()V" } : Jvm.MethodName)) ∈ lw_all := lw_g (lw_at lw_m7 32 rfl) rfl
theorem q1542 : (Jvm.Cond.code ({ cls := "java/util/AbstractList", name := "<init>", desc := "()V" } : Jvm.MethodName) prog_49_method_1_code (1 : Nat) (Option.none : Option Jvm.ClassFile.FieldType)) ∈ lw_all := lw_g (lw_at lw_m7 33 rfl) rfl
theorem q1543 : (Jvm.Cond.methodLink "java/util/AbstractList" (1 : Nat) ({ cls := "java/util/AbstractCollection", name := "<init>", desc := "()V" } : Jvm.MethodName)) ∈ lw_all := lw_g (lw_at lw_m7 34 rfl) rfl
theorem q1544 : (Jvm.Cond.instanceMethod ({ cls := "java/util/AbstractCollection", name := "<init>", desc := "()V" } : Jvm.MethodName)) ∈ lw_all := lw_g (lw_at lw_m7 35 rfl) rfl
theorem q1545 : (Jvm.Cond.code ({ cls := "java/util/AbstractCollection", name := "<init>", desc := "()V" } : Jvm.MethodName) prog_48_method_1_code (1 : Nat) (Option.none : Option Jvm.ClassFile.FieldType)) ∈ lw_all := lw_g (lw_at lw_m7 36 rfl) rfl
theorem q1546 : (Jvm.Cond.methodLink "java/util/AbstractCollection" (1 : Nat) ({ cls := "java/lang/Object", name := "<init>", desc := "()V" } : Jvm.MethodName)) ∈ lw_all := lw_g (lw_at lw_m7 37 rfl) rfl
theorem q1547 : (Jvm.Cond.fieldLink "java/util/ArrayList" (9 : Nat) "java/util/ArrayList" "elementData" "[Ljava/lang/Object;") ∈ lw_all := lw_g (lw_at lw_m7 38 rfl) rfl
theorem q1548 : (Jvm.Cond.fieldLink "java/util/ArrayList" (48 : Nat) "java/util/ArrayList" "size" "I") ∈ lw_all := lw_g (lw_at lw_m7 39 rfl) rfl
theorem q1549 : (Jvm.Cond.fieldLink "java/util/AbstractList" (7 : Nat) "java/util/AbstractList" "modCount" "I") ∈ lw_all := lw_g (lw_at lw_m7 40 rfl) rfl
theorem q1550 : (Jvm.Cond.fieldLink "java/util/ArrayList" (63 : Nat) "java/util/ArrayList" "modCount" "I") ∈ lw_all := lw_g (lw_at lw_m7 41 rfl) rfl
theorem q1551 : (Jvm.Cond.sameField "java/util/ArrayList" "java/util/AbstractList" "modCount" "I") ∈ lw_all := lw_g (lw_at lw_m7 42 rfl) rfl
theorem q2188 : (Jvm.Cond.castable "LameClocks$Plain" "java/lang/Object") ∈ lw_tbl := lw_at lw_m9 199 rfl
theorem q2189 : (Jvm.Cond.castable "LameClocks$Cuckoo" "java/lang/Object") ∈ lw_tbl := lw_at lw_m9 200 rfl
theorem q2190 : (Jvm.Cond.castable "LameClocks$Stopped" "java/lang/Object") ∈ lw_tbl := lw_at lw_m9 201 rfl
theorem q2191 : (Jvm.Cond.castable "LameClocks$Sundial" "java/lang/Object") ∈ lw_tbl := lw_at lw_m9 202 rfl
theorem q2192 : (Jvm.Cond.castable "LameClocks$Twin" "java/lang/Object") ∈ lw_tbl := lw_at lw_m9 203 rfl
theorem q2193 : (Jvm.Cond.castable "LameClocks$Mayor" "java/lang/Object") ∈ lw_tbl := lw_at lw_m9 204 rfl
theorem q2195 : (Jvm.Cond.castable "LameClocks$Passing" "java/lang/Object") ∈ lw_tbl := lw_at lw_m9 206 rfl
theorem q2196 : (Jvm.Cond.castable "LameClocks$Breathing" "java/lang/Object") ∈ lw_tbl := lw_at lw_m9 207 rfl
theorem q2197 : (Jvm.Cond.castable "LameClocks$Winding" "java/lang/Object") ∈ lw_tbl := lw_at lw_m9 208 rfl
theorem q2198 : (Jvm.Cond.castable "LameClocks$Turning" "java/lang/Object") ∈ lw_tbl := lw_at lw_m9 209 rfl
theorem q2199 : (Jvm.Cond.castable "LameClocks$Breathed" "java/lang/Object") ∈ lw_tbl := lw_at lw_m9 210 rfl
theorem q2200 : (Jvm.Cond.castable "LameClocks$Turned" "java/lang/Object") ∈ lw_tbl := lw_at lw_m9 211 rfl
theorem q2201 : (Jvm.Cond.castable "LameClocks$Wound" "java/lang/Object") ∈ lw_tbl := lw_at lw_m9 212 rfl
theorem q2202 : (Jvm.Cond.castable "LameClocks$Tuned" "java/lang/Object") ∈ lw_tbl := lw_at lw_m9 213 rfl
theorem q2203 : (Jvm.Cond.castable "LameClocks$Bet" "java/lang/Object") ∈ lw_tbl := lw_at lw_m9 214 rfl
theorem q2222 : (Jvm.Cond.fieldLink "java/lang/String" (15 : Nat) "java/lang/String" "coder" "B") ∈ lw_all := lw_g (lw_at lw_m9 233 rfl) rfl
abbrev cJ0_init : ByteArray := prog_48_method_1_code
def yJ0_init : MethodName := ⟨RJ0, "<init>", "()V"⟩
theorem dJ0_init_0 : decode cJ0_init 0 = .ok (.aload_n 0, 1) := by decide +kernel
theorem dJ0_init_1 : decode cJ0_init 1 = .ok (.invokespecial 1, 3) := by decide +kernel
theorem dJ0_init_4 : decode cJ0_init 4 = .ok (.return_, 1) := by decide +kernel
section CP
variable {Γ : Gc} {p : Program} {l : Launch} {e : Env} {s : State} {m : MethodId} {args : Array Value} {below : List Frame} {meth : Method} {c : Code} {ex : Nat → Option Nat} {z : Nat} {tF : St}
noncomputable def fJ0_init (ex : Nat → Option Nat) (z : Nat) (h0 : Nat) (t : St) : Option (Unit × St) := some ((), t)
set_option maxHeartbeats 4000000 in
theorem wJ0_init {rF : Unit} (hex : ex = Γ.2.2.2.2) (X : g_X Γ p s m args meth c cJ0_init 1 RJ0) (hr : meth.sig.returnType = none) (hin : meth.name = "<init>") (h0 : Nat) (t : St) : Wf Γ p l e 1 12 s m args below meth c 1 (g_ι z) v_v rF tF 0 [(0, .ref h0)] [] t (fJ0_init ex z h0 t) := by
  unfold fJ0_init
  refine g_aload_n (pc := 0) X 0 dJ0_init_0 rfl rfl ?_
  refine cg_obj (pc := 1) X dJ0_init_1 q1546 q149 q150 (Nat.le_of_ble_eq_true rfl) (Nat.le_of_ble_eq_true rfl) ?_
  exact g_vret (pc := 4) X hr dJ0_init_4
theorem kJ0_init {ex : Nat → Option Nat} {z : Nat} {h0 : Nat} {σ : Sg} {r : Unit} {u : St} (hex : ex = Γ.2.2.2.2) (h : fJ0_init ex z h0 (σ, 0, 0) = some (r, u)) : g_C Γ l yJ0_init cJ0_init 1 none 1 12 [.ref h0] σ z v_v r (g_ι z u) :=
  g_met (ι := g_ι z) (t := (σ, 0, 0)) [.ref h0] (by decide) (Nat.le_of_ble_eq_true rfl) h rfl (fun p e s m args below meth c X hr hn => wJ0_init hex X hr hn h0 (σ, 0, 0))
end CP
abbrev cJ1_init : ByteArray := prog_49_method_1_code
def yJ1_init : MethodName := ⟨RJ1, "<init>", "()V"⟩
def dkwJ1_init_0 : List UInt8 := [42, 183, 0, 1, 42, 3, 181, 0, 7, 177]
abbrev dktJ1_init_0 : List UInt8 := dkwJ1_init_0 ++ []
theorem dksJ1_init_0 : cJ1_init.data.toList.drop 0 = dktJ1_init_0 := by decide +kernel
theorem dJ1_init_0 : decode cJ1_init 0 = .ok (.aload_n 0, 1) := dk_42 (dk_at dksJ1_init_0 0 rfl rfl)
theorem dJ1_init_1 : decode cJ1_init 1 = .ok (.invokespecial 1, 3) := dk_183 0 1 (dk_at dksJ1_init_0 1 rfl rfl)
theorem dJ1_init_4 : decode cJ1_init 4 = .ok (.aload_n 0, 1) := dk_42 (dk_at dksJ1_init_0 4 rfl rfl)
theorem dJ1_init_5 : decode cJ1_init 5 = .ok (.iconst 0, 1) := dk_3 (dk_at dksJ1_init_0 5 rfl rfl)
theorem dJ1_init_6 : decode cJ1_init 6 = .ok (.putfield 7, 3) := dk_181 0 7 (dk_at dksJ1_init_0 6 rfl rfl)
theorem dJ1_init_9 : decode cJ1_init 9 = .ok (.return_, 1) := dk_177 (dk_at dksJ1_init_0 9 rfl rfl)
theorem fp_J1_7 : g_fp RJ1 7 [15] 0 .int false := ⟨_, _, _, Or.inl q1549, by decide +kernel, fun ci h => by
  simp only [List.mem_cons, List.not_mem_nil, or_false] at h; rcases h with rfl
  · exact ⟨_, _, _, tyJ2, rfl, by decide, rfl, rfl, Or.inl rfl, in_J2, rfl, (fun h => by cases h), tyJ2_ok, (by decide +kernel)⟩⟩
theorem dmS_J0_init : yJ0_init.cls ≠ "java/lang/invoke/MethodHandle" ∧ yJ0_init.cls ≠ "java/lang/invoke/VarHandle" ∧ (parseMethodDescriptor yJ0_init.desc).map (fun d => d.parameters.length) = some 0 := by decide +kernel
section CP
variable {Γ : Gc} {p : Program} {l : Launch} {e : Env} {s : State} {m : MethodId} {args : Array Value} {below : List Frame} {meth : Method} {c : Code} {ex : Nat → Option Nat} {z : Nat} {tF : St}
noncomputable def fJ1_init (ex : Nat → Option Nat) (z : Nat) (h0 : Nat) (t : St) : Option (Unit × St) := gb (fJ0_init ex (z + t.2.1) h0 (t.1, 0, 0)) t fun _ t2 => cput [15] 0 t2 h0 (.int 0) fun t3 => some ((), t3)
set_option maxHeartbeats 4000000 in
theorem wJ1_init {rF : Unit} (hex : ex = Γ.2.2.2.2) (X : g_X Γ p s m args meth c cJ1_init 1 RJ1) (hr : meth.sig.returnType = none) (hin : meth.name = "<init>") (h0 : Nat) (t : St) : Wf Γ p l e 2 32 s m args below meth c 1 (g_ι z) v_v rF tF 0 [(0, .ref h0)] [] t (fJ1_init ex z h0 t) := by
  unfold fJ1_init
  refine g_aload_n (pc := 0) X 0 dJ1_init_0 rfl rfl ?_
  refine g_bI_v (pc := 1) X (y := yJ0_init) (As := []) (rest := []) (b := h0) (fr' := 1) (lo' := 12) (fun _ => cwI 0 X.2.2.2.2.1 (lw_meth q1545) rfl rfl rfl (X.2.2.2.2.1 _ q72) (X.2.2.2.2.1 _ q1543) (X.2.2.2.2.1 _ q1544) rfl dmS_J0_init ⟨Nat.le_of_ble_eq_true rfl, Nat.le_of_ble_eq_true rfl⟩) dJ1_init_1 rfl rfl (Nat.le_of_ble_eq_true rfl) (fun r u h => kJ0_init hex h) (fun r1 t2 => ?_)
  refine g_aload_n (pc := 4) X 0 dJ1_init_4 rfl rfl ?_
  refine g_iconst (pc := 5) X 0 dJ1_init_5 rfl ?_
  refine cg_put (pc := 6) X fp_J1_7 dJ1_init_6 (fun h => by cases h) rfl rfl (fun t3 => ?_)
  exact g_vret (pc := 9) X hr dJ1_init_9
theorem kJ1_init {ex : Nat → Option Nat} {z : Nat} {h0 : Nat} {σ : Sg} {r : Unit} {u : St} (hex : ex = Γ.2.2.2.2) (h : fJ1_init ex z h0 (σ, 0, 0) = some (r, u)) : g_C Γ l yJ1_init cJ1_init 1 none 2 32 [.ref h0] σ z v_v r (g_ι z u) :=
  g_met (ι := g_ι z) (t := (σ, 0, 0)) [.ref h0] (by decide) (Nat.le_of_ble_eq_true rfl) h rfl (fun p e s m args below meth c X hr hn => wJ1_init hex X hr hn h0 (σ, 0, 0))
end CP
abbrev cJ11_isValidCodePoint : ByteArray := prog_30_method_11_code
def yJ11_isValidCodePoint : MethodName := ⟨RJ11, "isValidCodePoint", "(I)Z"⟩
def dkwJ11_isValidCodePoint_0 : List UInt8 := [26, 16, 16, 124, 60, 27, 16, 17, 162, 0, 7, 4, 167, 0, 4, 3, 172]
abbrev dktJ11_isValidCodePoint_0 : List UInt8 := dkwJ11_isValidCodePoint_0 ++ []
theorem dksJ11_isValidCodePoint_0 : cJ11_isValidCodePoint.data.toList.drop 0 = dktJ11_isValidCodePoint_0 := by decide +kernel
theorem dJ11_isValidCodePoint_0 : decode cJ11_isValidCodePoint 0 = .ok (.iload_n 0, 1) := dk_26 (dk_at dksJ11_isValidCodePoint_0 0 rfl rfl)
theorem dJ11_isValidCodePoint_1 : decode cJ11_isValidCodePoint 1 = .ok (.bipush 16, 2) := dk_16 16 (dk_at dksJ11_isValidCodePoint_0 1 rfl rfl)
theorem dJ11_isValidCodePoint_3 : decode cJ11_isValidCodePoint 3 = .ok (.iushr, 1) := dk_124 (dk_at dksJ11_isValidCodePoint_0 3 rfl rfl)
theorem dJ11_isValidCodePoint_4 : decode cJ11_isValidCodePoint 4 = .ok (.istore_n 1, 1) := dk_60 (dk_at dksJ11_isValidCodePoint_0 4 rfl rfl)
theorem dJ11_isValidCodePoint_5 : decode cJ11_isValidCodePoint 5 = .ok (.iload_n 1, 1) := dk_27 (dk_at dksJ11_isValidCodePoint_0 5 rfl rfl)
theorem dJ11_isValidCodePoint_6 : decode cJ11_isValidCodePoint 6 = .ok (.bipush 17, 2) := dk_16 17 (dk_at dksJ11_isValidCodePoint_0 6 rfl rfl)
theorem dJ11_isValidCodePoint_8 : decode cJ11_isValidCodePoint 8 = .ok (.if_icmp .ge 7, 3) := dk_162 0 7 (dk_at dksJ11_isValidCodePoint_0 8 rfl rfl)
theorem dJ11_isValidCodePoint_11 : decode cJ11_isValidCodePoint 11 = .ok (.iconst 1, 1) := dk_4 (dk_at dksJ11_isValidCodePoint_0 11 rfl rfl)
theorem dJ11_isValidCodePoint_12 : decode cJ11_isValidCodePoint 12 = .ok (.goto 4, 3) := dk_167 0 4 (dk_at dksJ11_isValidCodePoint_0 12 rfl rfl)
theorem dJ11_isValidCodePoint_15 : decode cJ11_isValidCodePoint 15 = .ok (.iconst 0, 1) := dk_3 (dk_at dksJ11_isValidCodePoint_0 15 rfl rfl)
theorem dJ11_isValidCodePoint_16 : decode cJ11_isValidCodePoint 16 = .ok (.ireturn, 1) := dk_172 (dk_at dksJ11_isValidCodePoint_0 16 rfl rfl)
section CP
variable {Γ : Gc} {p : Program} {l : Launch} {e : Env} {s : State} {m : MethodId} {args : Array Value} {below : List Frame} {meth : Method} {c : Code} {ex : Nat → Option Nat} {z : Nat} {tF : St}
noncomputable def fJ11_isValidCodePoint (ex : Nat → Option Nat) (z : Nat) (x0 : Int32) (t : St) : Option (Int32 × St) := lt ((x0.toUInt32 >>> ((16 : Int32).toUInt32 &&& Int32.toUInt32 31)).toInt32) fun y1 => if 17 ≤ y1 then some (0, t) else some (1, t)
set_option maxHeartbeats 4000000 in
theorem wJ11_isValidCodePoint {rF : Int32} (hex : ex = Γ.2.2.2.2) (X : g_X Γ p s m args meth c cJ11_isValidCodePoint 2 RJ11) (hr : meth.sig.returnType = (some .boolean)) (x0 : Int32) (t : St) : Wf Γ p l e 0 0 s m args below meth c 2 (g_ι z) v_i rF tF 0 [(0, .int x0)] [] t (fJ11_isValidCodePoint ex z x0 t) := by
  unfold fJ11_isValidCodePoint
  refine g_iload_n (pc := 0) X 0 dJ11_isValidCodePoint_0 rfl rfl ?_
  refine g_bipush (pc := 1) X 16 dJ11_isValidCodePoint_1 rfl ?_
  refine g_iushr (pc := 3) X dJ11_isValidCodePoint_3 ?_
  refine g_lti (pc := 4) (fun y1 => ?_)
  refine g_istore_n (pc := 4) X (lv' := [(1, .int y1), (0, .int x0)]) dJ11_isValidCodePoint_4 rfl (by decide) rfl ?_
  refine g_iload_n (pc := 5) X 0 dJ11_isValidCodePoint_5 rfl rfl ?_
  refine g_bipush (pc := 6) X 17 dJ11_isValidCodePoint_6 rfl ?_
  refine g_icmp_ge (pc := 8) X 15 dJ11_isValidCodePoint_8 (by decide) ?_ ?_
  · refine g_iconst (pc := 15) X 0 dJ11_isValidCodePoint_15 rfl ?_
    exact g_zret (pc := 16) X hr rfl dJ11_isValidCodePoint_16
  · refine g_iconst (pc := 11) X 1 dJ11_isValidCodePoint_11 rfl ?_
    refine g_goto (pc := 12) X 16 dJ11_isValidCodePoint_12 (by decide) ?_
    exact g_zret (pc := 16) X hr rfl dJ11_isValidCodePoint_16
theorem kJ11_isValidCodePoint {ex : Nat → Option Nat} {z : Nat} {x0 : Int32} {σ : Sg} {r : Int32} {u : St} (hex : ex = Γ.2.2.2.2) (h : fJ11_isValidCodePoint ex z x0 (σ, 0, 0) = some (r, u)) : g_C Γ l yJ11_isValidCodePoint cJ11_isValidCodePoint 2 (some .boolean) 0 0 [.int x0] σ z v_i r (g_ι z u) :=
  g_met (ι := g_ι z) (t := (σ, 0, 0)) [.int x0] (by decide) (Nat.le_of_ble_eq_true rfl) h rfl (fun p e s m args below meth c X hr hn => wJ11_isValidCodePoint hex X hr x0 (σ, 0, 0))
end CP
abbrev cJ11_highSurrogate : ByteArray := prog_30_method_28_code
def yJ11_highSurrogate : MethodName := ⟨RJ11, "highSurrogate", "(I)C"⟩
def dkwJ11_highSurrogate_0 : List UInt8 := [26, 16, 10, 124, 18, 110, 96, 146, 172]
abbrev dktJ11_highSurrogate_0 : List UInt8 := dkwJ11_highSurrogate_0 ++ []
theorem dksJ11_highSurrogate_0 : cJ11_highSurrogate.data.toList.drop 0 = dktJ11_highSurrogate_0 := by decide +kernel
theorem dJ11_highSurrogate_0 : decode cJ11_highSurrogate 0 = .ok (.iload_n 0, 1) := dk_26 (dk_at dksJ11_highSurrogate_0 0 rfl rfl)
theorem dJ11_highSurrogate_1 : decode cJ11_highSurrogate 1 = .ok (.bipush 10, 2) := dk_16 10 (dk_at dksJ11_highSurrogate_0 1 rfl rfl)
theorem dJ11_highSurrogate_3 : decode cJ11_highSurrogate 3 = .ok (.iushr, 1) := dk_124 (dk_at dksJ11_highSurrogate_0 3 rfl rfl)
theorem dJ11_highSurrogate_4 : decode cJ11_highSurrogate 4 = .ok (.ldc 110, 2) := dk_18 110 (dk_at dksJ11_highSurrogate_0 4 rfl rfl)
theorem dJ11_highSurrogate_6 : decode cJ11_highSurrogate 6 = .ok (.iadd, 1) := dk_96 (dk_at dksJ11_highSurrogate_0 6 rfl rfl)
theorem dJ11_highSurrogate_7 : decode cJ11_highSurrogate 7 = .ok (.i2c, 1) := dk_146 (dk_at dksJ11_highSurrogate_0 7 rfl rfl)
theorem dJ11_highSurrogate_8 : decode cJ11_highSurrogate 8 = .ok (.ireturn, 1) := dk_172 (dk_at dksJ11_highSurrogate_0 8 rfl rfl)
section CP
variable {Γ : Gc} {p : Program} {l : Launch} {e : Env} {s : State} {m : MethodId} {args : Array Value} {below : List Frame} {meth : Method} {c : Code} {ex : Nat → Option Nat} {z : Nat} {tF : St}
noncomputable def fJ11_highSurrogate (ex : Nat → Option Nat) (z : Nat) (x0 : Int32) (t : St) : Option (Int32 × St) := none
set_option maxHeartbeats 4000000 in
theorem wJ11_highSurrogate {rF : Int32} (hex : ex = Γ.2.2.2.2) (X : g_X Γ p s m args meth c cJ11_highSurrogate 1 RJ11) (hr : meth.sig.returnType = (some .char)) (x0 : Int32) (t : St) : Wf Γ p l e 0 0 s m args below meth c 1 (g_ι z) v_i rF tF 0 [(0, .int x0)] [] t (fJ11_highSurrogate ex z x0 t) := by
  unfold fJ11_highSurrogate
  refine g_iload_n (pc := 0) X 0 dJ11_highSurrogate_0 rfl rfl ?_
  refine g_bipush (pc := 1) X 10 dJ11_highSurrogate_1 rfl ?_
  refine g_iushr (pc := 3) X dJ11_highSurrogate_3 ?_
  refine g_ldc (pc := 4) X 55232 dJ11_highSurrogate_4 q1180 ?_
  refine g_iadd (pc := 6) X dJ11_highSurrogate_6 ?_
  refine g_i2c (pc := 7) X dJ11_highSurrogate_7 ?_
  exact g_none
theorem kJ11_highSurrogate {ex : Nat → Option Nat} {z : Nat} {x0 : Int32} {σ : Sg} {r : Int32} {u : St} (hex : ex = Γ.2.2.2.2) (h : fJ11_highSurrogate ex z x0 (σ, 0, 0) = some (r, u)) : g_C Γ l yJ11_highSurrogate cJ11_highSurrogate 1 (some .char) 0 0 [.int x0] σ z v_i r (g_ι z u) :=
  g_met (ι := g_ι z) (t := (σ, 0, 0)) [.int x0] (by decide) (Nat.le_of_ble_eq_true rfl) h rfl (fun p e s m args below meth c X hr hn => wJ11_highSurrogate hex X hr x0 (σ, 0, 0))
end CP
abbrev cJ11_lowSurrogate : ByteArray := prog_30_method_29_code
def yJ11_lowSurrogate : MethodName := ⟨RJ11, "lowSurrogate", "(I)C"⟩
def dkwJ11_lowSurrogate_0 : List UInt8 := [26, 17, 3, 255, 126, 18, 76, 96, 146, 172]
abbrev dktJ11_lowSurrogate_0 : List UInt8 := dkwJ11_lowSurrogate_0 ++ []
theorem dksJ11_lowSurrogate_0 : cJ11_lowSurrogate.data.toList.drop 0 = dktJ11_lowSurrogate_0 := by decide +kernel
theorem dJ11_lowSurrogate_0 : decode cJ11_lowSurrogate 0 = .ok (.iload_n 0, 1) := dk_26 (dk_at dksJ11_lowSurrogate_0 0 rfl rfl)
theorem dJ11_lowSurrogate_1 : decode cJ11_lowSurrogate 1 = .ok (.sipush 1023, 3) := dk_17 3 255 (dk_at dksJ11_lowSurrogate_0 1 rfl rfl)
theorem dJ11_lowSurrogate_4 : decode cJ11_lowSurrogate 4 = .ok (.iand, 1) := dk_126 (dk_at dksJ11_lowSurrogate_0 4 rfl rfl)
theorem dJ11_lowSurrogate_5 : decode cJ11_lowSurrogate 5 = .ok (.ldc 76, 2) := dk_18 76 (dk_at dksJ11_lowSurrogate_0 5 rfl rfl)
theorem dJ11_lowSurrogate_7 : decode cJ11_lowSurrogate 7 = .ok (.iadd, 1) := dk_96 (dk_at dksJ11_lowSurrogate_0 7 rfl rfl)
theorem dJ11_lowSurrogate_8 : decode cJ11_lowSurrogate 8 = .ok (.i2c, 1) := dk_146 (dk_at dksJ11_lowSurrogate_0 8 rfl rfl)
theorem dJ11_lowSurrogate_9 : decode cJ11_lowSurrogate 9 = .ok (.ireturn, 1) := dk_172 (dk_at dksJ11_lowSurrogate_0 9 rfl rfl)
section CP
variable {Γ : Gc} {p : Program} {l : Launch} {e : Env} {s : State} {m : MethodId} {args : Array Value} {below : List Frame} {meth : Method} {c : Code} {ex : Nat → Option Nat} {z : Nat} {tF : St}
noncomputable def fJ11_lowSurrogate (ex : Nat → Option Nat) (z : Nat) (x0 : Int32) (t : St) : Option (Int32 × St) := none
set_option maxHeartbeats 4000000 in
theorem wJ11_lowSurrogate {rF : Int32} (hex : ex = Γ.2.2.2.2) (X : g_X Γ p s m args meth c cJ11_lowSurrogate 1 RJ11) (hr : meth.sig.returnType = (some .char)) (x0 : Int32) (t : St) : Wf Γ p l e 0 0 s m args below meth c 1 (g_ι z) v_i rF tF 0 [(0, .int x0)] [] t (fJ11_lowSurrogate ex z x0 t) := by
  unfold fJ11_lowSurrogate
  refine g_iload_n (pc := 0) X 0 dJ11_lowSurrogate_0 rfl rfl ?_
  refine g_sipush (pc := 1) X 1023 dJ11_lowSurrogate_1 rfl ?_
  refine g_iand (pc := 4) X dJ11_lowSurrogate_4 ?_
  refine g_ldc (pc := 5) X 56320 dJ11_lowSurrogate_5 q1184 ?_
  refine g_iadd (pc := 7) X dJ11_lowSurrogate_7 ?_
  refine g_i2c (pc := 8) X dJ11_lowSurrogate_8 ?_
  exact g_none
theorem kJ11_lowSurrogate {ex : Nat → Option Nat} {z : Nat} {x0 : Int32} {σ : Sg} {r : Int32} {u : St} (hex : ex = Γ.2.2.2.2) (h : fJ11_lowSurrogate ex z x0 (σ, 0, 0) = some (r, u)) : g_C Γ l yJ11_lowSurrogate cJ11_lowSurrogate 1 (some .char) 0 0 [.int x0] σ z v_i r (g_ι z u) :=
  g_met (ι := g_ι z) (t := (σ, 0, 0)) [.int x0] (by decide) (Nat.le_of_ble_eq_true rfl) h rfl (fun p e s m args below meth c X hr hn => wJ11_lowSurrogate hex X hr x0 (σ, 0, 0))
end CP
abbrev cJ2_size : ByteArray := prog_50_method_8_code
def yJ2_size : MethodName := ⟨RJ2, "size", "()I"⟩
theorem dJ2_size_0 : decode cJ2_size 0 = .ok (.aload_n 0, 1) := by decide +kernel
theorem dJ2_size_1 : decode cJ2_size 1 = .ok (.getfield 48, 3) := by decide +kernel
theorem dJ2_size_4 : decode cJ2_size 4 = .ok (.ireturn, 1) := by decide +kernel
theorem fo_J2_48 : g_fo RJ2 48 [15] 2 := ⟨_, _, _, Or.inl q1548, fun ci h => by
  simp only [List.mem_cons, List.not_mem_nil, or_false] at h; rcases h with rfl
  · exact ⟨_, _, _, rfl, by decide, rfl, rfl, Or.inl rfl, in_J2⟩⟩
section CP
variable {Γ : Gc} {p : Program} {l : Launch} {e : Env} {s : State} {m : MethodId} {args : Array Value} {below : List Frame} {meth : Method} {c : Code} {ex : Nat → Option Nat} {z : Nat} {tF : St}
noncomputable def fJ2_size (ex : Nat → Option Nat) (z : Nat) (h0 : Nat) (t : St) : Option (Int32 × St) := cgI [15] 2 t h0 fun v1 => some (v1, t)
set_option maxHeartbeats 4000000 in
theorem wJ2_size {rF : Int32} (hex : ex = Γ.2.2.2.2) (X : g_X Γ p s m args meth c cJ2_size 1 RJ2) (hr : meth.sig.returnType = (some .int)) (h0 : Nat) (t : St) : Wf Γ p l e 0 0 s m args below meth c 1 (g_ι z) v_i rF tF 0 [(0, .ref h0)] [] t (fJ2_size ex z h0 t) := by
  unfold fJ2_size
  refine g_aload_n (pc := 0) X 0 dJ2_size_0 rfl rfl ?_
  refine cg_getI (pc := 1) X fo_J2_48 dJ2_size_1 (fun v1 => ?_)
  exact g_iret (pc := 4) X hr dJ2_size_4
theorem kJ2_size {ex : Nat → Option Nat} {z : Nat} {h0 : Nat} {σ : Sg} {r : Int32} {u : St} (hex : ex = Γ.2.2.2.2) (h : fJ2_size ex z h0 (σ, 0, 0) = some (r, u)) : g_C Γ l yJ2_size cJ2_size 1 (some .int) 0 0 [.ref h0] σ z v_i r (g_ι z u) :=
  g_met (ι := g_ι z) (t := (σ, 0, 0)) [.ref h0] (by decide) (Nat.le_of_ble_eq_true rfl) h rfl (fun p e s m args below meth c X hr hn => wJ2_size hex X hr h0 (σ, 0, 0))
end CP
abbrev cJ2_fastRemove : ByteArray := prog_50_method_39_code
def yJ2_fastRemove : MethodName := ⟨RJ2, "fastRemove", "([Ljava/lang/Object;I)V"⟩
def dkwJ2_fastRemove_1 : List UInt8 := [4, 96, 43, 28, 29, 28, 100, 184, 0, 112, 43, 42, 29, 90, 181, 0, 48, 1, 83, 177]
abbrev dktJ2_fastRemove_1 : List UInt8 := dkwJ2_fastRemove_1 ++ []
def dkwJ2_fastRemove_0 : List UInt8 := [42, 89, 180, 0, 63, 4, 96, 181, 0, 63, 42, 180, 0, 48, 4, 100, 89, 62, 28, 164, 0, 15, 43, 28]
abbrev dktJ2_fastRemove_0 : List UInt8 := dkwJ2_fastRemove_0 ++ dktJ2_fastRemove_1
theorem dksJ2_fastRemove_0 : cJ2_fastRemove.data.toList.drop 0 = dktJ2_fastRemove_0 := by decide +kernel
theorem dksJ2_fastRemove_1 : cJ2_fastRemove.data.toList.drop 24 = dktJ2_fastRemove_1 := dk_seg dksJ2_fastRemove_0 24 rfl rfl
theorem dJ2_fastRemove_0 : decode cJ2_fastRemove 0 = .ok (.aload_n 0, 1) := dk_42 (dk_at dksJ2_fastRemove_0 0 rfl rfl)
theorem dJ2_fastRemove_1 : decode cJ2_fastRemove 1 = .ok (.dup, 1) := dk_89 (dk_at dksJ2_fastRemove_0 1 rfl rfl)
theorem dJ2_fastRemove_2 : decode cJ2_fastRemove 2 = .ok (.getfield 63, 3) := dk_180 0 63 (dk_at dksJ2_fastRemove_0 2 rfl rfl)
theorem dJ2_fastRemove_5 : decode cJ2_fastRemove 5 = .ok (.iconst 1, 1) := dk_4 (dk_at dksJ2_fastRemove_0 5 rfl rfl)
theorem dJ2_fastRemove_6 : decode cJ2_fastRemove 6 = .ok (.iadd, 1) := dk_96 (dk_at dksJ2_fastRemove_0 6 rfl rfl)
theorem dJ2_fastRemove_7 : decode cJ2_fastRemove 7 = .ok (.putfield 63, 3) := dk_181 0 63 (dk_at dksJ2_fastRemove_0 7 rfl rfl)
theorem dJ2_fastRemove_10 : decode cJ2_fastRemove 10 = .ok (.aload_n 0, 1) := dk_42 (dk_at dksJ2_fastRemove_0 10 rfl rfl)
theorem dJ2_fastRemove_11 : decode cJ2_fastRemove 11 = .ok (.getfield 48, 3) := dk_180 0 48 (dk_at dksJ2_fastRemove_0 11 rfl rfl)
theorem dJ2_fastRemove_14 : decode cJ2_fastRemove 14 = .ok (.iconst 1, 1) := dk_4 (dk_at dksJ2_fastRemove_0 14 rfl rfl)
theorem dJ2_fastRemove_15 : decode cJ2_fastRemove 15 = .ok (.isub, 1) := dk_100 (dk_at dksJ2_fastRemove_0 15 rfl rfl)
theorem dJ2_fastRemove_16 : decode cJ2_fastRemove 16 = .ok (.dup, 1) := dk_89 (dk_at dksJ2_fastRemove_0 16 rfl rfl)
theorem dJ2_fastRemove_17 : decode cJ2_fastRemove 17 = .ok (.istore_n 3, 1) := dk_62 (dk_at dksJ2_fastRemove_0 17 rfl rfl)
theorem dJ2_fastRemove_18 : decode cJ2_fastRemove 18 = .ok (.iload_n 2, 1) := dk_28 (dk_at dksJ2_fastRemove_0 18 rfl rfl)
theorem dJ2_fastRemove_19 : decode cJ2_fastRemove 19 = .ok (.if_icmp .le 15, 3) := dk_164 0 15 (dk_at dksJ2_fastRemove_0 19 rfl rfl)
theorem dJ2_fastRemove_22 : decode cJ2_fastRemove 22 = .ok (.aload_n 1, 1) := dk_43 (dk_at dksJ2_fastRemove_0 22 rfl rfl)
theorem dJ2_fastRemove_23 : decode cJ2_fastRemove 23 = .ok (.iload_n 2, 1) := dk_28 (dk_at dksJ2_fastRemove_0 23 rfl rfl)
theorem dJ2_fastRemove_24 : decode cJ2_fastRemove 24 = .ok (.iconst 1, 1) := dk_4 (dk_at dksJ2_fastRemove_1 0 rfl rfl)
theorem dJ2_fastRemove_25 : decode cJ2_fastRemove 25 = .ok (.iadd, 1) := dk_96 (dk_at dksJ2_fastRemove_1 1 rfl rfl)
theorem dJ2_fastRemove_26 : decode cJ2_fastRemove 26 = .ok (.aload_n 1, 1) := dk_43 (dk_at dksJ2_fastRemove_1 2 rfl rfl)
theorem dJ2_fastRemove_27 : decode cJ2_fastRemove 27 = .ok (.iload_n 2, 1) := dk_28 (dk_at dksJ2_fastRemove_1 3 rfl rfl)
theorem dJ2_fastRemove_28 : decode cJ2_fastRemove 28 = .ok (.iload_n 3, 1) := dk_29 (dk_at dksJ2_fastRemove_1 4 rfl rfl)
theorem dJ2_fastRemove_29 : decode cJ2_fastRemove 29 = .ok (.iload_n 2, 1) := dk_28 (dk_at dksJ2_fastRemove_1 5 rfl rfl)
theorem dJ2_fastRemove_30 : decode cJ2_fastRemove 30 = .ok (.isub, 1) := dk_100 (dk_at dksJ2_fastRemove_1 6 rfl rfl)
theorem dJ2_fastRemove_31 : decode cJ2_fastRemove 31 = .ok (.invokestatic 112, 3) := dk_184 0 112 (dk_at dksJ2_fastRemove_1 7 rfl rfl)
theorem dJ2_fastRemove_34 : decode cJ2_fastRemove 34 = .ok (.aload_n 1, 1) := dk_43 (dk_at dksJ2_fastRemove_1 10 rfl rfl)
theorem dJ2_fastRemove_35 : decode cJ2_fastRemove 35 = .ok (.aload_n 0, 1) := dk_42 (dk_at dksJ2_fastRemove_1 11 rfl rfl)
theorem dJ2_fastRemove_36 : decode cJ2_fastRemove 36 = .ok (.iload_n 3, 1) := dk_29 (dk_at dksJ2_fastRemove_1 12 rfl rfl)
theorem dJ2_fastRemove_37 : decode cJ2_fastRemove 37 = .ok (.dup_x1, 1) := dk_90 (dk_at dksJ2_fastRemove_1 13 rfl rfl)
theorem dJ2_fastRemove_38 : decode cJ2_fastRemove 38 = .ok (.putfield 48, 3) := dk_181 0 48 (dk_at dksJ2_fastRemove_1 14 rfl rfl)
theorem dJ2_fastRemove_41 : decode cJ2_fastRemove 41 = .ok (.aconst_null, 1) := dk_1 (dk_at dksJ2_fastRemove_1 17 rfl rfl)
theorem dJ2_fastRemove_42 : decode cJ2_fastRemove 42 = .ok (.aastore, 1) := dk_83 (dk_at dksJ2_fastRemove_1 18 rfl rfl)
theorem dJ2_fastRemove_43 : decode cJ2_fastRemove 43 = .ok (.return_, 1) := dk_177 (dk_at dksJ2_fastRemove_1 19 rfl rfl)
theorem fo_J2_63 : g_fo RJ2 63 [15] 0 := ⟨_, _, _, Or.inl q1550, fun ci h => by
  simp only [List.mem_cons, List.not_mem_nil, or_false] at h; rcases h with rfl
  · exact ⟨_, _, _, rfl, by decide, rfl, rfl, Or.inr q1551, in_J2⟩⟩
theorem fp_J2_63 : g_fp RJ2 63 [15] 0 .int false := ⟨_, _, _, Or.inl q1550, by decide +kernel, fun ci h => by
  simp only [List.mem_cons, List.not_mem_nil, or_false] at h; rcases h with rfl
  · exact ⟨_, _, _, tyJ2, rfl, by decide, rfl, rfl, Or.inr q1551, in_J2, rfl, (fun h => by cases h), tyJ2_ok, (by decide +kernel)⟩⟩
theorem cf_java_lang_Object_15 : ∀ ci ∈ ([4, 5, 6, 7, 8, 9, 11, 12, 13, 14, 16, 17, 18, 19, 20] : List Nat), ∃ (C : String) (T : u_T) (N : Nat), cls[ci]? = some (C, T, N) ∧ (C = "java/lang/Object" ∨ Cond.castable C "java/lang/Object" ∈ lw_tbl) := by
  intro ci h
  simp only [List.mem_cons, List.not_mem_nil, or_false] at h; rcases h with rfl | rfl | rfl | rfl | rfl | rfl | rfl | rfl | rfl | rfl | rfl | rfl | rfl | rfl | rfl
  · exact ⟨_, _, _, rfl, Or.inr q2188⟩
  · exact ⟨_, _, _, rfl, Or.inr q2189⟩
  · exact ⟨_, _, _, rfl, Or.inr q2190⟩
  · exact ⟨_, _, _, rfl, Or.inr q2191⟩
  · exact ⟨_, _, _, rfl, Or.inr q2192⟩
  · exact ⟨_, _, _, rfl, Or.inr q2193⟩
  · exact ⟨_, _, _, rfl, Or.inr q2195⟩
  · exact ⟨_, _, _, rfl, Or.inr q2196⟩
  · exact ⟨_, _, _, rfl, Or.inr q2197⟩
  · exact ⟨_, _, _, rfl, Or.inr q2198⟩
  · exact ⟨_, _, _, rfl, Or.inr q2199⟩
  · exact ⟨_, _, _, rfl, Or.inr q2200⟩
  · exact ⟨_, _, _, rfl, Or.inr q2201⟩
  · exact ⟨_, _, _, rfl, Or.inr q2202⟩
  · exact ⟨_, _, _, rfl, Or.inr q2203⟩
theorem fp_J2_48 : g_fp RJ2 48 [15] 2 .int false := ⟨_, _, _, Or.inl q1548, by decide +kernel, fun ci h => by
  simp only [List.mem_cons, List.not_mem_nil, or_false] at h; rcases h with rfl
  · exact ⟨_, _, _, tyJ2, rfl, by decide, rfl, rfl, Or.inl rfl, in_J2, rfl, (fun h => by cases h), tyJ2_ok, (by decide +kernel)⟩⟩
section CP
variable {Γ : Gc} {p : Program} {l : Launch} {e : Env} {s : State} {m : MethodId} {args : Array Value} {below : List Frame} {meth : Method} {c : Code} {ex : Nat → Option Nat} {z : Nat} {tF : St}
noncomputable def fJ2_fastRemove_34 (ex : Nat → Option Nat) (z : Nat) (h0 : Nat) (h1 : Nat) (x3 : Int32) (t : St) : Option (Unit × St) := cput [15] 2 t h0 (.int x3) fun t1 => castN 4 t1 h1 x3 fun t2 => some ((), t2)
set_option maxHeartbeats 4000000 in
theorem wJ2_fastRemove_34 {rF : Unit} (hex : ex = Γ.2.2.2.2) (X : g_X Γ p s m args meth c cJ2_fastRemove 4 RJ2) (hr : meth.sig.returnType = none) (h0 : Nat) (h1 : Nat) (x3 : Int32) (t : St) : Wf Γ p l e 1 18 s m args below meth c 4 (g_ι z) v_v rF tF 34 [(0, .ref h0), (1, .ref h1), (3, .int x3)] [] t (fJ2_fastRemove_34 ex z h0 h1 x3 t) := by
  unfold fJ2_fastRemove_34
  refine g_aload_n (pc := 34) X 1 dJ2_fastRemove_34 rfl rfl ?_
  refine g_aload_n (pc := 35) X 0 dJ2_fastRemove_35 rfl rfl ?_
  refine g_iload_n (pc := 36) X 2 dJ2_fastRemove_36 rfl rfl ?_
  refine g_dup_x1 (pc := 37) X dJ2_fastRemove_37 rfl rfl ?_
  refine cg_put (pc := 38) X fp_J2_48 dJ2_fastRemove_38 (fun h => by cases h) rfl rfl (fun t1 => ?_)
  refine g_null (pc := 41) X dJ2_fastRemove_41 ?_
  refine cg_astN (pc := 42) X (j := 4) rfl dJ2_fastRemove_42 (fun t2 => ?_)
  exact g_vret (pc := 43) X hr dJ2_fastRemove_43
noncomputable def fJ2_fastRemove (ex : Nat → Option Nat) (z : Nat) (h0 : Nat) (h1 : Nat) (x2 : Int32) (t : St) : Option (Unit × St) := cgI [15] 0 t h0 fun v1 => cput [15] 0 t h0 (.int (v1 + 1)) fun t2 => cgI [15] 2 t2 h0 fun v3 => lt (v3 - 1) fun y4 => if v3 - 1 ≤ x2 then fJ2_fastRemove_34 ex z h0 h1 y4 t2 else ccopyQ 4 [4, 5, 6, 7, 8, 9, 11, 12, 13, 14, 16, 17, 18, 19, 20] t2 h1 (x2 + 1) h1 x2 (y4 - x2) fun t5 => fJ2_fastRemove_34 ex z h0 h1 y4 t5
set_option maxHeartbeats 4000000 in
theorem wJ2_fastRemove {rF : Unit} (hex : ex = Γ.2.2.2.2) (X : g_X Γ p s m args meth c cJ2_fastRemove 4 RJ2) (hr : meth.sig.returnType = none) (h0 : Nat) (h1 : Nat) (x2 : Int32) (t : St) : Wf Γ p l e 1 18 s m args below meth c 4 (g_ι z) v_v rF tF 0 [(0, .ref h0), (1, .ref h1), (2, .int x2)] [] t (fJ2_fastRemove ex z h0 h1 x2 t) := by
  unfold fJ2_fastRemove
  refine g_aload_n (pc := 0) X 0 dJ2_fastRemove_0 rfl rfl ?_
  refine g_dup (pc := 1) X dJ2_fastRemove_1 rfl ?_
  refine cg_getI (pc := 2) X fo_J2_63 dJ2_fastRemove_2 (fun v1 => ?_)
  refine g_iconst (pc := 5) X 1 dJ2_fastRemove_5 rfl ?_
  refine g_iadd (pc := 6) X dJ2_fastRemove_6 ?_
  refine cg_put (pc := 7) X fp_J2_63 dJ2_fastRemove_7 (fun h => by cases h) rfl rfl (fun t2 => ?_)
  refine g_aload_n (pc := 10) X 0 dJ2_fastRemove_10 rfl rfl ?_
  refine cg_getI (pc := 11) X fo_J2_48 dJ2_fastRemove_11 (fun v3 => ?_)
  refine g_iconst (pc := 14) X 1 dJ2_fastRemove_14 rfl ?_
  refine g_isub (pc := 15) X dJ2_fastRemove_15 ?_
  refine g_dup (pc := 16) X dJ2_fastRemove_16 rfl ?_
  refine g_lti (pc := 17) (fun y4 => ?_)
  refine g_istore_n (pc := 17) X (lv' := [(3, .int y4), (0, .ref h0), (1, .ref h1), (2, .int x2)]) dJ2_fastRemove_17 rfl (by decide) rfl ?_
  refine g_iload_n (pc := 18) X 3 dJ2_fastRemove_18 rfl rfl ?_
  refine g_icmp_le (pc := 19) X 34 dJ2_fastRemove_19 (by decide) ?_ ?_
  · exact g_lv (pc := 34) (lv' := [(0, .ref h0), (1, .ref h1), (3, .int y4)]) [1, 2, 0] rfl (wJ2_fastRemove_34 hex X hr h0 h1 y4 t2)
  · refine g_aload_n (pc := 22) X 2 dJ2_fastRemove_22 rfl rfl ?_
    refine g_iload_n (pc := 23) X 3 dJ2_fastRemove_23 rfl rfl ?_
    refine g_iconst (pc := 24) X 1 dJ2_fastRemove_24 rfl ?_
    refine g_iadd (pc := 25) X dJ2_fastRemove_25 ?_
    refine g_aload_n (pc := 26) X 2 dJ2_fastRemove_26 rfl rfl ?_
    refine g_iload_n (pc := 27) X 3 dJ2_fastRemove_27 rfl rfl ?_
    refine g_iload_n (pc := 28) X 0 dJ2_fastRemove_28 rfl rfl ?_
    refine g_iload_n (pc := 29) X 3 dJ2_fastRemove_29 rfl rfl ?_
    refine g_isub (pc := 30) X dJ2_fastRemove_30 ?_
    refine cg_copyQ (pc := 31) X (j := 4) (cs := [4, 5, 6, 7, 8, 9, 11, 12, 13, 14, 16, 17, 18, 19, 20]) rfl cf_java_lang_Object_15 dJ2_fastRemove_31 q349 q328 q327 q86 (Nat.le_of_ble_eq_true rfl) (Nat.le_of_ble_eq_true rfl) (fun t5 => ?_)
    exact g_lv (pc := 34) (lv' := [(0, .ref h0), (1, .ref h1), (3, .int y4)]) [1, 2, 0] rfl (wJ2_fastRemove_34 hex X hr h0 h1 y4 t5)
theorem kJ2_fastRemove {ex : Nat → Option Nat} {z : Nat} {h0 : Nat} {h1 : Nat} {x2 : Int32} {σ : Sg} {r : Unit} {u : St} (hex : ex = Γ.2.2.2.2) (h : fJ2_fastRemove ex z h0 h1 x2 (σ, 0, 0) = some (r, u)) : g_C Γ l yJ2_fastRemove cJ2_fastRemove 4 none 1 18 [.ref h0, .ref h1, .int x2] σ z v_v r (g_ι z u) :=
  g_met (ι := g_ι z) (t := (σ, 0, 0)) [.ref h0, .ref h1, .int x2] (by decide) (Nat.le_of_ble_eq_true rfl) h rfl (fun p e s m args below meth c X hr hn => wJ2_fastRemove hex X hr h0 h1 x2 (σ, 0, 0))
end CP
abbrev cJ2_elementData : ByteArray := prog_50_method_18_code
def yJ2_elementData : MethodName := ⟨RJ2, "elementData", "(I)Ljava/lang/Object;"⟩
def dkwJ2_elementData_0 : List UInt8 := [42, 180, 0, 9, 27, 50, 176]
abbrev dktJ2_elementData_0 : List UInt8 := dkwJ2_elementData_0 ++ []
theorem dksJ2_elementData_0 : cJ2_elementData.data.toList.drop 0 = dktJ2_elementData_0 := by decide +kernel
theorem dJ2_elementData_0 : decode cJ2_elementData 0 = .ok (.aload_n 0, 1) := dk_42 (dk_at dksJ2_elementData_0 0 rfl rfl)
theorem dJ2_elementData_1 : decode cJ2_elementData 1 = .ok (.getfield 9, 3) := dk_180 0 9 (dk_at dksJ2_elementData_0 1 rfl rfl)
theorem dJ2_elementData_4 : decode cJ2_elementData 4 = .ok (.iload_n 1, 1) := dk_27 (dk_at dksJ2_elementData_0 4 rfl rfl)
theorem dJ2_elementData_5 : decode cJ2_elementData 5 = .ok (.aaload, 1) := dk_50 (dk_at dksJ2_elementData_0 5 rfl rfl)
theorem dJ2_elementData_6 : decode cJ2_elementData 6 = .ok (.areturn, 1) := dk_176 (dk_at dksJ2_elementData_0 6 rfl rfl)
theorem fo_J2_9 : g_fo RJ2 9 [15] 1 := ⟨_, _, _, Or.inl q1547, fun ci h => by
  simp only [List.mem_cons, List.not_mem_nil, or_false] at h; rcases h with rfl
  · exact ⟨_, _, _, rfl, by decide, rfl, rfl, Or.inl rfl, in_J2⟩⟩
section CP
variable {Γ : Gc} {p : Program} {l : Launch} {e : Env} {s : State} {m : MethodId} {args : Array Value} {below : List Frame} {meth : Method} {c : Code} {ex : Nat → Option Nat} {z : Nat} {tF : St}
noncomputable def fJ2_elementData (ex : Nat → Option Nat) (z : Nat) (h0 : Nat) (x1 : Int32) (t : St) : Option (Nat × St) := cgA [15] 1 t h0 fun v1 => caldA 4 t v1 x1 fun v2 => some (v2, t)
set_option maxHeartbeats 4000000 in
theorem wJ2_elementData {rF : Nat} (hex : ex = Γ.2.2.2.2) (X : g_X Γ p s m args meth c cJ2_elementData 2 RJ2) (hr : meth.sig.returnType = (some (.object "java/lang/Object"))) (h0 : Nat) (x1 : Int32) (t : St) : Wf Γ p l e 0 0 s m args below meth c 2 (g_ι z) v_a rF tF 0 [(0, .ref h0), (1, .int x1)] [] t (fJ2_elementData ex z h0 x1 t) := by
  unfold fJ2_elementData
  refine g_aload_n (pc := 0) X 0 dJ2_elementData_0 rfl rfl ?_
  refine cg_getA (pc := 1) X fo_J2_9 dJ2_elementData_1 (fun v1 => ?_)
  refine g_iload_n (pc := 4) X 1 dJ2_elementData_4 rfl rfl ?_
  refine cg_aald (pc := 5) X (j := 4) rfl rfl dJ2_elementData_5 (fun v2 => ?_)
  exact g_aret (pc := 6) X hr (Or.inl ⟨_, rfl⟩) dJ2_elementData_6
theorem kJ2_elementData {ex : Nat → Option Nat} {z : Nat} {h0 : Nat} {x1 : Int32} {σ : Sg} {r : Nat} {u : St} (hex : ex = Γ.2.2.2.2) (h : fJ2_elementData ex z h0 x1 (σ, 0, 0) = some (r, u)) : g_C Γ l yJ2_elementData cJ2_elementData 2 (some (.object "java/lang/Object")) 0 0 [.ref h0, .int x1] σ z v_a r (g_ι z u) :=
  g_met (ι := g_ι z) (t := (σ, 0, 0)) [.ref h0, .int x1] (by decide) (Nat.le_of_ble_eq_true rfl) h rfl (fun p e s m args below meth c X hr hn => wJ2_elementData hex X hr h0 x1 (σ, 0, 0))
end CP
abbrev cJ2_clear : ByteArray := prog_50_method_40_code
def yJ2_clear : MethodName := ⟨RJ2, "clear", "()V"⟩
def dkwJ2_clear_1 : List UInt8 := [181, 0, 48, 62, 29, 28, 162, 0, 13, 43, 29, 1, 83, 132, 3, 1, 167, 255, 244, 177]
abbrev dktJ2_clear_1 : List UInt8 := dkwJ2_clear_1 ++ []
def dkwJ2_clear_0 : List UInt8 := [42, 89, 180, 0, 63, 4, 96, 181, 0, 63, 42, 180, 0, 9, 76, 42, 180, 0, 48, 61, 42, 3, 90]
abbrev dktJ2_clear_0 : List UInt8 := dkwJ2_clear_0 ++ dktJ2_clear_1
theorem dksJ2_clear_0 : cJ2_clear.data.toList.drop 0 = dktJ2_clear_0 := by decide +kernel
theorem dksJ2_clear_1 : cJ2_clear.data.toList.drop 23 = dktJ2_clear_1 := dk_seg dksJ2_clear_0 23 rfl rfl
theorem dJ2_clear_0 : decode cJ2_clear 0 = .ok (.aload_n 0, 1) := dk_42 (dk_at dksJ2_clear_0 0 rfl rfl)
theorem dJ2_clear_1 : decode cJ2_clear 1 = .ok (.dup, 1) := dk_89 (dk_at dksJ2_clear_0 1 rfl rfl)
theorem dJ2_clear_2 : decode cJ2_clear 2 = .ok (.getfield 63, 3) := dk_180 0 63 (dk_at dksJ2_clear_0 2 rfl rfl)
theorem dJ2_clear_5 : decode cJ2_clear 5 = .ok (.iconst 1, 1) := dk_4 (dk_at dksJ2_clear_0 5 rfl rfl)
theorem dJ2_clear_6 : decode cJ2_clear 6 = .ok (.iadd, 1) := dk_96 (dk_at dksJ2_clear_0 6 rfl rfl)
theorem dJ2_clear_7 : decode cJ2_clear 7 = .ok (.putfield 63, 3) := dk_181 0 63 (dk_at dksJ2_clear_0 7 rfl rfl)
theorem dJ2_clear_10 : decode cJ2_clear 10 = .ok (.aload_n 0, 1) := dk_42 (dk_at dksJ2_clear_0 10 rfl rfl)
theorem dJ2_clear_11 : decode cJ2_clear 11 = .ok (.getfield 9, 3) := dk_180 0 9 (dk_at dksJ2_clear_0 11 rfl rfl)
theorem dJ2_clear_14 : decode cJ2_clear 14 = .ok (.astore_n 1, 1) := dk_76 (dk_at dksJ2_clear_0 14 rfl rfl)
theorem dJ2_clear_15 : decode cJ2_clear 15 = .ok (.aload_n 0, 1) := dk_42 (dk_at dksJ2_clear_0 15 rfl rfl)
theorem dJ2_clear_16 : decode cJ2_clear 16 = .ok (.getfield 48, 3) := dk_180 0 48 (dk_at dksJ2_clear_0 16 rfl rfl)
theorem dJ2_clear_19 : decode cJ2_clear 19 = .ok (.istore_n 2, 1) := dk_61 (dk_at dksJ2_clear_0 19 rfl rfl)
theorem dJ2_clear_20 : decode cJ2_clear 20 = .ok (.aload_n 0, 1) := dk_42 (dk_at dksJ2_clear_0 20 rfl rfl)
theorem dJ2_clear_21 : decode cJ2_clear 21 = .ok (.iconst 0, 1) := dk_3 (dk_at dksJ2_clear_0 21 rfl rfl)
theorem dJ2_clear_22 : decode cJ2_clear 22 = .ok (.dup_x1, 1) := dk_90 (dk_at dksJ2_clear_0 22 rfl rfl)
theorem dJ2_clear_23 : decode cJ2_clear 23 = .ok (.putfield 48, 3) := dk_181 0 48 (dk_at dksJ2_clear_1 0 rfl rfl)
theorem dJ2_clear_26 : decode cJ2_clear 26 = .ok (.istore_n 3, 1) := dk_62 (dk_at dksJ2_clear_1 3 rfl rfl)
theorem dJ2_clear_27 : decode cJ2_clear 27 = .ok (.iload_n 3, 1) := dk_29 (dk_at dksJ2_clear_1 4 rfl rfl)
theorem dJ2_clear_28 : decode cJ2_clear 28 = .ok (.iload_n 2, 1) := dk_28 (dk_at dksJ2_clear_1 5 rfl rfl)
theorem dJ2_clear_29 : decode cJ2_clear 29 = .ok (.if_icmp .ge 13, 3) := dk_162 0 13 (dk_at dksJ2_clear_1 6 rfl rfl)
theorem dJ2_clear_32 : decode cJ2_clear 32 = .ok (.aload_n 1, 1) := dk_43 (dk_at dksJ2_clear_1 9 rfl rfl)
theorem dJ2_clear_33 : decode cJ2_clear 33 = .ok (.iload_n 3, 1) := dk_29 (dk_at dksJ2_clear_1 10 rfl rfl)
theorem dJ2_clear_34 : decode cJ2_clear 34 = .ok (.aconst_null, 1) := dk_1 (dk_at dksJ2_clear_1 11 rfl rfl)
theorem dJ2_clear_35 : decode cJ2_clear 35 = .ok (.aastore, 1) := dk_83 (dk_at dksJ2_clear_1 12 rfl rfl)
theorem dJ2_clear_36 : decode cJ2_clear 36 = .ok (.iinc 3 1, 3) := dk_132 3 1 (dk_at dksJ2_clear_1 13 rfl rfl)
theorem dJ2_clear_39 : decode cJ2_clear 39 = .ok (.goto (-12), 3) := dk_167 255 244 (dk_at dksJ2_clear_1 16 rfl rfl)
theorem dJ2_clear_42 : decode cJ2_clear 42 = .ok (.return_, 1) := dk_177 (dk_at dksJ2_clear_1 19 rfl rfl)
section CP
variable {Γ : Gc} {p : Program} {l : Launch} {e : Env} {s : State} {m : MethodId} {args : Array Value} {below : List Frame} {meth : Method} {c : Code} {ex : Nat → Option Nat} {z : Nat} {tF : St}
noncomputable def fJ2_clear_27 (ex : Nat → Option Nat) (z : Nat) : Nat → Nat → Int32 → Int32 → St → Option (Unit × St)
  | 0, _, _, _, _ => none
  | n + 1, h1, x2, x3, t => if x2 ≤ x3 then some ((), t) else castN 4 t h1 x3 fun t1 => fJ2_clear_27 ex z n h1 x2 (x3 + 1) t1
set_option maxHeartbeats 4000000 in
theorem wJ2_clear_27 {rF : Unit} (hex : ex = Γ.2.2.2.2) (X : g_X Γ p s m args meth c cJ2_clear 4 RJ2) (hr : meth.sig.returnType = none) (n : Nat) : ∀ (h1 : Nat) (x2 : Int32) (x3 : Int32) (t : St), Wf Γ p l e 0 0 s m args below meth c 4 (g_ι z) v_v rF tF 27 [(1, .ref h1), (2, .int x2), (3, .int x3)] [] t (fJ2_clear_27 ex z n h1 x2 x3 t) := by
  induction n with
  | zero => intro h1 x2 x3 t; exact g_none
  | succ n ih =>
    intro h1 x2 x3 t
    rw [fJ2_clear_27]
    refine g_iload_n (pc := 27) X 2 dJ2_clear_27 rfl rfl ?_
    refine g_iload_n (pc := 28) X 1 dJ2_clear_28 rfl rfl ?_
    refine g_icmp_ge (pc := 29) X 42 dJ2_clear_29 (by decide) ?_ ?_
    · exact g_vret (pc := 42) X hr dJ2_clear_42
    · refine g_aload_n (pc := 32) X 0 dJ2_clear_32 rfl rfl ?_
      refine g_iload_n (pc := 33) X 2 dJ2_clear_33 rfl rfl ?_
      refine g_null (pc := 34) X dJ2_clear_34 ?_
      refine cg_astN (pc := 35) X (j := 4) rfl dJ2_clear_35 (fun t1 => ?_)
      refine g_iinc (pc := 36) X 1 2 (lv' := [(3, .int (x3 + 1)), (1, .ref h1), (2, .int x2)]) dJ2_clear_36 rfl rfl (by decide) rfl ?_
      refine g_goto (pc := 39) X 27 dJ2_clear_39 (by decide) ?_
      exact g_lv (pc := 27) (lv' := [(1, .ref h1), (2, .int x2), (3, .int (x3 + 1))]) [1, 2, 0] rfl (ih h1 x2 (x3 + 1) t1)
noncomputable def fJ2_clear (ex : Nat → Option Nat) (z : Nat) (h0 : Nat) (t : St) : Option (Unit × St) := cgI [15] 0 t h0 fun v1 => cput [15] 0 t h0 (.int (v1 + 1)) fun t2 => cgA [15] 1 t2 h0 fun v3 => cgI [15] 2 t2 h0 fun v4 => cput [15] 2 t2 h0 (.int 0) fun t5 => fJ2_clear_27 ex z 1000 v3 v4 0 t5
set_option maxHeartbeats 4000000 in
theorem wJ2_clear {rF : Unit} (hex : ex = Γ.2.2.2.2) (X : g_X Γ p s m args meth c cJ2_clear 4 RJ2) (hr : meth.sig.returnType = none) (h0 : Nat) (t : St) : Wf Γ p l e 0 0 s m args below meth c 4 (g_ι z) v_v rF tF 0 [(0, .ref h0)] [] t (fJ2_clear ex z h0 t) := by
  unfold fJ2_clear
  refine g_aload_n (pc := 0) X 0 dJ2_clear_0 rfl rfl ?_
  refine g_dup (pc := 1) X dJ2_clear_1 rfl ?_
  refine cg_getI (pc := 2) X fo_J2_63 dJ2_clear_2 (fun v1 => ?_)
  refine g_iconst (pc := 5) X 1 dJ2_clear_5 rfl ?_
  refine g_iadd (pc := 6) X dJ2_clear_6 ?_
  refine cg_put (pc := 7) X fp_J2_63 dJ2_clear_7 (fun h => by cases h) rfl rfl (fun t2 => ?_)
  refine g_aload_n (pc := 10) X 0 dJ2_clear_10 rfl rfl ?_
  refine cg_getA (pc := 11) X fo_J2_9 dJ2_clear_11 (fun v3 => ?_)
  refine g_astore_n (pc := 14) X (lv' := [(1, .ref v3), (0, .ref h0)]) dJ2_clear_14 rfl (by decide) rfl ?_
  refine g_aload_n (pc := 15) X 1 dJ2_clear_15 rfl rfl ?_
  refine cg_getI (pc := 16) X fo_J2_48 dJ2_clear_16 (fun v4 => ?_)
  refine g_istore_n (pc := 19) X (lv' := [(2, .int v4), (1, .ref v3), (0, .ref h0)]) dJ2_clear_19 rfl (by decide) rfl ?_
  refine g_aload_n (pc := 20) X 2 dJ2_clear_20 rfl rfl ?_
  refine g_iconst (pc := 21) X 0 dJ2_clear_21 rfl ?_
  refine g_dup_x1 (pc := 22) X dJ2_clear_22 rfl rfl ?_
  refine cg_put (pc := 23) X fp_J2_48 dJ2_clear_23 (fun h => by cases h) rfl rfl (fun t5 => ?_)
  refine g_istore_n (pc := 26) X (lv' := [(3, .int 0), (2, .int v4), (1, .ref v3), (0, .ref h0)]) dJ2_clear_26 rfl (by decide) rfl ?_
  exact g_lv (pc := 27) (lv' := [(1, .ref v3), (2, .int v4), (3, .int 0)]) [2, 1, 0] rfl (wJ2_clear_27 hex X hr 1000 v3 v4 0 t5)
theorem kJ2_clear {ex : Nat → Option Nat} {z : Nat} {h0 : Nat} {σ : Sg} {r : Unit} {u : St} (hex : ex = Γ.2.2.2.2) (h : fJ2_clear ex z h0 (σ, 0, 0) = some (r, u)) : g_C Γ l yJ2_clear cJ2_clear 4 none 0 0 [.ref h0] σ z v_v r (g_ι z u) :=
  g_met (ι := g_ι z) (t := (σ, 0, 0)) [.ref h0] (by decide) (Nat.le_of_ble_eq_true rfl) h rfl (fun p e s m args below meth c X hr hn => wJ2_clear hex X hr h0 (σ, 0, 0))
end CP
abbrev cJ2_isEmpty : ByteArray := prog_50_method_9_code
def yJ2_isEmpty : MethodName := ⟨RJ2, "isEmpty", "()Z"⟩
def dkwJ2_isEmpty_0 : List UInt8 := [42, 180, 0, 48, 154, 0, 7, 4, 167, 0, 4, 3, 172]
abbrev dktJ2_isEmpty_0 : List UInt8 := dkwJ2_isEmpty_0 ++ []
theorem dksJ2_isEmpty_0 : cJ2_isEmpty.data.toList.drop 0 = dktJ2_isEmpty_0 := by decide +kernel
theorem dJ2_isEmpty_0 : decode cJ2_isEmpty 0 = .ok (.aload_n 0, 1) := dk_42 (dk_at dksJ2_isEmpty_0 0 rfl rfl)
theorem dJ2_isEmpty_1 : decode cJ2_isEmpty 1 = .ok (.getfield 48, 3) := dk_180 0 48 (dk_at dksJ2_isEmpty_0 1 rfl rfl)
theorem dJ2_isEmpty_4 : decode cJ2_isEmpty 4 = .ok (.ifCond .ne 7, 3) := dk_154 0 7 (dk_at dksJ2_isEmpty_0 4 rfl rfl)
theorem dJ2_isEmpty_7 : decode cJ2_isEmpty 7 = .ok (.iconst 1, 1) := dk_4 (dk_at dksJ2_isEmpty_0 7 rfl rfl)
theorem dJ2_isEmpty_8 : decode cJ2_isEmpty 8 = .ok (.goto 4, 3) := dk_167 0 4 (dk_at dksJ2_isEmpty_0 8 rfl rfl)
theorem dJ2_isEmpty_11 : decode cJ2_isEmpty 11 = .ok (.iconst 0, 1) := dk_3 (dk_at dksJ2_isEmpty_0 11 rfl rfl)
theorem dJ2_isEmpty_12 : decode cJ2_isEmpty 12 = .ok (.ireturn, 1) := dk_172 (dk_at dksJ2_isEmpty_0 12 rfl rfl)
section CP
variable {Γ : Gc} {p : Program} {l : Launch} {e : Env} {s : State} {m : MethodId} {args : Array Value} {below : List Frame} {meth : Method} {c : Code} {ex : Nat → Option Nat} {z : Nat} {tF : St}
noncomputable def fJ2_isEmpty (ex : Nat → Option Nat) (z : Nat) (h0 : Nat) (t : St) : Option (Int32 × St) := cgI [15] 2 t h0 fun v1 => if v1 = 0 then some (1, t) else some (0, t)
set_option maxHeartbeats 4000000 in
theorem wJ2_isEmpty {rF : Int32} (hex : ex = Γ.2.2.2.2) (X : g_X Γ p s m args meth c cJ2_isEmpty 1 RJ2) (hr : meth.sig.returnType = (some .boolean)) (h0 : Nat) (t : St) : Wf Γ p l e 0 0 s m args below meth c 1 (g_ι z) v_i rF tF 0 [(0, .ref h0)] [] t (fJ2_isEmpty ex z h0 t) := by
  unfold fJ2_isEmpty
  refine g_aload_n (pc := 0) X 0 dJ2_isEmpty_0 rfl rfl ?_
  refine cg_getI (pc := 1) X fo_J2_48 dJ2_isEmpty_1 (fun v1 => ?_)
  refine g_if_ne (pc := 4) X 11 dJ2_isEmpty_4 (by decide) ?_ ?_
  · refine g_iconst (pc := 11) X 0 dJ2_isEmpty_11 rfl ?_
    exact g_zret (pc := 12) X hr rfl dJ2_isEmpty_12
  · refine g_iconst (pc := 7) X 1 dJ2_isEmpty_7 rfl ?_
    refine g_goto (pc := 8) X 12 dJ2_isEmpty_8 (by decide) ?_
    exact g_zret (pc := 12) X hr rfl dJ2_isEmpty_12
theorem kJ2_isEmpty {ex : Nat → Option Nat} {z : Nat} {h0 : Nat} {σ : Sg} {r : Int32} {u : St} (hex : ex = Γ.2.2.2.2) (h : fJ2_isEmpty ex z h0 (σ, 0, 0) = some (r, u)) : g_C Γ l yJ2_isEmpty cJ2_isEmpty 1 (some .boolean) 0 0 [.ref h0] σ z v_i r (g_ι z u) :=
  g_met (ι := g_ι z) (t := (σ, 0, 0)) [.ref h0] (by decide) (Nat.le_of_ble_eq_true rfl) h rfl (fun p e s m args below meth c X hr hn => wJ2_isEmpty hex X hr h0 (σ, 0, 0))
end CP
abbrev cJ2_init : ByteArray := prog_50_method_2_code
def yJ2_init : MethodName := ⟨RJ2, "<init>", "()V"⟩
def dkwJ2_init_0 : List UInt8 := [42, 183, 0, 1, 42, 178, 0, 39, 181, 0, 9, 177]
abbrev dktJ2_init_0 : List UInt8 := dkwJ2_init_0 ++ []
theorem dksJ2_init_0 : cJ2_init.data.toList.drop 0 = dktJ2_init_0 := by decide +kernel
theorem dJ2_init_0 : decode cJ2_init 0 = .ok (.aload_n 0, 1) := dk_42 (dk_at dksJ2_init_0 0 rfl rfl)
theorem dJ2_init_1 : decode cJ2_init 1 = .ok (.invokespecial 1, 3) := dk_183 0 1 (dk_at dksJ2_init_0 1 rfl rfl)
theorem dJ2_init_4 : decode cJ2_init 4 = .ok (.aload_n 0, 1) := dk_42 (dk_at dksJ2_init_0 4 rfl rfl)
theorem dJ2_init_5 : decode cJ2_init 5 = .ok (.getstatic 39, 3) := dk_178 0 39 (dk_at dksJ2_init_0 5 rfl rfl)
theorem dJ2_init_8 : decode cJ2_init 8 = .ok (.putfield 9, 3) := dk_181 0 9 (dk_at dksJ2_init_0 8 rfl rfl)
theorem dJ2_init_11 : decode cJ2_init 11 = .ok (.return_, 1) := dk_177 (dk_at dksJ2_init_0 11 rfl rfl)
theorem ev_DEFAULTCAPACITY_EMPTY_ELEMENTDATA {Γ : Gc} : ∀ s0 : State, (Jvm.Cond.and given_1 narrow_1).before #[Value.ref Γ.2.2.2.1] s0 = true → (∀ i, Γ.2.2.2.2 i = exOf Γ.2.2.2.1 s0 i) → (Term.static "java/util/ArrayList" "DEFAULTCAPACITY_EMPTY_ELEMENTDATA" "[Ljava/lang/Object;").eval #[Value.ref Γ.2.2.2.1] s0 none [] s0 = some (va_rf (Γ.2.2.2.2 0)) := fun s0 h1 h2 => g_evx 0 rfl (by decide +kernel) h1 h2
theorem fp_J2_9 : g_fp RJ2 9 [15] 1 (.array (.object "java/lang/Object")) false := ⟨_, _, _, Or.inl q1547, by decide +kernel, fun ci h => by
  simp only [List.mem_cons, List.not_mem_nil, or_false] at h; rcases h with rfl
  · exact ⟨_, _, _, tyJ2, rfl, by decide, rfl, rfl, Or.inl rfl, in_J2, rfl, (fun h => by cases h), tyJ2_ok, (by decide +kernel)⟩⟩
theorem dmS_J1_init : yJ1_init.cls ≠ "java/lang/invoke/MethodHandle" ∧ yJ1_init.cls ≠ "java/lang/invoke/VarHandle" ∧ (parseMethodDescriptor yJ1_init.desc).map (fun d => d.parameters.length) = some 0 := by decide +kernel
section CP
variable {Γ : Gc} {p : Program} {l : Launch} {e : Env} {s : State} {m : MethodId} {args : Array Value} {below : List Frame} {meth : Method} {c : Code} {ex : Nat → Option Nat} {z : Nat} {tF : St}
noncomputable def fJ2_init (ex : Nat → Option Nat) (z : Nat) (h0 : Nat) (t : St) : Option (Unit × St) := gb (fJ1_init ex (z + t.2.1) h0 (t.1, 0, 0)) t fun _ t2 => cput [15] 1 t2 h0 (va_rf (ex 0)) fun t3 => some ((), t3)
set_option maxHeartbeats 4000000 in
theorem wJ2_init {rF : Unit} (hex : ex = Γ.2.2.2.2) (X : g_X Γ p s m args meth c cJ2_init 1 RJ2) (hr : meth.sig.returnType = none) (hin : meth.name = "<init>") (h0 : Nat) (t : St) : Wf Γ p l e 3 52 s m args below meth c 1 (g_ι z) v_v rF tF 0 [(0, .ref h0)] [] t (fJ2_init ex z h0 t) := by
  unfold fJ2_init
  refine g_aload_n (pc := 0) X 0 dJ2_init_0 rfl rfl ?_
  refine g_bI_v (pc := 1) X (y := yJ1_init) (As := []) (rest := []) (b := h0) (fr' := 2) (lo' := 32) (fun _ => cwI 0 X.2.2.2.2.1 (lw_meth q1542) rfl rfl rfl (X.2.2.2.2.1 _ q73) (X.2.2.2.2.1 _ q1540) (X.2.2.2.2.1 _ q1541) rfl dmS_J1_init ⟨Nat.le_of_ble_eq_true rfl, Nat.le_of_ble_eq_true rfl⟩) dJ2_init_1 rfl rfl (Nat.le_of_ble_eq_true rfl) (fun r u h => kJ1_init hex h) (fun r1 t2 => ?_)
  refine g_aload_n (pc := 4) X 0 dJ2_init_4 rfl rfl ?_
  refine cg_gets (pc := 5) X (v := va_rf (ex 0)) q272 q74 q271 (by rw [hex]; exact ev_DEFAULTCAPACITY_EMPTY_ELEMENTDATA) dJ2_init_5 ?_
  refine cg_put (pc := 8) X fp_J2_9 dJ2_init_8 (fun h => by cases h) (g_narf rfl _) (g_firf rfl _) (fun t3 => ?_)
  exact g_vret (pc := 11) X hr dJ2_init_11
theorem kJ2_init {ex : Nat → Option Nat} {z : Nat} {h0 : Nat} {σ : Sg} {r : Unit} {u : St} (hex : ex = Γ.2.2.2.2) (h : fJ2_init ex z h0 (σ, 0, 0) = some (r, u)) : g_C Γ l yJ2_init cJ2_init 1 none 3 52 [.ref h0] σ z v_v r (g_ι z u) :=
  g_met (ι := g_ι z) (t := (σ, 0, 0)) [.ref h0] (by decide) (Nat.le_of_ble_eq_true rfl) h rfl (fun p e s m args below meth c X hr hn => wJ2_init hex X hr hn h0 (σ, 0, 0))
end CP
abbrev cJ3_hugeLength : ByteArray := prog_57_method_28_code
def yJ3_hugeLength : MethodName := ⟨RJ3, "hugeLength", "(II)I"⟩
def dkwJ3_hugeLength_2 : List UInt8 := [191, 28, 18, 200, 163, 0, 6, 18, 200, 172, 28, 172]
abbrev dktJ3_hugeLength_2 : List UInt8 := dkwJ3_hugeLength_2 ++ []
def dkwJ3_hugeLength_1 : List UInt8 := [26, 182, 0, 98, 18, 208, 182, 0, 94, 27, 182, 0, 98, 18, 210, 182, 0, 94, 182, 0, 101, 183, 0, 212]
abbrev dktJ3_hugeLength_1 : List UInt8 := dkwJ3_hugeLength_1 ++ dktJ3_hugeLength_2
def dkwJ3_hugeLength_0 : List UInt8 := [26, 27, 96, 61, 28, 156, 0, 44, 187, 0, 204, 89, 187, 0, 89, 89, 183, 0, 91, 18, 206, 182, 0, 94]
abbrev dktJ3_hugeLength_0 : List UInt8 := dkwJ3_hugeLength_0 ++ dktJ3_hugeLength_1
theorem dksJ3_hugeLength_0 : cJ3_hugeLength.data.toList.drop 0 = dktJ3_hugeLength_0 := by decide +kernel
theorem dksJ3_hugeLength_1 : cJ3_hugeLength.data.toList.drop 24 = dktJ3_hugeLength_1 := dk_seg dksJ3_hugeLength_0 24 rfl rfl
theorem dksJ3_hugeLength_2 : cJ3_hugeLength.data.toList.drop 48 = dktJ3_hugeLength_2 := dk_seg dksJ3_hugeLength_1 24 rfl rfl
theorem dJ3_hugeLength_0 : decode cJ3_hugeLength 0 = .ok (.iload_n 0, 1) := dk_26 (dk_at dksJ3_hugeLength_0 0 rfl rfl)
theorem dJ3_hugeLength_1 : decode cJ3_hugeLength 1 = .ok (.iload_n 1, 1) := dk_27 (dk_at dksJ3_hugeLength_0 1 rfl rfl)
theorem dJ3_hugeLength_2 : decode cJ3_hugeLength 2 = .ok (.iadd, 1) := dk_96 (dk_at dksJ3_hugeLength_0 2 rfl rfl)
theorem dJ3_hugeLength_3 : decode cJ3_hugeLength 3 = .ok (.istore_n 2, 1) := dk_61 (dk_at dksJ3_hugeLength_0 3 rfl rfl)
theorem dJ3_hugeLength_4 : decode cJ3_hugeLength 4 = .ok (.iload_n 2, 1) := dk_28 (dk_at dksJ3_hugeLength_0 4 rfl rfl)
theorem dJ3_hugeLength_5 : decode cJ3_hugeLength 5 = .ok (.ifCond .ge 44, 3) := dk_156 0 44 (dk_at dksJ3_hugeLength_0 5 rfl rfl)
theorem dJ3_hugeLength_8 : decode cJ3_hugeLength 8 = .ok (.new 204, 3) := dk_187 0 204 (dk_at dksJ3_hugeLength_0 8 rfl rfl)
theorem dJ3_hugeLength_11 : decode cJ3_hugeLength 11 = .ok (.dup, 1) := dk_89 (dk_at dksJ3_hugeLength_0 11 rfl rfl)
theorem dJ3_hugeLength_12 : decode cJ3_hugeLength 12 = .ok (.new 89, 3) := dk_187 0 89 (dk_at dksJ3_hugeLength_0 12 rfl rfl)
theorem dJ3_hugeLength_15 : decode cJ3_hugeLength 15 = .ok (.dup, 1) := dk_89 (dk_at dksJ3_hugeLength_0 15 rfl rfl)
theorem dJ3_hugeLength_16 : decode cJ3_hugeLength 16 = .ok (.invokespecial 91, 3) := dk_183 0 91 (dk_at dksJ3_hugeLength_0 16 rfl rfl)
theorem dJ3_hugeLength_19 : decode cJ3_hugeLength 19 = .ok (.ldc 206, 2) := dk_18 206 (dk_at dksJ3_hugeLength_0 19 rfl rfl)
theorem dJ3_hugeLength_21 : decode cJ3_hugeLength 21 = .ok (.invokevirtual 94, 3) := dk_182 0 94 (dk_at dksJ3_hugeLength_0 21 rfl rfl)
theorem dJ3_hugeLength_24 : decode cJ3_hugeLength 24 = .ok (.iload_n 0, 1) := dk_26 (dk_at dksJ3_hugeLength_1 0 rfl rfl)
theorem dJ3_hugeLength_25 : decode cJ3_hugeLength 25 = .ok (.invokevirtual 98, 3) := dk_182 0 98 (dk_at dksJ3_hugeLength_1 1 rfl rfl)
theorem dJ3_hugeLength_28 : decode cJ3_hugeLength 28 = .ok (.ldc 208, 2) := dk_18 208 (dk_at dksJ3_hugeLength_1 4 rfl rfl)
theorem dJ3_hugeLength_30 : decode cJ3_hugeLength 30 = .ok (.invokevirtual 94, 3) := dk_182 0 94 (dk_at dksJ3_hugeLength_1 6 rfl rfl)
theorem dJ3_hugeLength_33 : decode cJ3_hugeLength 33 = .ok (.iload_n 1, 1) := dk_27 (dk_at dksJ3_hugeLength_1 9 rfl rfl)
theorem dJ3_hugeLength_34 : decode cJ3_hugeLength 34 = .ok (.invokevirtual 98, 3) := dk_182 0 98 (dk_at dksJ3_hugeLength_1 10 rfl rfl)
theorem dJ3_hugeLength_37 : decode cJ3_hugeLength 37 = .ok (.ldc 210, 2) := dk_18 210 (dk_at dksJ3_hugeLength_1 13 rfl rfl)
theorem dJ3_hugeLength_39 : decode cJ3_hugeLength 39 = .ok (.invokevirtual 94, 3) := dk_182 0 94 (dk_at dksJ3_hugeLength_1 15 rfl rfl)
theorem dJ3_hugeLength_42 : decode cJ3_hugeLength 42 = .ok (.invokevirtual 101, 3) := dk_182 0 101 (dk_at dksJ3_hugeLength_1 18 rfl rfl)
theorem dJ3_hugeLength_45 : decode cJ3_hugeLength 45 = .ok (.invokespecial 212, 3) := dk_183 0 212 (dk_at dksJ3_hugeLength_1 21 rfl rfl)
theorem dJ3_hugeLength_48 : decode cJ3_hugeLength 48 = .ok (.athrow, 1) := dk_191 (dk_at dksJ3_hugeLength_2 0 rfl rfl)
theorem dJ3_hugeLength_49 : decode cJ3_hugeLength 49 = .ok (.iload_n 2, 1) := dk_28 (dk_at dksJ3_hugeLength_2 1 rfl rfl)
theorem dJ3_hugeLength_50 : decode cJ3_hugeLength 50 = .ok (.ldc 200, 2) := dk_18 200 (dk_at dksJ3_hugeLength_2 2 rfl rfl)
theorem dJ3_hugeLength_52 : decode cJ3_hugeLength 52 = .ok (.if_icmp .gt 6, 3) := dk_163 0 6 (dk_at dksJ3_hugeLength_2 4 rfl rfl)
theorem dJ3_hugeLength_55 : decode cJ3_hugeLength 55 = .ok (.ldc 200, 2) := dk_18 200 (dk_at dksJ3_hugeLength_2 7 rfl rfl)
theorem dJ3_hugeLength_57 : decode cJ3_hugeLength 57 = .ok (.ireturn, 1) := dk_172 (dk_at dksJ3_hugeLength_2 9 rfl rfl)
theorem dJ3_hugeLength_58 : decode cJ3_hugeLength 58 = .ok (.iload_n 2, 1) := dk_28 (dk_at dksJ3_hugeLength_2 10 rfl rfl)
theorem dJ3_hugeLength_59 : decode cJ3_hugeLength 59 = .ok (.ireturn, 1) := dk_172 (dk_at dksJ3_hugeLength_2 11 rfl rfl)
section CP
variable {Γ : Gc} {p : Program} {l : Launch} {e : Env} {s : State} {m : MethodId} {args : Array Value} {below : List Frame} {meth : Method} {c : Code} {ex : Nat → Option Nat} {z : Nat} {tF : St}
noncomputable def fJ3_hugeLength (ex : Nat → Option Nat) (z : Nat) (x0 : Int32) (x1 : Int32) (t : St) : Option (Int32 × St) := lt (x0 + x1) fun y1 => if 0 ≤ y1 then if 2147483639 < y1 then some (y1, t) else some (2147483639, t) else none
set_option maxHeartbeats 4000000 in
theorem wJ3_hugeLength {rF : Int32} (hex : ex = Γ.2.2.2.2) (X : g_X Γ p s m args meth c cJ3_hugeLength 3 RJ3) (hr : meth.sig.returnType = (some .int)) (x0 : Int32) (x1 : Int32) (t : St) : Wf Γ p l e 0 0 s m args below meth c 3 (g_ι z) v_i rF tF 0 [(0, .int x0), (1, .int x1)] [] t (fJ3_hugeLength ex z x0 x1 t) := by
  unfold fJ3_hugeLength
  refine g_iload_n (pc := 0) X 0 dJ3_hugeLength_0 rfl rfl ?_
  refine g_iload_n (pc := 1) X 1 dJ3_hugeLength_1 rfl rfl ?_
  refine g_iadd (pc := 2) X dJ3_hugeLength_2 ?_
  refine g_lti (pc := 3) (fun y1 => ?_)
  refine g_istore_n (pc := 3) X (lv' := [(2, .int y1), (0, .int x0), (1, .int x1)]) dJ3_hugeLength_3 rfl (by decide) rfl ?_
  refine g_iload_n (pc := 4) X 0 dJ3_hugeLength_4 rfl rfl ?_
  refine g_if_ge (pc := 5) X 49 dJ3_hugeLength_5 (by decide) ?_ ?_
  · refine g_iload_n (pc := 49) X 0 dJ3_hugeLength_49 rfl rfl ?_
    refine g_ldc (pc := 50) X 2147483639 dJ3_hugeLength_50 q279 ?_
    refine g_icmp_gt (pc := 52) X 58 dJ3_hugeLength_52 (by decide) ?_ ?_
    · refine g_iload_n (pc := 58) X 0 dJ3_hugeLength_58 rfl rfl ?_
      exact g_iret (pc := 59) X hr dJ3_hugeLength_59
    · refine g_ldc (pc := 55) X 2147483639 dJ3_hugeLength_55 q279 ?_
      exact g_iret (pc := 57) X hr dJ3_hugeLength_57
  · exact g_none
theorem kJ3_hugeLength {ex : Nat → Option Nat} {z : Nat} {x0 : Int32} {x1 : Int32} {σ : Sg} {r : Int32} {u : St} (hex : ex = Γ.2.2.2.2) (h : fJ3_hugeLength ex z x0 x1 (σ, 0, 0) = some (r, u)) : g_C Γ l yJ3_hugeLength cJ3_hugeLength 3 (some .int) 0 0 [.int x0, .int x1] σ z v_i r (g_ι z u) :=
  g_met (ι := g_ι z) (t := (σ, 0, 0)) [.int x0, .int x1] (by decide) (Nat.le_of_ble_eq_true rfl) h rfl (fun p e s m args below meth c X hr hn => wJ3_hugeLength hex X hr x0 x1 (σ, 0, 0))
end CP
abbrev cJ4_max : ByteArray := prog_37_method_65_code
def yJ4_max : MethodName := ⟨RJ4, "max", "(II)I"⟩
def dkwJ4_max_0 : List UInt8 := [26, 27, 161, 0, 7, 26, 167, 0, 4, 27, 172]
abbrev dktJ4_max_0 : List UInt8 := dkwJ4_max_0 ++ []
theorem dksJ4_max_0 : cJ4_max.data.toList.drop 0 = dktJ4_max_0 := by decide +kernel
theorem dJ4_max_0 : decode cJ4_max 0 = .ok (.iload_n 0, 1) := dk_26 (dk_at dksJ4_max_0 0 rfl rfl)
theorem dJ4_max_1 : decode cJ4_max 1 = .ok (.iload_n 1, 1) := dk_27 (dk_at dksJ4_max_0 1 rfl rfl)
theorem dJ4_max_2 : decode cJ4_max 2 = .ok (.if_icmp .lt 7, 3) := dk_161 0 7 (dk_at dksJ4_max_0 2 rfl rfl)
theorem dJ4_max_5 : decode cJ4_max 5 = .ok (.iload_n 0, 1) := dk_26 (dk_at dksJ4_max_0 5 rfl rfl)
theorem dJ4_max_6 : decode cJ4_max 6 = .ok (.goto 4, 3) := dk_167 0 4 (dk_at dksJ4_max_0 6 rfl rfl)
theorem dJ4_max_9 : decode cJ4_max 9 = .ok (.iload_n 1, 1) := dk_27 (dk_at dksJ4_max_0 9 rfl rfl)
theorem dJ4_max_10 : decode cJ4_max 10 = .ok (.ireturn, 1) := dk_172 (dk_at dksJ4_max_0 10 rfl rfl)
section CP
variable {Γ : Gc} {p : Program} {l : Launch} {e : Env} {s : State} {m : MethodId} {args : Array Value} {below : List Frame} {meth : Method} {c : Code} {ex : Nat → Option Nat} {z : Nat} {tF : St}
noncomputable def fJ4_max (ex : Nat → Option Nat) (z : Nat) (x0 : Int32) (x1 : Int32) (t : St) : Option (Int32 × St) := if x0 < x1 then some (x1, t) else some (x0, t)
set_option maxHeartbeats 4000000 in
theorem wJ4_max {rF : Int32} (hex : ex = Γ.2.2.2.2) (X : g_X Γ p s m args meth c cJ4_max 2 RJ4) (hr : meth.sig.returnType = (some .int)) (x0 : Int32) (x1 : Int32) (t : St) : Wf Γ p l e 0 0 s m args below meth c 2 (g_ι z) v_i rF tF 0 [(0, .int x0), (1, .int x1)] [] t (fJ4_max ex z x0 x1 t) := by
  unfold fJ4_max
  refine g_iload_n (pc := 0) X 0 dJ4_max_0 rfl rfl ?_
  refine g_iload_n (pc := 1) X 1 dJ4_max_1 rfl rfl ?_
  refine g_icmp_lt (pc := 2) X 9 dJ4_max_2 (by decide) ?_ ?_
  · refine g_iload_n (pc := 9) X 1 dJ4_max_9 rfl rfl ?_
    exact g_iret (pc := 10) X hr dJ4_max_10
  · refine g_iload_n (pc := 5) X 0 dJ4_max_5 rfl rfl ?_
    refine g_goto (pc := 6) X 10 dJ4_max_6 (by decide) ?_
    exact g_iret (pc := 10) X hr dJ4_max_10
theorem kJ4_max {ex : Nat → Option Nat} {z : Nat} {x0 : Int32} {x1 : Int32} {σ : Sg} {r : Int32} {u : St} (hex : ex = Γ.2.2.2.2) (h : fJ4_max ex z x0 x1 (σ, 0, 0) = some (r, u)) : g_C Γ l yJ4_max cJ4_max 2 (some .int) 0 0 [.int x0, .int x1] σ z v_i r (g_ι z u) :=
  g_metF (ι := g_ι z) (t := (σ, 0, 0)) [.int x0, .int x1] (by decide +kernel) (Nat.le_of_ble_eq_true rfl) h rfl (fun p e s m args below meth c X hr hn => wJ4_max hex X hr x0 x1 (σ, 0, 0))
end CP
abbrev cJ4_min : ByteArray := prog_37_method_69_code
def yJ4_min : MethodName := ⟨RJ4, "min", "(II)I"⟩
def dkwJ4_min_0 : List UInt8 := [26, 27, 163, 0, 7, 26, 167, 0, 4, 27, 172]
abbrev dktJ4_min_0 : List UInt8 := dkwJ4_min_0 ++ []
theorem dksJ4_min_0 : cJ4_min.data.toList.drop 0 = dktJ4_min_0 := by decide +kernel
theorem dJ4_min_0 : decode cJ4_min 0 = .ok (.iload_n 0, 1) := dk_26 (dk_at dksJ4_min_0 0 rfl rfl)
theorem dJ4_min_1 : decode cJ4_min 1 = .ok (.iload_n 1, 1) := dk_27 (dk_at dksJ4_min_0 1 rfl rfl)
theorem dJ4_min_2 : decode cJ4_min 2 = .ok (.if_icmp .gt 7, 3) := dk_163 0 7 (dk_at dksJ4_min_0 2 rfl rfl)
theorem dJ4_min_5 : decode cJ4_min 5 = .ok (.iload_n 0, 1) := dk_26 (dk_at dksJ4_min_0 5 rfl rfl)
theorem dJ4_min_6 : decode cJ4_min 6 = .ok (.goto 4, 3) := dk_167 0 4 (dk_at dksJ4_min_0 6 rfl rfl)
theorem dJ4_min_9 : decode cJ4_min 9 = .ok (.iload_n 1, 1) := dk_27 (dk_at dksJ4_min_0 9 rfl rfl)
theorem dJ4_min_10 : decode cJ4_min 10 = .ok (.ireturn, 1) := dk_172 (dk_at dksJ4_min_0 10 rfl rfl)
section CP
variable {Γ : Gc} {p : Program} {l : Launch} {e : Env} {s : State} {m : MethodId} {args : Array Value} {below : List Frame} {meth : Method} {c : Code} {ex : Nat → Option Nat} {z : Nat} {tF : St}
noncomputable def fJ4_min (ex : Nat → Option Nat) (z : Nat) (x0 : Int32) (x1 : Int32) (t : St) : Option (Int32 × St) := if x1 < x0 then some (x1, t) else some (x0, t)
set_option maxHeartbeats 4000000 in
theorem wJ4_min {rF : Int32} (hex : ex = Γ.2.2.2.2) (X : g_X Γ p s m args meth c cJ4_min 2 RJ4) (hr : meth.sig.returnType = (some .int)) (x0 : Int32) (x1 : Int32) (t : St) : Wf Γ p l e 0 0 s m args below meth c 2 (g_ι z) v_i rF tF 0 [(0, .int x0), (1, .int x1)] [] t (fJ4_min ex z x0 x1 t) := by
  unfold fJ4_min
  refine g_iload_n (pc := 0) X 0 dJ4_min_0 rfl rfl ?_
  refine g_iload_n (pc := 1) X 1 dJ4_min_1 rfl rfl ?_
  refine g_icmp_gt (pc := 2) X 9 dJ4_min_2 (by decide) ?_ ?_
  · refine g_iload_n (pc := 9) X 1 dJ4_min_9 rfl rfl ?_
    exact g_iret (pc := 10) X hr dJ4_min_10
  · refine g_iload_n (pc := 5) X 0 dJ4_min_5 rfl rfl ?_
    refine g_goto (pc := 6) X 10 dJ4_min_6 (by decide) ?_
    exact g_iret (pc := 10) X hr dJ4_min_10
theorem kJ4_min {ex : Nat → Option Nat} {z : Nat} {x0 : Int32} {x1 : Int32} {σ : Sg} {r : Int32} {u : St} (hex : ex = Γ.2.2.2.2) (h : fJ4_min ex z x0 x1 (σ, 0, 0) = some (r, u)) : g_C Γ l yJ4_min cJ4_min 2 (some .int) 0 0 [.int x0, .int x1] σ z v_i r (g_ι z u) :=
  g_metF (ι := g_ι z) (t := (σ, 0, 0)) [.int x0, .int x1] (by decide +kernel) (Nat.le_of_ble_eq_true rfl) h rfl (fun p e s m args below meth c X hr hn => wJ4_min hex X hr x0 x1 (σ, 0, 0))
end CP
abbrev cJ4_floorMod : ByteArray := prog_37_method_50_code
def yJ4_floorMod : MethodName := ⟨RJ4, "floorMod", "(II)I"⟩
def dkwJ4_floorMod_0 : List UInt8 := [26, 27, 112, 61, 26, 27, 130, 156, 0, 11, 28, 153, 0, 7, 28, 27, 96, 172, 28, 172]
abbrev dktJ4_floorMod_0 : List UInt8 := dkwJ4_floorMod_0 ++ []
theorem dksJ4_floorMod_0 : cJ4_floorMod.data.toList.drop 0 = dktJ4_floorMod_0 := by decide +kernel
theorem dJ4_floorMod_0 : decode cJ4_floorMod 0 = .ok (.iload_n 0, 1) := dk_26 (dk_at dksJ4_floorMod_0 0 rfl rfl)
theorem dJ4_floorMod_1 : decode cJ4_floorMod 1 = .ok (.iload_n 1, 1) := dk_27 (dk_at dksJ4_floorMod_0 1 rfl rfl)
theorem dJ4_floorMod_2 : decode cJ4_floorMod 2 = .ok (.irem, 1) := dk_112 (dk_at dksJ4_floorMod_0 2 rfl rfl)
theorem dJ4_floorMod_3 : decode cJ4_floorMod 3 = .ok (.istore_n 2, 1) := dk_61 (dk_at dksJ4_floorMod_0 3 rfl rfl)
theorem dJ4_floorMod_4 : decode cJ4_floorMod 4 = .ok (.iload_n 0, 1) := dk_26 (dk_at dksJ4_floorMod_0 4 rfl rfl)
theorem dJ4_floorMod_5 : decode cJ4_floorMod 5 = .ok (.iload_n 1, 1) := dk_27 (dk_at dksJ4_floorMod_0 5 rfl rfl)
theorem dJ4_floorMod_6 : decode cJ4_floorMod 6 = .ok (.ixor, 1) := dk_130 (dk_at dksJ4_floorMod_0 6 rfl rfl)
theorem dJ4_floorMod_7 : decode cJ4_floorMod 7 = .ok (.ifCond .ge 11, 3) := dk_156 0 11 (dk_at dksJ4_floorMod_0 7 rfl rfl)
theorem dJ4_floorMod_10 : decode cJ4_floorMod 10 = .ok (.iload_n 2, 1) := dk_28 (dk_at dksJ4_floorMod_0 10 rfl rfl)
theorem dJ4_floorMod_11 : decode cJ4_floorMod 11 = .ok (.ifCond .eq 7, 3) := dk_153 0 7 (dk_at dksJ4_floorMod_0 11 rfl rfl)
theorem dJ4_floorMod_14 : decode cJ4_floorMod 14 = .ok (.iload_n 2, 1) := dk_28 (dk_at dksJ4_floorMod_0 14 rfl rfl)
theorem dJ4_floorMod_15 : decode cJ4_floorMod 15 = .ok (.iload_n 1, 1) := dk_27 (dk_at dksJ4_floorMod_0 15 rfl rfl)
theorem dJ4_floorMod_16 : decode cJ4_floorMod 16 = .ok (.iadd, 1) := dk_96 (dk_at dksJ4_floorMod_0 16 rfl rfl)
theorem dJ4_floorMod_17 : decode cJ4_floorMod 17 = .ok (.ireturn, 1) := dk_172 (dk_at dksJ4_floorMod_0 17 rfl rfl)
theorem dJ4_floorMod_18 : decode cJ4_floorMod 18 = .ok (.iload_n 2, 1) := dk_28 (dk_at dksJ4_floorMod_0 18 rfl rfl)
theorem dJ4_floorMod_19 : decode cJ4_floorMod 19 = .ok (.ireturn, 1) := dk_172 (dk_at dksJ4_floorMod_0 19 rfl rfl)
section CP
variable {Γ : Gc} {p : Program} {l : Launch} {e : Env} {s : State} {m : MethodId} {args : Array Value} {below : List Frame} {meth : Method} {c : Code} {ex : Nat → Option Nat} {z : Nat} {tF : St}
noncomputable def fJ4_floorMod (ex : Nat → Option Nat) (z : Nat) (x0 : Int32) (x1 : Int32) (t : St) : Option (Int32 × St) := if x1 = 0 then none else lt (x0 - x0 / x1 * x1) fun y2 => if 0 ≤ x0 ^^^ x1 then some (y2, t) else if y2 = 0 then some (y2, t) else some (y2 + x1, t)
set_option maxHeartbeats 4000000 in
theorem wJ4_floorMod {rF : Int32} (hex : ex = Γ.2.2.2.2) (X : g_X Γ p s m args meth c cJ4_floorMod 3 RJ4) (hr : meth.sig.returnType = (some .int)) (x0 : Int32) (x1 : Int32) (t : St) : Wf Γ p l e 0 0 s m args below meth c 3 (g_ι z) v_i rF tF 0 [(0, .int x0), (1, .int x1)] [] t (fJ4_floorMod ex z x0 x1 t) := by
  unfold fJ4_floorMod
  refine g_iload_n (pc := 0) X 0 dJ4_floorMod_0 rfl rfl ?_
  refine g_iload_n (pc := 1) X 1 dJ4_floorMod_1 rfl rfl ?_
  refine g_no (pc := 2) (fun hn1 => ?_)
  refine g_irem (pc := 2) X dJ4_floorMod_2 hn1 ?_
  refine g_lti (pc := 3) (fun y2 => ?_)
  refine g_istore_n (pc := 3) X (lv' := [(2, .int y2), (0, .int x0), (1, .int x1)]) dJ4_floorMod_3 rfl (by decide) rfl ?_
  refine g_iload_n (pc := 4) X 1 dJ4_floorMod_4 rfl rfl ?_
  refine g_iload_n (pc := 5) X 2 dJ4_floorMod_5 rfl rfl ?_
  refine g_ixor (pc := 6) X dJ4_floorMod_6 ?_
  refine g_if_ge (pc := 7) X 18 dJ4_floorMod_7 (by decide) ?_ ?_
  · refine g_iload_n (pc := 18) X 0 dJ4_floorMod_18 rfl rfl ?_
    exact g_iret (pc := 19) X hr dJ4_floorMod_19
  · refine g_iload_n (pc := 10) X 0 dJ4_floorMod_10 rfl rfl ?_
    refine g_if_eq (pc := 11) X 18 dJ4_floorMod_11 (by decide) ?_ ?_
    · refine g_iload_n (pc := 18) X 0 dJ4_floorMod_18 rfl rfl ?_
      exact g_iret (pc := 19) X hr dJ4_floorMod_19
    · refine g_iload_n (pc := 14) X 0 dJ4_floorMod_14 rfl rfl ?_
      refine g_iload_n (pc := 15) X 2 dJ4_floorMod_15 rfl rfl ?_
      refine g_iadd (pc := 16) X dJ4_floorMod_16 ?_
      exact g_iret (pc := 17) X hr dJ4_floorMod_17
theorem kJ4_floorMod {ex : Nat → Option Nat} {z : Nat} {x0 : Int32} {x1 : Int32} {σ : Sg} {r : Int32} {u : St} (hex : ex = Γ.2.2.2.2) (h : fJ4_floorMod ex z x0 x1 (σ, 0, 0) = some (r, u)) : g_C Γ l yJ4_floorMod cJ4_floorMod 3 (some .int) 0 0 [.int x0, .int x1] σ z v_i r (g_ι z u) :=
  g_metF (ι := g_ι z) (t := (σ, 0, 0)) [.int x0, .int x1] (by decide +kernel) (Nat.le_of_ble_eq_true rfl) h rfl (fun p e s m args below meth c X hr hn => wJ4_floorMod hex X hr x0 x1 (σ, 0, 0))
end CP
abbrev cJ5_copyOf_2 : ByteArray := prog_51_method_120_code
def yJ5_copyOf_2 : MethodName := ⟨RJ5, "copyOf", "([Ljava/lang/Object;ILjava/lang/Class;)[Ljava/lang/Object;"⟩
def dkwJ5_copyOf_2_1 : List UInt8 := [78, 42, 3, 45, 3, 42, 190, 27, 184, 1, 48, 184, 0, 150, 45, 176]
abbrev dktJ5_copyOf_2_1 : List UInt8 := dkwJ5_copyOf_2_1 ++ []
def dkwJ5_copyOf_2_0 : List UInt8 := [44, 18, 110, 166, 0, 10, 27, 189, 0, 2, 167, 0, 14, 44, 182, 0, 90, 27, 184, 0, 95, 192, 0, 110]
abbrev dktJ5_copyOf_2_0 : List UInt8 := dkwJ5_copyOf_2_0 ++ dktJ5_copyOf_2_1
theorem dksJ5_copyOf_2_0 : cJ5_copyOf_2.data.toList.drop 0 = dktJ5_copyOf_2_0 := by decide +kernel
theorem dksJ5_copyOf_2_1 : cJ5_copyOf_2.data.toList.drop 24 = dktJ5_copyOf_2_1 := dk_seg dksJ5_copyOf_2_0 24 rfl rfl
theorem dJ5_copyOf_2_0 : decode cJ5_copyOf_2 0 = .ok (.aload_n 2, 1) := dk_44 (dk_at dksJ5_copyOf_2_0 0 rfl rfl)
theorem dJ5_copyOf_2_1 : decode cJ5_copyOf_2 1 = .ok (.ldc 110, 2) := dk_18 110 (dk_at dksJ5_copyOf_2_0 1 rfl rfl)
theorem dJ5_copyOf_2_3 : decode cJ5_copyOf_2 3 = .ok (.if_acmp .ne 10, 3) := dk_166 0 10 (dk_at dksJ5_copyOf_2_0 3 rfl rfl)
theorem dJ5_copyOf_2_6 : decode cJ5_copyOf_2 6 = .ok (.iload_n 1, 1) := dk_27 (dk_at dksJ5_copyOf_2_0 6 rfl rfl)
theorem dJ5_copyOf_2_7 : decode cJ5_copyOf_2 7 = .ok (.anewarray 2, 3) := dk_189 0 2 (dk_at dksJ5_copyOf_2_0 7 rfl rfl)
theorem dJ5_copyOf_2_10 : decode cJ5_copyOf_2 10 = .ok (.goto 14, 3) := dk_167 0 14 (dk_at dksJ5_copyOf_2_0 10 rfl rfl)
theorem dJ5_copyOf_2_13 : decode cJ5_copyOf_2 13 = .ok (.aload_n 2, 1) := dk_44 (dk_at dksJ5_copyOf_2_0 13 rfl rfl)
theorem dJ5_copyOf_2_14 : decode cJ5_copyOf_2 14 = .ok (.invokevirtual 90, 3) := dk_182 0 90 (dk_at dksJ5_copyOf_2_0 14 rfl rfl)
theorem dJ5_copyOf_2_17 : decode cJ5_copyOf_2 17 = .ok (.iload_n 1, 1) := dk_27 (dk_at dksJ5_copyOf_2_0 17 rfl rfl)
theorem dJ5_copyOf_2_18 : decode cJ5_copyOf_2 18 = .ok (.invokestatic 95, 3) := dk_184 0 95 (dk_at dksJ5_copyOf_2_0 18 rfl rfl)
theorem dJ5_copyOf_2_21 : decode cJ5_copyOf_2 21 = .ok (.checkcast 110, 3) := dk_192 0 110 (dk_at dksJ5_copyOf_2_0 21 rfl rfl)
theorem dJ5_copyOf_2_24 : decode cJ5_copyOf_2 24 = .ok (.astore_n 3, 1) := dk_78 (dk_at dksJ5_copyOf_2_1 0 rfl rfl)
theorem dJ5_copyOf_2_25 : decode cJ5_copyOf_2 25 = .ok (.aload_n 0, 1) := dk_42 (dk_at dksJ5_copyOf_2_1 1 rfl rfl)
theorem dJ5_copyOf_2_26 : decode cJ5_copyOf_2 26 = .ok (.iconst 0, 1) := dk_3 (dk_at dksJ5_copyOf_2_1 2 rfl rfl)
theorem dJ5_copyOf_2_27 : decode cJ5_copyOf_2 27 = .ok (.aload_n 3, 1) := dk_45 (dk_at dksJ5_copyOf_2_1 3 rfl rfl)
theorem dJ5_copyOf_2_28 : decode cJ5_copyOf_2 28 = .ok (.iconst 0, 1) := dk_3 (dk_at dksJ5_copyOf_2_1 4 rfl rfl)
theorem dJ5_copyOf_2_29 : decode cJ5_copyOf_2 29 = .ok (.aload_n 0, 1) := dk_42 (dk_at dksJ5_copyOf_2_1 5 rfl rfl)
theorem dJ5_copyOf_2_30 : decode cJ5_copyOf_2 30 = .ok (.arraylength, 1) := dk_190 (dk_at dksJ5_copyOf_2_1 6 rfl rfl)
theorem dJ5_copyOf_2_31 : decode cJ5_copyOf_2 31 = .ok (.iload_n 1, 1) := dk_27 (dk_at dksJ5_copyOf_2_1 7 rfl rfl)
theorem dJ5_copyOf_2_32 : decode cJ5_copyOf_2 32 = .ok (.invokestatic 304, 3) := dk_184 1 48 (dk_at dksJ5_copyOf_2_1 8 rfl rfl)
theorem dJ5_copyOf_2_35 : decode cJ5_copyOf_2 35 = .ok (.invokestatic 150, 3) := dk_184 0 150 (dk_at dksJ5_copyOf_2_1 11 rfl rfl)
theorem dJ5_copyOf_2_38 : decode cJ5_copyOf_2 38 = .ok (.aload_n 3, 1) := dk_45 (dk_at dksJ5_copyOf_2_1 14 rfl rfl)
theorem dJ5_copyOf_2_39 : decode cJ5_copyOf_2 39 = .ok (.areturn, 1) := dk_176 (dk_at dksJ5_copyOf_2_1 15 rfl rfl)
theorem dmS_J4_min : yJ4_min.cls ≠ "java/lang/invoke/MethodHandle" ∧ yJ4_min.cls ≠ "java/lang/invoke/VarHandle" ∧ (parseMethodDescriptor yJ4_min.desc).map (fun d => d.parameters.length) = some 2 := by decide +kernel
section CP
variable {Γ : Gc} {p : Program} {l : Launch} {e : Env} {s : State} {m : MethodId} {args : Array Value} {below : List Frame} {meth : Method} {c : Code} {ex : Nat → Option Nat} {z : Nat} {tF : St}
noncomputable def fJ5_copyOf_2_24 (ex : Nat → Option Nat) (z : Nat) (h0 : Nat) (x1 : Int32) (s0 : Nat) (t : St) : Option (Nat × St) := calen t h0 fun v1 => gb (fJ4_min ex (z + t.2.1) v1 x1 (t.1, 0, 0)) t fun r2 t3 => ccopyQ 4 [4, 5, 6, 7, 8, 9, 11, 12, 13, 14, 16, 17, 18, 19, 20] t3 h0 0 s0 0 r2 fun t4 => some (s0, t4)
set_option maxHeartbeats 4000000 in
theorem wJ5_copyOf_2_24 {rF : Nat} (hex : ex = Γ.2.2.2.2) (X : g_X Γ p s m args meth c cJ5_copyOf_2 4 RJ5) (hr : meth.sig.returnType = (some (.array (.object "java/lang/Object")))) (h0 : Nat) (x1 : Int32) (s0 : Nat) (t : St) : Wf Γ p l e 1 21 s m args below meth c 4 (g_ι z) v_a rF tF 24 [(0, .ref h0), (1, .int x1)] [.ref s0] t (fJ5_copyOf_2_24 ex z h0 x1 s0 t) := by
  unfold fJ5_copyOf_2_24
  refine g_astore_n (pc := 24) X (lv' := [(3, .ref s0), (0, .ref h0), (1, .int x1)]) dJ5_copyOf_2_24 rfl (by decide) rfl ?_
  refine g_aload_n (pc := 25) X 1 dJ5_copyOf_2_25 rfl rfl ?_
  refine g_iconst (pc := 26) X 0 dJ5_copyOf_2_26 rfl ?_
  refine g_aload_n (pc := 27) X 0 dJ5_copyOf_2_27 rfl rfl ?_
  refine g_iconst (pc := 28) X 0 dJ5_copyOf_2_28 rfl ?_
  refine g_aload_n (pc := 29) X 1 dJ5_copyOf_2_29 rfl rfl ?_
  refine cg_alen (pc := 30) X dJ5_copyOf_2_30 (fun v1 => ?_)
  refine g_iload_n (pc := 31) X 2 dJ5_copyOf_2_31 rfl rfl ?_
  refine g_bS_i (pc := 32) X (y := yJ4_min) (As := [.int v1, .int x1]) (rest := [.int 0, .ref s0, .int 0, .ref h0]) (fr' := 0) (lo' := 0) (fun _ => va_cwS 2 X.2.2.2.2.1 (lw_S q323 q324 q84 q325) rfl rfl rfl dmS_J4_min ⟨Nat.le_of_ble_eq_true rfl, Nat.le_of_ble_eq_true rfl⟩) dJ5_copyOf_2_32 rfl rfl (Nat.le_of_ble_eq_true rfl) (fun r u h => kJ4_min hex h) (fun r2 t3 => ?_)
  refine cg_copyQ (pc := 35) X (j := 4) (cs := [4, 5, 6, 7, 8, 9, 11, 12, 13, 14, 16, 17, 18, 19, 20]) rfl cf_java_lang_Object_15 dJ5_copyOf_2_35 q326 q328 q327 q86 (Nat.le_of_ble_eq_true rfl) (Nat.le_of_ble_eq_true rfl) (fun t4 => ?_)
  refine g_aload_n (pc := 38) X 0 dJ5_copyOf_2_38 rfl rfl ?_
  exact g_aret (pc := 39) X hr (Or.inr ⟨_, rfl⟩) dJ5_copyOf_2_39
noncomputable def fJ5_copyOf_2 (ex : Nat → Option Nat) (z : Nat) (h0 : Nat) (x1 : Int32) (h2 : Option Nat) (t : St) : Option (Nat × St) := if h2 = (ex 6) then cnewa z 4 x1 t fun a1 t2 => fJ5_copyOf_2_24 ex z h0 x1 a1 t2 else none
set_option maxHeartbeats 4000000 in
theorem wJ5_copyOf_2 {rF : Nat} (hex : ex = Γ.2.2.2.2) (X : g_X Γ p s m args meth c cJ5_copyOf_2 4 RJ5) (hr : meth.sig.returnType = (some (.array (.object "java/lang/Object")))) (h0 : Nat) (x1 : Int32) (h2 : Option Nat) (t : St) : Wf Γ p l e 1 21 s m args below meth c 4 (g_ι z) v_a rF tF 0 [(0, .ref h0), (1, .int x1), (2, va_rf h2)] [] t (fJ5_copyOf_2 ex z h0 x1 h2 t) := by
  unfold fJ5_copyOf_2
  refine g_aload_n_q (pc := 0) X 2 dJ5_copyOf_2_0 rfl rfl ?_
  refine cg_ldcM (pc := 1) X hex q320 dJ5_copyOf_2_1 ?_
  refine cg_acmp_ne (pc := 3) X (rx := h2) (ry := (ex 6)) 13 dJ5_copyOf_2_3 (by decide) ?_ ?_
  · refine g_aload_n_q (pc := 13) X 2 dJ5_copyOf_2_13 rfl rfl ?_
    exact g_none
  · refine g_iload_n (pc := 6) X 1 dJ5_copyOf_2_6 rfl rfl ?_
    refine cg_newq (pc := 7) X (j := 4) dJ5_copyOf_2_7 (by decide) rfl q322 q321 (fun a1 t2 => ?_)
    refine g_goto (pc := 10) X 24 dJ5_copyOf_2_10 (by decide) ?_
    exact g_lv (pc := 24) (lv' := [(0, .ref h0), (1, .int x1)]) [0, 1] rfl (wJ5_copyOf_2_24 hex X hr h0 x1 a1 t2)
theorem kJ5_copyOf_2 {ex : Nat → Option Nat} {z : Nat} {h0 : Nat} {x1 : Int32} {h2 : Option Nat} {σ : Sg} {r : Nat} {u : St} (hex : ex = Γ.2.2.2.2) (h : fJ5_copyOf_2 ex z h0 x1 h2 (σ, 0, 0) = some (r, u)) : g_C Γ l yJ5_copyOf_2 cJ5_copyOf_2 4 (some (.array (.object "java/lang/Object"))) 1 21 [.ref h0, .int x1, va_rf h2] σ z v_a r (g_ι z u) := by
  rcases h2 with _ | h2
  · exact g_met (ι := g_ι z) (t := (σ, 0, 0)) [.ref h0, .int x1, va_rf none] (by decide) (Nat.le_of_ble_eq_true rfl) h rfl (fun p e s m args below meth c X hr hn => wJ5_copyOf_2 hex X hr h0 x1 none (σ, 0, 0))
  · exact g_met (ι := g_ι z) (t := (σ, 0, 0)) [.ref h0, .int x1, va_rf (some h2)] (by decide) (Nat.le_of_ble_eq_true rfl) h rfl (fun p e s m args below meth c X hr hn => wJ5_copyOf_2 hex X hr h0 x1 (some h2) (σ, 0, 0))
end CP
abbrev cJ7_checkIndex : ByteArray := prog_58_method_11_code
def yJ7_checkIndex : MethodName := ⟨RJ7, "checkIndex", "(IILjava/util/function/BiFunction;)I"⟩
def dkwJ7_checkIndex_0 : List UInt8 := [26, 155, 0, 8, 26, 27, 161, 0, 10, 44, 26, 27, 184, 0, 95, 191, 26, 172]
abbrev dktJ7_checkIndex_0 : List UInt8 := dkwJ7_checkIndex_0 ++ []
theorem dksJ7_checkIndex_0 : cJ7_checkIndex.data.toList.drop 0 = dktJ7_checkIndex_0 := by decide +kernel
theorem dJ7_checkIndex_0 : decode cJ7_checkIndex 0 = .ok (.iload_n 0, 1) := dk_26 (dk_at dksJ7_checkIndex_0 0 rfl rfl)
theorem dJ7_checkIndex_1 : decode cJ7_checkIndex 1 = .ok (.ifCond .lt 8, 3) := dk_155 0 8 (dk_at dksJ7_checkIndex_0 1 rfl rfl)
theorem dJ7_checkIndex_4 : decode cJ7_checkIndex 4 = .ok (.iload_n 0, 1) := dk_26 (dk_at dksJ7_checkIndex_0 4 rfl rfl)
theorem dJ7_checkIndex_5 : decode cJ7_checkIndex 5 = .ok (.iload_n 1, 1) := dk_27 (dk_at dksJ7_checkIndex_0 5 rfl rfl)
theorem dJ7_checkIndex_6 : decode cJ7_checkIndex 6 = .ok (.if_icmp .lt 10, 3) := dk_161 0 10 (dk_at dksJ7_checkIndex_0 6 rfl rfl)
theorem dJ7_checkIndex_9 : decode cJ7_checkIndex 9 = .ok (.aload_n 2, 1) := dk_44 (dk_at dksJ7_checkIndex_0 9 rfl rfl)
theorem dJ7_checkIndex_10 : decode cJ7_checkIndex 10 = .ok (.iload_n 0, 1) := dk_26 (dk_at dksJ7_checkIndex_0 10 rfl rfl)
theorem dJ7_checkIndex_11 : decode cJ7_checkIndex 11 = .ok (.iload_n 1, 1) := dk_27 (dk_at dksJ7_checkIndex_0 11 rfl rfl)
theorem dJ7_checkIndex_12 : decode cJ7_checkIndex 12 = .ok (.invokestatic 95, 3) := dk_184 0 95 (dk_at dksJ7_checkIndex_0 12 rfl rfl)
theorem dJ7_checkIndex_15 : decode cJ7_checkIndex 15 = .ok (.athrow, 1) := dk_191 (dk_at dksJ7_checkIndex_0 15 rfl rfl)
theorem dJ7_checkIndex_16 : decode cJ7_checkIndex 16 = .ok (.iload_n 0, 1) := dk_26 (dk_at dksJ7_checkIndex_0 16 rfl rfl)
theorem dJ7_checkIndex_17 : decode cJ7_checkIndex 17 = .ok (.ireturn, 1) := dk_172 (dk_at dksJ7_checkIndex_0 17 rfl rfl)
section CP
variable {Γ : Gc} {p : Program} {l : Launch} {e : Env} {s : State} {m : MethodId} {args : Array Value} {below : List Frame} {meth : Method} {c : Code} {ex : Nat → Option Nat} {z : Nat} {tF : St}
noncomputable def fJ7_checkIndex (ex : Nat → Option Nat) (z : Nat) (x0 : Int32) (x1 : Int32) (h2 : Option Nat) (t : St) : Option (Int32 × St) := if x0 < 0 then none else if x0 < x1 then some (x0, t) else none
set_option maxHeartbeats 4000000 in
theorem wJ7_checkIndex {rF : Int32} (hex : ex = Γ.2.2.2.2) (X : g_X Γ p s m args meth c cJ7_checkIndex 3 RJ7) (hr : meth.sig.returnType = (some .int)) (x0 : Int32) (x1 : Int32) (h2 : Option Nat) (t : St) : Wf Γ p l e 0 0 s m args below meth c 3 (g_ι z) v_i rF tF 0 [(0, .int x0), (1, .int x1), (2, va_rf h2)] [] t (fJ7_checkIndex ex z x0 x1 h2 t) := by
  unfold fJ7_checkIndex
  refine g_iload_n (pc := 0) X 0 dJ7_checkIndex_0 rfl rfl ?_
  refine g_if_lt (pc := 1) X 9 dJ7_checkIndex_1 (by decide) ?_ ?_
  · refine g_aload_n_q (pc := 9) X 2 dJ7_checkIndex_9 rfl rfl ?_
    refine g_iload_n (pc := 10) X 0 dJ7_checkIndex_10 rfl rfl ?_
    refine g_iload_n (pc := 11) X 1 dJ7_checkIndex_11 rfl rfl ?_
    exact g_none
  · refine g_iload_n (pc := 4) X 0 dJ7_checkIndex_4 rfl rfl ?_
    refine g_iload_n (pc := 5) X 1 dJ7_checkIndex_5 rfl rfl ?_
    refine g_icmp_lt (pc := 6) X 16 dJ7_checkIndex_6 (by decide) ?_ ?_
    · refine g_iload_n (pc := 16) X 0 dJ7_checkIndex_16 rfl rfl ?_
      exact g_iret (pc := 17) X hr dJ7_checkIndex_17
    · refine g_aload_n_q (pc := 9) X 2 dJ7_checkIndex_9 rfl rfl ?_
      refine g_iload_n (pc := 10) X 0 dJ7_checkIndex_10 rfl rfl ?_
      refine g_iload_n (pc := 11) X 1 dJ7_checkIndex_11 rfl rfl ?_
      exact g_none
theorem kJ7_checkIndex {ex : Nat → Option Nat} {z : Nat} {x0 : Int32} {x1 : Int32} {h2 : Option Nat} {σ : Sg} {r : Int32} {u : St} (hex : ex = Γ.2.2.2.2) (h : fJ7_checkIndex ex z x0 x1 h2 (σ, 0, 0) = some (r, u)) : g_C Γ l yJ7_checkIndex cJ7_checkIndex 3 (some .int) 0 0 [.int x0, .int x1, va_rf h2] σ z v_i r (g_ι z u) := by
  rcases h2 with _ | h2
  · exact g_met (ι := g_ι z) (t := (σ, 0, 0)) [.int x0, .int x1, va_rf none] (by decide) (Nat.le_of_ble_eq_true rfl) h rfl (fun p e s m args below meth c X hr hn => wJ7_checkIndex hex X hr x0 x1 none (σ, 0, 0))
  · exact g_met (ι := g_ι z) (t := (σ, 0, 0)) [.int x0, .int x1, va_rf (some h2)] (by decide) (Nat.le_of_ble_eq_true rfl) h rfl (fun p e s m args below meth c X hr hn => wJ7_checkIndex hex X hr x0 x1 (some h2) (σ, 0, 0))
end CP
abbrev cJ7_checkFromToIndex : ByteArray := prog_58_method_12_code
def yJ7_checkFromToIndex : MethodName := ⟨RJ7, "checkFromToIndex", "(IIILjava/util/function/BiFunction;)I"⟩
def dkwJ7_checkFromToIndex_0 : List UInt8 := [26, 155, 0, 13, 26, 27, 163, 0, 8, 27, 28, 164, 0, 11, 45, 26, 27, 28, 184, 0, 99, 191, 26, 172]
abbrev dktJ7_checkFromToIndex_0 : List UInt8 := dkwJ7_checkFromToIndex_0 ++ []
theorem dksJ7_checkFromToIndex_0 : cJ7_checkFromToIndex.data.toList.drop 0 = dktJ7_checkFromToIndex_0 := by decide +kernel
theorem dJ7_checkFromToIndex_0 : decode cJ7_checkFromToIndex 0 = .ok (.iload_n 0, 1) := dk_26 (dk_at dksJ7_checkFromToIndex_0 0 rfl rfl)
theorem dJ7_checkFromToIndex_1 : decode cJ7_checkFromToIndex 1 = .ok (.ifCond .lt 13, 3) := dk_155 0 13 (dk_at dksJ7_checkFromToIndex_0 1 rfl rfl)
theorem dJ7_checkFromToIndex_4 : decode cJ7_checkFromToIndex 4 = .ok (.iload_n 0, 1) := dk_26 (dk_at dksJ7_checkFromToIndex_0 4 rfl rfl)
theorem dJ7_checkFromToIndex_5 : decode cJ7_checkFromToIndex 5 = .ok (.iload_n 1, 1) := dk_27 (dk_at dksJ7_checkFromToIndex_0 5 rfl rfl)
theorem dJ7_checkFromToIndex_6 : decode cJ7_checkFromToIndex 6 = .ok (.if_icmp .gt 8, 3) := dk_163 0 8 (dk_at dksJ7_checkFromToIndex_0 6 rfl rfl)
theorem dJ7_checkFromToIndex_9 : decode cJ7_checkFromToIndex 9 = .ok (.iload_n 1, 1) := dk_27 (dk_at dksJ7_checkFromToIndex_0 9 rfl rfl)
theorem dJ7_checkFromToIndex_10 : decode cJ7_checkFromToIndex 10 = .ok (.iload_n 2, 1) := dk_28 (dk_at dksJ7_checkFromToIndex_0 10 rfl rfl)
theorem dJ7_checkFromToIndex_11 : decode cJ7_checkFromToIndex 11 = .ok (.if_icmp .le 11, 3) := dk_164 0 11 (dk_at dksJ7_checkFromToIndex_0 11 rfl rfl)
theorem dJ7_checkFromToIndex_14 : decode cJ7_checkFromToIndex 14 = .ok (.aload_n 3, 1) := dk_45 (dk_at dksJ7_checkFromToIndex_0 14 rfl rfl)
theorem dJ7_checkFromToIndex_15 : decode cJ7_checkFromToIndex 15 = .ok (.iload_n 0, 1) := dk_26 (dk_at dksJ7_checkFromToIndex_0 15 rfl rfl)
theorem dJ7_checkFromToIndex_16 : decode cJ7_checkFromToIndex 16 = .ok (.iload_n 1, 1) := dk_27 (dk_at dksJ7_checkFromToIndex_0 16 rfl rfl)
theorem dJ7_checkFromToIndex_17 : decode cJ7_checkFromToIndex 17 = .ok (.iload_n 2, 1) := dk_28 (dk_at dksJ7_checkFromToIndex_0 17 rfl rfl)
theorem dJ7_checkFromToIndex_18 : decode cJ7_checkFromToIndex 18 = .ok (.invokestatic 99, 3) := dk_184 0 99 (dk_at dksJ7_checkFromToIndex_0 18 rfl rfl)
theorem dJ7_checkFromToIndex_21 : decode cJ7_checkFromToIndex 21 = .ok (.athrow, 1) := dk_191 (dk_at dksJ7_checkFromToIndex_0 21 rfl rfl)
theorem dJ7_checkFromToIndex_22 : decode cJ7_checkFromToIndex 22 = .ok (.iload_n 0, 1) := dk_26 (dk_at dksJ7_checkFromToIndex_0 22 rfl rfl)
theorem dJ7_checkFromToIndex_23 : decode cJ7_checkFromToIndex 23 = .ok (.ireturn, 1) := dk_172 (dk_at dksJ7_checkFromToIndex_0 23 rfl rfl)
section CP
variable {Γ : Gc} {p : Program} {l : Launch} {e : Env} {s : State} {m : MethodId} {args : Array Value} {below : List Frame} {meth : Method} {c : Code} {ex : Nat → Option Nat} {z : Nat} {tF : St}
noncomputable def fJ7_checkFromToIndex (ex : Nat → Option Nat) (z : Nat) (x0 : Int32) (x1 : Int32) (x2 : Int32) (h3 : Option Nat) (t : St) : Option (Int32 × St) := if x0 < 0 then none else if x1 < x0 then none else if x1 ≤ x2 then some (x0, t) else none
set_option maxHeartbeats 4000000 in
theorem wJ7_checkFromToIndex {rF : Int32} (hex : ex = Γ.2.2.2.2) (X : g_X Γ p s m args meth c cJ7_checkFromToIndex 4 RJ7) (hr : meth.sig.returnType = (some .int)) (x0 : Int32) (x1 : Int32) (x2 : Int32) (h3 : Option Nat) (t : St) : Wf Γ p l e 0 0 s m args below meth c 4 (g_ι z) v_i rF tF 0 [(0, .int x0), (1, .int x1), (2, .int x2), (3, va_rf h3)] [] t (fJ7_checkFromToIndex ex z x0 x1 x2 h3 t) := by
  unfold fJ7_checkFromToIndex
  refine g_iload_n (pc := 0) X 0 dJ7_checkFromToIndex_0 rfl rfl ?_
  refine g_if_lt (pc := 1) X 14 dJ7_checkFromToIndex_1 (by decide) ?_ ?_
  · refine g_aload_n_q (pc := 14) X 3 dJ7_checkFromToIndex_14 rfl rfl ?_
    refine g_iload_n (pc := 15) X 0 dJ7_checkFromToIndex_15 rfl rfl ?_
    refine g_iload_n (pc := 16) X 1 dJ7_checkFromToIndex_16 rfl rfl ?_
    refine g_iload_n (pc := 17) X 2 dJ7_checkFromToIndex_17 rfl rfl ?_
    exact g_none
  · refine g_iload_n (pc := 4) X 0 dJ7_checkFromToIndex_4 rfl rfl ?_
    refine g_iload_n (pc := 5) X 1 dJ7_checkFromToIndex_5 rfl rfl ?_
    refine g_icmp_gt (pc := 6) X 14 dJ7_checkFromToIndex_6 (by decide) ?_ ?_
    · refine g_aload_n_q (pc := 14) X 3 dJ7_checkFromToIndex_14 rfl rfl ?_
      refine g_iload_n (pc := 15) X 0 dJ7_checkFromToIndex_15 rfl rfl ?_
      refine g_iload_n (pc := 16) X 1 dJ7_checkFromToIndex_16 rfl rfl ?_
      refine g_iload_n (pc := 17) X 2 dJ7_checkFromToIndex_17 rfl rfl ?_
      exact g_none
    · refine g_iload_n (pc := 9) X 1 dJ7_checkFromToIndex_9 rfl rfl ?_
      refine g_iload_n (pc := 10) X 2 dJ7_checkFromToIndex_10 rfl rfl ?_
      refine g_icmp_le (pc := 11) X 22 dJ7_checkFromToIndex_11 (by decide) ?_ ?_
      · refine g_iload_n (pc := 22) X 0 dJ7_checkFromToIndex_22 rfl rfl ?_
        exact g_iret (pc := 23) X hr dJ7_checkFromToIndex_23
      · refine g_aload_n_q (pc := 14) X 3 dJ7_checkFromToIndex_14 rfl rfl ?_
        refine g_iload_n (pc := 15) X 0 dJ7_checkFromToIndex_15 rfl rfl ?_
        refine g_iload_n (pc := 16) X 1 dJ7_checkFromToIndex_16 rfl rfl ?_
        refine g_iload_n (pc := 17) X 2 dJ7_checkFromToIndex_17 rfl rfl ?_
        exact g_none
theorem kJ7_checkFromToIndex {ex : Nat → Option Nat} {z : Nat} {x0 : Int32} {x1 : Int32} {x2 : Int32} {h3 : Option Nat} {σ : Sg} {r : Int32} {u : St} (hex : ex = Γ.2.2.2.2) (h : fJ7_checkFromToIndex ex z x0 x1 x2 h3 (σ, 0, 0) = some (r, u)) : g_C Γ l yJ7_checkFromToIndex cJ7_checkFromToIndex 4 (some .int) 0 0 [.int x0, .int x1, .int x2, va_rf h3] σ z v_i r (g_ι z u) := by
  rcases h3 with _ | h3
  · exact g_met (ι := g_ι z) (t := (σ, 0, 0)) [.int x0, .int x1, .int x2, va_rf none] (by decide) (Nat.le_of_ble_eq_true rfl) h rfl (fun p e s m args below meth c X hr hn => wJ7_checkFromToIndex hex X hr x0 x1 x2 none (σ, 0, 0))
  · exact g_met (ι := g_ι z) (t := (σ, 0, 0)) [.int x0, .int x1, .int x2, va_rf (some h3)] (by decide) (Nat.le_of_ble_eq_true rfl) h rfl (fun p e s m args below meth c X hr hn => wJ7_checkFromToIndex hex X hr x0 x1 x2 (some h3) (σ, 0, 0))
end CP
abbrev cJ8_isLatin1 : ByteArray := prog_41_method_154_code
def yJ8_isLatin1 : MethodName := ⟨RJ8, "isLatin1", "()Z"⟩
def dkwJ8_isLatin1_0 : List UInt8 := [178, 0, 38, 153, 0, 14, 42, 180, 0, 15, 154, 0, 7, 4, 167, 0, 4, 3, 172]
abbrev dktJ8_isLatin1_0 : List UInt8 := dkwJ8_isLatin1_0 ++ []
theorem dksJ8_isLatin1_0 : cJ8_isLatin1.data.toList.drop 0 = dktJ8_isLatin1_0 := by decide +kernel
theorem dJ8_isLatin1_0 : decode cJ8_isLatin1 0 = .ok (.getstatic 38, 3) := dk_178 0 38 (dk_at dksJ8_isLatin1_0 0 rfl rfl)
theorem dJ8_isLatin1_3 : decode cJ8_isLatin1 3 = .ok (.ifCond .eq 14, 3) := dk_153 0 14 (dk_at dksJ8_isLatin1_0 3 rfl rfl)
theorem dJ8_isLatin1_6 : decode cJ8_isLatin1 6 = .ok (.aload_n 0, 1) := dk_42 (dk_at dksJ8_isLatin1_0 6 rfl rfl)
theorem dJ8_isLatin1_7 : decode cJ8_isLatin1 7 = .ok (.getfield 15, 3) := dk_180 0 15 (dk_at dksJ8_isLatin1_0 7 rfl rfl)
theorem dJ8_isLatin1_10 : decode cJ8_isLatin1 10 = .ok (.ifCond .ne 7, 3) := dk_154 0 7 (dk_at dksJ8_isLatin1_0 10 rfl rfl)
theorem dJ8_isLatin1_13 : decode cJ8_isLatin1 13 = .ok (.iconst 1, 1) := dk_4 (dk_at dksJ8_isLatin1_0 13 rfl rfl)
theorem dJ8_isLatin1_14 : decode cJ8_isLatin1 14 = .ok (.goto 4, 3) := dk_167 0 4 (dk_at dksJ8_isLatin1_0 14 rfl rfl)
theorem dJ8_isLatin1_17 : decode cJ8_isLatin1 17 = .ok (.iconst 0, 1) := dk_3 (dk_at dksJ8_isLatin1_0 17 rfl rfl)
theorem dJ8_isLatin1_18 : decode cJ8_isLatin1 18 = .ok (.ireturn, 1) := dk_172 (dk_at dksJ8_isLatin1_0 18 rfl rfl)
theorem ev_COMPACT_STRINGS {Γ : Gc} : ∀ s0 : State, (Jvm.Cond.and given_1 narrow_1).before #[Value.ref Γ.2.2.2.1] s0 = true → (∀ i, Γ.2.2.2.2 i = exOf Γ.2.2.2.1 s0 i) → (Term.static "java/lang/String" "COMPACT_STRINGS" "Z").eval #[Value.ref Γ.2.2.2.1] s0 none [] s0 = some (.int 1) := fun s0 h1 _ => va_eqi (flat_of_before _ h1 _ (by decide +kernel))
theorem fo_J8_15 : g_fo RJ8 15 [21] 1 := ⟨_, _, _, Or.inl q2222, fun ci h => by
  simp only [List.mem_cons, List.not_mem_nil, or_false] at h; rcases h with rfl
  · exact ⟨_, _, _, rfl, by decide, rfl, rfl, Or.inl rfl, in_J8⟩⟩
section CP
variable {Γ : Gc} {p : Program} {l : Launch} {e : Env} {s : State} {m : MethodId} {args : Array Value} {below : List Frame} {meth : Method} {c : Code} {ex : Nat → Option Nat} {z : Nat} {tF : St}
noncomputable def fJ8_isLatin1 (ex : Nat → Option Nat) (z : Nat) (h0 : Nat) (t : St) : Option (Int32 × St) := if (1 : Int32) = 0 then some (0, t) else cgI [21] 1 t h0 fun v1 => if v1 = 0 then some (1, t) else some (0, t)
set_option maxHeartbeats 4000000 in
theorem wJ8_isLatin1 {rF : Int32} (hex : ex = Γ.2.2.2.2) (X : g_X Γ p s m args meth c cJ8_isLatin1 1 RJ8) (hr : meth.sig.returnType = (some .boolean)) (h0 : Nat) (t : St) : Wf Γ p l e 0 0 s m args below meth c 1 (g_ι z) v_i rF tF 0 [(0, .ref h0)] [] t (fJ8_isLatin1 ex z h0 t) := by
  unfold fJ8_isLatin1
  refine cg_gets (pc := 0) X (v := .int 1) q1116 q89 q1115 ev_COMPACT_STRINGS dJ8_isLatin1_0 ?_
  refine g_if_eq (pc := 3) X 17 dJ8_isLatin1_3 (by decide) ?_ ?_
  · refine g_iconst (pc := 17) X 0 dJ8_isLatin1_17 rfl ?_
    exact g_zret (pc := 18) X hr rfl dJ8_isLatin1_18
  · refine g_aload_n (pc := 6) X 0 dJ8_isLatin1_6 rfl rfl ?_
    refine cg_getI (pc := 7) X fo_J8_15 dJ8_isLatin1_7 (fun v1 => ?_)
    refine g_if_ne (pc := 10) X 17 dJ8_isLatin1_10 (by decide) ?_ ?_
    · refine g_iconst (pc := 17) X 0 dJ8_isLatin1_17 rfl ?_
      exact g_zret (pc := 18) X hr rfl dJ8_isLatin1_18
    · refine g_iconst (pc := 13) X 1 dJ8_isLatin1_13 rfl ?_
      refine g_goto (pc := 14) X 18 dJ8_isLatin1_14 (by decide) ?_
      exact g_zret (pc := 18) X hr rfl dJ8_isLatin1_18
theorem kJ8_isLatin1 {ex : Nat → Option Nat} {z : Nat} {h0 : Nat} {σ : Sg} {r : Int32} {u : St} (hex : ex = Γ.2.2.2.2) (h : fJ8_isLatin1 ex z h0 (σ, 0, 0) = some (r, u)) : g_C Γ l yJ8_isLatin1 cJ8_isLatin1 1 (some .boolean) 0 0 [.ref h0] σ z v_i r (g_ι z u) :=
  g_met (ι := g_ι z) (t := (σ, 0, 0)) [.ref h0] (by decide) (Nat.le_of_ble_eq_true rfl) h rfl (fun p e s m args below meth c X hr hn => wJ8_isLatin1 hex X hr h0 (σ, 0, 0))
end CP
abbrev cJ8_coder : ByteArray := prog_41_method_152_code
def yJ8_coder : MethodName := ⟨RJ8, "coder", "()B"⟩
def dkwJ8_coder_0 : List UInt8 := [178, 0, 38, 153, 0, 10, 42, 180, 0, 15, 167, 0, 4, 4, 172]
abbrev dktJ8_coder_0 : List UInt8 := dkwJ8_coder_0 ++ []
theorem dksJ8_coder_0 : cJ8_coder.data.toList.drop 0 = dktJ8_coder_0 := by decide +kernel
theorem dJ8_coder_0 : decode cJ8_coder 0 = .ok (.getstatic 38, 3) := dk_178 0 38 (dk_at dksJ8_coder_0 0 rfl rfl)
theorem dJ8_coder_3 : decode cJ8_coder 3 = .ok (.ifCond .eq 10, 3) := dk_153 0 10 (dk_at dksJ8_coder_0 3 rfl rfl)
theorem dJ8_coder_6 : decode cJ8_coder 6 = .ok (.aload_n 0, 1) := dk_42 (dk_at dksJ8_coder_0 6 rfl rfl)
theorem dJ8_coder_7 : decode cJ8_coder 7 = .ok (.getfield 15, 3) := dk_180 0 15 (dk_at dksJ8_coder_0 7 rfl rfl)
theorem dJ8_coder_10 : decode cJ8_coder 10 = .ok (.goto 4, 3) := dk_167 0 4 (dk_at dksJ8_coder_0 10 rfl rfl)
theorem dJ8_coder_13 : decode cJ8_coder 13 = .ok (.iconst 1, 1) := dk_4 (dk_at dksJ8_coder_0 13 rfl rfl)
theorem dJ8_coder_14 : decode cJ8_coder 14 = .ok (.ireturn, 1) := dk_172 (dk_at dksJ8_coder_0 14 rfl rfl)
section CP
variable {Γ : Gc} {p : Program} {l : Launch} {e : Env} {s : State} {m : MethodId} {args : Array Value} {below : List Frame} {meth : Method} {c : Code} {ex : Nat → Option Nat} {z : Nat} {tF : St}
noncomputable def fJ8_coder (ex : Nat → Option Nat) (z : Nat) (h0 : Nat) (t : St) : Option (Int32 × St) := if (1 : Int32) = 0 then if (1 : Int32).toInt8.toInt32 = 1 then some (1, t) else none else cgI [21] 1 t h0 fun v1 => if v1.toInt8.toInt32 = v1 then some (v1, t) else none
set_option maxHeartbeats 4000000 in
theorem wJ8_coder {rF : Int32} (hex : ex = Γ.2.2.2.2) (X : g_X Γ p s m args meth c cJ8_coder 1 RJ8) (hr : meth.sig.returnType = (some .byte)) (h0 : Nat) (t : St) : Wf Γ p l e 0 0 s m args below meth c 1 (g_ι z) v_i rF tF 0 [(0, .ref h0)] [] t (fJ8_coder ex z h0 t) := by
  unfold fJ8_coder
  refine cg_gets (pc := 0) X (v := .int 1) q1116 q89 q1115 ev_COMPACT_STRINGS dJ8_coder_0 ?_
  refine g_if_eq (pc := 3) X 13 dJ8_coder_3 (by decide) ?_ ?_
  · refine g_iconst (pc := 13) X 1 dJ8_coder_13 rfl ?_
    exact cg_byret (pc := 14) X hr dJ8_coder_14
  · refine g_aload_n (pc := 6) X 0 dJ8_coder_6 rfl rfl ?_
    refine cg_getI (pc := 7) X fo_J8_15 dJ8_coder_7 (fun v1 => ?_)
    refine g_goto (pc := 10) X 14 dJ8_coder_10 (by decide) ?_
    exact cg_byret (pc := 14) X hr dJ8_coder_14
theorem kJ8_coder {ex : Nat → Option Nat} {z : Nat} {h0 : Nat} {σ : Sg} {r : Int32} {u : St} (hex : ex = Γ.2.2.2.2) (h : fJ8_coder ex z h0 (σ, 0, 0) = some (r, u)) : g_C Γ l yJ8_coder cJ8_coder 1 (some .byte) 0 0 [.ref h0] σ z v_i r (g_ι z u) :=
  g_met (ι := g_ι z) (t := (σ, 0, 0)) [.ref h0] (by decide) (Nat.le_of_ble_eq_true rfl) h rfl (fun p e s m args below meth c X hr hn => wJ8_coder hex X hr h0 (σ, 0, 0))
end CP
abbrev cJ8_checkBoundsBeginEnd : ByteArray := prog_41_method_158_code
def yJ8_checkBoundsBeginEnd : MethodName := ⟨RJ8, "checkBoundsBeginEnd", "(III)V"⟩
def dkwJ8_checkBoundsBeginEnd_0 : List UInt8 := [26, 27, 28, 178, 4, 29, 184, 4, 38, 87, 177]
abbrev dktJ8_checkBoundsBeginEnd_0 : List UInt8 := dkwJ8_checkBoundsBeginEnd_0 ++ []
theorem dksJ8_checkBoundsBeginEnd_0 : cJ8_checkBoundsBeginEnd.data.toList.drop 0 = dktJ8_checkBoundsBeginEnd_0 := by decide +kernel
theorem dJ8_checkBoundsBeginEnd_0 : decode cJ8_checkBoundsBeginEnd 0 = .ok (.iload_n 0, 1) := dk_26 (dk_at dksJ8_checkBoundsBeginEnd_0 0 rfl rfl)
theorem dJ8_checkBoundsBeginEnd_1 : decode cJ8_checkBoundsBeginEnd 1 = .ok (.iload_n 1, 1) := dk_27 (dk_at dksJ8_checkBoundsBeginEnd_0 1 rfl rfl)
theorem dJ8_checkBoundsBeginEnd_2 : decode cJ8_checkBoundsBeginEnd 2 = .ok (.iload_n 2, 1) := dk_28 (dk_at dksJ8_checkBoundsBeginEnd_0 2 rfl rfl)
theorem dJ8_checkBoundsBeginEnd_3 : decode cJ8_checkBoundsBeginEnd 3 = .ok (.getstatic 1053, 3) := dk_178 4 29 (dk_at dksJ8_checkBoundsBeginEnd_0 3 rfl rfl)
theorem dJ8_checkBoundsBeginEnd_6 : decode cJ8_checkBoundsBeginEnd 6 = .ok (.invokestatic 1062, 3) := dk_184 4 38 (dk_at dksJ8_checkBoundsBeginEnd_0 6 rfl rfl)
theorem dJ8_checkBoundsBeginEnd_9 : decode cJ8_checkBoundsBeginEnd 9 = .ok (.pop, 1) := dk_87 (dk_at dksJ8_checkBoundsBeginEnd_0 9 rfl rfl)
theorem dJ8_checkBoundsBeginEnd_10 : decode cJ8_checkBoundsBeginEnd 10 = .ok (.return_, 1) := dk_177 (dk_at dksJ8_checkBoundsBeginEnd_0 10 rfl rfl)
theorem ev_SIOOBE_FORMATTER {Γ : Gc} : ∀ s0 : State, (Jvm.Cond.and given_1 narrow_1).before #[Value.ref Γ.2.2.2.1] s0 = true → (∀ i, Γ.2.2.2.2 i = exOf Γ.2.2.2.1 s0 i) → (Term.static "jdk/internal/util/Preconditions" "SIOOBE_FORMATTER" "Ljava/util/function/BiFunction;").eval #[Value.ref Γ.2.2.2.1] s0 none [] s0 = some (va_rf (Γ.2.2.2.2 7)) := fun s0 h1 h2 => g_evx 7 rfl (by decide +kernel) h1 h2
section CP
variable {Γ : Gc} {p : Program} {l : Launch} {e : Env} {s : State} {m : MethodId} {args : Array Value} {below : List Frame} {meth : Method} {c : Code} {ex : Nat → Option Nat} {z : Nat} {tF : St}
noncomputable def fJ8_checkBoundsBeginEnd (ex : Nat → Option Nat) (z : Nat) (x0 : Int32) (x1 : Int32) (x2 : Int32) (t : St) : Option (Unit × St) := none
set_option maxHeartbeats 4000000 in
theorem wJ8_checkBoundsBeginEnd {rF : Unit} (hex : ex = Γ.2.2.2.2) (X : g_X Γ p s m args meth c cJ8_checkBoundsBeginEnd 3 RJ8) (hr : meth.sig.returnType = none) (x0 : Int32) (x1 : Int32) (x2 : Int32) (t : St) : Wf Γ p l e 0 0 s m args below meth c 3 (g_ι z) v_v rF tF 0 [(0, .int x0), (1, .int x1), (2, .int x2)] [] t (fJ8_checkBoundsBeginEnd ex z x0 x1 x2 t) := by
  unfold fJ8_checkBoundsBeginEnd
  refine g_iload_n (pc := 0) X 0 dJ8_checkBoundsBeginEnd_0 rfl rfl ?_
  refine g_iload_n (pc := 1) X 1 dJ8_checkBoundsBeginEnd_1 rfl rfl ?_
  refine g_iload_n (pc := 2) X 2 dJ8_checkBoundsBeginEnd_2 rfl rfl ?_
  refine cg_gets (pc := 3) X (v := va_rf (ex 7)) q1155 q88 q1154 (by rw [hex]; exact ev_SIOOBE_FORMATTER) dJ8_checkBoundsBeginEnd_3 ?_
  exact g_none
theorem kJ8_checkBoundsBeginEnd {ex : Nat → Option Nat} {z : Nat} {x0 : Int32} {x1 : Int32} {x2 : Int32} {σ : Sg} {r : Unit} {u : St} (hex : ex = Γ.2.2.2.2) (h : fJ8_checkBoundsBeginEnd ex z x0 x1 x2 (σ, 0, 0) = some (r, u)) : g_C Γ l yJ8_checkBoundsBeginEnd cJ8_checkBoundsBeginEnd 3 none 0 0 [.int x0, .int x1, .int x2] σ z v_v r (g_ι z u) :=
  g_met (ι := g_ι z) (t := (σ, 0, 0)) [.int x0, .int x1, .int x2] (by decide) (Nat.le_of_ble_eq_true rfl) h rfl (fun p e s m args below meth c X hr hn => wJ8_checkBoundsBeginEnd hex X hr x0 x1 x2 (σ, 0, 0))
end CP
