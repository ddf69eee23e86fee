/-! the component, its methods: J12_init_3, J13_init_2, X0_init, X10_init (printed by gen/cmain.py) -/
set_option maxRecDepth 100000
theorem q75 : (Jvm.Cond.initialized "LameClocks$Held") ∈ lw_all := lw_g (lw_at lw_m1 6 rfl) rfl
theorem q93 : (Jvm.Cond.initialized "java/lang/Throwable") ∈ lw_all := lw_g (lw_at lw_m1 24 rfl) rfl
theorem q94 : (Jvm.Cond.initialized "java/lang/Exception") ∈ lw_all := lw_g (lw_at lw_m1 25 rfl) rfl
theorem q578 : (Jvm.Cond.instantiable "LameClocks$Race" (9 : Nat)) ∈ lw_all := lw_g (lw_at lw_m3 29 rfl) rfl
theorem q984 : (Jvm.Cond.methodLink "java/lang/Throwable" (1 : Nat) ({ cls := "java/lang/Object", name := "<init>", desc := "()V" } : Jvm.MethodName)) ∈ lw_all := lw_g (lw_at lw_m4 195 rfl) rfl
theorem q985 : (Jvm.Cond.fieldLink "java/lang/Throwable" (13 : Nat) "java/lang/Throwable" "UNASSIGNED_STACK" "[Ljava/lang/StackTraceElement;") ∈ lw_all := lw_g (lw_at lw_m4 196 rfl) rfl
theorem q986 : (Jvm.Cond.laysStatic "java/lang/Throwable" "UNASSIGNED_STACK" "[Ljava/lang/StackTraceElement;") ∈ lw_tbl := lw_at lw_m4 197 rfl
theorem q987 : (Jvm.Cond.fieldLink "java/lang/Throwable" (20 : Nat) "java/lang/Throwable" "SUPPRESSED_SENTINEL" "Ljava/util/List;") ∈ lw_all := lw_g (lw_at lw_m4 198 rfl) rfl
theorem q988 : (Jvm.Cond.laysStatic "java/lang/Throwable" "SUPPRESSED_SENTINEL" "Ljava/util/List;") ∈ lw_tbl := lw_at lw_m4 199 rfl
theorem q1019 : (Jvm.Cond.fieldLink "java/lang/Throwable" (31 : Nat) "java/lang/Throwable" "detailMessage" "Ljava/lang/String;") ∈ lw_all := lw_g (lw_at lw_m4 230 rfl) rfl
theorem q1020 : (Jvm.Cond.fieldLink "java/lang/Throwable" (7 : Nat) "java/lang/Throwable" "cause" "Ljava/lang/Throwable;") ∈ lw_all := lw_g (lw_at lw_m4 231 rfl) rfl
theorem q1021 : (Jvm.Cond.fieldLink "java/lang/Throwable" (17 : Nat) "java/lang/Throwable" "stackTrace" "[Ljava/lang/StackTraceElement;") ∈ lw_all := lw_g (lw_at lw_m4 232 rfl) rfl
theorem q1022 : (Jvm.Cond.fieldLink "java/lang/Throwable" (24 : Nat) "java/lang/Throwable" "suppressedExceptions" "Ljava/util/List;") ∈ lw_all := lw_g (lw_at lw_m4 233 rfl) rfl
theorem q1195 : (Jvm.Cond.code ({ cls := "LameClocks$Fault", name := "<init>", desc := "(I)V" } : Jvm.MethodName) prog_7_method_1_code (2 : Nat) (Option.none : Option Jvm.ClassFile.FieldType)) ∈ lw_all := lw_g (lw_at lw_m5 166 rfl) rfl
theorem q1196 : (Jvm.Cond.methodLink "LameClocks$Fault" (1 : Nat) ({ cls := "java/lang/Exception", name := "<init>", desc := "(Ljava/lang/String;Ljava/lang/Throwable;ZZ)V" } : Jvm.MethodName)) ∈ lw_all := lw_g (lw_at lw_m5 167 rfl) rfl
theorem q1197 : (Jvm.Cond.instanceMethod ({ cls := "java/lang/Exception", name := "<init>", desc := "(Ljava/lang/String;Ljava/lang/Throwable;ZZ)V" } : Jvm.MethodName)) ∈ lw_all := lw_g (lw_at lw_m5 168 rfl) rfl
theorem q1198 : (Jvm.Cond.code ({ cls := "java/lang/Exception", name := "<init>", desc := "(Ljava/lang/String;Ljava/lang/Throwable;ZZ)V" } : Jvm.MethodName) prog_34_method_5_code (5 : Nat) (Option.none : Option Jvm.ClassFile.FieldType)) ∈ lw_all := lw_g (lw_at lw_m5 169 rfl) rfl
theorem q1199 : (Jvm.Cond.methodLink "java/lang/Exception" (16 : Nat) ({ cls := "java/lang/Throwable", name := "<init>", desc := "(Ljava/lang/String;Ljava/lang/Throwable;ZZ)V" } : Jvm.MethodName)) ∈ lw_all := lw_g (lw_at lw_m5 170 rfl) rfl
theorem q1200 : (Jvm.Cond.instanceMethod ({ cls := "java/lang/Throwable", name := "<init>", desc := "(Ljava/lang/String;Ljava/lang/Throwable;ZZ)V" } : Jvm.MethodName)) ∈ lw_all := lw_g (lw_at lw_m5 171 rfl) rfl
theorem q1201 : (Jvm.Cond.code ({ cls := "java/lang/Throwable", name := "<init>", desc := "(Ljava/lang/String;Ljava/lang/Throwable;ZZ)V" } : Jvm.MethodName) prog_45_method_5_code (5 : Nat) (Option.none : Option Jvm.ClassFile.FieldType)) ∈ lw_all := lw_g (lw_at lw_m5 172 rfl) rfl
theorem q1202 : (Jvm.Cond.fieldLink "LameClocks$Fault" (7 : Nat) "LameClocks$Fault" "place" "I") ∈ lw_all := lw_g (lw_at lw_m5 173 rfl) rfl
theorem q1529 : (Jvm.Cond.code ({ cls := "LameClocks", name := "<init>", desc := "()V" } : Jvm.MethodName) prog_1_method_86_code (2 : Nat) (Option.none : Option Jvm.ClassFile.FieldType)) ∈ lw_all := lw_g (lw_at lw_m7 20 rfl) rfl
theorem q1530 : (Jvm.Cond.methodLink "LameClocks" (504 : Nat) ({ cls := "java/lang/Object", name := "<init>", desc := "()V" } : Jvm.MethodName)) ∈ lw_all := lw_g (lw_at lw_m7 21 rfl) rfl
theorem q1531 : (Jvm.Cond.classLink "LameClocks" (43 : Nat) "LameClocks$Race") ∈ lw_all := lw_g (lw_at lw_m7 22 rfl) rfl
theorem q1532 : (Jvm.Cond.methodLink "LameClocks" (507 : Nat) ({ cls := "LameClocks$Race", name := "<init>", desc := "()V" } : Jvm.MethodName)) ∈ lw_all := lw_g (lw_at lw_m7 23 rfl) rfl
theorem q1533 : (Jvm.Cond.instanceMethod ({ cls := "LameClocks$Race", name := "<init>", desc := "()V" } : Jvm.MethodName)) ∈ lw_all := lw_g (lw_at lw_m7 24 rfl) rfl
theorem q1596 : (Jvm.Cond.classLink "LameClocks" (81 : Nat) "java/util/ArrayList") ∈ lw_all := lw_g (lw_at lw_m7 87 rfl) rfl
theorem q1597 : (Jvm.Cond.methodLink "LameClocks" (508 : Nat) ({ cls := "java/util/ArrayList", name := "<init>", desc := "()V" } : Jvm.MethodName)) ∈ lw_all := lw_g (lw_at lw_m7 88 rfl) rfl
theorem q1598 : (Jvm.Cond.classLink "LameClocks" (509 : Nat) "[[I") ∈ lw_all := lw_g (lw_at lw_m7 89 rfl) rfl
theorem q1599 : (Jvm.Cond.arrayOver (Jvm.ClassFile.FieldType.array Jvm.ClassFile.FieldType.int)) ∈ lw_tbl := lw_at lw_m7 90 rfl
theorem q1600 : (Jvm.Cond.classLink "LameClocks" (456 : Nat) "LameClocks$Held") ∈ lw_all := lw_g (lw_at lw_m7 91 rfl) rfl
theorem q1601 : (Jvm.Cond.arrayOver (Jvm.ClassFile.FieldType.object "LameClocks$Held")) ∈ lw_tbl := lw_at lw_m7 92 rfl
theorem q1602 : (Jvm.Cond.instantiable "LameClocks$Held" (1 : Nat)) ∈ lw_all := lw_g (lw_at lw_m7 93 rfl) rfl
theorem q1603 : (Jvm.Cond.methodLinkNest "LameClocks" (510 : Nat) ({ cls := "LameClocks$Held", name := "<init>", desc := "()V" } : Jvm.MethodName) "LameClocks") ∈ lw_tbl := lw_at lw_m7 94 rfl
theorem q1604 : (Jvm.Cond.instanceMethod ({ cls := "LameClocks$Held", name := "<init>", desc := "()V" } : Jvm.MethodName)) ∈ lw_all := lw_g (lw_at lw_m7 95 rfl) rfl
theorem q1625 : (Jvm.Cond.fieldLink "LameClocks" (340 : Nat) "LameClocks" "signs" "[B") ∈ lw_all := lw_g (lw_at lw_m7 116 rfl) rfl
theorem q1626 : (Jvm.Cond.fieldLink "LameClocks" (371 : Nat) "LameClocks" "read" "Ljava/util/ArrayList;") ∈ lw_all := lw_g (lw_at lw_m7 117 rfl) rfl
theorem q1627 : (Jvm.Cond.fieldLink "LameClocks" (400 : Nat) "LameClocks" "acts" "Ljava/util/ArrayList;") ∈ lw_all := lw_g (lw_at lw_m7 118 rfl) rfl
theorem q1633 : (Jvm.Cond.fieldLink "LameClocks" (447 : Nat) "LameClocks" "sheets" "[LLameClocks$Held;") ∈ lw_all := lw_g (lw_at lw_m7 124 rfl) rfl
abbrev cJ12_init_3 : ByteArray := prog_45_method_5_code
def yJ12_init_3 : MethodName := ⟨RJ12, "<init>", "(Ljava/lang/String;Ljava/lang/Throwable;ZZ)V"⟩
def dkwJ12_init_3_2 : List UInt8 := [44, 181, 0, 7, 29, 154, 0, 8, 42, 1, 181, 0, 24, 177]
abbrev dktJ12_init_3_2 : List UInt8 := dkwJ12_init_3_2 ++ []
def dkwJ12_init_3_1 : List UInt8 := [21, 4, 153, 0, 11, 42, 182, 0, 27, 87, 167, 0, 8, 42, 1, 181, 0, 17, 42, 43, 181, 0, 31, 42]
abbrev dktJ12_init_3_1 : List UInt8 := dkwJ12_init_3_1 ++ dktJ12_init_3_2
def dkwJ12_init_3_0 : List UInt8 := [42, 183, 0, 1, 42, 42, 181, 0, 7, 42, 178, 0, 13, 181, 0, 17, 42, 178, 0, 20, 181, 0, 24]
abbrev dktJ12_init_3_0 : List UInt8 := dkwJ12_init_3_0 ++ dktJ12_init_3_1
theorem dksJ12_init_3_0 : cJ12_init_3.data.toList.drop 0 = dktJ12_init_3_0 := by decide +kernel
theorem dksJ12_init_3_1 : cJ12_init_3.data.toList.drop 23 = dktJ12_init_3_1 := dk_seg dksJ12_init_3_0 23 rfl rfl
theorem dksJ12_init_3_2 : cJ12_init_3.data.toList.drop 47 = dktJ12_init_3_2 := dk_seg dksJ12_init_3_1 24 rfl rfl
theorem dJ12_init_3_0 : decode cJ12_init_3 0 = .ok (.aload_n 0, 1) := dk_42 (dk_at dksJ12_init_3_0 0 rfl rfl)
theorem dJ12_init_3_1 : decode cJ12_init_3 1 = .ok (.invokespecial 1, 3) := dk_183 0 1 (dk_at dksJ12_init_3_0 1 rfl rfl)
theorem dJ12_init_3_4 : decode cJ12_init_3 4 = .ok (.aload_n 0, 1) := dk_42 (dk_at dksJ12_init_3_0 4 rfl rfl)
theorem dJ12_init_3_5 : decode cJ12_init_3 5 = .ok (.aload_n 0, 1) := dk_42 (dk_at dksJ12_init_3_0 5 rfl rfl)
theorem dJ12_init_3_6 : decode cJ12_init_3 6 = .ok (.putfield 7, 3) := dk_181 0 7 (dk_at dksJ12_init_3_0 6 rfl rfl)
theorem dJ12_init_3_9 : decode cJ12_init_3 9 = .ok (.aload_n 0, 1) := dk_42 (dk_at dksJ12_init_3_0 9 rfl rfl)
theorem dJ12_init_3_10 : decode cJ12_init_3 10 = .ok (.getstatic 13, 3) := dk_178 0 13 (dk_at dksJ12_init_3_0 10 rfl rfl)
theorem dJ12_init_3_13 : decode cJ12_init_3 13 = .ok (.putfield 17, 3) := dk_181 0 17 (dk_at dksJ12_init_3_0 13 rfl rfl)
theorem dJ12_init_3_16 : decode cJ12_init_3 16 = .ok (.aload_n 0, 1) := dk_42 (dk_at dksJ12_init_3_0 16 rfl rfl)
theorem dJ12_init_3_17 : decode cJ12_init_3 17 = .ok (.getstatic 20, 3) := dk_178 0 20 (dk_at dksJ12_init_3_0 17 rfl rfl)
theorem dJ12_init_3_20 : decode cJ12_init_3 20 = .ok (.putfield 24, 3) := dk_181 0 24 (dk_at dksJ12_init_3_0 20 rfl rfl)
theorem dJ12_init_3_23 : decode cJ12_init_3 23 = .ok (.iload 4, 2) := dk_21 4 (dk_at dksJ12_init_3_1 0 rfl rfl)
theorem dJ12_init_3_25 : decode cJ12_init_3 25 = .ok (.ifCond .eq 11, 3) := dk_153 0 11 (dk_at dksJ12_init_3_1 2 rfl rfl)
theorem dJ12_init_3_28 : decode cJ12_init_3 28 = .ok (.aload_n 0, 1) := dk_42 (dk_at dksJ12_init_3_1 5 rfl rfl)
theorem dJ12_init_3_29 : decode cJ12_init_3 29 = .ok (.invokevirtual 27, 3) := dk_182 0 27 (dk_at dksJ12_init_3_1 6 rfl rfl)
theorem dJ12_init_3_32 : decode cJ12_init_3 32 = .ok (.pop, 1) := dk_87 (dk_at dksJ12_init_3_1 9 rfl rfl)
theorem dJ12_init_3_33 : decode cJ12_init_3 33 = .ok (.goto 8, 3) := dk_167 0 8 (dk_at dksJ12_init_3_1 10 rfl rfl)
theorem dJ12_init_3_36 : decode cJ12_init_3 36 = .ok (.aload_n 0, 1) := dk_42 (dk_at dksJ12_init_3_1 13 rfl rfl)
theorem dJ12_init_3_37 : decode cJ12_init_3 37 = .ok (.aconst_null, 1) := dk_1 (dk_at dksJ12_init_3_1 14 rfl rfl)
theorem dJ12_init_3_38 : decode cJ12_init_3 38 = .ok (.putfield 17, 3) := dk_181 0 17 (dk_at dksJ12_init_3_1 15 rfl rfl)
theorem dJ12_init_3_41 : decode cJ12_init_3 41 = .ok (.aload_n 0, 1) := dk_42 (dk_at dksJ12_init_3_1 18 rfl rfl)
theorem dJ12_init_3_42 : decode cJ12_init_3 42 = .ok (.aload_n 1, 1) := dk_43 (dk_at dksJ12_init_3_1 19 rfl rfl)
theorem dJ12_init_3_43 : decode cJ12_init_3 43 = .ok (.putfield 31, 3) := dk_181 0 31 (dk_at dksJ12_init_3_1 20 rfl rfl)
theorem dJ12_init_3_46 : decode cJ12_init_3 46 = .ok (.aload_n 0, 1) := dk_42 (dk_at dksJ12_init_3_1 23 rfl rfl)
theorem dJ12_init_3_47 : decode cJ12_init_3 47 = .ok (.aload_n 2, 1) := dk_44 (dk_at dksJ12_init_3_2 0 rfl rfl)
theorem dJ12_init_3_48 : decode cJ12_init_3 48 = .ok (.putfield 7, 3) := dk_181 0 7 (dk_at dksJ12_init_3_2 1 rfl rfl)
theorem dJ12_init_3_51 : decode cJ12_init_3 51 = .ok (.iload_n 3, 1) := dk_29 (dk_at dksJ12_init_3_2 4 rfl rfl)
theorem dJ12_init_3_52 : decode cJ12_init_3 52 = .ok (.ifCond .ne 8, 3) := dk_154 0 8 (dk_at dksJ12_init_3_2 5 rfl rfl)
theorem dJ12_init_3_55 : decode cJ12_init_3 55 = .ok (.aload_n 0, 1) := dk_42 (dk_at dksJ12_init_3_2 8 rfl rfl)
theorem dJ12_init_3_56 : decode cJ12_init_3 56 = .ok (.aconst_null, 1) := dk_1 (dk_at dksJ12_init_3_2 9 rfl rfl)
theorem dJ12_init_3_57 : decode cJ12_init_3 57 = .ok (.putfield 24, 3) := dk_181 0 24 (dk_at dksJ12_init_3_2 10 rfl rfl)
theorem dJ12_init_3_60 : decode cJ12_init_3 60 = .ok (.return_, 1) := dk_177 (dk_at dksJ12_init_3_2 13 rfl rfl)
theorem fp_J12_7 : g_fp RJ12 7 [10] 0 (.object "java/lang/Throwable") false := ⟨_, _, _, Or.inl q1020, by decide +kernel, fun ci h => by
  simp only [List.mem_cons, List.not_mem_nil, or_false] at h; rcases h with rfl
  · exact ⟨_, _, _, tyX10, rfl, by decide, rfl, rfl, Or.inl rfl, in_X10, rfl, (fun h => by cases h), tyX10_ok, (by decide +kernel)⟩⟩
theorem ev_UNASSIGNED_STACK {Γ : Gc} : ∀ s0 : State, (Jvm.Cond.and given_1 narrow_1).before #[Value.ref Γ.2.2.2.1] s0 = true → (∀ i, Γ.2.2.2.2 i = exOf Γ.2.2.2.1 s0 i) → (Term.static "java/lang/Throwable" "UNASSIGNED_STACK" "[Ljava/lang/StackTraceElement;").eval #[Value.ref Γ.2.2.2.1] s0 none [] s0 = some (va_rf (Γ.2.2.2.2 4)) := fun s0 h1 h2 => g_evx 4 rfl (by decide +kernel) h1 h2
theorem fp_J12_17 : g_fp RJ12 17 [10] 1 (.array (.object "java/lang/StackTraceElement")) false := ⟨_, _, _, Or.inl q1021, by decide +kernel, fun ci h => by
  simp only [List.mem_cons, List.not_mem_nil, or_false] at h; rcases h with rfl
  · exact ⟨_, _, _, tyX10, rfl, by decide, rfl, rfl, Or.inl rfl, in_X10, rfl, (fun h => by cases h), tyX10_ok, (by decide +kernel)⟩⟩
theorem ev_SUPPRESSED_SENTINEL {Γ : Gc} : ∀ s0 : State, (Jvm.Cond.and given_1 narrow_1).before #[Value.ref Γ.2.2.2.1] s0 = true → (∀ i, Γ.2.2.2.2 i = exOf Γ.2.2.2.1 s0 i) → (Term.static "java/lang/Throwable" "SUPPRESSED_SENTINEL" "Ljava/util/List;").eval #[Value.ref Γ.2.2.2.1] s0 none [] s0 = some (va_rf (Γ.2.2.2.2 5)) := fun s0 h1 h2 => g_evx 5 rfl (by decide +kernel) h1 h2
theorem fp_J12_24 : g_fp RJ12 24 [10] 2 (.object "java/util/List") false := ⟨_, _, _, Or.inl q1022, by decide +kernel, fun ci h => by
  simp only [List.mem_cons, List.not_mem_nil, or_false] at h; rcases h with rfl
  · exact ⟨_, _, _, tyX10, rfl, by decide, rfl, rfl, Or.inl rfl, in_X10, rfl, (fun h => by cases h), tyX10_ok, (by decide +kernel)⟩⟩
theorem fp_J12_31 : g_fp RJ12 31 [10] 3 (.object "java/lang/String") false := ⟨_, _, _, Or.inl q1019, by decide +kernel, fun ci h => by
  simp only [List.mem_cons, List.not_mem_nil, or_false] at h; rcases h with rfl
  · exact ⟨_, _, _, tyX10, rfl, by decide, rfl, rfl, Or.inl rfl, in_X10, rfl, (fun h => by cases h), tyX10_ok, (by decide +kernel)⟩⟩
section CP
variable {Γ : Gc} {p : Program} {l : Launch} {e : Env} {s : State} {m : MethodId} {args : Array Value} {below : List Frame} {meth : Method} {c : Code} {ex : Nat → Option Nat} {z : Nat} {tF : St}
noncomputable def fJ12_init_3_41 (ex : Nat → Option Nat) (z : Nat) (h0 : Nat) (h1 : Option Nat) (h2 : Option Nat) (x3 : Int32) (t : St) : Option (Unit × St) := cput [10] 3 t h0 (va_rf h1) fun t1 => cput [10] 0 t1 h0 (va_rf h2) fun t2 => if x3 = 0 then cput [10] 2 t2 h0 (.null) fun t3 => some ((), t3) else some ((), t2)
set_option maxHeartbeats 4000000 in
theorem wJ12_init_3_41 {rF : Unit} (hex : ex = Γ.2.2.2.2) (X : g_X Γ p s m args meth c cJ12_init_3 5 RJ12) (hr : meth.sig.returnType = none) (hin : meth.name = "<init>") (h0 : Nat) (h1 : Option Nat) (h2 : Option Nat) (x3 : Int32) (t : St) : Wf Γ p l e 1 12 s m args below meth c 5 (g_ι z) v_v rF tF 41 [(0, .ref h0), (1, va_rf h1), (2, va_rf h2), (3, .int x3)] [] t (fJ12_init_3_41 ex z h0 h1 h2 x3 t) := by
  unfold fJ12_init_3_41
  refine g_aload_n (pc := 41) X 0 dJ12_init_3_41 rfl rfl ?_
  refine g_aload_n_q (pc := 42) X 1 dJ12_init_3_42 rfl rfl ?_
  refine cg_put (pc := 43) X fp_J12_31 dJ12_init_3_43 (fun h => by cases h) (g_narf rfl _) (g_firf rfl _) (fun t1 => ?_)
  refine g_aload_n (pc := 46) X 0 dJ12_init_3_46 rfl rfl ?_
  refine g_aload_n_q (pc := 47) X 2 dJ12_init_3_47 rfl rfl ?_
  refine cg_put (pc := 48) X fp_J12_7 dJ12_init_3_48 (fun h => by cases h) (g_narf rfl _) (g_firf rfl _) (fun t2 => ?_)
  refine g_iload_n (pc := 51) X 3 dJ12_init_3_51 rfl rfl ?_
  refine g_if_ne (pc := 52) X 60 dJ12_init_3_52 (by decide) ?_ ?_
  · exact g_vret (pc := 60) X hr dJ12_init_3_60
  · refine g_aload_n (pc := 55) X 0 dJ12_init_3_55 rfl rfl ?_
    refine g_null (pc := 56) X dJ12_init_3_56 ?_
    refine cg_put (pc := 57) X fp_J12_24 dJ12_init_3_57 (fun h => by cases h) rfl rfl (fun t3 => ?_)
    exact g_vret (pc := 60) X hr dJ12_init_3_60
noncomputable def fJ12_init_3 (ex : Nat → Option Nat) (z : Nat) (h0 : Nat) (h1 : Option Nat) (h2 : Option Nat) (x3 : Int32) (x4 : Int32) (t : St) : Option (Unit × St) := cput [10] 0 t h0 (.ref h0) fun t1 => cput [10] 1 t1 h0 (va_rf (ex 4)) fun t2 => cput [10] 2 t2 h0 (va_rf (ex 5)) fun t3 => if x4 = 0 then cput [10] 1 t3 h0 (.null) fun t4 => fJ12_init_3_41 ex z h0 h1 h2 x3 t4 else none
set_option maxHeartbeats 4000000 in
theorem wJ12_init_3 {rF : Unit} (hex : ex = Γ.2.2.2.2) (X : g_X Γ p s m args meth c cJ12_init_3 5 RJ12) (hr : meth.sig.returnType = none) (hin : meth.name = "<init>") (h0 : Nat) (h1 : Option Nat) (h2 : Option Nat) (x3 : Int32) (x4 : Int32) (t : St) : Wf Γ p l e 1 12 s m args below meth c 5 (g_ι z) v_v rF tF 0 [(0, .ref h0), (1, va_rf h1), (2, va_rf h2), (3, .int x3), (4, .int x4)] [] t (fJ12_init_3 ex z h0 h1 h2 x3 x4 t) := by
  unfold fJ12_init_3
  refine g_aload_n (pc := 0) X 0 dJ12_init_3_0 rfl rfl ?_
  refine cg_obj (pc := 1) X dJ12_init_3_1 q984 q149 q150 (Nat.le_of_ble_eq_true rfl) (Nat.le_of_ble_eq_true rfl) ?_
  refine g_aload_n (pc := 4) X 0 dJ12_init_3_4 rfl rfl ?_
  refine g_aload_n (pc := 5) X 0 dJ12_init_3_5 rfl rfl ?_
  refine cg_put (pc := 6) X fp_J12_7 dJ12_init_3_6 (fun h => by cases h) rfl rfl (fun t1 => ?_)
  refine g_aload_n (pc := 9) X 0 dJ12_init_3_9 rfl rfl ?_
  refine cg_gets (pc := 10) X (v := va_rf (ex 4)) q986 q93 q985 (by rw [hex]; exact ev_UNASSIGNED_STACK) dJ12_init_3_10 ?_
  refine cg_put (pc := 13) X fp_J12_17 dJ12_init_3_13 (fun h => by cases h) (g_narf rfl _) (g_firf rfl _) (fun t2 => ?_)
  refine g_aload_n (pc := 16) X 0 dJ12_init_3_16 rfl rfl ?_
  refine cg_gets (pc := 17) X (v := va_rf (ex 5)) q988 q93 q987 (by rw [hex]; exact ev_SUPPRESSED_SENTINEL) dJ12_init_3_17 ?_
  refine cg_put (pc := 20) X fp_J12_24 dJ12_init_3_20 (fun h => by cases h) (g_narf rfl _) (g_firf rfl _) (fun t3 => ?_)
  refine g_iload (pc := 23) X 4 dJ12_init_3_23 rfl ?_
  refine g_if_eq (pc := 25) X 36 dJ12_init_3_25 (by decide) ?_ ?_
  · refine g_aload_n (pc := 36) X 0 dJ12_init_3_36 rfl rfl ?_
    refine g_null (pc := 37) X dJ12_init_3_37 ?_
    refine cg_put (pc := 38) X fp_J12_17 dJ12_init_3_38 (fun h => by cases h) rfl rfl (fun t4 => ?_)
    exact g_lv (pc := 41) (lv' := [(0, .ref h0), (1, va_rf h1), (2, va_rf h2), (3, .int x3)]) [0, 1, 2, 3] rfl (wJ12_init_3_41 hex X hr hin h0 h1 h2 x3 t4)
  · refine g_aload_n (pc := 28) X 0 dJ12_init_3_28 rfl rfl ?_
    exact g_none
theorem kJ12_init_3 {ex : Nat → Option Nat} {z : Nat} {h0 : Nat} {h1 : Option Nat} {h2 : Option Nat} {x3 : Int32} {x4 : Int32} {σ : Sg} {r : Unit} {u : St} (hex : ex = Γ.2.2.2.2) (h : fJ12_init_3 ex z h0 h1 h2 x3 x4 (σ, 0, 0) = some (r, u)) : g_C Γ l yJ12_init_3 cJ12_init_3 5 none 1 12 [.ref h0, va_rf h1, va_rf h2, .int x3, .int x4] σ z v_v r (g_ι z u) := by
  rcases h1 with _ | h1
  · rcases h2 with _ | h2
    · exact g_met (ι := g_ι z) (t := (σ, 0, 0)) [.ref h0, va_rf none, va_rf none, .int x3, .int x4] (by decide) (Nat.le_of_ble_eq_true rfl) h rfl (fun p e s m args below meth c X hr hn => wJ12_init_3 hex X hr hn h0 none none x3 x4 (σ, 0, 0))
    · exact g_met (ι := g_ι z) (t := (σ, 0, 0)) [.ref h0, va_rf none, va_rf (some h2), .int x3, .int x4] (by decide) (Nat.le_of_ble_eq_true rfl) h rfl (fun p e s m args below meth c X hr hn => wJ12_init_3 hex X hr hn h0 none (some h2) x3 x4 (σ, 0, 0))
  · rcases h2 with _ | h2
    · exact g_met (ι := g_ι z) (t := (σ, 0, 0)) [.ref h0, va_rf (some h1), va_rf none, .int x3, .int x4] (by decide) (Nat.le_of_ble_eq_true rfl) h rfl (fun p e s m args below meth c X hr hn => wJ12_init_3 hex X hr hn h0 (some h1) none x3 x4 (σ, 0, 0))
    · exact g_met (ι := g_ι z) (t := (σ, 0, 0)) [.ref h0, va_rf (some h1), va_rf (some h2), .int x3, .int x4] (by decide) (Nat.le_of_ble_eq_true rfl) h rfl (fun p e s m args below meth c X hr hn => wJ12_init_3 hex X hr hn h0 (some h1) (some h2) x3 x4 (σ, 0, 0))
end CP
abbrev cJ13_init_2 : ByteArray := prog_34_method_5_code
def yJ13_init_2 : MethodName := ⟨RJ13, "<init>", "(Ljava/lang/String;Ljava/lang/Throwable;ZZ)V"⟩
def dkwJ13_init_2_0 : List UInt8 := [42, 43, 44, 29, 21, 4, 183, 0, 16, 177]
abbrev dktJ13_init_2_0 : List UInt8 := dkwJ13_init_2_0 ++ []
theorem dksJ13_init_2_0 : cJ13_init_2.data.toList.drop 0 = dktJ13_init_2_0 := by decide +kernel
theorem dJ13_init_2_0 : decode cJ13_init_2 0 = .ok (.aload_n 0, 1) := dk_42 (dk_at dksJ13_init_2_0 0 rfl rfl)
theorem dJ13_init_2_1 : decode cJ13_init_2 1 = .ok (.aload_n 1, 1) := dk_43 (dk_at dksJ13_init_2_0 1 rfl rfl)
theorem dJ13_init_2_2 : decode cJ13_init_2 2 = .ok (.aload_n 2, 1) := dk_44 (dk_at dksJ13_init_2_0 2 rfl rfl)
theorem dJ13_init_2_3 : decode cJ13_init_2 3 = .ok (.iload_n 3, 1) := dk_29 (dk_at dksJ13_init_2_0 3 rfl rfl)
theorem dJ13_init_2_4 : decode cJ13_init_2 4 = .ok (.iload 4, 2) := dk_21 4 (dk_at dksJ13_init_2_0 4 rfl rfl)
theorem dJ13_init_2_6 : decode cJ13_init_2 6 = .ok (.invokespecial 16, 3) := dk_183 0 16 (dk_at dksJ13_init_2_0 6 rfl rfl)
theorem dJ13_init_2_9 : decode cJ13_init_2 9 = .ok (.return_, 1) := dk_177 (dk_at dksJ13_init_2_0 9 rfl rfl)
theorem dmS_J12_init_3 : yJ12_init_3.cls ≠ "java/lang/invoke/MethodHandle" ∧ yJ12_init_3.cls ≠ "java/lang/invoke/VarHandle" ∧ (parseMethodDescriptor yJ12_init_3.desc).map (fun d => d.parameters.length) = some 4 := by decide +kernel
section CP
variable {Γ : Gc} {p : Program} {l : Launch} {e : Env} {s : State} {m : MethodId} {args : Array Value} {below : List Frame} {meth : Method} {c : Code} {ex : Nat → Option Nat} {z : Nat} {tF : St}
noncomputable def fJ13_init_2 (ex : Nat → Option Nat) (z : Nat) (h0 : Nat) (h1 : Option Nat) (h2 : Option Nat) (x3 : Int32) (x4 : Int32) (t : St) : Option (Unit × St) := gb (fJ12_init_3 ex (z + t.2.1) h0 h1 h2 x3 x4 (t.1, 0, 0)) t fun _ t2 => some ((), t2)
set_option maxHeartbeats 4000000 in
theorem wJ13_init_2 {rF : Unit} (hex : ex = Γ.2.2.2.2) (X : g_X Γ p s m args meth c cJ13_init_2 5 RJ13) (hr : meth.sig.returnType = none) (hin : meth.name = "<init>") (h0 : Nat) (h1 : Option Nat) (h2 : Option Nat) (x3 : Int32) (x4 : Int32) (t : St) : Wf Γ p l e 2 36 s m args below meth c 5 (g_ι z) v_v rF tF 0 [(0, .ref h0), (1, va_rf h1), (2, va_rf h2), (3, .int x3), (4, .int x4)] [] t (fJ13_init_2 ex z h0 h1 h2 x3 x4 t) := by
  unfold fJ13_init_2
  refine g_aload_n (pc := 0) X 0 dJ13_init_2_0 rfl rfl ?_
  refine g_aload_n_q (pc := 1) X 1 dJ13_init_2_1 rfl rfl ?_
  refine g_aload_n_q (pc := 2) X 2 dJ13_init_2_2 rfl rfl ?_
  refine g_iload_n (pc := 3) X 3 dJ13_init_2_3 rfl rfl ?_
  refine g_iload (pc := 4) X 4 dJ13_init_2_4 rfl ?_
  refine g_bI_v (pc := 6) X (y := yJ12_init_3) (As := [va_rf h1, va_rf h2, .int x3, .int x4]) (rest := []) (b := h0) (fr' := 1) (lo' := 12) (fun _ => cwI 4 X.2.2.2.2.1 (lw_meth q1201) rfl rfl rfl (X.2.2.2.2.1 _ q93) (X.2.2.2.2.1 _ q1199) (X.2.2.2.2.1 _ q1200) rfl dmS_J12_init_3 ⟨Nat.le_of_ble_eq_true rfl, Nat.le_of_ble_eq_true rfl⟩) dJ13_init_2_6 rfl rfl (Nat.le_of_ble_eq_true rfl) (fun r u h => kJ12_init_3 hex h) (fun r1 t2 => ?_)
  exact g_vret (pc := 9) X hr dJ13_init_2_9
theorem kJ13_init_2 {ex : Nat → Option Nat} {z : Nat} {h0 : Nat} {h1 : Option Nat} {h2 : Option Nat} {x3 : Int32} {x4 : Int32} {σ : Sg} {r : Unit} {u : St} (hex : ex = Γ.2.2.2.2) (h : fJ13_init_2 ex z h0 h1 h2 x3 x4 (σ, 0, 0) = some (r, u)) : g_C Γ l yJ13_init_2 cJ13_init_2 5 none 2 36 [.ref h0, va_rf h1, va_rf h2, .int x3, .int x4] σ z v_v r (g_ι z u) := by
  rcases h1 with _ | h1
  · rcases h2 with _ | h2
    · exact g_met (ι := g_ι z) (t := (σ, 0, 0)) [.ref h0, va_rf none, va_rf none, .int x3, .int x4] (by decide) (Nat.le_of_ble_eq_true rfl) h rfl (fun p e s m args below meth c X hr hn => wJ13_init_2 hex X hr hn h0 none none x3 x4 (σ, 0, 0))
    · exact g_met (ι := g_ι z) (t := (σ, 0, 0)) [.ref h0, va_rf none, va_rf (some h2), .int x3, .int x4] (by decide) (Nat.le_of_ble_eq_true rfl) h rfl (fun p e s m args below meth c X hr hn => wJ13_init_2 hex X hr hn h0 none (some h2) x3 x4 (σ, 0, 0))
  · rcases h2 with _ | h2
    · exact g_met (ι := g_ι z) (t := (σ, 0, 0)) [.ref h0, va_rf (some h1), va_rf none, .int x3, .int x4] (by decide) (Nat.le_of_ble_eq_true rfl) h rfl (fun p e s m args below meth c X hr hn => wJ13_init_2 hex X hr hn h0 (some h1) none x3 x4 (σ, 0, 0))
    · exact g_met (ι := g_ι z) (t := (σ, 0, 0)) [.ref h0, va_rf (some h1), va_rf (some h2), .int x3, .int x4] (by decide) (Nat.le_of_ble_eq_true rfl) h rfl (fun p e s m args below meth c X hr hn => wJ13_init_2 hex X hr hn h0 (some h1) (some h2) x3 x4 (σ, 0, 0))
end CP
abbrev cX0_init : ByteArray := prog_1_method_86_code
def yX0_init : MethodName := ⟨RX0, "<init>", "()V"⟩
def dkwX0_init_7 : List UInt8 := [180, 1, 191, 27, 187, 1, 200, 89, 183, 1, 254, 83, 132, 1, 1, 167, 255, 235, 177]
abbrev dktX0_init_7 : List UInt8 := dkwX0_init_7 ++ []
def dkwX0_init_6 : List UInt8 := [189, 1, 200, 181, 1, 191, 42, 16, 24, 188, 11, 181, 1, 226, 3, 60, 27, 7, 162, 0, 22, 42]
abbrev dktX0_init_6 : List UInt8 := dkwX0_init_6 ++ dktX0_init_7
def dkwX0_init_5 : List UInt8 := [187, 0, 81, 89, 183, 1, 252, 181, 1, 163, 42, 187, 0, 81, 89, 183, 1, 252, 181, 1, 170, 42, 7]
abbrev dktX0_init_5 : List UInt8 := dkwX0_init_5 ++ dktX0_init_6
def dkwX0_init_4 : List UInt8 := [42, 187, 0, 81, 89, 183, 1, 252, 181, 1, 144, 42, 187, 0, 43, 89, 183, 1, 251, 181, 1, 160, 42]
abbrev dktX0_init_4 : List UInt8 := dkwX0_init_4 ++ dktX0_init_5
def dkwX0_init_3 : List UInt8 := [188, 8, 181, 1, 59, 42, 16, 24, 188, 8, 181, 1, 84, 42, 187, 0, 81, 89, 183, 1, 252, 181, 1, 115]
abbrev dktX0_init_3 : List UInt8 := dkwX0_init_3 ++ dktX0_init_4
def dkwX0_init_2 : List UInt8 := [181, 0, 242, 42, 187, 0, 81, 89, 183, 1, 252, 181, 0, 89, 42, 4, 181, 1, 44, 42, 17, 0, 160]
abbrev dktX0_init_2 : List UInt8 := dkwX0_init_2 ++ dktX0_init_3
def dkwX0_init_1 : List UInt8 := [181, 0, 213, 42, 187, 0, 81, 89, 183, 1, 252, 181, 0, 101, 42, 16, 12, 16, 12, 197, 1, 253, 2]
abbrev dktX0_init_1 : List UInt8 := dkwX0_init_1 ++ dktX0_init_2
def dkwX0_init_0 : List UInt8 := [42, 183, 1, 248, 42, 187, 0, 43, 89, 183, 1, 251, 181, 0, 38, 42, 187, 0, 43, 89, 183, 1, 251]
abbrev dktX0_init_0 : List UInt8 := dkwX0_init_0 ++ dktX0_init_1
theorem dksX0_init_0 : cX0_init.data.toList.drop 0 = dktX0_init_0 := by decide +kernel
theorem dksX0_init_1 : cX0_init.data.toList.drop 23 = dktX0_init_1 := dk_seg dksX0_init_0 23 rfl rfl
theorem dksX0_init_2 : cX0_init.data.toList.drop 46 = dktX0_init_2 := dk_seg dksX0_init_1 23 rfl rfl
theorem dksX0_init_3 : cX0_init.data.toList.drop 69 = dktX0_init_3 := dk_seg dksX0_init_2 23 rfl rfl
theorem dksX0_init_4 : cX0_init.data.toList.drop 93 = dktX0_init_4 := dk_seg dksX0_init_3 24 rfl rfl
theorem dksX0_init_5 : cX0_init.data.toList.drop 116 = dktX0_init_5 := dk_seg dksX0_init_4 23 rfl rfl
theorem dksX0_init_6 : cX0_init.data.toList.drop 139 = dktX0_init_6 := dk_seg dksX0_init_5 23 rfl rfl
theorem dksX0_init_7 : cX0_init.data.toList.drop 161 = dktX0_init_7 := dk_seg dksX0_init_6 22 rfl rfl
theorem dX0_init_0 : decode cX0_init 0 = .ok (.aload_n 0, 1) := dk_42 (dk_at dksX0_init_0 0 rfl rfl)
theorem dX0_init_1 : decode cX0_init 1 = .ok (.invokespecial 504, 3) := dk_183 1 248 (dk_at dksX0_init_0 1 rfl rfl)
theorem dX0_init_4 : decode cX0_init 4 = .ok (.aload_n 0, 1) := dk_42 (dk_at dksX0_init_0 4 rfl rfl)
theorem dX0_init_5 : decode cX0_init 5 = .ok (.new 43, 3) := dk_187 0 43 (dk_at dksX0_init_0 5 rfl rfl)
theorem dX0_init_8 : decode cX0_init 8 = .ok (.dup, 1) := dk_89 (dk_at dksX0_init_0 8 rfl rfl)
theorem dX0_init_9 : decode cX0_init 9 = .ok (.invokespecial 507, 3) := dk_183 1 251 (dk_at dksX0_init_0 9 rfl rfl)
theorem dX0_init_12 : decode cX0_init 12 = .ok (.putfield 38, 3) := dk_181 0 38 (dk_at dksX0_init_0 12 rfl rfl)
theorem dX0_init_15 : decode cX0_init 15 = .ok (.aload_n 0, 1) := dk_42 (dk_at dksX0_init_0 15 rfl rfl)
theorem dX0_init_16 : decode cX0_init 16 = .ok (.new 43, 3) := dk_187 0 43 (dk_at dksX0_init_0 16 rfl rfl)
theorem dX0_init_19 : decode cX0_init 19 = .ok (.dup, 1) := dk_89 (dk_at dksX0_init_0 19 rfl rfl)
theorem dX0_init_20 : decode cX0_init 20 = .ok (.invokespecial 507, 3) := dk_183 1 251 (dk_at dksX0_init_0 20 rfl rfl)
theorem dX0_init_23 : decode cX0_init 23 = .ok (.putfield 213, 3) := dk_181 0 213 (dk_at dksX0_init_1 0 rfl rfl)
theorem dX0_init_26 : decode cX0_init 26 = .ok (.aload_n 0, 1) := dk_42 (dk_at dksX0_init_1 3 rfl rfl)
theorem dX0_init_27 : decode cX0_init 27 = .ok (.new 81, 3) := dk_187 0 81 (dk_at dksX0_init_1 4 rfl rfl)
theorem dX0_init_30 : decode cX0_init 30 = .ok (.dup, 1) := dk_89 (dk_at dksX0_init_1 7 rfl rfl)
theorem dX0_init_31 : decode cX0_init 31 = .ok (.invokespecial 508, 3) := dk_183 1 252 (dk_at dksX0_init_1 8 rfl rfl)
theorem dX0_init_34 : decode cX0_init 34 = .ok (.putfield 101, 3) := dk_181 0 101 (dk_at dksX0_init_1 11 rfl rfl)
theorem dX0_init_37 : decode cX0_init 37 = .ok (.aload_n 0, 1) := dk_42 (dk_at dksX0_init_1 14 rfl rfl)
theorem dX0_init_38 : decode cX0_init 38 = .ok (.bipush 12, 2) := dk_16 12 (dk_at dksX0_init_1 15 rfl rfl)
theorem dX0_init_40 : decode cX0_init 40 = .ok (.bipush 12, 2) := dk_16 12 (dk_at dksX0_init_1 17 rfl rfl)
theorem dX0_init_42 : decode cX0_init 42 = .ok (.multianewarray 509 2, 4) := by decide +kernel
theorem dX0_init_46 : decode cX0_init 46 = .ok (.putfield 242, 3) := dk_181 0 242 (dk_at dksX0_init_2 0 rfl rfl)
theorem dX0_init_49 : decode cX0_init 49 = .ok (.aload_n 0, 1) := dk_42 (dk_at dksX0_init_2 3 rfl rfl)
theorem dX0_init_50 : decode cX0_init 50 = .ok (.new 81, 3) := dk_187 0 81 (dk_at dksX0_init_2 4 rfl rfl)
theorem dX0_init_53 : decode cX0_init 53 = .ok (.dup, 1) := dk_89 (dk_at dksX0_init_2 7 rfl rfl)
theorem dX0_init_54 : decode cX0_init 54 = .ok (.invokespecial 508, 3) := dk_183 1 252 (dk_at dksX0_init_2 8 rfl rfl)
theorem dX0_init_57 : decode cX0_init 57 = .ok (.putfield 89, 3) := dk_181 0 89 (dk_at dksX0_init_2 11 rfl rfl)
theorem dX0_init_60 : decode cX0_init 60 = .ok (.aload_n 0, 1) := dk_42 (dk_at dksX0_init_2 14 rfl rfl)
theorem dX0_init_61 : decode cX0_init 61 = .ok (.iconst 1, 1) := dk_4 (dk_at dksX0_init_2 15 rfl rfl)
theorem dX0_init_62 : decode cX0_init 62 = .ok (.putfield 300, 3) := dk_181 1 44 (dk_at dksX0_init_2 16 rfl rfl)
theorem dX0_init_65 : decode cX0_init 65 = .ok (.aload_n 0, 1) := dk_42 (dk_at dksX0_init_2 19 rfl rfl)
theorem dX0_init_66 : decode cX0_init 66 = .ok (.sipush 160, 3) := dk_17 0 160 (dk_at dksX0_init_2 20 rfl rfl)
theorem dX0_init_69 : decode cX0_init 69 = .ok (.newarray .byte, 2) := dk_188_8 (dk_at dksX0_init_3 0 rfl rfl)
theorem dX0_init_71 : decode cX0_init 71 = .ok (.putfield 315, 3) := dk_181 1 59 (dk_at dksX0_init_3 2 rfl rfl)
theorem dX0_init_74 : decode cX0_init 74 = .ok (.aload_n 0, 1) := dk_42 (dk_at dksX0_init_3 5 rfl rfl)
theorem dX0_init_75 : decode cX0_init 75 = .ok (.bipush 24, 2) := dk_16 24 (dk_at dksX0_init_3 6 rfl rfl)
theorem dX0_init_77 : decode cX0_init 77 = .ok (.newarray .byte, 2) := dk_188_8 (dk_at dksX0_init_3 8 rfl rfl)
theorem dX0_init_79 : decode cX0_init 79 = .ok (.putfield 340, 3) := dk_181 1 84 (dk_at dksX0_init_3 10 rfl rfl)
theorem dX0_init_82 : decode cX0_init 82 = .ok (.aload_n 0, 1) := dk_42 (dk_at dksX0_init_3 13 rfl rfl)
theorem dX0_init_83 : decode cX0_init 83 = .ok (.new 81, 3) := dk_187 0 81 (dk_at dksX0_init_3 14 rfl rfl)
theorem dX0_init_86 : decode cX0_init 86 = .ok (.dup, 1) := dk_89 (dk_at dksX0_init_3 17 rfl rfl)
theorem dX0_init_87 : decode cX0_init 87 = .ok (.invokespecial 508, 3) := dk_183 1 252 (dk_at dksX0_init_3 18 rfl rfl)
theorem dX0_init_90 : decode cX0_init 90 = .ok (.putfield 371, 3) := dk_181 1 115 (dk_at dksX0_init_3 21 rfl rfl)
theorem dX0_init_93 : decode cX0_init 93 = .ok (.aload_n 0, 1) := dk_42 (dk_at dksX0_init_4 0 rfl rfl)
theorem dX0_init_94 : decode cX0_init 94 = .ok (.new 81, 3) := dk_187 0 81 (dk_at dksX0_init_4 1 rfl rfl)
theorem dX0_init_97 : decode cX0_init 97 = .ok (.dup, 1) := dk_89 (dk_at dksX0_init_4 4 rfl rfl)
theorem dX0_init_98 : decode cX0_init 98 = .ok (.invokespecial 508, 3) := dk_183 1 252 (dk_at dksX0_init_4 5 rfl rfl)
theorem dX0_init_101 : decode cX0_init 101 = .ok (.putfield 400, 3) := dk_181 1 144 (dk_at dksX0_init_4 8 rfl rfl)
theorem dX0_init_104 : decode cX0_init 104 = .ok (.aload_n 0, 1) := dk_42 (dk_at dksX0_init_4 11 rfl rfl)
theorem dX0_init_105 : decode cX0_init 105 = .ok (.new 43, 3) := dk_187 0 43 (dk_at dksX0_init_4 12 rfl rfl)
theorem dX0_init_108 : decode cX0_init 108 = .ok (.dup, 1) := dk_89 (dk_at dksX0_init_4 15 rfl rfl)
theorem dX0_init_109 : decode cX0_init 109 = .ok (.invokespecial 507, 3) := dk_183 1 251 (dk_at dksX0_init_4 16 rfl rfl)
theorem dX0_init_112 : decode cX0_init 112 = .ok (.putfield 416, 3) := dk_181 1 160 (dk_at dksX0_init_4 19 rfl rfl)
theorem dX0_init_115 : decode cX0_init 115 = .ok (.aload_n 0, 1) := dk_42 (dk_at dksX0_init_4 22 rfl rfl)
theorem dX0_init_116 : decode cX0_init 116 = .ok (.new 81, 3) := dk_187 0 81 (dk_at dksX0_init_5 0 rfl rfl)
theorem dX0_init_119 : decode cX0_init 119 = .ok (.dup, 1) := dk_89 (dk_at dksX0_init_5 3 rfl rfl)
theorem dX0_init_120 : decode cX0_init 120 = .ok (.invokespecial 508, 3) := dk_183 1 252 (dk_at dksX0_init_5 4 rfl rfl)
theorem dX0_init_123 : decode cX0_init 123 = .ok (.putfield 419, 3) := dk_181 1 163 (dk_at dksX0_init_5 7 rfl rfl)
theorem dX0_init_126 : decode cX0_init 126 = .ok (.aload_n 0, 1) := dk_42 (dk_at dksX0_init_5 10 rfl rfl)
theorem dX0_init_127 : decode cX0_init 127 = .ok (.new 81, 3) := dk_187 0 81 (dk_at dksX0_init_5 11 rfl rfl)
theorem dX0_init_130 : decode cX0_init 130 = .ok (.dup, 1) := dk_89 (dk_at dksX0_init_5 14 rfl rfl)
theorem dX0_init_131 : decode cX0_init 131 = .ok (.invokespecial 508, 3) := dk_183 1 252 (dk_at dksX0_init_5 15 rfl rfl)
theorem dX0_init_134 : decode cX0_init 134 = .ok (.putfield 426, 3) := dk_181 1 170 (dk_at dksX0_init_5 18 rfl rfl)
theorem dX0_init_137 : decode cX0_init 137 = .ok (.aload_n 0, 1) := dk_42 (dk_at dksX0_init_5 21 rfl rfl)
theorem dX0_init_138 : decode cX0_init 138 = .ok (.iconst 4, 1) := dk_7 (dk_at dksX0_init_5 22 rfl rfl)
theorem dX0_init_139 : decode cX0_init 139 = .ok (.anewarray 456, 3) := dk_189 1 200 (dk_at dksX0_init_6 0 rfl rfl)
theorem dX0_init_142 : decode cX0_init 142 = .ok (.putfield 447, 3) := dk_181 1 191 (dk_at dksX0_init_6 3 rfl rfl)
theorem dX0_init_145 : decode cX0_init 145 = .ok (.aload_n 0, 1) := dk_42 (dk_at dksX0_init_6 6 rfl rfl)
theorem dX0_init_146 : decode cX0_init 146 = .ok (.bipush 24, 2) := dk_16 24 (dk_at dksX0_init_6 7 rfl rfl)
theorem dX0_init_148 : decode cX0_init 148 = .ok (.newarray .long, 2) := dk_188_11 (dk_at dksX0_init_6 9 rfl rfl)
theorem dX0_init_150 : decode cX0_init 150 = .ok (.putfield 482, 3) := dk_181 1 226 (dk_at dksX0_init_6 11 rfl rfl)
theorem dX0_init_153 : decode cX0_init 153 = .ok (.iconst 0, 1) := dk_3 (dk_at dksX0_init_6 14 rfl rfl)
theorem dX0_init_154 : decode cX0_init 154 = .ok (.istore_n 1, 1) := dk_60 (dk_at dksX0_init_6 15 rfl rfl)
theorem dX0_init_155 : decode cX0_init 155 = .ok (.iload_n 1, 1) := dk_27 (dk_at dksX0_init_6 16 rfl rfl)
theorem dX0_init_156 : decode cX0_init 156 = .ok (.iconst 4, 1) := dk_7 (dk_at dksX0_init_6 17 rfl rfl)
theorem dX0_init_157 : decode cX0_init 157 = .ok (.if_icmp .ge 22, 3) := dk_162 0 22 (dk_at dksX0_init_6 18 rfl rfl)
theorem dX0_init_160 : decode cX0_init 160 = .ok (.aload_n 0, 1) := dk_42 (dk_at dksX0_init_6 21 rfl rfl)
theorem dX0_init_161 : decode cX0_init 161 = .ok (.getfield 447, 3) := dk_180 1 191 (dk_at dksX0_init_7 0 rfl rfl)
theorem dX0_init_164 : decode cX0_init 164 = .ok (.iload_n 1, 1) := dk_27 (dk_at dksX0_init_7 3 rfl rfl)
theorem dX0_init_165 : decode cX0_init 165 = .ok (.new 456, 3) := dk_187 1 200 (dk_at dksX0_init_7 4 rfl rfl)
theorem dX0_init_168 : decode cX0_init 168 = .ok (.dup, 1) := dk_89 (dk_at dksX0_init_7 7 rfl rfl)
theorem dX0_init_169 : decode cX0_init 169 = .ok (.invokespecial 510, 3) := dk_183 1 254 (dk_at dksX0_init_7 8 rfl rfl)
theorem dX0_init_172 : decode cX0_init 172 = .ok (.aastore, 1) := dk_83 (dk_at dksX0_init_7 11 rfl rfl)
theorem dX0_init_173 : decode cX0_init 173 = .ok (.iinc 1 1, 3) := dk_132 1 1 (dk_at dksX0_init_7 12 rfl rfl)
theorem dX0_init_176 : decode cX0_init 176 = .ok (.goto (-21), 3) := dk_167 255 235 (dk_at dksX0_init_7 15 rfl rfl)
theorem dX0_init_179 : decode cX0_init 179 = .ok (.return_, 1) := dk_177 (dk_at dksX0_init_7 18 rfl rfl)
theorem nw_X0_43 : g_nw RX0 43 1 [.int 0, .null, .null, .int 0, .null, .int 0, .int 0, .int 0, .int 0] 9 := ⟨_, _, _, tyX1, rfl, q1531, q578, q71, in_X1, tyX1_ok, fun j hj => by
  match j, hj with
  | 0, _ => rfl
  | 1, _ => rfl
  | 2, _ => rfl
  | 3, _ => rfl
  | 4, _ => rfl
  | 5, _ => rfl
  | 6, _ => rfl
  | 7, _ => rfl
  | 8, _ => rfl⟩
theorem fp_X0_38 : g_fp RX0 38 [0] 0 (.object "LameClocks$Race") true := ⟨_, _, _, Or.inl q1615, by decide +kernel, fun ci h => by
  simp only [List.mem_cons, List.not_mem_nil, or_false] at h; rcases h with rfl
  · exact ⟨_, _, _, tyX0, rfl, by decide, rfl, rfl, Or.inl rfl, in_X0, rfl, (fun _ => rfl), tyX0_ok, (by decide +kernel)⟩⟩
theorem fp_X0_213 : g_fp RX0 213 [0] 1 (.object "LameClocks$Race") true := ⟨_, _, _, Or.inl q1616, by decide +kernel, fun ci h => by
  simp only [List.mem_cons, List.not_mem_nil, or_false] at h; rcases h with rfl
  · exact ⟨_, _, _, tyX0, rfl, by decide, rfl, rfl, Or.inl rfl, in_X0, rfl, (fun _ => rfl), tyX0_ok, (by decide +kernel)⟩⟩
theorem nw_X0_81 : g_nw RX0 81 15 [.int 0, .null, .int 0] 3 := ⟨_, _, _, tyJ2, rfl, q1596, q261, q74, in_J2, tyJ2_ok, fun j hj => by
  match j, hj with
  | 0, _ => rfl
  | 1, _ => rfl
  | 2, _ => rfl⟩
theorem fp_X0_101 : g_fp RX0 101 [0] 2 (.object "java/util/ArrayList") true := ⟨_, _, _, Or.inl q1618, by decide +kernel, fun ci h => by
  simp only [List.mem_cons, List.not_mem_nil, or_false] at h; rcases h with rfl
  · exact ⟨_, _, _, tyX0, rfl, by decide, rfl, rfl, Or.inl rfl, in_X0, rfl, (fun _ => rfl), tyX0_ok, (by decide +kernel)⟩⟩
theorem fp_X0_242 : g_fp RX0 242 [0] 3 (.array (.array .int)) true := ⟨_, _, _, Or.inl q1619, by decide +kernel, fun ci h => by
  simp only [List.mem_cons, List.not_mem_nil, or_false] at h; rcases h with rfl
  · exact ⟨_, _, _, tyX0, rfl, by decide, rfl, rfl, Or.inl rfl, in_X0, rfl, (fun _ => rfl), tyX0_ok, (by decide +kernel)⟩⟩
theorem fp_X0_89 : g_fp RX0 89 [0] 4 (.object "java/util/ArrayList") true := ⟨_, _, _, Or.inl q1620, by decide +kernel, fun ci h => by
  simp only [List.mem_cons, List.not_mem_nil, or_false] at h; rcases h with rfl
  · exact ⟨_, _, _, tyX0, rfl, by decide, rfl, rfl, Or.inl rfl, in_X0, rfl, (fun _ => rfl), tyX0_ok, (by decide +kernel)⟩⟩
theorem fp_X0_315 : g_fp RX0 315 [0] 6 (.array .byte) true := ⟨_, _, _, Or.inl q1622, by decide +kernel, fun ci h => by
  simp only [List.mem_cons, List.not_mem_nil, or_false] at h; rcases h with rfl
  · exact ⟨_, _, _, tyX0, rfl, by decide, rfl, rfl, Or.inl rfl, in_X0, rfl, (fun _ => rfl), tyX0_ok, (by decide +kernel)⟩⟩
theorem fp_X0_340 : g_fp RX0 340 [0] 9 (.array .byte) true := ⟨_, _, _, Or.inl q1625, by decide +kernel, fun ci h => by
  simp only [List.mem_cons, List.not_mem_nil, or_false] at h; rcases h with rfl
  · exact ⟨_, _, _, tyX0, rfl, by decide, rfl, rfl, Or.inl rfl, in_X0, rfl, (fun _ => rfl), tyX0_ok, (by decide +kernel)⟩⟩
theorem fp_X0_371 : g_fp RX0 371 [0] 10 (.object "java/util/ArrayList") true := ⟨_, _, _, Or.inl q1626, by decide +kernel, fun ci h => by
  simp only [List.mem_cons, List.not_mem_nil, or_false] at h; rcases h with rfl
  · exact ⟨_, _, _, tyX0, rfl, by decide, rfl, rfl, Or.inl rfl, in_X0, rfl, (fun _ => rfl), tyX0_ok, (by decide +kernel)⟩⟩
theorem fp_X0_400 : g_fp RX0 400 [0] 11 (.object "java/util/ArrayList") true := ⟨_, _, _, Or.inl q1627, by decide +kernel, fun ci h => by
  simp only [List.mem_cons, List.not_mem_nil, or_false] at h; rcases h with rfl
  · exact ⟨_, _, _, tyX0, rfl, by decide, rfl, rfl, Or.inl rfl, in_X0, rfl, (fun _ => rfl), tyX0_ok, (by decide +kernel)⟩⟩
theorem fp_X0_416 : g_fp RX0 416 [0] 13 (.object "LameClocks$Race") true := ⟨_, _, _, Or.inl q1629, by decide +kernel, fun ci h => by
  simp only [List.mem_cons, List.not_mem_nil, or_false] at h; rcases h with rfl
  · exact ⟨_, _, _, tyX0, rfl, by decide, rfl, rfl, Or.inl rfl, in_X0, rfl, (fun _ => rfl), tyX0_ok, (by decide +kernel)⟩⟩
theorem fp_X0_419 : g_fp RX0 419 [0] 14 (.object "java/util/ArrayList") true := ⟨_, _, _, Or.inl q1630, by decide +kernel, fun ci h => by
  simp only [List.mem_cons, List.not_mem_nil, or_false] at h; rcases h with rfl
  · exact ⟨_, _, _, tyX0, rfl, by decide, rfl, rfl, Or.inl rfl, in_X0, rfl, (fun _ => rfl), tyX0_ok, (by decide +kernel)⟩⟩
theorem fp_X0_426 : g_fp RX0 426 [0] 15 (.object "java/util/ArrayList") true := ⟨_, _, _, Or.inl q1631, by decide +kernel, fun ci h => by
  simp only [List.mem_cons, List.not_mem_nil, or_false] at h; rcases h with rfl
  · exact ⟨_, _, _, tyX0, rfl, by decide, rfl, rfl, Or.inl rfl, in_X0, rfl, (fun _ => rfl), tyX0_ok, (by decide +kernel)⟩⟩
theorem fp_X0_447 : g_fp RX0 447 [0] 17 (.array (.object "LameClocks$Held")) true := ⟨_, _, _, Or.inl q1633, by decide +kernel, fun ci h => by
  simp only [List.mem_cons, List.not_mem_nil, or_false] at h; rcases h with rfl
  · exact ⟨_, _, _, tyX0, rfl, by decide, rfl, rfl, Or.inl rfl, in_X0, rfl, (fun _ => rfl), tyX0_ok, (by decide +kernel)⟩⟩
theorem fp_X0_482 : g_fp RX0 482 [0] 18 (.array .long) true := ⟨_, _, _, Or.inl q1634, by decide +kernel, fun ci h => by
  simp only [List.mem_cons, List.not_mem_nil, or_false] at h; rcases h with rfl
  · exact ⟨_, _, _, tyX0, rfl, by decide, rfl, rfl, Or.inl rfl, in_X0, rfl, (fun _ => rfl), tyX0_ok, (by decide +kernel)⟩⟩
theorem fo_X0_447 : g_fo RX0 447 [0] 17 := ⟨_, _, _, Or.inl q1633, fun ci h => by
  simp only [List.mem_cons, List.not_mem_nil, or_false] at h; rcases h with rfl
  · exact ⟨_, _, _, rfl, by decide, rfl, rfl, Or.inl rfl, in_X0⟩⟩
theorem nw_X0_456 : g_nw RX0 456 2 [.null] 1 := ⟨_, _, _, tyX2, rfl, q1600, q1602, q75, in_X2, tyX2_ok, fun j hj => by
  match j, hj with
  | 0, _ => rfl⟩
theorem cf_LameClocks_Held_1 : ∀ ci ∈ ([2] : List Nat), ∃ (C : String) (T : u_T) (N : Nat), cls[ci]? = some (C, T, N) ∧ (C = "LameClocks$Held" ∨ Cond.castable C "LameClocks$Held" ∈ lw_tbl) := by
  intro ci h
  simp only [List.mem_cons, List.not_mem_nil, or_false] at h; rcases h with rfl
  · exact ⟨_, _, _, rfl, Or.inl rfl⟩
theorem dmS_X2_init : yX2_init.cls ≠ "java/lang/invoke/MethodHandle" ∧ yX2_init.cls ≠ "java/lang/invoke/VarHandle" ∧ (parseMethodDescriptor yX2_init.desc).map (fun d => d.parameters.length) = some 0 := by decide +kernel
theorem dmS_X1_init : yX1_init.cls ≠ "java/lang/invoke/MethodHandle" ∧ yX1_init.cls ≠ "java/lang/invoke/VarHandle" ∧ (parseMethodDescriptor yX1_init.desc).map (fun d => d.parameters.length) = some 0 := by decide +kernel
section CP
variable {Γ : Gc} {p : Program} {l : Launch} {e : Env} {s : State} {m : MethodId} {args : Array Value} {below : List Frame} {meth : Method} {c : Code} {ex : Nat → Option Nat} {z : Nat} {tF : St}
noncomputable def fX0_init_155 (ex : Nat → Option Nat) (z : Nat) : Nat → Nat → Int32 → St → Option (Unit × St)
  | 0, _, _, _ => none
  | n + 1, h0, x1, t => if 4 ≤ x1 then some ((), t) else cgA [0] 17 t h0 fun v1 => cnew z 2 [.null] 1 t fun a2 t3 => gb (fX2_init ex (z + t3.2.1) a2 (t3.1, 0, 0)) t3 fun _ t5 => castA 5 [2] t5 v1 x1 a2 fun t6 => fX0_init_155 ex z n h0 (x1 + 1) t6
set_option maxHeartbeats 4000000 in
theorem wX0_init_155 {rF : Unit} (hex : ex = Γ.2.2.2.2) (X : g_X Γ p s m args meth c cX0_init 2 RX0) (hr : meth.sig.returnType = none) (hin : meth.name = "<init>") (n : Nat) : ∀ (h0 : Nat) (x1 : Int32) (t : St), Wf Γ p l e 5 93 s m args below meth c 2 (g_ι z) v_v rF tF 155 [(0, .ref h0), (1, .int x1)] [] t (fX0_init_155 ex z n h0 x1 t) := by
  induction n with
  | zero => intro h0 x1 t; exact g_none
  | succ n ih =>
    intro h0 x1 t
    rw [fX0_init_155]
    refine g_iload_n (pc := 155) X 1 dX0_init_155 rfl rfl ?_
    refine g_iconst (pc := 156) X 4 dX0_init_156 rfl ?_
    refine g_icmp_ge (pc := 157) X 179 dX0_init_157 (by decide) ?_ ?_
    · exact g_vret (pc := 179) X hr dX0_init_179
    · refine g_aload_n (pc := 160) X 0 dX0_init_160 rfl rfl ?_
      refine cg_getA (pc := 161) X fo_X0_447 dX0_init_161 (fun v1 => ?_)
      refine g_iload_n (pc := 164) X 1 dX0_init_164 rfl rfl ?_
      refine cg_new (pc := 165) X nw_X0_456 dX0_init_165 (fun a2 t3 => ?_)
      refine g_dup (pc := 168) X dX0_init_168 rfl ?_
      refine g_bIN_v (pc := 169) X (y := yX2_init) (As := []) (rest := [.ref a2, .int x1, .ref v1]) (b := a2) (fr' := 1) (lo' := 12) (fun _ => ⟨va_cnB 0 X.2.2.2.2.1 (lw_meth q1605) rfl rfl rfl (X.2.2.2.2.2.2.1.nestM q1603) (X.2.2.2.2.1 _ q75) dmS_X2_init ⟨Nat.le_of_ble_eq_true rfl, Nat.le_of_ble_eq_true rfl⟩, rfl, X.2.2.2.2.1 _ q1604⟩) dX0_init_169 rfl rfl (Nat.le_of_ble_eq_true rfl) (fun r u h => kX2_init hex h) (fun r4 t5 => ?_)
      refine cg_astA (pc := 172) X (j := 5) (cs := [2]) rfl cf_LameClocks_Held_1 dX0_init_172 (fun t6 => ?_)
      refine g_iinc (pc := 173) X 1 1 (lv' := [(1, .int (x1 + 1)), (0, .ref h0)]) dX0_init_173 rfl rfl (by decide) rfl ?_
      refine g_goto (pc := 176) X 155 dX0_init_176 (by decide) ?_
      exact g_lv (pc := 155) (lv' := [(0, .ref h0), (1, .int (x1 + 1))]) [1, 0] rfl (ih h0 (x1 + 1) t6)
noncomputable def fX0_init (ex : Nat → Option Nat) (z : Nat) (h0 : Nat) (t : St) : Option (Unit × St) := cnew z 1 [.int 0, .null, .null, .int 0, .null, .int 0, .int 0, .int 0, .int 0] 9 t fun a1 t2 => gb (fX1_init ex (z + t2.2.1) a1 (t2.1, 0, 0)) t2 fun _ t4 => cput [0] 0 t4 h0 (.ref a1) fun t5 => cnew z 1 [.int 0, .null, .null, .int 0, .null, .int 0, .int 0, .int 0, .int 0] 9 t5 fun a6 t7 => gb (fX1_init ex (z + t7.2.1) a6 (t7.1, 0, 0)) t7 fun _ t9 => cput [0] 1 t9 h0 (.ref a6) fun t10 => cnew z 15 [.int 0, .null, .int 0] 3 t10 fun a11 t12 => gb (fJ2_init ex (z + t12.2.1) a11 (t12.1, 0, 0)) t12 fun _ t14 => cput [0] 2 t14 h0 (.ref a11) fun t15 => cmulti z 12 12 t15 fun a16 t17 => cput [0] 3 t17 h0 (.ref a16) fun t18 => cnew z 15 [.int 0, .null, .int 0] 3 t18 fun a19 t20 => gb (fJ2_init ex (z + t20.2.1) a19 (t20.1, 0, 0)) t20 fun _ t22 => cput [0] 4 t22 h0 (.ref a19) fun t23 => cput [0] 5 t23 h0 (.int 1) fun t24 => cnewa z 0 160 t24 fun a25 t26 => cput [0] 6 t26 h0 (.ref a25) fun t27 => cnewa z 0 24 t27 fun a28 t29 => cput [0] 9 t29 h0 (.ref a28) fun t30 => cnew z 15 [.int 0, .null, .int 0] 3 t30 fun a31 t32 => gb (fJ2_init ex (z + t32.2.1) a31 (t32.1, 0, 0)) t32 fun _ t34 => cput [0] 10 t34 h0 (.ref a31) fun t35 => cnew z 15 [.int 0, .null, .int 0] 3 t35 fun a36 t37 => gb (fJ2_init ex (z + t37.2.1) a36 (t37.1, 0, 0)) t37 fun _ t39 => cput [0] 11 t39 h0 (.ref a36) fun t40 => cnew z 1 [.int 0, .null, .null, .int 0, .null, .int 0, .int 0, .int 0, .int 0] 9 t40 fun a41 t42 => gb (fX1_init ex (z + t42.2.1) a41 (t42.1, 0, 0)) t42 fun _ t44 => cput [0] 13 t44 h0 (.ref a41) fun t45 => cnew z 15 [.int 0, .null, .int 0] 3 t45 fun a46 t47 => gb (fJ2_init ex (z + t47.2.1) a46 (t47.1, 0, 0)) t47 fun _ t49 => cput [0] 14 t49 h0 (.ref a46) fun t50 => cnew z 15 [.int 0, .null, .int 0] 3 t50 fun a51 t52 => gb (fJ2_init ex (z + t52.2.1) a51 (t52.1, 0, 0)) t52 fun _ t54 => cput [0] 15 t54 h0 (.ref a51) fun t55 => cnewa z 5 4 t55 fun a56 t57 => cput [0] 17 t57 h0 (.ref a56) fun t58 => cnewa z 3 24 t58 fun a59 t60 => cput [0] 18 t60 h0 (.ref a59) fun t61 => fX0_init_155 ex z 1000 h0 0 t61
set_option maxHeartbeats 4000000 in
theorem wX0_init {rF : Unit} (hex : ex = Γ.2.2.2.2) (X : g_X Γ p s m args meth c cX0_init 2 RX0) (hr : meth.sig.returnType = none) (hin : meth.name = "<init>") (h0 : Nat) (t : St) : Wf Γ p l e 5 93 s m args below meth c 2 (g_ι z) v_v rF tF 0 [(0, .ref h0)] [] t (fX0_init ex z h0 t) := by
  unfold fX0_init
  refine g_aload_n (pc := 0) X 0 dX0_init_0 rfl rfl ?_
  refine cg_obj (pc := 1) X dX0_init_1 q1530 q149 q150 (Nat.le_of_ble_eq_true rfl) (Nat.le_of_ble_eq_true rfl) ?_
  refine g_aload_n (pc := 4) X 0 dX0_init_4 rfl rfl ?_
  refine cg_new (pc := 5) X nw_X0_43 dX0_init_5 (fun a1 t2 => ?_)
  refine g_dup (pc := 8) X dX0_init_8 rfl ?_
  refine g_bI_v (pc := 9) X (y := yX1_init) (As := []) (rest := [.ref a1, .ref h0]) (b := a1) (fr' := 4) (lo' := 72) (fun _ => cwI 0 X.2.2.2.2.1 (lw_meth q1534) rfl rfl rfl (X.2.2.2.2.1 _ q71) (X.2.2.2.2.1 _ q1532) (X.2.2.2.2.1 _ q1533) rfl dmS_X1_init ⟨Nat.le_of_ble_eq_true rfl, Nat.le_of_ble_eq_true rfl⟩) dX0_init_9 rfl rfl (Nat.le_of_ble_eq_true rfl) (fun r u h => kX1_init hex h) (fun r3 t4 => ?_)
  refine cg_put (pc := 12) X fp_X0_38 dX0_init_12 (fun _ => hin) rfl rfl (fun t5 => ?_)
  refine g_aload_n (pc := 15) X 0 dX0_init_15 rfl rfl ?_
  refine cg_new (pc := 16) X nw_X0_43 dX0_init_16 (fun a6 t7 => ?_)
  refine g_dup (pc := 19) X dX0_init_19 rfl ?_
  refine g_bI_v (pc := 20) X (y := yX1_init) (As := []) (rest := [.ref a6, .ref h0]) (b := a6) (fr' := 4) (lo' := 72) (fun _ => cwI 0 X.2.2.2.2.1 (lw_meth q1534) rfl rfl rfl (X.2.2.2.2.1 _ q71) (X.2.2.2.2.1 _ q1532) (X.2.2.2.2.1 _ q1533) rfl dmS_X1_init ⟨Nat.le_of_ble_eq_true rfl, Nat.le_of_ble_eq_true rfl⟩) dX0_init_20 rfl rfl (Nat.le_of_ble_eq_true rfl) (fun r u h => kX1_init hex h) (fun r8 t9 => ?_)
  refine cg_put (pc := 23) X fp_X0_213 dX0_init_23 (fun _ => hin) rfl rfl (fun t10 => ?_)
  refine g_aload_n (pc := 26) X 0 dX0_init_26 rfl rfl ?_
  refine cg_new (pc := 27) X nw_X0_81 dX0_init_27 (fun a11 t12 => ?_)
  refine g_dup (pc := 30) X dX0_init_30 rfl ?_
  refine g_bI_v (pc := 31) X (y := yJ2_init) (As := []) (rest := [.ref a11, .ref h0]) (b := a11) (fr' := 3) (lo' := 52) (fun _ => cwI 0 X.2.2.2.2.1 (lw_meth q1539) rfl rfl rfl (X.2.2.2.2.1 _ q74) (X.2.2.2.2.1 _ q1597) (X.2.2.2.2.1 _ q1538) rfl dmS_J2_init ⟨Nat.le_of_ble_eq_true rfl, Nat.le_of_ble_eq_true rfl⟩) dX0_init_31 rfl rfl (Nat.le_of_ble_eq_true rfl) (fun r u h => kJ2_init hex h) (fun r13 t14 => ?_)
  refine cg_put (pc := 34) X fp_X0_101 dX0_init_34 (fun _ => hin) rfl rfl (fun t15 => ?_)
  refine g_aload_n (pc := 37) X 0 dX0_init_37 rfl rfl ?_
  refine g_bipush (pc := 38) X 12 dX0_init_38 rfl ?_
  refine g_bipush (pc := 40) X 12 dX0_init_40 rfl ?_
  refine cg_multi (pc := 42) X (n := 12) (k := 12) dX0_init_42 q1598 q1599 q1392 (by decide) (by decide) rfl rfl (by decide) (by decide) (fun a16 t17 => ?_)
  refine cg_put (pc := 46) X fp_X0_242 dX0_init_46 (fun _ => hin) rfl rfl (fun t18 => ?_)
  refine g_aload_n (pc := 49) X 0 dX0_init_49 rfl rfl ?_
  refine cg_new (pc := 50) X nw_X0_81 dX0_init_50 (fun a19 t20 => ?_)
  refine g_dup (pc := 53) X dX0_init_53 rfl ?_
  refine g_bI_v (pc := 54) X (y := yJ2_init) (As := []) (rest := [.ref a19, .ref h0]) (b := a19) (fr' := 3) (lo' := 52) (fun _ => cwI 0 X.2.2.2.2.1 (lw_meth q1539) rfl rfl rfl (X.2.2.2.2.1 _ q74) (X.2.2.2.2.1 _ q1597) (X.2.2.2.2.1 _ q1538) rfl dmS_J2_init ⟨Nat.le_of_ble_eq_true rfl, Nat.le_of_ble_eq_true rfl⟩) dX0_init_54 rfl rfl (Nat.le_of_ble_eq_true rfl) (fun r u h => kJ2_init hex h) (fun r21 t22 => ?_)
  refine cg_put (pc := 57) X fp_X0_89 dX0_init_57 (fun _ => hin) rfl rfl (fun t23 => ?_)
  refine g_aload_n (pc := 60) X 0 dX0_init_60 rfl rfl ?_
  refine g_iconst (pc := 61) X 1 dX0_init_61 rfl ?_
  refine cg_put (pc := 62) X fp_X0_300 dX0_init_62 (fun h => by cases h) rfl rfl (fun t24 => ?_)
  refine g_aload_n (pc := 65) X 0 dX0_init_65 rfl rfl ?_
  refine g_sipush (pc := 66) X 160 dX0_init_66 rfl ?_
  refine cg_newa (pc := 69) X (j := 0) dX0_init_69 (by decide) rfl rfl (fun _ _ => rfl) (by decide) q1054 (fun a25 t26 => ?_)
  refine cg_put (pc := 71) X fp_X0_315 dX0_init_71 (fun _ => hin) rfl rfl (fun t27 => ?_)
  refine g_aload_n (pc := 74) X 0 dX0_init_74 rfl rfl ?_
  refine g_bipush (pc := 75) X 24 dX0_init_75 rfl ?_
  refine cg_newa (pc := 77) X (j := 0) dX0_init_77 (by decide) rfl rfl (fun _ _ => rfl) (by decide) q1054 (fun a28 t29 => ?_)
  refine cg_put (pc := 79) X fp_X0_340 dX0_init_79 (fun _ => hin) rfl rfl (fun t30 => ?_)
  refine g_aload_n (pc := 82) X 0 dX0_init_82 rfl rfl ?_
  refine cg_new (pc := 83) X nw_X0_81 dX0_init_83 (fun a31 t32 => ?_)
  refine g_dup (pc := 86) X dX0_init_86 rfl ?_
  refine g_bI_v (pc := 87) X (y := yJ2_init) (As := []) (rest := [.ref a31, .ref h0]) (b := a31) (fr' := 3) (lo' := 52) (fun _ => cwI 0 X.2.2.2.2.1 (lw_meth q1539) rfl rfl rfl (X.2.2.2.2.1 _ q74) (X.2.2.2.2.1 _ q1597) (X.2.2.2.2.1 _ q1538) rfl dmS_J2_init ⟨Nat.le_of_ble_eq_true rfl, Nat.le_of_ble_eq_true rfl⟩) dX0_init_87 rfl rfl (Nat.le_of_ble_eq_true rfl) (fun r u h => kJ2_init hex h) (fun r33 t34 => ?_)
  refine cg_put (pc := 90) X fp_X0_371 dX0_init_90 (fun _ => hin) rfl rfl (fun t35 => ?_)
  refine g_aload_n (pc := 93) X 0 dX0_init_93 rfl rfl ?_
  refine cg_new (pc := 94) X nw_X0_81 dX0_init_94 (fun a36 t37 => ?_)
  refine g_dup (pc := 97) X dX0_init_97 rfl ?_
  refine g_bI_v (pc := 98) X (y := yJ2_init) (As := []) (rest := [.ref a36, .ref h0]) (b := a36) (fr' := 3) (lo' := 52) (fun _ => cwI 0 X.2.2.2.2.1 (lw_meth q1539) rfl rfl rfl (X.2.2.2.2.1 _ q74) (X.2.2.2.2.1 _ q1597) (X.2.2.2.2.1 _ q1538) rfl dmS_J2_init ⟨Nat.le_of_ble_eq_true rfl, Nat.le_of_ble_eq_true rfl⟩) dX0_init_98 rfl rfl (Nat.le_of_ble_eq_true rfl) (fun r u h => kJ2_init hex h) (fun r38 t39 => ?_)
  refine cg_put (pc := 101) X fp_X0_400 dX0_init_101 (fun _ => hin) rfl rfl (fun t40 => ?_)
  refine g_aload_n (pc := 104) X 0 dX0_init_104 rfl rfl ?_
  refine cg_new (pc := 105) X nw_X0_43 dX0_init_105 (fun a41 t42 => ?_)
  refine g_dup (pc := 108) X dX0_init_108 rfl ?_
  refine g_bI_v (pc := 109) X (y := yX1_init) (As := []) (rest := [.ref a41, .ref h0]) (b := a41) (fr' := 4) (lo' := 72) (fun _ => cwI 0 X.2.2.2.2.1 (lw_meth q1534) rfl rfl rfl (X.2.2.2.2.1 _ q71) (X.2.2.2.2.1 _ q1532) (X.2.2.2.2.1 _ q1533) rfl dmS_X1_init ⟨Nat.le_of_ble_eq_true rfl, Nat.le_of_ble_eq_true rfl⟩) dX0_init_109 rfl rfl (Nat.le_of_ble_eq_true rfl) (fun r u h => kX1_init hex h) (fun r43 t44 => ?_)
  refine cg_put (pc := 112) X fp_X0_416 dX0_init_112 (fun _ => hin) rfl rfl (fun t45 => ?_)
  refine g_aload_n (pc := 115) X 0 dX0_init_115 rfl rfl ?_
  refine cg_new (pc := 116) X nw_X0_81 dX0_init_116 (fun a46 t47 => ?_)
  refine g_dup (pc := 119) X dX0_init_119 rfl ?_
  refine g_bI_v (pc := 120) X (y := yJ2_init) (As := []) (rest := [.ref a46, .ref h0]) (b := a46) (fr' := 3) (lo' := 52) (fun _ => cwI 0 X.2.2.2.2.1 (lw_meth q1539) rfl rfl rfl (X.2.2.2.2.1 _ q74) (X.2.2.2.2.1 _ q1597) (X.2.2.2.2.1 _ q1538) rfl dmS_J2_init ⟨Nat.le_of_ble_eq_true rfl, Nat.le_of_ble_eq_true rfl⟩) dX0_init_120 rfl rfl (Nat.le_of_ble_eq_true rfl) (fun r u h => kJ2_init hex h) (fun r48 t49 => ?_)
  refine cg_put (pc := 123) X fp_X0_419 dX0_init_123 (fun _ => hin) rfl rfl (fun t50 => ?_)
  refine g_aload_n (pc := 126) X 0 dX0_init_126 rfl rfl ?_
  refine cg_new (pc := 127) X nw_X0_81 dX0_init_127 (fun a51 t52 => ?_)
  refine g_dup (pc := 130) X dX0_init_130 rfl ?_
  refine g_bI_v (pc := 131) X (y := yJ2_init) (As := []) (rest := [.ref a51, .ref h0]) (b := a51) (fr' := 3) (lo' := 52) (fun _ => cwI 0 X.2.2.2.2.1 (lw_meth q1539) rfl rfl rfl (X.2.2.2.2.1 _ q74) (X.2.2.2.2.1 _ q1597) (X.2.2.2.2.1 _ q1538) rfl dmS_J2_init ⟨Nat.le_of_ble_eq_true rfl, Nat.le_of_ble_eq_true rfl⟩) dX0_init_131 rfl rfl (Nat.le_of_ble_eq_true rfl) (fun r u h => kJ2_init hex h) (fun r53 t54 => ?_)
  refine cg_put (pc := 134) X fp_X0_426 dX0_init_134 (fun _ => hin) rfl rfl (fun t55 => ?_)
  refine g_aload_n (pc := 137) X 0 dX0_init_137 rfl rfl ?_
  refine g_iconst (pc := 138) X 4 dX0_init_138 rfl ?_
  refine cg_newq (pc := 139) X (j := 5) dX0_init_139 (by decide) rfl q1600 q1601 (fun a56 t57 => ?_)
  refine cg_put (pc := 142) X fp_X0_447 dX0_init_142 (fun _ => hin) rfl rfl (fun t58 => ?_)
  refine g_aload_n (pc := 145) X 0 dX0_init_145 rfl rfl ?_
  refine g_bipush (pc := 146) X 24 dX0_init_146 rfl ?_
  refine cg_newa (pc := 148) X (j := 3) dX0_init_148 (by decide) rfl rfl (fun _ _ => rfl) (by decide) q1393 (fun a59 t60 => ?_)
  refine cg_put (pc := 150) X fp_X0_482 dX0_init_150 (fun _ => hin) rfl rfl (fun t61 => ?_)
  refine g_iconst (pc := 153) X 0 dX0_init_153 rfl ?_
  refine g_istore_n (pc := 154) X (lv' := [(1, .int 0), (0, .ref h0)]) dX0_init_154 rfl (by decide) rfl ?_
  exact g_lv (pc := 155) (lv' := [(0, .ref h0), (1, .int 0)]) [1, 0] rfl (wX0_init_155 hex X hr hin 1000 h0 0 t61)
theorem kX0_init {ex : Nat → Option Nat} {z : Nat} {h0 : Nat} {σ : Sg} {r : Unit} {u : St} (hex : ex = Γ.2.2.2.2) (h : fX0_init ex z h0 (σ, 0, 0) = some (r, u)) : g_C Γ l yX0_init cX0_init 2 none 5 93 [.ref h0] σ z v_v r (g_ι z u) :=
  g_met (ι := g_ι z) (t := (σ, 0, 0)) [.ref h0] (by decide) (Nat.le_of_ble_eq_true rfl) h rfl (fun p e s m args below meth c X hr hn => wX0_init hex X hr hn h0 (σ, 0, 0))
end CP
abbrev cX10_init : ByteArray := prog_7_method_1_code
def yX10_init : MethodName := ⟨RX10, "<init>", "(I)V"⟩
def dkwX10_init_0 : List UInt8 := [42, 1, 1, 3, 3, 183, 0, 1, 42, 27, 181, 0, 7, 177]
abbrev dktX10_init_0 : List UInt8 := dkwX10_init_0 ++ []
theorem dksX10_init_0 : cX10_init.data.toList.drop 0 = dktX10_init_0 := by decide +kernel
theorem dX10_init_0 : decode cX10_init 0 = .ok (.aload_n 0, 1) := dk_42 (dk_at dksX10_init_0 0 rfl rfl)
theorem dX10_init_1 : decode cX10_init 1 = .ok (.aconst_null, 1) := dk_1 (dk_at dksX10_init_0 1 rfl rfl)
theorem dX10_init_2 : decode cX10_init 2 = .ok (.aconst_null, 1) := dk_1 (dk_at dksX10_init_0 2 rfl rfl)
theorem dX10_init_3 : decode cX10_init 3 = .ok (.iconst 0, 1) := dk_3 (dk_at dksX10_init_0 3 rfl rfl)
theorem dX10_init_4 : decode cX10_init 4 = .ok (.iconst 0, 1) := dk_3 (dk_at dksX10_init_0 4 rfl rfl)
theorem dX10_init_5 : decode cX10_init 5 = .ok (.invokespecial 1, 3) := dk_183 0 1 (dk_at dksX10_init_0 5 rfl rfl)
theorem dX10_init_8 : decode cX10_init 8 = .ok (.aload_n 0, 1) := dk_42 (dk_at dksX10_init_0 8 rfl rfl)
theorem dX10_init_9 : decode cX10_init 9 = .ok (.iload_n 1, 1) := dk_27 (dk_at dksX10_init_0 9 rfl rfl)
theorem dX10_init_10 : decode cX10_init 10 = .ok (.putfield 7, 3) := dk_181 0 7 (dk_at dksX10_init_0 10 rfl rfl)
theorem dX10_init_13 : decode cX10_init 13 = .ok (.return_, 1) := dk_177 (dk_at dksX10_init_0 13 rfl rfl)
theorem fp_X10_7 : g_fp RX10 7 [10] 6 .int true := ⟨_, _, _, Or.inl q1202, by decide +kernel, fun ci h => by
  simp only [List.mem_cons, List.not_mem_nil, or_false] at h; rcases h with rfl
  · exact ⟨_, _, _, tyX10, rfl, by decide, rfl, rfl, Or.inl rfl, in_X10, rfl, (fun _ => rfl), tyX10_ok, (by decide +kernel)⟩⟩
theorem dmS_J13_init_2 : yJ13_init_2.cls ≠ "java/lang/invoke/MethodHandle" ∧ yJ13_init_2.cls ≠ "java/lang/invoke/VarHandle" ∧ (parseMethodDescriptor yJ13_init_2.desc).map (fun d => d.parameters.length) = some 4 := by decide +kernel
section CP
variable {Γ : Gc} {p : Program} {l : Launch} {e : Env} {s : State} {m : MethodId} {args : Array Value} {below : List Frame} {meth : Method} {c : Code} {ex : Nat → Option Nat} {z : Nat} {tF : St}
noncomputable def fX10_init (ex : Nat → Option Nat) (z : Nat) (h0 : Nat) (x1 : Int32) (t : St) : Option (Unit × St) := gb (fJ13_init_2 ex (z + t.2.1) h0 none none 0 0 (t.1, 0, 0)) t fun _ t2 => cput [10] 6 t2 h0 (.int x1) fun t3 => some ((), t3)
set_option maxHeartbeats 4000000 in
theorem wX10_init {rF : Unit} (hex : ex = Γ.2.2.2.2) (X : g_X Γ p s m args meth c cX10_init 2 RX10) (hr : meth.sig.returnType = none) (hin : meth.name = "<init>") (h0 : Nat) (x1 : Int32) (t : St) : Wf Γ p l e 3 60 s m args below meth c 2 (g_ι z) v_v rF tF 0 [(0, .ref h0), (1, .int x1)] [] t (fX10_init ex z h0 x1 t) := by
  unfold fX10_init
  refine g_aload_n (pc := 0) X 0 dX10_init_0 rfl rfl ?_
  refine g_null (pc := 1) X dX10_init_1 ?_
  refine g_null (pc := 2) X dX10_init_2 ?_
  refine g_iconst (pc := 3) X 0 dX10_init_3 rfl ?_
  refine g_iconst (pc := 4) X 0 dX10_init_4 rfl ?_
  refine g_bI_v (pc := 5) X (y := yJ13_init_2) (As := [.null, .null, .int 0, .int 0]) (rest := []) (b := h0) (fr' := 2) (lo' := 36) (fun _ => cwI 4 X.2.2.2.2.1 (lw_meth q1198) rfl rfl rfl (X.2.2.2.2.1 _ q94) (X.2.2.2.2.1 _ q1196) (X.2.2.2.2.1 _ q1197) rfl dmS_J13_init_2 ⟨Nat.le_of_ble_eq_true rfl, Nat.le_of_ble_eq_true rfl⟩) dX10_init_5 rfl rfl (Nat.le_of_ble_eq_true rfl) (fun r u h => kJ13_init_2 hex h) (fun r1 t2 => ?_)
  refine g_aload_n (pc := 8) X 0 dX10_init_8 rfl rfl ?_
  refine g_iload_n (pc := 9) X 1 dX10_init_9 rfl rfl ?_
  refine cg_put (pc := 10) X fp_X10_7 dX10_init_10 (fun _ => hin) rfl rfl (fun t3 => ?_)
  exact g_vret (pc := 13) X hr dX10_init_13
theorem kX10_init {ex : Nat → Option Nat} {z : Nat} {h0 : Nat} {x1 : Int32} {σ : Sg} {r : Unit} {u : St} (hex : ex = Γ.2.2.2.2) (h : fX10_init ex z h0 x1 (σ, 0, 0) = some (r, u)) : g_C Γ l yX10_init cX10_init 2 none 3 60 [.ref h0, .int x1] σ z v_v r (g_ι z u) :=
  g_met (ι := g_ι z) (t := (σ, 0, 0)) [.ref h0, .int x1] (by decide) (Nat.le_of_ble_eq_true rfl) h rfl (fun p e s m args below meth c X hr hn => wX10_init hex X hr hn h0 x1 (σ, 0, 0))
end CP
