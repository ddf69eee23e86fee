/-! the component, its methods: J9_canEncode, J9_indexOfChar, X0_in, X0_weather, X0_heard, X0_isFew, X0_rests, X0_lowest, X0_settle, X0_seed, X0_type, X0_here, X0_passes, X0_isSheet, X0_isLane, X0_laid, X1_size (printed by gen/cmain.py) -/
set_option maxRecDepth 100000
theorem q70 : (Jvm.Cond.initialized "LameClocks") ∈ lw_all := lw_g (lw_at lw_m1 1 rfl) rfl
theorem q122 : (Jvm.Cond.methodLink "LameClocks" (48 : Nat) ({ cls := "LameClocks", name := "in", desc := "(JJJ)Z" } : Jvm.MethodName)) ∈ lw_all := lw_g (lw_at lw_m1 53 rfl) rfl
theorem q123 : (Jvm.Cond.static ({ cls := "LameClocks", name := "in", desc := "(JJJ)Z" } : Jvm.MethodName)) ∈ lw_all := lw_g (lw_at lw_m1 54 rfl) rfl
theorem q124 : (Jvm.Cond.code ({ cls := "LameClocks", name := "in", desc := "(JJJ)Z" } : Jvm.MethodName) prog_1_method_1_code (6 : Nat) (Option.some Jvm.ClassFile.FieldType.boolean)) ∈ lw_all := lw_g (lw_at lw_m1 55 rfl) rfl
theorem q132 : (Jvm.Cond.code ({ cls := "LameClocks$Race", name := "size", desc := "()I" } : Jvm.MethodName) prog_12_method_7_code (1 : Nat) (Option.some Jvm.ClassFile.FieldType.int)) ∈ lw_all := lw_g (lw_at lw_m1 63 rfl) rfl
theorem q133 : (Jvm.Cond.methodLink "LameClocks$Race" (44 : Nat) ({ cls := "java/util/ArrayList", name := "size", desc := "()I" } : Jvm.MethodName)) ∈ lw_all := lw_g (lw_at lw_m1 64 rfl) rfl
theorem q134 : (Jvm.Cond.instanceMethod ({ cls := "java/util/ArrayList", name := "size", desc := "()I" } : Jvm.MethodName)) ∈ lw_all := lw_g (lw_at lw_m1 65 rfl) rfl
theorem q135 : (Jvm.Cond.selects "java/util/ArrayList" ({ cls := "java/util/ArrayList", name := "size", desc := "()I" } : Jvm.MethodName) ({ cls := "java/util/ArrayList", name := "size", desc := "()I" } : Jvm.MethodName)) ∈ lw_all := lw_g (lw_at lw_m1 66 rfl) rfl
theorem q350 : (Jvm.Cond.methodLink "LameClocks" (92 : Nat) ({ cls := "java/util/ArrayList", name := "size", desc := "()I" } : Jvm.MethodName)) ∈ lw_all := lw_g (lw_at lw_m2 41 rfl) rfl
theorem q360 : (Jvm.Cond.methodLink "LameClocks" (104 : Nat) ({ cls := "java/util/ArrayList", name := "clear", desc := "()V" } : Jvm.MethodName)) ∈ lw_all := lw_g (lw_at lw_m2 51 rfl) rfl
theorem q361 : (Jvm.Cond.instanceMethod ({ cls := "java/util/ArrayList", name := "clear", desc := "()V" } : Jvm.MethodName)) ∈ lw_all := lw_g (lw_at lw_m2 52 rfl) rfl
theorem q362 : (Jvm.Cond.selects "java/util/ArrayList" ({ cls := "java/util/ArrayList", name := "clear", desc := "()V" } : Jvm.MethodName) ({ cls := "java/util/ArrayList", name := "clear", desc := "()V" } : Jvm.MethodName)) ∈ lw_all := lw_g (lw_at lw_m2 53 rfl) rfl
theorem q483 : (Jvm.Cond.code ({ cls := "LameClocks", name := "weather", desc := "(I)I" } : Jvm.MethodName) prog_1_method_13_code (2 : Nat) (Option.some Jvm.ClassFile.FieldType.int)) ∈ lw_all := lw_g (lw_at lw_m2 174 rfl) rfl
theorem q484 : (Jvm.Cond.constantLong "LameClocks" (142 : Nat) (9999 : Int64)) ∈ lw_all := lw_g (lw_at lw_m2 175 rfl) rfl
theorem q521 : (Jvm.Cond.code ({ cls := "LameClocks", name := "heard", desc := "()I" } : Jvm.MethodName) prog_1_method_15_code (1 : Nat) (Option.some Jvm.ClassFile.FieldType.int)) ∈ lw_all := lw_g (lw_at lw_m2 212 rfl) rfl
theorem q821 : (Jvm.Cond.code ({ cls := "LameClocks", name := "isFew", desc := "(I)Z" } : Jvm.MethodName) prog_1_method_24_code (1 : Nat) (Option.some Jvm.ClassFile.FieldType.boolean)) ∈ lw_all := lw_g (lw_at lw_m4 32 rfl) rfl
theorem q822 : (Jvm.Cond.constantLong "LameClocks" (211 : Nat) (200 : Int64)) ∈ lw_all := lw_g (lw_at lw_m4 33 rfl) rfl
theorem q906 : (Jvm.Cond.code ({ cls := "LameClocks", name := "rests", desc := "(II)Z" } : Jvm.MethodName) prog_1_method_36_code (4 : Nat) (Option.some Jvm.ClassFile.FieldType.boolean)) ∈ lw_all := lw_g (lw_at lw_m4 117 rfl) rfl
theorem q945 : (Jvm.Cond.code ({ cls := "LameClocks", name := "lowest", desc := "(I)I" } : Jvm.MethodName) prog_1_method_43_code (2 : Nat) (Option.some Jvm.ClassFile.FieldType.int)) ∈ lw_all := lw_g (lw_at lw_m4 156 rfl) rfl
theorem q1054 : (Jvm.Cond.arrayClass Jvm.ClassFile.FieldType.byte) ∈ lw_all := lw_g (lw_at lw_m5 25 rfl) rfl
theorem q1066 : (Jvm.Cond.code ({ cls := "LameClocks", name := "settle", desc := "()I" } : Jvm.MethodName) prog_1_method_49_code (2 : Nat) (Option.some Jvm.ClassFile.FieldType.int)) ∈ lw_all := lw_g (lw_at lw_m5 37 rfl) rfl
theorem q1070 : (Jvm.Cond.code ({ cls := "LameClocks", name := "seed", desc := "(I)I" } : Jvm.MethodName) prog_1_method_50_code (3 : Nat) (Option.some Jvm.ClassFile.FieldType.int)) ∈ lw_all := lw_g (lw_at lw_m5 41 rfl) rfl
theorem q1082 : (Jvm.Cond.code ({ cls := "LameClocks", name := "type", desc := "(I)I" } : Jvm.MethodName) prog_1_method_52_code (2 : Nat) (Option.some Jvm.ClassFile.FieldType.int)) ∈ lw_all := lw_g (lw_at lw_m5 53 rfl) rfl
theorem q1083 : (Jvm.Cond.constantLong "LameClocks" (308 : Nat) (32 : Int64)) ∈ lw_all := lw_g (lw_at lw_m5 54 rfl) rfl
theorem q1084 : (Jvm.Cond.constantLong "LameClocks" (310 : Nat) (126 : Int64)) ∈ lw_all := lw_g (lw_at lw_m5 55 rfl) rfl
theorem q1095 : (Jvm.Cond.methodLink "LameClocks" (321 : Nat) ({ cls := "LameClocks", name := "here", desc := "()I" } : Jvm.MethodName)) ∈ lw_all := lw_g (lw_at lw_m5 66 rfl) rfl
theorem q1097 : (Jvm.Cond.instanceMethod ({ cls := "LameClocks", name := "here", desc := "()I" } : Jvm.MethodName)) ∈ lw_all := lw_g (lw_at lw_m5 68 rfl) rfl
theorem q1098 : (Jvm.Cond.code ({ cls := "LameClocks", name := "here", desc := "()I" } : Jvm.MethodName) prog_1_method_53_code (1 : Nat) (Option.some Jvm.ClassFile.FieldType.int)) ∈ lw_all := lw_g (lw_at lw_m5 69 rfl) rfl
theorem q1130 : (Jvm.Cond.code ({ cls := "java/lang/StringLatin1", name := "canEncode", desc := "(I)Z" } : Jvm.MethodName) prog_42_method_4_code (1 : Nat) (Option.some Jvm.ClassFile.FieldType.boolean)) ∈ lw_all := lw_g (lw_at lw_m5 101 rfl) rfl
theorem q1135 : (Jvm.Cond.code ({ cls := "java/lang/StringLatin1", name := "indexOfChar", desc := "([BIII)I" } : Jvm.MethodName) prog_42_method_23_code (6 : Nat) (Option.some Jvm.ClassFile.FieldType.int)) ∈ lw_all := lw_g (lw_at lw_m5 106 rfl) rfl
theorem q1236 : (Jvm.Cond.code ({ cls := "LameClocks", name := "passes", desc := "(I)Z" } : Jvm.MethodName) prog_1_method_54_code (3 : Nat) (Option.some Jvm.ClassFile.FieldType.boolean)) ∈ lw_all := lw_g (lw_at lw_m5 207 rfl) rfl
theorem q1383 : (Jvm.Cond.code ({ cls := "LameClocks", name := "isSheet", desc := "(I)Z" } : Jvm.MethodName) prog_1_method_69_code (1 : Nat) (Option.some Jvm.ClassFile.FieldType.boolean)) ∈ lw_all := lw_g (lw_at lw_m6 114 rfl) rfl
theorem q1384 : (Jvm.Cond.constantLong "LameClocks" (432 : Nat) (3 : Int64)) ∈ lw_all := lw_g (lw_at lw_m6 115 rfl) rfl
theorem q1387 : (Jvm.Cond.code ({ cls := "LameClocks", name := "isLane", desc := "(I)Z" } : Jvm.MethodName) prog_1_method_70_code (1 : Nat) (Option.some Jvm.ClassFile.FieldType.boolean)) ∈ lw_all := lw_g (lw_at lw_m6 118 rfl) rfl
theorem q1390 : (Jvm.Cond.code ({ cls := "LameClocks", name := "laid", desc := "(II)Ljava/lang/Object;" } : Jvm.MethodName) prog_1_method_71_code (2 : Nat) (Option.some (Jvm.ClassFile.FieldType.object "java/lang/Object"))) ∈ lw_all := lw_g (lw_at lw_m6 121 rfl) rfl
theorem q1391 : (Jvm.Cond.arrayClass Jvm.ClassFile.FieldType.short) ∈ lw_all := lw_g (lw_at lw_m6 122 rfl) rfl
theorem q1392 : (Jvm.Cond.arrayClass Jvm.ClassFile.FieldType.int) ∈ lw_all := lw_g (lw_at lw_m6 123 rfl) rfl
theorem q1393 : (Jvm.Cond.arrayClass Jvm.ClassFile.FieldType.long) ∈ lw_all := lw_g (lw_at lw_m6 124 rfl) rfl
theorem q1564 : (Jvm.Cond.fieldLink "LameClocks$Race" (22 : Nat) "LameClocks$Race" "all" "Ljava/util/ArrayList;") ∈ lw_all := lw_g (lw_at lw_m7 55 rfl) rfl
theorem q1569 : (Jvm.Cond.fieldLinkNest "LameClocks" (144 : Nat) "LameClocks$Race" "skies" "[B" "LameClocks") ∈ lw_tbl := lw_at lw_m7 60 rfl
theorem q1571 : (Jvm.Cond.fieldLinkNest "LameClocks" (147 : Nat) "LameClocks$Race" "many" "I" "LameClocks") ∈ lw_tbl := lw_at lw_m7 62 rfl
theorem q1574 : (Jvm.Cond.fieldLinkNest "LameClocks" (86 : Nat) "LameClocks$Race" "heard" "I" "LameClocks") ∈ lw_tbl := lw_at lw_m7 65 rfl
theorem q1615 : (Jvm.Cond.fieldLink "LameClocks" (38 : Nat) "LameClocks" "race" "LLameClocks$Race;") ∈ lw_all := lw_g (lw_at lw_m7 106 rfl) rfl
theorem q1619 : (Jvm.Cond.fieldLink "LameClocks" (242 : Nat) "LameClocks" "duels" "[[I") ∈ lw_all := lw_g (lw_at lw_m7 110 rfl) rfl
theorem q1620 : (Jvm.Cond.fieldLink "LameClocks" (89 : Nat) "LameClocks" "bets" "Ljava/util/ArrayList;") ∈ lw_all := lw_g (lw_at lw_m7 111 rfl) rfl
theorem q1621 : (Jvm.Cond.fieldLink "LameClocks" (300 : Nat) "LameClocks" "draw" "I") ∈ lw_all := lw_g (lw_at lw_m7 112 rfl) rfl
theorem q1622 : (Jvm.Cond.fieldLink "LameClocks" (315 : Nat) "LameClocks" "tape" "[B") ∈ lw_all := lw_g (lw_at lw_m7 113 rfl) rfl
theorem q1623 : (Jvm.Cond.fieldLink "LameClocks" (312 : Nat) "LameClocks" "typed" "I") ∈ lw_all := lw_g (lw_at lw_m7 114 rfl) rfl
theorem q1624 : (Jvm.Cond.fieldLink "LameClocks" (318 : Nat) "LameClocks" "at" "I") ∈ lw_all := lw_g (lw_at lw_m7 115 rfl) rfl
abbrev cJ9_canEncode : ByteArray := prog_42_method_4_code
def yJ9_canEncode : MethodName := ⟨RJ9, "canEncode", "(I)Z"⟩
def dkwJ9_canEncode_0 : List UInt8 := [26, 155, 0, 14, 26, 17, 0, 255, 163, 0, 7, 4, 167, 0, 4, 3, 172]
abbrev dktJ9_canEncode_0 : List UInt8 := dkwJ9_canEncode_0 ++ []
theorem dksJ9_canEncode_0 : cJ9_canEncode.data.toList.drop 0 = dktJ9_canEncode_0 := by decide +kernel
theorem dJ9_canEncode_0 : decode cJ9_canEncode 0 = .ok (.iload_n 0, 1) := dk_26 (dk_at dksJ9_canEncode_0 0 rfl rfl)
theorem dJ9_canEncode_1 : decode cJ9_canEncode 1 = .ok (.ifCond .lt 14, 3) := dk_155 0 14 (dk_at dksJ9_canEncode_0 1 rfl rfl)
theorem dJ9_canEncode_4 : decode cJ9_canEncode 4 = .ok (.iload_n 0, 1) := dk_26 (dk_at dksJ9_canEncode_0 4 rfl rfl)
theorem dJ9_canEncode_5 : decode cJ9_canEncode 5 = .ok (.sipush 255, 3) := dk_17 0 255 (dk_at dksJ9_canEncode_0 5 rfl rfl)
theorem dJ9_canEncode_8 : decode cJ9_canEncode 8 = .ok (.if_icmp .gt 7, 3) := dk_163 0 7 (dk_at dksJ9_canEncode_0 8 rfl rfl)
theorem dJ9_canEncode_11 : decode cJ9_canEncode 11 = .ok (.iconst 1, 1) := dk_4 (dk_at dksJ9_canEncode_0 11 rfl rfl)
theorem dJ9_canEncode_12 : decode cJ9_canEncode 12 = .ok (.goto 4, 3) := dk_167 0 4 (dk_at dksJ9_canEncode_0 12 rfl rfl)
theorem dJ9_canEncode_15 : decode cJ9_canEncode 15 = .ok (.iconst 0, 1) := dk_3 (dk_at dksJ9_canEncode_0 15 rfl rfl)
theorem dJ9_canEncode_16 : decode cJ9_canEncode 16 = .ok (.ireturn, 1) := dk_172 (dk_at dksJ9_canEncode_0 16 rfl rfl)
section CP
variable {Γ : Gc} {p : Program} {l : Launch} {e : Env} {s : State} {m : MethodId} {args : Array Value} {below : List Frame} {meth : Method} {c : Code} {ex : Nat → Option Nat} {z : Nat} {tF : St}
noncomputable def fJ9_canEncode (ex : Nat → Option Nat) (z : Nat) (x0 : Int32) (t : St) : Option (Int32 × St) := if x0 < 0 then some (0, t) else if 255 < x0 then some (0, t) else some (1, t)
set_option maxHeartbeats 4000000 in
theorem wJ9_canEncode {rF : Int32} (hex : ex = Γ.2.2.2.2) (X : g_X Γ p s m args meth c cJ9_canEncode 1 RJ9) (hr : meth.sig.returnType = (some .boolean)) (x0 : Int32) (t : St) : Wf Γ p l e 0 0 s m args below meth c 1 (g_ι z) v_i rF tF 0 [(0, .int x0)] [] t (fJ9_canEncode ex z x0 t) := by
  unfold fJ9_canEncode
  refine g_iload_n (pc := 0) X 0 dJ9_canEncode_0 rfl rfl ?_
  refine g_if_lt (pc := 1) X 15 dJ9_canEncode_1 (by decide) ?_ ?_
  · refine g_iconst (pc := 15) X 0 dJ9_canEncode_15 rfl ?_
    exact g_zret (pc := 16) X hr rfl dJ9_canEncode_16
  · refine g_iload_n (pc := 4) X 0 dJ9_canEncode_4 rfl rfl ?_
    refine g_sipush (pc := 5) X 255 dJ9_canEncode_5 rfl ?_
    refine g_icmp_gt (pc := 8) X 15 dJ9_canEncode_8 (by decide) ?_ ?_
    · refine g_iconst (pc := 15) X 0 dJ9_canEncode_15 rfl ?_
      exact g_zret (pc := 16) X hr rfl dJ9_canEncode_16
    · refine g_iconst (pc := 11) X 1 dJ9_canEncode_11 rfl ?_
      refine g_goto (pc := 12) X 16 dJ9_canEncode_12 (by decide) ?_
      exact g_zret (pc := 16) X hr rfl dJ9_canEncode_16
theorem kJ9_canEncode {ex : Nat → Option Nat} {z : Nat} {x0 : Int32} {σ : Sg} {r : Int32} {u : St} (hex : ex = Γ.2.2.2.2) (h : fJ9_canEncode ex z x0 (σ, 0, 0) = some (r, u)) : g_C Γ l yJ9_canEncode cJ9_canEncode 1 (some .boolean) 0 0 [.int x0] σ z v_i r (g_ι z u) :=
  g_met (ι := g_ι z) (t := (σ, 0, 0)) [.int x0] (by decide) (Nat.le_of_ble_eq_true rfl) h rfl (fun p e s m args below meth c X hr hn => wJ9_canEncode hex X hr x0 (σ, 0, 0))
end CP
abbrev cJ9_indexOfChar : ByteArray := prog_42_method_23_code
def yJ9_indexOfChar : MethodName := ⟨RJ9, "indexOfChar", "([BIII)I"⟩
def dkwJ9_indexOfChar_1 : List UInt8 := [172, 132, 5, 1, 167, 255, 235, 2, 172]
abbrev dktJ9_indexOfChar_1 : List UInt8 := dkwJ9_indexOfChar_1 ++ []
def dkwJ9_indexOfChar_0 : List UInt8 := [27, 145, 54, 4, 28, 54, 5, 21, 5, 29, 162, 0, 21, 42, 21, 5, 51, 21, 4, 160, 0, 6, 21, 5]
abbrev dktJ9_indexOfChar_0 : List UInt8 := dkwJ9_indexOfChar_0 ++ dktJ9_indexOfChar_1
theorem dksJ9_indexOfChar_0 : cJ9_indexOfChar.data.toList.drop 0 = dktJ9_indexOfChar_0 := by decide +kernel
theorem dksJ9_indexOfChar_1 : cJ9_indexOfChar.data.toList.drop 24 = dktJ9_indexOfChar_1 := dk_seg dksJ9_indexOfChar_0 24 rfl rfl
theorem dJ9_indexOfChar_0 : decode cJ9_indexOfChar 0 = .ok (.iload_n 1, 1) := dk_27 (dk_at dksJ9_indexOfChar_0 0 rfl rfl)
theorem dJ9_indexOfChar_1 : decode cJ9_indexOfChar 1 = .ok (.i2b, 1) := dk_145 (dk_at dksJ9_indexOfChar_0 1 rfl rfl)
theorem dJ9_indexOfChar_2 : decode cJ9_indexOfChar 2 = .ok (.istore 4, 2) := dk_54 4 (dk_at dksJ9_indexOfChar_0 2 rfl rfl)
theorem dJ9_indexOfChar_4 : decode cJ9_indexOfChar 4 = .ok (.iload_n 2, 1) := dk_28 (dk_at dksJ9_indexOfChar_0 4 rfl rfl)
theorem dJ9_indexOfChar_5 : decode cJ9_indexOfChar 5 = .ok (.istore 5, 2) := dk_54 5 (dk_at dksJ9_indexOfChar_0 5 rfl rfl)
theorem dJ9_indexOfChar_7 : decode cJ9_indexOfChar 7 = .ok (.iload 5, 2) := dk_21 5 (dk_at dksJ9_indexOfChar_0 7 rfl rfl)
theorem dJ9_indexOfChar_9 : decode cJ9_indexOfChar 9 = .ok (.iload_n 3, 1) := dk_29 (dk_at dksJ9_indexOfChar_0 9 rfl rfl)
theorem dJ9_indexOfChar_10 : decode cJ9_indexOfChar 10 = .ok (.if_icmp .ge 21, 3) := dk_162 0 21 (dk_at dksJ9_indexOfChar_0 10 rfl rfl)
theorem dJ9_indexOfChar_13 : decode cJ9_indexOfChar 13 = .ok (.aload_n 0, 1) := dk_42 (dk_at dksJ9_indexOfChar_0 13 rfl rfl)
theorem dJ9_indexOfChar_14 : decode cJ9_indexOfChar 14 = .ok (.iload 5, 2) := dk_21 5 (dk_at dksJ9_indexOfChar_0 14 rfl rfl)
theorem dJ9_indexOfChar_16 : decode cJ9_indexOfChar 16 = .ok (.baload, 1) := dk_51 (dk_at dksJ9_indexOfChar_0 16 rfl rfl)
theorem dJ9_indexOfChar_17 : decode cJ9_indexOfChar 17 = .ok (.iload 4, 2) := dk_21 4 (dk_at dksJ9_indexOfChar_0 17 rfl rfl)
theorem dJ9_indexOfChar_19 : decode cJ9_indexOfChar 19 = .ok (.if_icmp .ne 6, 3) := dk_160 0 6 (dk_at dksJ9_indexOfChar_0 19 rfl rfl)
theorem dJ9_indexOfChar_22 : decode cJ9_indexOfChar 22 = .ok (.iload 5, 2) := dk_21 5 (dk_at dksJ9_indexOfChar_0 22 rfl rfl)
theorem dJ9_indexOfChar_24 : decode cJ9_indexOfChar 24 = .ok (.ireturn, 1) := dk_172 (dk_at dksJ9_indexOfChar_1 0 rfl rfl)
theorem dJ9_indexOfChar_25 : decode cJ9_indexOfChar 25 = .ok (.iinc 5 1, 3) := dk_132 5 1 (dk_at dksJ9_indexOfChar_1 1 rfl rfl)
theorem dJ9_indexOfChar_28 : decode cJ9_indexOfChar 28 = .ok (.goto (-21), 3) := dk_167 255 235 (dk_at dksJ9_indexOfChar_1 4 rfl rfl)
theorem dJ9_indexOfChar_31 : decode cJ9_indexOfChar 31 = .ok (.iconst (-1), 1) := dk_2 (dk_at dksJ9_indexOfChar_1 7 rfl rfl)
theorem dJ9_indexOfChar_32 : decode cJ9_indexOfChar 32 = .ok (.ireturn, 1) := dk_172 (dk_at dksJ9_indexOfChar_1 8 rfl rfl)
section CP
variable {Γ : Gc} {p : Program} {l : Launch} {e : Env} {s : State} {m : MethodId} {args : Array Value} {below : List Frame} {meth : Method} {c : Code} {ex : Nat → Option Nat} {z : Nat} {tF : St}
noncomputable def fJ9_indexOfChar_7 (ex : Nat → Option Nat) (z : Nat) : Nat → Nat → Int32 → Int32 → Int32 → St → Option (Int32 × St)
  | 0, _, _, _, _, _ => none
  | n + 1, h0, x3, x4, x5, t => if x3 ≤ x5 then some ((-1), t) else cald 0 t h0 x5 fun v1 => if v1 = x4 then some (x5, t) else fJ9_indexOfChar_7 ex z n h0 x3 x4 (x5 + 1) t
set_option maxHeartbeats 4000000 in
theorem wJ9_indexOfChar_7 {rF : Int32} (hex : ex = Γ.2.2.2.2) (X : g_X Γ p s m args meth c cJ9_indexOfChar 6 RJ9) (hr : meth.sig.returnType = (some .int)) (n : Nat) : ∀ (h0 : Nat) (x3 : Int32) (x4 : Int32) (x5 : Int32) (t : St), Wf Γ p l e 0 0 s m args below meth c 6 (g_ι z) v_i rF tF 7 [(0, .ref h0), (3, .int x3), (4, .int x4), (5, .int x5)] [] t (fJ9_indexOfChar_7 ex z n h0 x3 x4 x5 t) := by
  induction n with
  | zero => intro h0 x3 x4 x5 t; exact g_none
  | succ n ih =>
    intro h0 x3 x4 x5 t
    rw [fJ9_indexOfChar_7]
    refine g_iload (pc := 7) X 3 dJ9_indexOfChar_7 rfl ?_
    refine g_iload_n (pc := 9) X 1 dJ9_indexOfChar_9 rfl rfl ?_
    refine g_icmp_ge (pc := 10) X 31 dJ9_indexOfChar_10 (by decide) ?_ ?_
    · refine g_iconst (pc := 31) X (-1) dJ9_indexOfChar_31 rfl ?_
      exact g_iret (pc := 32) X hr dJ9_indexOfChar_32
    · refine g_aload_n (pc := 13) X 0 dJ9_indexOfChar_13 rfl rfl ?_
      refine g_iload (pc := 14) X 3 dJ9_indexOfChar_14 rfl ?_
      refine cg_bald (pc := 16) X dJ9_indexOfChar_16 (fun v1 => ?_)
      refine g_iload (pc := 17) X 2 dJ9_indexOfChar_17 rfl ?_
      refine g_icmp_ne (pc := 19) X 25 dJ9_indexOfChar_19 (by decide) ?_ ?_
      · refine g_iinc (pc := 25) X 1 3 (lv' := [(5, .int (x5 + 1)), (0, .ref h0), (3, .int x3), (4, .int x4)]) dJ9_indexOfChar_25 rfl rfl (by decide) rfl ?_
        refine g_goto (pc := 28) X 7 dJ9_indexOfChar_28 (by decide) ?_
        exact g_lv (pc := 7) (lv' := [(0, .ref h0), (3, .int x3), (4, .int x4), (5, .int (x5 + 1))]) [1, 2, 3, 0] rfl (ih h0 x3 x4 (x5 + 1) t)
      · refine g_iload (pc := 22) X 3 dJ9_indexOfChar_22 rfl ?_
        exact g_iret (pc := 24) X hr dJ9_indexOfChar_24
noncomputable def fJ9_indexOfChar (ex : Nat → Option Nat) (z : Nat) (h0 : Nat) (x1 : Int32) (x2 : Int32) (x3 : Int32) (t : St) : Option (Int32 × St) := lt x1.toInt8.toInt32 fun y1 => fJ9_indexOfChar_7 ex z 1000 h0 x3 y1 x2 t
set_option maxHeartbeats 4000000 in
theorem wJ9_indexOfChar {rF : Int32} (hex : ex = Γ.2.2.2.2) (X : g_X Γ p s m args meth c cJ9_indexOfChar 6 RJ9) (hr : meth.sig.returnType = (some .int)) (h0 : Nat) (x1 : Int32) (x2 : Int32) (x3 : Int32) (t : St) : Wf Γ p l e 0 0 s m args below meth c 6 (g_ι z) v_i rF tF 0 [(0, .ref h0), (1, .int x1), (2, .int x2), (3, .int x3)] [] t (fJ9_indexOfChar ex z h0 x1 x2 x3 t) := by
  unfold fJ9_indexOfChar
  refine g_iload_n (pc := 0) X 1 dJ9_indexOfChar_0 rfl rfl ?_
  refine g_i2b (pc := 1) X dJ9_indexOfChar_1 ?_
  refine g_lti (pc := 2) (fun y1 => ?_)
  refine g_istore (pc := 2) X (lv' := [(4, .int y1), (0, .ref h0), (1, .int x1), (2, .int x2), (3, .int x3)]) dJ9_indexOfChar_2 (by decide) rfl ?_
  refine g_iload_n (pc := 4) X 3 dJ9_indexOfChar_4 rfl rfl ?_
  refine g_istore (pc := 5) X (lv' := [(5, .int x2), (4, .int y1), (0, .ref h0), (1, .int x1), (2, .int x2), (3, .int x3)]) dJ9_indexOfChar_5 (by decide) rfl ?_
  exact g_lv (pc := 7) (lv' := [(0, .ref h0), (3, .int x3), (4, .int y1), (5, .int x2)]) [2, 5, 1, 0] rfl (wJ9_indexOfChar_7 hex X hr 1000 h0 x3 y1 x2 t)
theorem kJ9_indexOfChar {ex : Nat → Option Nat} {z : Nat} {h0 : Nat} {x1 : Int32} {x2 : Int32} {x3 : Int32} {σ : Sg} {r : Int32} {u : St} (hex : ex = Γ.2.2.2.2) (h : fJ9_indexOfChar ex z h0 x1 x2 x3 (σ, 0, 0) = some (r, u)) : g_C Γ l yJ9_indexOfChar cJ9_indexOfChar 6 (some .int) 0 0 [.ref h0, .int x1, .int x2, .int x3] σ z v_i r (g_ι z u) :=
  g_met (ι := g_ι z) (t := (σ, 0, 0)) [.ref h0, .int x1, .int x2, .int x3] (by decide) (Nat.le_of_ble_eq_true rfl) h rfl (fun p e s m args below meth c X hr hn => wJ9_indexOfChar hex X hr h0 x1 x2 x3 (σ, 0, 0))
end CP
abbrev cX0_in : ByteArray := prog_1_method_1_code
def yX0_in : MethodName := ⟨RX0, "in", "(JJJ)Z"⟩
def dkwX0_in_0 : List UInt8 := [30, 32, 148, 155, 0, 14, 30, 22, 4, 148, 157, 0, 7, 4, 167, 0, 4, 3, 172]
abbrev dktX0_in_0 : List UInt8 := dkwX0_in_0 ++ []
theorem dksX0_in_0 : cX0_in.data.toList.drop 0 = dktX0_in_0 := by decide +kernel
theorem dX0_in_0 : decode cX0_in 0 = .ok (.lload_n 0, 1) := dk_30 (dk_at dksX0_in_0 0 rfl rfl)
theorem dX0_in_1 : decode cX0_in 1 = .ok (.lload_n 2, 1) := dk_32 (dk_at dksX0_in_0 1 rfl rfl)
theorem dX0_in_2 : decode cX0_in 2 = .ok (.lcmp, 1) := dk_148 (dk_at dksX0_in_0 2 rfl rfl)
theorem dX0_in_3 : decode cX0_in 3 = .ok (.ifCond .lt 14, 3) := dk_155 0 14 (dk_at dksX0_in_0 3 rfl rfl)
theorem dX0_in_6 : decode cX0_in 6 = .ok (.lload_n 0, 1) := dk_30 (dk_at dksX0_in_0 6 rfl rfl)
theorem dX0_in_7 : decode cX0_in 7 = .ok (.lload 4, 2) := dk_22 4 (dk_at dksX0_in_0 7 rfl rfl)
theorem dX0_in_9 : decode cX0_in 9 = .ok (.lcmp, 1) := dk_148 (dk_at dksX0_in_0 9 rfl rfl)
theorem dX0_in_10 : decode cX0_in 10 = .ok (.ifCond .gt 7, 3) := dk_157 0 7 (dk_at dksX0_in_0 10 rfl rfl)
theorem dX0_in_13 : decode cX0_in 13 = .ok (.iconst 1, 1) := dk_4 (dk_at dksX0_in_0 13 rfl rfl)
theorem dX0_in_14 : decode cX0_in 14 = .ok (.goto 4, 3) := dk_167 0 4 (dk_at dksX0_in_0 14 rfl rfl)
theorem dX0_in_17 : decode cX0_in 17 = .ok (.iconst 0, 1) := dk_3 (dk_at dksX0_in_0 17 rfl rfl)
theorem dX0_in_18 : decode cX0_in 18 = .ok (.ireturn, 1) := dk_172 (dk_at dksX0_in_0 18 rfl rfl)
section CP
variable {Γ : Gc} {p : Program} {l : Launch} {e : Env} {s : State} {m : MethodId} {args : Array Value} {below : List Frame} {meth : Method} {c : Code} {ex : Nat → Option Nat} {z : Nat} {tF : St}
noncomputable def fX0_in (ex : Nat → Option Nat) (z : Nat) (x0 : Int64) (x2 : Int64) (x4 : Int64) (t : St) : Option (Int32 × St) := if (if x2 < x0 then 1 else if x0 = x2 then 0 else -1 : Int32) < 0 then some (0, t) else if 0 < (if x4 < x0 then 1 else if x0 = x4 then 0 else -1 : Int32) then some (0, t) else some (1, t)
set_option maxHeartbeats 4000000 in
theorem wX0_in {rF : Int32} (hex : ex = Γ.2.2.2.2) (X : g_X Γ p s m args meth c cX0_in 6 RX0) (hr : meth.sig.returnType = (some .boolean)) (x0 : Int64) (x2 : Int64) (x4 : Int64) (t : St) : Wf Γ p l e 0 0 s m args below meth c 6 (g_ι z) v_i rF tF 0 [(0, .long x0), (2, .long x2), (4, .long x4)] [] t (fX0_in ex z x0 x2 x4 t) := by
  unfold fX0_in
  refine g_lload_n (pc := 0) X 0 dX0_in_0 rfl rfl ?_
  refine g_lload_n (pc := 1) X 1 dX0_in_1 rfl rfl ?_
  refine g_lcmp (pc := 2) X dX0_in_2 ?_
  refine g_if_lt (pc := 3) X 17 dX0_in_3 (by decide) ?_ ?_
  · refine g_iconst (pc := 17) X 0 dX0_in_17 rfl ?_
    exact g_zret (pc := 18) X hr rfl dX0_in_18
  · refine g_lload_n (pc := 6) X 0 dX0_in_6 rfl rfl ?_
    refine g_lload (pc := 7) X 2 dX0_in_7 rfl ?_
    refine g_lcmp (pc := 9) X dX0_in_9 ?_
    refine g_if_gt (pc := 10) X 17 dX0_in_10 (by decide) ?_ ?_
    · refine g_iconst (pc := 17) X 0 dX0_in_17 rfl ?_
      exact g_zret (pc := 18) X hr rfl dX0_in_18
    · refine g_iconst (pc := 13) X 1 dX0_in_13 rfl ?_
      refine g_goto (pc := 14) X 18 dX0_in_14 (by decide) ?_
      exact g_zret (pc := 18) X hr rfl dX0_in_18
theorem kX0_in {ex : Nat → Option Nat} {z : Nat} {x0 : Int64} {x2 : Int64} {x4 : Int64} {σ : Sg} {r : Int32} {u : St} (hex : ex = Γ.2.2.2.2) (h : fX0_in ex z x0 x2 x4 (σ, 0, 0) = some (r, u)) : g_C Γ l yX0_in cX0_in 6 (some .boolean) 0 0 [.long x0, .long x2, .long x4] σ z v_i r (g_ι z u) :=
  g_met (ι := g_ι z) (t := (σ, 0, 0)) [.long x0, .long x2, .long x4] (by decide) (Nat.le_of_ble_eq_true rfl) h rfl (fun p e s m args below meth c X hr hn => wX0_in hex X hr x0 x2 x4 (σ, 0, 0))
end CP
abbrev cX0_weather : ByteArray := prog_1_method_13_code
def yX0_weather : MethodName := ⟨RX0, "weather", "(I)I"⟩
def dkwX0_weather_1 : List UInt8 := [180, 0, 147, 112, 51, 167, 0, 4, 2, 172]
abbrev dktX0_weather_1 : List UInt8 := dkwX0_weather_1 ++ []
def dkwX0_weather_0 : List UInt8 := [27, 133, 9, 20, 0, 142, 184, 0, 48, 153, 0, 23, 42, 180, 0, 38, 180, 0, 144, 27, 42, 180, 0, 38]
abbrev dktX0_weather_0 : List UInt8 := dkwX0_weather_0 ++ dktX0_weather_1
theorem dksX0_weather_0 : cX0_weather.data.toList.drop 0 = dktX0_weather_0 := by decide +kernel
theorem dksX0_weather_1 : cX0_weather.data.toList.drop 24 = dktX0_weather_1 := dk_seg dksX0_weather_0 24 rfl rfl
theorem dX0_weather_0 : decode cX0_weather 0 = .ok (.iload_n 1, 1) := dk_27 (dk_at dksX0_weather_0 0 rfl rfl)
theorem dX0_weather_1 : decode cX0_weather 1 = .ok (.i2l, 1) := dk_133 (dk_at dksX0_weather_0 1 rfl rfl)
theorem dX0_weather_2 : decode cX0_weather 2 = .ok (.lconst 0, 1) := dk_9 (dk_at dksX0_weather_0 2 rfl rfl)
theorem dX0_weather_3 : decode cX0_weather 3 = .ok (.ldc2_w 142, 3) := dk_20 0 142 (dk_at dksX0_weather_0 3 rfl rfl)
theorem dX0_weather_6 : decode cX0_weather 6 = .ok (.invokestatic 48, 3) := dk_184 0 48 (dk_at dksX0_weather_0 6 rfl rfl)
theorem dX0_weather_9 : decode cX0_weather 9 = .ok (.ifCond .eq 23, 3) := dk_153 0 23 (dk_at dksX0_weather_0 9 rfl rfl)
theorem dX0_weather_12 : decode cX0_weather 12 = .ok (.aload_n 0, 1) := dk_42 (dk_at dksX0_weather_0 12 rfl rfl)
theorem dX0_weather_13 : decode cX0_weather 13 = .ok (.getfield 38, 3) := dk_180 0 38 (dk_at dksX0_weather_0 13 rfl rfl)
theorem dX0_weather_16 : decode cX0_weather 16 = .ok (.getfield 144, 3) := dk_180 0 144 (dk_at dksX0_weather_0 16 rfl rfl)
theorem dX0_weather_19 : decode cX0_weather 19 = .ok (.iload_n 1, 1) := dk_27 (dk_at dksX0_weather_0 19 rfl rfl)
theorem dX0_weather_20 : decode cX0_weather 20 = .ok (.aload_n 0, 1) := dk_42 (dk_at dksX0_weather_0 20 rfl rfl)
theorem dX0_weather_21 : decode cX0_weather 21 = .ok (.getfield 38, 3) := dk_180 0 38 (dk_at dksX0_weather_0 21 rfl rfl)
theorem dX0_weather_24 : decode cX0_weather 24 = .ok (.getfield 147, 3) := dk_180 0 147 (dk_at dksX0_weather_1 0 rfl rfl)
theorem dX0_weather_27 : decode cX0_weather 27 = .ok (.irem, 1) := dk_112 (dk_at dksX0_weather_1 3 rfl rfl)
theorem dX0_weather_28 : decode cX0_weather 28 = .ok (.baload, 1) := dk_51 (dk_at dksX0_weather_1 4 rfl rfl)
theorem dX0_weather_29 : decode cX0_weather 29 = .ok (.goto 4, 3) := dk_167 0 4 (dk_at dksX0_weather_1 5 rfl rfl)
theorem dX0_weather_32 : decode cX0_weather 32 = .ok (.iconst (-1), 1) := dk_2 (dk_at dksX0_weather_1 8 rfl rfl)
theorem dX0_weather_33 : decode cX0_weather 33 = .ok (.ireturn, 1) := dk_172 (dk_at dksX0_weather_1 9 rfl rfl)
theorem fo_X0_38 : g_fo RX0 38 [0] 0 := ⟨_, _, _, Or.inl q1615, fun ci h => by
  simp only [List.mem_cons, List.not_mem_nil, or_false] at h; rcases h with rfl
  · exact ⟨_, _, _, rfl, by decide, rfl, rfl, Or.inl rfl, in_X0⟩⟩
theorem fo_X0_144 : g_fo RX0 144 [1] 4 := ⟨_, _, _, Or.inr ⟨_, q1569⟩, fun ci h => by
  simp only [List.mem_cons, List.not_mem_nil, or_false] at h; rcases h with rfl
  · exact ⟨_, _, _, rfl, by decide, rfl, rfl, Or.inl rfl, in_X1⟩⟩
theorem fo_X0_147 : g_fo RX0 147 [1] 5 := ⟨_, _, _, Or.inr ⟨_, q1571⟩, fun ci h => by
  simp only [List.mem_cons, List.not_mem_nil, or_false] at h; rcases h with rfl
  · exact ⟨_, _, _, rfl, by decide, rfl, rfl, Or.inl rfl, in_X1⟩⟩
theorem dmS_X0_in : yX0_in.cls ≠ "java/lang/invoke/MethodHandle" ∧ yX0_in.cls ≠ "java/lang/invoke/VarHandle" ∧ (parseMethodDescriptor yX0_in.desc).map (fun d => d.parameters.length) = some 3 := by decide +kernel
section CP
variable {Γ : Gc} {p : Program} {l : Launch} {e : Env} {s : State} {m : MethodId} {args : Array Value} {below : List Frame} {meth : Method} {c : Code} {ex : Nat → Option Nat} {z : Nat} {tF : St}
noncomputable def fX0_weather (ex : Nat → Option Nat) (z : Nat) (h0 : Nat) (x1 : Int32) (t : St) : Option (Int32 × St) := gb (fX0_in ex (z + t.2.1) x1.toInt64 0 9999 (t.1, 0, 0)) t fun r1 t2 => if r1 = 0 then some ((-1), t2) else cgA [0] 0 t2 h0 fun v3 => cgA [1] 4 t2 v3 fun v4 => cgA [0] 0 t2 h0 fun v5 => cgI [1] 5 t2 v5 fun v6 => if v6 = 0 then none else cald 0 t2 v4 (x1 - x1 / v6 * v6) fun v8 => some (v8, t2)
set_option maxHeartbeats 4000000 in
theorem wX0_weather {rF : Int32} (hex : ex = Γ.2.2.2.2) (X : g_X Γ p s m args meth c cX0_weather 2 RX0) (hr : meth.sig.returnType = (some .int)) (h0 : Nat) (x1 : Int32) (t : St) : Wf Γ p l e 1 25 s m args below meth c 2 (g_ι z) v_i rF tF 0 [(0, .ref h0), (1, .int x1)] [] t (fX0_weather ex z h0 x1 t) := by
  unfold fX0_weather
  refine g_iload_n (pc := 0) X 1 dX0_weather_0 rfl rfl ?_
  refine g_i2l (pc := 1) X dX0_weather_1 ?_
  refine g_lconst (pc := 2) X 0 dX0_weather_2 rfl ?_
  refine g_ldc2 (pc := 3) X 9999 dX0_weather_3 q484 ?_
  refine g_bS_i (pc := 6) X (y := yX0_in) (As := [.long x1.toInt64, .long 0, .long 9999]) (rest := []) (fr' := 0) (lo' := 0) (fun _ => va_cwS 3 X.2.2.2.2.1 (lw_S q122 q123 q70 q124) rfl rfl rfl dmS_X0_in ⟨Nat.le_of_ble_eq_true rfl, Nat.le_of_ble_eq_true rfl⟩) dX0_weather_6 rfl rfl (Nat.le_of_ble_eq_true rfl) (fun r u h => kX0_in hex h) (fun r1 t2 => ?_)
  refine g_if_eq (pc := 9) X 32 dX0_weather_9 (by decide) ?_ ?_
  · refine g_iconst (pc := 32) X (-1) dX0_weather_32 rfl ?_
    exact g_iret (pc := 33) X hr dX0_weather_33
  · refine g_aload_n (pc := 12) X 0 dX0_weather_12 rfl rfl ?_
    refine cg_getA (pc := 13) X fo_X0_38 dX0_weather_13 (fun v3 => ?_)
    refine cg_getA (pc := 16) X fo_X0_144 dX0_weather_16 (fun v4 => ?_)
    refine g_iload_n (pc := 19) X 1 dX0_weather_19 rfl rfl ?_
    refine g_aload_n (pc := 20) X 0 dX0_weather_20 rfl rfl ?_
    refine cg_getA (pc := 21) X fo_X0_38 dX0_weather_21 (fun v5 => ?_)
    refine cg_getI (pc := 24) X fo_X0_147 dX0_weather_24 (fun v6 => ?_)
    refine g_no (pc := 27) (fun hn7 => ?_)
    refine g_irem (pc := 27) X dX0_weather_27 hn7 ?_
    refine cg_bald (pc := 28) X dX0_weather_28 (fun v8 => ?_)
    refine g_goto (pc := 29) X 33 dX0_weather_29 (by decide) ?_
    exact g_iret (pc := 33) X hr dX0_weather_33
theorem kX0_weather {ex : Nat → Option Nat} {z : Nat} {h0 : Nat} {x1 : Int32} {σ : Sg} {r : Int32} {u : St} (hex : ex = Γ.2.2.2.2) (h : fX0_weather ex z h0 x1 (σ, 0, 0) = some (r, u)) : g_C Γ l yX0_weather cX0_weather 2 (some .int) 1 25 [.ref h0, .int x1] σ z v_i r (g_ι z u) :=
  g_met (ι := g_ι z) (t := (σ, 0, 0)) [.ref h0, .int x1] (by decide) (Nat.le_of_ble_eq_true rfl) h rfl (fun p e s m args below meth c X hr hn => wX0_weather hex X hr h0 x1 (σ, 0, 0))
end CP
abbrev cX0_heard : ByteArray := prog_1_method_15_code
def yX0_heard : MethodName := ⟨RX0, "heard", "()I"⟩
def dkwX0_heard_0 : List UInt8 := [42, 180, 0, 38, 180, 0, 86, 172]
abbrev dktX0_heard_0 : List UInt8 := dkwX0_heard_0 ++ []
theorem dksX0_heard_0 : cX0_heard.data.toList.drop 0 = dktX0_heard_0 := by decide +kernel
theorem dX0_heard_0 : decode cX0_heard 0 = .ok (.aload_n 0, 1) := dk_42 (dk_at dksX0_heard_0 0 rfl rfl)
theorem dX0_heard_1 : decode cX0_heard 1 = .ok (.getfield 38, 3) := dk_180 0 38 (dk_at dksX0_heard_0 1 rfl rfl)
theorem dX0_heard_4 : decode cX0_heard 4 = .ok (.getfield 86, 3) := dk_180 0 86 (dk_at dksX0_heard_0 4 rfl rfl)
theorem dX0_heard_7 : decode cX0_heard 7 = .ok (.ireturn, 1) := dk_172 (dk_at dksX0_heard_0 7 rfl rfl)
theorem fo_X0_86 : g_fo RX0 86 [1] 7 := ⟨_, _, _, Or.inr ⟨_, q1574⟩, fun ci h => by
  simp only [List.mem_cons, List.not_mem_nil, or_false] at h; rcases h with rfl
  · exact ⟨_, _, _, rfl, by decide, rfl, rfl, Or.inl rfl, in_X1⟩⟩
section CP
variable {Γ : Gc} {p : Program} {l : Launch} {e : Env} {s : State} {m : MethodId} {args : Array Value} {below : List Frame} {meth : Method} {c : Code} {ex : Nat → Option Nat} {z : Nat} {tF : St}
noncomputable def fX0_heard (ex : Nat → Option Nat) (z : Nat) (h0 : Nat) (t : St) : Option (Int32 × St) := cgA [0] 0 t h0 fun v1 => cgI [1] 7 t v1 fun v2 => some (v2, t)
set_option maxHeartbeats 4000000 in
theorem wX0_heard {rF : Int32} (hex : ex = Γ.2.2.2.2) (X : g_X Γ p s m args meth c cX0_heard 1 RX0) (hr : meth.sig.returnType = (some .int)) (h0 : Nat) (t : St) : Wf Γ p l e 0 0 s m args below meth c 1 (g_ι z) v_i rF tF 0 [(0, .ref h0)] [] t (fX0_heard ex z h0 t) := by
  unfold fX0_heard
  refine g_aload_n (pc := 0) X 0 dX0_heard_0 rfl rfl ?_
  refine cg_getA (pc := 1) X fo_X0_38 dX0_heard_1 (fun v1 => ?_)
  refine cg_getI (pc := 4) X fo_X0_86 dX0_heard_4 (fun v2 => ?_)
  exact g_iret (pc := 7) X hr dX0_heard_7
theorem kX0_heard {ex : Nat → Option Nat} {z : Nat} {h0 : Nat} {σ : Sg} {r : Int32} {u : St} (hex : ex = Γ.2.2.2.2) (h : fX0_heard ex z h0 (σ, 0, 0) = some (r, u)) : g_C Γ l yX0_heard cX0_heard 1 (some .int) 0 0 [.ref h0] σ z v_i r (g_ι z u) :=
  g_met (ι := g_ι z) (t := (σ, 0, 0)) [.ref h0] (by decide) (Nat.le_of_ble_eq_true rfl) h rfl (fun p e s m args below meth c X hr hn => wX0_heard hex X hr h0 (σ, 0, 0))
end CP
abbrev cX0_isFew : ByteArray := prog_1_method_24_code
def yX0_isFew : MethodName := ⟨RX0, "isFew", "(I)Z"⟩
def dkwX0_isFew_0 : List UInt8 := [26, 133, 9, 20, 0, 211, 184, 0, 48, 172]
abbrev dktX0_isFew_0 : List UInt8 := dkwX0_isFew_0 ++ []
theorem dksX0_isFew_0 : cX0_isFew.data.toList.drop 0 = dktX0_isFew_0 := by decide +kernel
theorem dX0_isFew_0 : decode cX0_isFew 0 = .ok (.iload_n 0, 1) := dk_26 (dk_at dksX0_isFew_0 0 rfl rfl)
theorem dX0_isFew_1 : decode cX0_isFew 1 = .ok (.i2l, 1) := dk_133 (dk_at dksX0_isFew_0 1 rfl rfl)
theorem dX0_isFew_2 : decode cX0_isFew 2 = .ok (.lconst 0, 1) := dk_9 (dk_at dksX0_isFew_0 2 rfl rfl)
theorem dX0_isFew_3 : decode cX0_isFew 3 = .ok (.ldc2_w 211, 3) := dk_20 0 211 (dk_at dksX0_isFew_0 3 rfl rfl)
theorem dX0_isFew_6 : decode cX0_isFew 6 = .ok (.invokestatic 48, 3) := dk_184 0 48 (dk_at dksX0_isFew_0 6 rfl rfl)
theorem dX0_isFew_9 : decode cX0_isFew 9 = .ok (.ireturn, 1) := dk_172 (dk_at dksX0_isFew_0 9 rfl rfl)
section CP
variable {Γ : Gc} {p : Program} {l : Launch} {e : Env} {s : State} {m : MethodId} {args : Array Value} {below : List Frame} {meth : Method} {c : Code} {ex : Nat → Option Nat} {z : Nat} {tF : St}
noncomputable def fX0_isFew (ex : Nat → Option Nat) (z : Nat) (x0 : Int32) (t : St) : Option (Int32 × St) := gb (fX0_in ex (z + t.2.1) x0.toInt64 0 200 (t.1, 0, 0)) t fun r1 t2 => if r1 = 0 ∨ r1 = 1 then some (r1, t2) else none
set_option maxHeartbeats 4000000 in
theorem wX0_isFew {rF : Int32} (hex : ex = Γ.2.2.2.2) (X : g_X Γ p s m args meth c cX0_isFew 1 RX0) (hr : meth.sig.returnType = (some .boolean)) (x0 : Int32) (t : St) : Wf Γ p l e 1 25 s m args below meth c 1 (g_ι z) v_i rF tF 0 [(0, .int x0)] [] t (fX0_isFew ex z x0 t) := by
  unfold fX0_isFew
  refine g_iload_n (pc := 0) X 0 dX0_isFew_0 rfl rfl ?_
  refine g_i2l (pc := 1) X dX0_isFew_1 ?_
  refine g_lconst (pc := 2) X 0 dX0_isFew_2 rfl ?_
  refine g_ldc2 (pc := 3) X 200 dX0_isFew_3 q822 ?_
  refine g_bS_i (pc := 6) X (y := yX0_in) (As := [.long x0.toInt64, .long 0, .long 200]) (rest := []) (fr' := 0) (lo' := 0) (fun _ => va_cwS 3 X.2.2.2.2.1 (lw_S q122 q123 q70 q124) rfl rfl rfl dmS_X0_in ⟨Nat.le_of_ble_eq_true rfl, Nat.le_of_ble_eq_true rfl⟩) dX0_isFew_6 rfl rfl (Nat.le_of_ble_eq_true rfl) (fun r u h => kX0_in hex h) (fun r1 t2 => ?_)
  exact g_bret (pc := 9) X hr dX0_isFew_9
theorem kX0_isFew {ex : Nat → Option Nat} {z : Nat} {x0 : Int32} {σ : Sg} {r : Int32} {u : St} (hex : ex = Γ.2.2.2.2) (h : fX0_isFew ex z x0 (σ, 0, 0) = some (r, u)) : g_C Γ l yX0_isFew cX0_isFew 1 (some .boolean) 1 25 [.int x0] σ z v_i r (g_ι z u) :=
  g_met (ι := g_ι z) (t := (σ, 0, 0)) [.int x0] (by decide) (Nat.le_of_ble_eq_true rfl) h rfl (fun p e s m args below meth c X hr hn => wX0_isFew hex X hr x0 (σ, 0, 0))
end CP
abbrev cX0_rests : ByteArray := prog_1_method_36_code
def yX0_rests : MethodName := ⟨RX0, "rests", "(II)Z"⟩
def dkwX0_rests_2 : List UInt8 := [132, 3, 1, 167, 255, 207, 4, 172]
abbrev dktX0_rests_2 : List UInt8 := dkwX0_rests_2 ++ []
def dkwX0_rests_1 : List UInt8 := [163, 0, 22, 42, 180, 0, 242, 27, 50, 29, 46, 42, 180, 0, 242, 27, 50, 28, 46, 162, 0, 5, 3, 172]
abbrev dktX0_rests_1 : List UInt8 := dkwX0_rests_1 ++ dktX0_rests_2
def dkwX0_rests_0 : List UInt8 := [3, 62, 29, 16, 12, 162, 0, 49, 42, 180, 0, 242, 29, 50, 28, 46, 42, 180, 0, 242, 27, 50, 28, 46]
abbrev dktX0_rests_0 : List UInt8 := dkwX0_rests_0 ++ dktX0_rests_1
theorem dksX0_rests_0 : cX0_rests.data.toList.drop 0 = dktX0_rests_0 := by decide +kernel
theorem dksX0_rests_1 : cX0_rests.data.toList.drop 24 = dktX0_rests_1 := dk_seg dksX0_rests_0 24 rfl rfl
theorem dksX0_rests_2 : cX0_rests.data.toList.drop 48 = dktX0_rests_2 := dk_seg dksX0_rests_1 24 rfl rfl
theorem dX0_rests_0 : decode cX0_rests 0 = .ok (.iconst 0, 1) := dk_3 (dk_at dksX0_rests_0 0 rfl rfl)
theorem dX0_rests_1 : decode cX0_rests 1 = .ok (.istore_n 3, 1) := dk_62 (dk_at dksX0_rests_0 1 rfl rfl)
theorem dX0_rests_2 : decode cX0_rests 2 = .ok (.iload_n 3, 1) := dk_29 (dk_at dksX0_rests_0 2 rfl rfl)
theorem dX0_rests_3 : decode cX0_rests 3 = .ok (.bipush 12, 2) := dk_16 12 (dk_at dksX0_rests_0 3 rfl rfl)
theorem dX0_rests_5 : decode cX0_rests 5 = .ok (.if_icmp .ge 49, 3) := dk_162 0 49 (dk_at dksX0_rests_0 5 rfl rfl)
theorem dX0_rests_8 : decode cX0_rests 8 = .ok (.aload_n 0, 1) := dk_42 (dk_at dksX0_rests_0 8 rfl rfl)
theorem dX0_rests_9 : decode cX0_rests 9 = .ok (.getfield 242, 3) := dk_180 0 242 (dk_at dksX0_rests_0 9 rfl rfl)
theorem dX0_rests_12 : decode cX0_rests 12 = .ok (.iload_n 3, 1) := dk_29 (dk_at dksX0_rests_0 12 rfl rfl)
theorem dX0_rests_13 : decode cX0_rests 13 = .ok (.aaload, 1) := dk_50 (dk_at dksX0_rests_0 13 rfl rfl)
theorem dX0_rests_14 : decode cX0_rests 14 = .ok (.iload_n 2, 1) := dk_28 (dk_at dksX0_rests_0 14 rfl rfl)
theorem dX0_rests_15 : decode cX0_rests 15 = .ok (.iaload, 1) := dk_46 (dk_at dksX0_rests_0 15 rfl rfl)
theorem dX0_rests_16 : decode cX0_rests 16 = .ok (.aload_n 0, 1) := dk_42 (dk_at dksX0_rests_0 16 rfl rfl)
theorem dX0_rests_17 : decode cX0_rests 17 = .ok (.getfield 242, 3) := dk_180 0 242 (dk_at dksX0_rests_0 17 rfl rfl)
theorem dX0_rests_20 : decode cX0_rests 20 = .ok (.iload_n 1, 1) := dk_27 (dk_at dksX0_rests_0 20 rfl rfl)
theorem dX0_rests_21 : decode cX0_rests 21 = .ok (.aaload, 1) := dk_50 (dk_at dksX0_rests_0 21 rfl rfl)
theorem dX0_rests_22 : decode cX0_rests 22 = .ok (.iload_n 2, 1) := dk_28 (dk_at dksX0_rests_0 22 rfl rfl)
theorem dX0_rests_23 : decode cX0_rests 23 = .ok (.iaload, 1) := dk_46 (dk_at dksX0_rests_0 23 rfl rfl)
theorem dX0_rests_24 : decode cX0_rests 24 = .ok (.if_icmp .gt 22, 3) := dk_163 0 22 (dk_at dksX0_rests_1 0 rfl rfl)
theorem dX0_rests_27 : decode cX0_rests 27 = .ok (.aload_n 0, 1) := dk_42 (dk_at dksX0_rests_1 3 rfl rfl)
theorem dX0_rests_28 : decode cX0_rests 28 = .ok (.getfield 242, 3) := dk_180 0 242 (dk_at dksX0_rests_1 4 rfl rfl)
theorem dX0_rests_31 : decode cX0_rests 31 = .ok (.iload_n 1, 1) := dk_27 (dk_at dksX0_rests_1 7 rfl rfl)
theorem dX0_rests_32 : decode cX0_rests 32 = .ok (.aaload, 1) := dk_50 (dk_at dksX0_rests_1 8 rfl rfl)
theorem dX0_rests_33 : decode cX0_rests 33 = .ok (.iload_n 3, 1) := dk_29 (dk_at dksX0_rests_1 9 rfl rfl)
theorem dX0_rests_34 : decode cX0_rests 34 = .ok (.iaload, 1) := dk_46 (dk_at dksX0_rests_1 10 rfl rfl)
theorem dX0_rests_35 : decode cX0_rests 35 = .ok (.aload_n 0, 1) := dk_42 (dk_at dksX0_rests_1 11 rfl rfl)
theorem dX0_rests_36 : decode cX0_rests 36 = .ok (.getfield 242, 3) := dk_180 0 242 (dk_at dksX0_rests_1 12 rfl rfl)
theorem dX0_rests_39 : decode cX0_rests 39 = .ok (.iload_n 1, 1) := dk_27 (dk_at dksX0_rests_1 15 rfl rfl)
theorem dX0_rests_40 : decode cX0_rests 40 = .ok (.aaload, 1) := dk_50 (dk_at dksX0_rests_1 16 rfl rfl)
theorem dX0_rests_41 : decode cX0_rests 41 = .ok (.iload_n 2, 1) := dk_28 (dk_at dksX0_rests_1 17 rfl rfl)
theorem dX0_rests_42 : decode cX0_rests 42 = .ok (.iaload, 1) := dk_46 (dk_at dksX0_rests_1 18 rfl rfl)
theorem dX0_rests_43 : decode cX0_rests 43 = .ok (.if_icmp .ge 5, 3) := dk_162 0 5 (dk_at dksX0_rests_1 19 rfl rfl)
theorem dX0_rests_46 : decode cX0_rests 46 = .ok (.iconst 0, 1) := dk_3 (dk_at dksX0_rests_1 22 rfl rfl)
theorem dX0_rests_47 : decode cX0_rests 47 = .ok (.ireturn, 1) := dk_172 (dk_at dksX0_rests_1 23 rfl rfl)
theorem dX0_rests_48 : decode cX0_rests 48 = .ok (.iinc 3 1, 3) := dk_132 3 1 (dk_at dksX0_rests_2 0 rfl rfl)
theorem dX0_rests_51 : decode cX0_rests 51 = .ok (.goto (-49), 3) := dk_167 255 207 (dk_at dksX0_rests_2 3 rfl rfl)
theorem dX0_rests_54 : decode cX0_rests 54 = .ok (.iconst 1, 1) := dk_4 (dk_at dksX0_rests_2 6 rfl rfl)
theorem dX0_rests_55 : decode cX0_rests 55 = .ok (.ireturn, 1) := dk_172 (dk_at dksX0_rests_2 7 rfl rfl)
theorem fo_X0_242 : g_fo RX0 242 [0] 3 := ⟨_, _, _, Or.inl q1619, fun ci h => by
  simp only [List.mem_cons, List.not_mem_nil, or_false] at h; rcases h with rfl
  · exact ⟨_, _, _, rfl, by decide, rfl, rfl, Or.inl rfl, in_X0⟩⟩
section CP
variable {Γ : Gc} {p : Program} {l : Launch} {e : Env} {s : State} {m : MethodId} {args : Array Value} {below : List Frame} {meth : Method} {c : Code} {ex : Nat → Option Nat} {z : Nat} {tF : St}
noncomputable def fX0_rests_2 (ex : Nat → Option Nat) (z : Nat) : Nat → Nat → Int32 → Int32 → Int32 → St → Option (Int32 × St)
  | 0, _, _, _, _, _ => none
  | n + 1, h0, x1, x2, x3, t => if 12 ≤ x3 then some (1, t) else cgA [0] 3 t h0 fun v1 => caldA 6 t v1 x3 fun v2 => cald 2 t v2 x2 fun v3 => cgA [0] 3 t h0 fun v4 => caldA 6 t v4 x1 fun v5 => cald 2 t v5 x2 fun v6 => if v6 < v3 then some (0, t) else cgA [0] 3 t h0 fun v7 => caldA 6 t v7 x1 fun v8 => cald 2 t v8 x3 fun v9 => cgA [0] 3 t h0 fun v10 => caldA 6 t v10 x1 fun v11 => cald 2 t v11 x2 fun v12 => if v12 ≤ v9 then fX0_rests_2 ex z n h0 x1 x2 (x3 + 1) t else some (0, t)
set_option maxHeartbeats 4000000 in
theorem wX0_rests_2 {rF : Int32} (hex : ex = Γ.2.2.2.2) (X : g_X Γ p s m args meth c cX0_rests 4 RX0) (hr : meth.sig.returnType = (some .boolean)) (n : Nat) : ∀ (h0 : Nat) (x1 : Int32) (x2 : Int32) (x3 : Int32) (t : St), Wf Γ p l e 0 0 s m args below meth c 4 (g_ι z) v_i rF tF 2 [(0, .ref h0), (1, .int x1), (2, .int x2), (3, .int x3)] [] t (fX0_rests_2 ex z n h0 x1 x2 x3 t) := by
  induction n with
  | zero => intro h0 x1 x2 x3 t; exact g_none
  | succ n ih =>
    intro h0 x1 x2 x3 t
    rw [fX0_rests_2]
    refine g_iload_n (pc := 2) X 3 dX0_rests_2 rfl rfl ?_
    refine g_bipush (pc := 3) X 12 dX0_rests_3 rfl ?_
    refine g_icmp_ge (pc := 5) X 54 dX0_rests_5 (by decide) ?_ ?_
    · refine g_iconst (pc := 54) X 1 dX0_rests_54 rfl ?_
      exact g_zret (pc := 55) X hr rfl dX0_rests_55
    · refine g_aload_n (pc := 8) X 0 dX0_rests_8 rfl rfl ?_
      refine cg_getA (pc := 9) X fo_X0_242 dX0_rests_9 (fun v1 => ?_)
      refine g_iload_n (pc := 12) X 3 dX0_rests_12 rfl rfl ?_
      refine cg_aald (pc := 13) X (j := 6) rfl rfl dX0_rests_13 (fun v2 => ?_)
      refine g_iload_n (pc := 14) X 2 dX0_rests_14 rfl rfl ?_
      refine cg_iald (pc := 15) X dX0_rests_15 (fun v3 => ?_)
      refine g_aload_n (pc := 16) X 0 dX0_rests_16 rfl rfl ?_
      refine cg_getA (pc := 17) X fo_X0_242 dX0_rests_17 (fun v4 => ?_)
      refine g_iload_n (pc := 20) X 1 dX0_rests_20 rfl rfl ?_
      refine cg_aald (pc := 21) X (j := 6) rfl rfl dX0_rests_21 (fun v5 => ?_)
      refine g_iload_n (pc := 22) X 2 dX0_rests_22 rfl rfl ?_
      refine cg_iald (pc := 23) X dX0_rests_23 (fun v6 => ?_)
      refine g_icmp_gt (pc := 24) X 46 dX0_rests_24 (by decide) ?_ ?_
      · refine g_iconst (pc := 46) X 0 dX0_rests_46 rfl ?_
        exact g_zret (pc := 47) X hr rfl dX0_rests_47
      · refine g_aload_n (pc := 27) X 0 dX0_rests_27 rfl rfl ?_
        refine cg_getA (pc := 28) X fo_X0_242 dX0_rests_28 (fun v7 => ?_)
        refine g_iload_n (pc := 31) X 1 dX0_rests_31 rfl rfl ?_
        refine cg_aald (pc := 32) X (j := 6) rfl rfl dX0_rests_32 (fun v8 => ?_)
        refine g_iload_n (pc := 33) X 3 dX0_rests_33 rfl rfl ?_
        refine cg_iald (pc := 34) X dX0_rests_34 (fun v9 => ?_)
        refine g_aload_n (pc := 35) X 0 dX0_rests_35 rfl rfl ?_
        refine cg_getA (pc := 36) X fo_X0_242 dX0_rests_36 (fun v10 => ?_)
        refine g_iload_n (pc := 39) X 1 dX0_rests_39 rfl rfl ?_
        refine cg_aald (pc := 40) X (j := 6) rfl rfl dX0_rests_40 (fun v11 => ?_)
        refine g_iload_n (pc := 41) X 2 dX0_rests_41 rfl rfl ?_
        refine cg_iald (pc := 42) X dX0_rests_42 (fun v12 => ?_)
        refine g_icmp_ge (pc := 43) X 48 dX0_rests_43 (by decide) ?_ ?_
        · refine g_iinc (pc := 48) X 1 3 (lv' := [(3, .int (x3 + 1)), (0, .ref h0), (1, .int x1), (2, .int x2)]) dX0_rests_48 rfl rfl (by decide) rfl ?_
          refine g_goto (pc := 51) X 2 dX0_rests_51 (by decide) ?_
          exact g_lv (pc := 2) (lv' := [(0, .ref h0), (1, .int x1), (2, .int x2), (3, .int (x3 + 1))]) [1, 2, 3, 0] rfl (ih h0 x1 x2 (x3 + 1) t)
        · refine g_iconst (pc := 46) X 0 dX0_rests_46 rfl ?_
          exact g_zret (pc := 47) X hr rfl dX0_rests_47
noncomputable def fX0_rests (ex : Nat → Option Nat) (z : Nat) (h0 : Nat) (x1 : Int32) (x2 : Int32) (t : St) : Option (Int32 × St) := fX0_rests_2 ex z 1000 h0 x1 x2 0 t
set_option maxHeartbeats 4000000 in
theorem wX0_rests {rF : Int32} (hex : ex = Γ.2.2.2.2) (X : g_X Γ p s m args meth c cX0_rests 4 RX0) (hr : meth.sig.returnType = (some .boolean)) (h0 : Nat) (x1 : Int32) (x2 : Int32) (t : St) : Wf Γ p l e 0 0 s m args below meth c 4 (g_ι z) v_i rF tF 0 [(0, .ref h0), (1, .int x1), (2, .int x2)] [] t (fX0_rests ex z h0 x1 x2 t) := by
  unfold fX0_rests
  refine g_iconst (pc := 0) X 0 dX0_rests_0 rfl ?_
  refine g_istore_n (pc := 1) X (lv' := [(3, .int 0), (0, .ref h0), (1, .int x1), (2, .int x2)]) dX0_rests_1 rfl (by decide) rfl ?_
  exact g_lv (pc := 2) (lv' := [(0, .ref h0), (1, .int x1), (2, .int x2), (3, .int 0)]) [1, 2, 3, 0] rfl (wX0_rests_2 hex X hr 1000 h0 x1 x2 0 t)
theorem kX0_rests {ex : Nat → Option Nat} {z : Nat} {h0 : Nat} {x1 : Int32} {x2 : Int32} {σ : Sg} {r : Int32} {u : St} (hex : ex = Γ.2.2.2.2) (h : fX0_rests ex z h0 x1 x2 (σ, 0, 0) = some (r, u)) : g_C Γ l yX0_rests cX0_rests 4 (some .boolean) 0 0 [.ref h0, .int x1, .int x2] σ z v_i r (g_ι z u) :=
  g_met (ι := g_ι z) (t := (σ, 0, 0)) [.ref h0, .int x1, .int x2] (by decide) (Nat.le_of_ble_eq_true rfl) h rfl (fun p e s m args below meth c X hr hn => wX0_rests hex X hr h0 x1 x2 (σ, 0, 0))
end CP
abbrev cX0_lowest : ByteArray := prog_1_method_43_code
def yX0_lowest : MethodName := ⟨RX0, "lowest", "(I)I"⟩
def dkwX0_lowest_0 : List UInt8 := [3, 60, 26, 27, 122, 4, 126, 154, 0, 9, 132, 1, 1, 167, 255, 245, 27, 172]
abbrev dktX0_lowest_0 : List UInt8 := dkwX0_lowest_0 ++ []
theorem dksX0_lowest_0 : cX0_lowest.data.toList.drop 0 = dktX0_lowest_0 := by decide +kernel
theorem dX0_lowest_0 : decode cX0_lowest 0 = .ok (.iconst 0, 1) := dk_3 (dk_at dksX0_lowest_0 0 rfl rfl)
theorem dX0_lowest_1 : decode cX0_lowest 1 = .ok (.istore_n 1, 1) := dk_60 (dk_at dksX0_lowest_0 1 rfl rfl)
theorem dX0_lowest_2 : decode cX0_lowest 2 = .ok (.iload_n 0, 1) := dk_26 (dk_at dksX0_lowest_0 2 rfl rfl)
theorem dX0_lowest_3 : decode cX0_lowest 3 = .ok (.iload_n 1, 1) := dk_27 (dk_at dksX0_lowest_0 3 rfl rfl)
theorem dX0_lowest_4 : decode cX0_lowest 4 = .ok (.ishr, 1) := dk_122 (dk_at dksX0_lowest_0 4 rfl rfl)
theorem dX0_lowest_5 : decode cX0_lowest 5 = .ok (.iconst 1, 1) := dk_4 (dk_at dksX0_lowest_0 5 rfl rfl)
theorem dX0_lowest_6 : decode cX0_lowest 6 = .ok (.iand, 1) := dk_126 (dk_at dksX0_lowest_0 6 rfl rfl)
theorem dX0_lowest_7 : decode cX0_lowest 7 = .ok (.ifCond .ne 9, 3) := dk_154 0 9 (dk_at dksX0_lowest_0 7 rfl rfl)
theorem dX0_lowest_10 : decode cX0_lowest 10 = .ok (.iinc 1 1, 3) := dk_132 1 1 (dk_at dksX0_lowest_0 10 rfl rfl)
theorem dX0_lowest_13 : decode cX0_lowest 13 = .ok (.goto (-11), 3) := dk_167 255 245 (dk_at dksX0_lowest_0 13 rfl rfl)
theorem dX0_lowest_16 : decode cX0_lowest 16 = .ok (.iload_n 1, 1) := dk_27 (dk_at dksX0_lowest_0 16 rfl rfl)
theorem dX0_lowest_17 : decode cX0_lowest 17 = .ok (.ireturn, 1) := dk_172 (dk_at dksX0_lowest_0 17 rfl rfl)
section CP
variable {Γ : Gc} {p : Program} {l : Launch} {e : Env} {s : State} {m : MethodId} {args : Array Value} {below : List Frame} {meth : Method} {c : Code} {ex : Nat → Option Nat} {z : Nat} {tF : St}
noncomputable def fX0_lowest_2 (ex : Nat → Option Nat) (z : Nat) : Nat → Int32 → Int32 → St → Option (Int32 × St)
  | 0, _, _, _ => none
  | n + 1, x0, x1, t => if (x0 >>> (x1 &&& 31)) &&& 1 = 0 then fX0_lowest_2 ex z n x0 (x1 + 1) t else some (x1, t)
set_option maxHeartbeats 4000000 in
theorem wX0_lowest_2 {rF : Int32} (hex : ex = Γ.2.2.2.2) (X : g_X Γ p s m args meth c cX0_lowest 2 RX0) (hr : meth.sig.returnType = (some .int)) (n : Nat) : ∀ (x0 : Int32) (x1 : Int32) (t : St), Wf Γ p l e 0 0 s m args below meth c 2 (g_ι z) v_i rF tF 2 [(0, .int x0), (1, .int x1)] [] t (fX0_lowest_2 ex z n x0 x1 t) := by
  induction n with
  | zero => intro x0 x1 t; exact g_none
  | succ n ih =>
    intro x0 x1 t
    rw [fX0_lowest_2]
    refine g_iload_n (pc := 2) X 0 dX0_lowest_2 rfl rfl ?_
    refine g_iload_n (pc := 3) X 1 dX0_lowest_3 rfl rfl ?_
    refine g_ishr (pc := 4) X dX0_lowest_4 ?_
    refine g_iconst (pc := 5) X 1 dX0_lowest_5 rfl ?_
    refine g_iand (pc := 6) X dX0_lowest_6 ?_
    refine g_if_ne (pc := 7) X 16 dX0_lowest_7 (by decide) ?_ ?_
    · refine g_iload_n (pc := 16) X 1 dX0_lowest_16 rfl rfl ?_
      exact g_iret (pc := 17) X hr dX0_lowest_17
    · refine g_iinc (pc := 10) X 1 1 (lv' := [(1, .int (x1 + 1)), (0, .int x0)]) dX0_lowest_10 rfl rfl (by decide) rfl ?_
      refine g_goto (pc := 13) X 2 dX0_lowest_13 (by decide) ?_
      exact g_lv (pc := 2) (lv' := [(0, .int x0), (1, .int (x1 + 1))]) [1, 0] rfl (ih x0 (x1 + 1) t)
noncomputable def fX0_lowest (ex : Nat → Option Nat) (z : Nat) (x0 : Int32) (t : St) : Option (Int32 × St) := fX0_lowest_2 ex z 1000 x0 0 t
set_option maxHeartbeats 4000000 in
theorem wX0_lowest {rF : Int32} (hex : ex = Γ.2.2.2.2) (X : g_X Γ p s m args meth c cX0_lowest 2 RX0) (hr : meth.sig.returnType = (some .int)) (x0 : Int32) (t : St) : Wf Γ p l e 0 0 s m args below meth c 2 (g_ι z) v_i rF tF 0 [(0, .int x0)] [] t (fX0_lowest ex z x0 t) := by
  unfold fX0_lowest
  refine g_iconst (pc := 0) X 0 dX0_lowest_0 rfl ?_
  refine g_istore_n (pc := 1) X (lv' := [(1, .int 0), (0, .int x0)]) dX0_lowest_1 rfl (by decide) rfl ?_
  exact g_lv (pc := 2) (lv' := [(0, .int x0), (1, .int 0)]) [1, 0] rfl (wX0_lowest_2 hex X hr 1000 x0 0 t)
theorem kX0_lowest {ex : Nat → Option Nat} {z : Nat} {x0 : Int32} {σ : Sg} {r : Int32} {u : St} (hex : ex = Γ.2.2.2.2) (h : fX0_lowest ex z x0 (σ, 0, 0) = some (r, u)) : g_C Γ l yX0_lowest cX0_lowest 2 (some .int) 0 0 [.int x0] σ z v_i r (g_ι z u) :=
  g_met (ι := g_ι z) (t := (σ, 0, 0)) [.int x0] (by decide) (Nat.le_of_ble_eq_true rfl) h rfl (fun p e s m args below meth c X hr hn => wX0_lowest hex X hr x0 (σ, 0, 0))
end CP
abbrev cX0_settle : ByteArray := prog_1_method_49_code
def yX0_settle : MethodName := ⟨RX0, "settle", "()I"⟩
def dkwX0_settle_0 : List UInt8 := [42, 180, 0, 89, 182, 0, 92, 60, 42, 180, 0, 89, 182, 0, 104, 27, 172]
abbrev dktX0_settle_0 : List UInt8 := dkwX0_settle_0 ++ []
theorem dksX0_settle_0 : cX0_settle.data.toList.drop 0 = dktX0_settle_0 := by decide +kernel
theorem dX0_settle_0 : decode cX0_settle 0 = .ok (.aload_n 0, 1) := dk_42 (dk_at dksX0_settle_0 0 rfl rfl)
theorem dX0_settle_1 : decode cX0_settle 1 = .ok (.getfield 89, 3) := dk_180 0 89 (dk_at dksX0_settle_0 1 rfl rfl)
theorem dX0_settle_4 : decode cX0_settle 4 = .ok (.invokevirtual 92, 3) := dk_182 0 92 (dk_at dksX0_settle_0 4 rfl rfl)
theorem dX0_settle_7 : decode cX0_settle 7 = .ok (.istore_n 1, 1) := dk_60 (dk_at dksX0_settle_0 7 rfl rfl)
theorem dX0_settle_8 : decode cX0_settle 8 = .ok (.aload_n 0, 1) := dk_42 (dk_at dksX0_settle_0 8 rfl rfl)
theorem dX0_settle_9 : decode cX0_settle 9 = .ok (.getfield 89, 3) := dk_180 0 89 (dk_at dksX0_settle_0 9 rfl rfl)
theorem dX0_settle_12 : decode cX0_settle 12 = .ok (.invokevirtual 104, 3) := dk_182 0 104 (dk_at dksX0_settle_0 12 rfl rfl)
theorem dX0_settle_15 : decode cX0_settle 15 = .ok (.iload_n 1, 1) := dk_27 (dk_at dksX0_settle_0 15 rfl rfl)
theorem dX0_settle_16 : decode cX0_settle 16 = .ok (.ireturn, 1) := dk_172 (dk_at dksX0_settle_0 16 rfl rfl)
theorem fo_X0_89 : g_fo RX0 89 [0] 4 := ⟨_, _, _, Or.inl q1620, fun ci h => by
  simp only [List.mem_cons, List.not_mem_nil, or_false] at h; rcases h with rfl
  · exact ⟨_, _, _, rfl, by decide, rfl, rfl, Or.inl rfl, in_X0⟩⟩
theorem dmV_J2_size : yJ2_size.cls = RJ2 ∧ yJ2_size.cls ≠ "java/lang/invoke/MethodHandle" ∧ yJ2_size.cls ≠ "java/lang/invoke/VarHandle" ∧ (parseMethodDescriptor yJ2_size.desc).map (fun d => d.parameters.length) = some 0 := by decide +kernel
theorem dmV_J2_clear : yJ2_clear.cls = RJ2 ∧ yJ2_clear.cls ≠ "java/lang/invoke/MethodHandle" ∧ yJ2_clear.cls ≠ "java/lang/invoke/VarHandle" ∧ (parseMethodDescriptor yJ2_clear.desc).map (fun d => d.parameters.length) = some 0 := by decide +kernel
section CP
variable {Γ : Gc} {p : Program} {l : Launch} {e : Env} {s : State} {m : MethodId} {args : Array Value} {below : List Frame} {meth : Method} {c : Code} {ex : Nat → Option Nat} {z : Nat} {tF : St}
noncomputable def fX0_settle (ex : Nat → Option Nat) (z : Nat) (h0 : Nat) (t : St) : Option (Int32 × St) := cgA [0] 4 t h0 fun v1 => ccast [15] t v1 (gb (fJ2_size ex (z + t.2.1) v1 (t.1, 0, 0)) t fun r2 t3 => cgA [0] 4 t3 h0 fun v9 => ccast [15] t3 v9 (gb (fJ2_clear ex (z + t3.2.1) v9 (t3.1, 0, 0)) t3 fun _ t11 => some (r2, t11)))
set_option maxHeartbeats 4000000 in
theorem wX0_settle {rF : Int32} (hex : ex = Γ.2.2.2.2) (X : g_X Γ p s m args meth c cX0_settle 2 RX0) (hr : meth.sig.returnType = (some .int)) (h0 : Nat) (t : St) : Wf Γ p l e 1 23 s m args below meth c 2 (g_ι z) v_i rF tF 0 [(0, .ref h0)] [] t (fX0_settle ex z h0 t) := by
  unfold fX0_settle
  refine g_aload_n (pc := 0) X 0 dX0_settle_0 rfl rfl ?_
  refine cg_getA (pc := 1) X fo_X0_89 dX0_settle_1 (fun v1 => ?_)
  refine g_bD_i (pc := 4) X (cs := [15]) (As := []) (rest := []) (b := v1) (n := 0) dX0_settle_4 rfl rfl (Nat.le_of_ble_eq_true rfl) (fun fl4 ci5 fs6 hs7 hci8 r u h => ?_) (fun r2 t3 => ?_)
  · obtain rfl := List.mem_singleton.mp hci8
    exact ⟨_, _, _, yJ2_size, _, _, _, 0, 0, rfl, kJ2_size hex h, Or.inl (cwV 0 X.2.2.2.2.1 (lw_V q350 q134 q135 q74 q136) rfl rfl rfl dmV_J2_size ⟨Nat.le_of_ble_eq_true rfl, Nat.le_of_ble_eq_true rfl⟩)⟩
  refine g_istore_n (pc := 7) X (lv' := [(1, .int r2), (0, .ref h0)]) dX0_settle_7 rfl (by decide) rfl ?_
  refine g_aload_n (pc := 8) X 1 dX0_settle_8 rfl rfl ?_
  refine cg_getA (pc := 9) X fo_X0_89 dX0_settle_9 (fun v9 => ?_)
  refine g_bD_v (pc := 12) X (cs := [15]) (As := []) (rest := []) (b := v9) (n := 0) dX0_settle_12 rfl rfl (Nat.le_of_ble_eq_true rfl) (fun fl12 ci13 fs14 hs15 hci16 r u h => ?_) (fun r10 t11 => ?_)
  · obtain rfl := List.mem_singleton.mp hci16
    exact ⟨_, _, _, yJ2_clear, _, _, _, 0, 0, rfl, kJ2_clear hex h, Or.inl (cwV 0 X.2.2.2.2.1 (lw_V q360 q361 q362 q74 q363) rfl rfl rfl dmV_J2_clear ⟨Nat.le_of_ble_eq_true rfl, Nat.le_of_ble_eq_true rfl⟩)⟩
  refine g_iload_n (pc := 15) X 0 dX0_settle_15 rfl rfl ?_
  exact g_iret (pc := 16) X hr dX0_settle_16
theorem kX0_settle {ex : Nat → Option Nat} {z : Nat} {h0 : Nat} {σ : Sg} {r : Int32} {u : St} (hex : ex = Γ.2.2.2.2) (h : fX0_settle ex z h0 (σ, 0, 0) = some (r, u)) : g_C Γ l yX0_settle cX0_settle 2 (some .int) 1 23 [.ref h0] σ z v_i r (g_ι z u) :=
  g_met (ι := g_ι z) (t := (σ, 0, 0)) [.ref h0] (by decide) (Nat.le_of_ble_eq_true rfl) h rfl (fun p e s m args below meth c X hr hn => wX0_settle hex X hr h0 (σ, 0, 0))
end CP
abbrev cX0_seed : ByteArray := prog_1_method_50_code
def yX0_seed : MethodName := ⟨RX0, "seed", "(I)I"⟩
def dkwX0_seed_0 : List UInt8 := [27, 156, 0, 5, 2, 172, 42, 180, 1, 44, 61, 42, 27, 181, 1, 44, 28, 172]
abbrev dktX0_seed_0 : List UInt8 := dkwX0_seed_0 ++ []
theorem dksX0_seed_0 : cX0_seed.data.toList.drop 0 = dktX0_seed_0 := by decide +kernel
theorem dX0_seed_0 : decode cX0_seed 0 = .ok (.iload_n 1, 1) := dk_27 (dk_at dksX0_seed_0 0 rfl rfl)
theorem dX0_seed_1 : decode cX0_seed 1 = .ok (.ifCond .ge 5, 3) := dk_156 0 5 (dk_at dksX0_seed_0 1 rfl rfl)
theorem dX0_seed_4 : decode cX0_seed 4 = .ok (.iconst (-1), 1) := dk_2 (dk_at dksX0_seed_0 4 rfl rfl)
theorem dX0_seed_5 : decode cX0_seed 5 = .ok (.ireturn, 1) := dk_172 (dk_at dksX0_seed_0 5 rfl rfl)
theorem dX0_seed_6 : decode cX0_seed 6 = .ok (.aload_n 0, 1) := dk_42 (dk_at dksX0_seed_0 6 rfl rfl)
theorem dX0_seed_7 : decode cX0_seed 7 = .ok (.getfield 300, 3) := dk_180 1 44 (dk_at dksX0_seed_0 7 rfl rfl)
theorem dX0_seed_10 : decode cX0_seed 10 = .ok (.istore_n 2, 1) := dk_61 (dk_at dksX0_seed_0 10 rfl rfl)
theorem dX0_seed_11 : decode cX0_seed 11 = .ok (.aload_n 0, 1) := dk_42 (dk_at dksX0_seed_0 11 rfl rfl)
theorem dX0_seed_12 : decode cX0_seed 12 = .ok (.iload_n 1, 1) := dk_27 (dk_at dksX0_seed_0 12 rfl rfl)
theorem dX0_seed_13 : decode cX0_seed 13 = .ok (.putfield 300, 3) := dk_181 1 44 (dk_at dksX0_seed_0 13 rfl rfl)
theorem dX0_seed_16 : decode cX0_seed 16 = .ok (.iload_n 2, 1) := dk_28 (dk_at dksX0_seed_0 16 rfl rfl)
theorem dX0_seed_17 : decode cX0_seed 17 = .ok (.ireturn, 1) := dk_172 (dk_at dksX0_seed_0 17 rfl rfl)
theorem fo_X0_300 : g_fo RX0 300 [0] 5 := ⟨_, _, _, Or.inl q1621, fun ci h => by
  simp only [List.mem_cons, List.not_mem_nil, or_false] at h; rcases h with rfl
  · exact ⟨_, _, _, rfl, by decide, rfl, rfl, Or.inl rfl, in_X0⟩⟩
theorem fp_X0_300 : g_fp RX0 300 [0] 5 .int false := ⟨_, _, _, Or.inl q1621, by decide +kernel, fun ci h => by
  simp only [List.mem_cons, List.not_mem_nil, or_false] at h; rcases h with rfl
  · exact ⟨_, _, _, tyX0, rfl, by decide, rfl, rfl, Or.inl rfl, in_X0, rfl, (fun h => by cases h), tyX0_ok, (by decide +kernel)⟩⟩
section CP
variable {Γ : Gc} {p : Program} {l : Launch} {e : Env} {s : State} {m : MethodId} {args : Array Value} {below : List Frame} {meth : Method} {c : Code} {ex : Nat → Option Nat} {z : Nat} {tF : St}
noncomputable def fX0_seed (ex : Nat → Option Nat) (z : Nat) (h0 : Nat) (x1 : Int32) (t : St) : Option (Int32 × St) := if 0 ≤ x1 then cgI [0] 5 t h0 fun v1 => cput [0] 5 t h0 (.int x1) fun t2 => some (v1, t2) else some ((-1), t)
set_option maxHeartbeats 4000000 in
theorem wX0_seed {rF : Int32} (hex : ex = Γ.2.2.2.2) (X : g_X Γ p s m args meth c cX0_seed 3 RX0) (hr : meth.sig.returnType = (some .int)) (h0 : Nat) (x1 : Int32) (t : St) : Wf Γ p l e 0 0 s m args below meth c 3 (g_ι z) v_i rF tF 0 [(0, .ref h0), (1, .int x1)] [] t (fX0_seed ex z h0 x1 t) := by
  unfold fX0_seed
  refine g_iload_n (pc := 0) X 1 dX0_seed_0 rfl rfl ?_
  refine g_if_ge (pc := 1) X 6 dX0_seed_1 (by decide) ?_ ?_
  · refine g_aload_n (pc := 6) X 0 dX0_seed_6 rfl rfl ?_
    refine cg_getI (pc := 7) X fo_X0_300 dX0_seed_7 (fun v1 => ?_)
    refine g_istore_n (pc := 10) X (lv' := [(2, .int v1), (0, .ref h0), (1, .int x1)]) dX0_seed_10 rfl (by decide) rfl ?_
    refine g_aload_n (pc := 11) X 1 dX0_seed_11 rfl rfl ?_
    refine g_iload_n (pc := 12) X 2 dX0_seed_12 rfl rfl ?_
    refine cg_put (pc := 13) X fp_X0_300 dX0_seed_13 (fun h => by cases h) rfl rfl (fun t2 => ?_)
    refine g_iload_n (pc := 16) X 0 dX0_seed_16 rfl rfl ?_
    exact g_iret (pc := 17) X hr dX0_seed_17
  · refine g_iconst (pc := 4) X (-1) dX0_seed_4 rfl ?_
    exact g_iret (pc := 5) X hr dX0_seed_5
theorem kX0_seed {ex : Nat → Option Nat} {z : Nat} {h0 : Nat} {x1 : Int32} {σ : Sg} {r : Int32} {u : St} (hex : ex = Γ.2.2.2.2) (h : fX0_seed ex z h0 x1 (σ, 0, 0) = some (r, u)) : g_C Γ l yX0_seed cX0_seed 3 (some .int) 0 0 [.ref h0, .int x1] σ z v_i r (g_ι z u) :=
  g_met (ι := g_ι z) (t := (σ, 0, 0)) [.ref h0, .int x1] (by decide) (Nat.le_of_ble_eq_true rfl) h rfl (fun p e s m args below meth c X hr hn => wX0_seed hex X hr h0 x1 (σ, 0, 0))
end CP
abbrev cX0_type : ByteArray := prog_1_method_52_code
def yX0_type : MethodName := ⟨RX0, "type", "(I)I"⟩
def dkwX0_type_2 : List UInt8 := [181, 1, 56, 42, 180, 1, 56, 172]
abbrev dktX0_type_2 : List UInt8 := dkwX0_type_2 ++ []
def dkwX0_type_1 : List UInt8 := [160, 0, 6, 16, 253, 172, 42, 180, 1, 59, 42, 180, 1, 56, 27, 145, 84, 42, 89, 180, 1, 56, 4, 96]
abbrev dktX0_type_1 : List UInt8 := dkwX0_type_1 ++ dktX0_type_2
def dkwX0_type_0 : List UInt8 := [27, 133, 20, 1, 52, 20, 1, 54, 184, 0, 48, 154, 0, 5, 2, 172, 42, 180, 1, 56, 17, 0, 160]
abbrev dktX0_type_0 : List UInt8 := dkwX0_type_0 ++ dktX0_type_1
theorem dksX0_type_0 : cX0_type.data.toList.drop 0 = dktX0_type_0 := by decide +kernel
theorem dksX0_type_1 : cX0_type.data.toList.drop 23 = dktX0_type_1 := dk_seg dksX0_type_0 23 rfl rfl
theorem dksX0_type_2 : cX0_type.data.toList.drop 47 = dktX0_type_2 := dk_seg dksX0_type_1 24 rfl rfl
theorem dX0_type_0 : decode cX0_type 0 = .ok (.iload_n 1, 1) := dk_27 (dk_at dksX0_type_0 0 rfl rfl)
theorem dX0_type_1 : decode cX0_type 1 = .ok (.i2l, 1) := dk_133 (dk_at dksX0_type_0 1 rfl rfl)
theorem dX0_type_2 : decode cX0_type 2 = .ok (.ldc2_w 308, 3) := dk_20 1 52 (dk_at dksX0_type_0 2 rfl rfl)
theorem dX0_type_5 : decode cX0_type 5 = .ok (.ldc2_w 310, 3) := dk_20 1 54 (dk_at dksX0_type_0 5 rfl rfl)
theorem dX0_type_8 : decode cX0_type 8 = .ok (.invokestatic 48, 3) := dk_184 0 48 (dk_at dksX0_type_0 8 rfl rfl)
theorem dX0_type_11 : decode cX0_type 11 = .ok (.ifCond .ne 5, 3) := dk_154 0 5 (dk_at dksX0_type_0 11 rfl rfl)
theorem dX0_type_14 : decode cX0_type 14 = .ok (.iconst (-1), 1) := dk_2 (dk_at dksX0_type_0 14 rfl rfl)
theorem dX0_type_15 : decode cX0_type 15 = .ok (.ireturn, 1) := dk_172 (dk_at dksX0_type_0 15 rfl rfl)
theorem dX0_type_16 : decode cX0_type 16 = .ok (.aload_n 0, 1) := dk_42 (dk_at dksX0_type_0 16 rfl rfl)
theorem dX0_type_17 : decode cX0_type 17 = .ok (.getfield 312, 3) := dk_180 1 56 (dk_at dksX0_type_0 17 rfl rfl)
theorem dX0_type_20 : decode cX0_type 20 = .ok (.sipush 160, 3) := dk_17 0 160 (dk_at dksX0_type_0 20 rfl rfl)
theorem dX0_type_23 : decode cX0_type 23 = .ok (.if_icmp .ne 6, 3) := dk_160 0 6 (dk_at dksX0_type_1 0 rfl rfl)
theorem dX0_type_26 : decode cX0_type 26 = .ok (.bipush (-3), 2) := dk_16 253 (dk_at dksX0_type_1 3 rfl rfl)
theorem dX0_type_28 : decode cX0_type 28 = .ok (.ireturn, 1) := dk_172 (dk_at dksX0_type_1 5 rfl rfl)
theorem dX0_type_29 : decode cX0_type 29 = .ok (.aload_n 0, 1) := dk_42 (dk_at dksX0_type_1 6 rfl rfl)
theorem dX0_type_30 : decode cX0_type 30 = .ok (.getfield 315, 3) := dk_180 1 59 (dk_at dksX0_type_1 7 rfl rfl)
theorem dX0_type_33 : decode cX0_type 33 = .ok (.aload_n 0, 1) := dk_42 (dk_at dksX0_type_1 10 rfl rfl)
theorem dX0_type_34 : decode cX0_type 34 = .ok (.getfield 312, 3) := dk_180 1 56 (dk_at dksX0_type_1 11 rfl rfl)
theorem dX0_type_37 : decode cX0_type 37 = .ok (.iload_n 1, 1) := dk_27 (dk_at dksX0_type_1 14 rfl rfl)
theorem dX0_type_38 : decode cX0_type 38 = .ok (.i2b, 1) := dk_145 (dk_at dksX0_type_1 15 rfl rfl)
theorem dX0_type_39 : decode cX0_type 39 = .ok (.bastore, 1) := dk_84 (dk_at dksX0_type_1 16 rfl rfl)
theorem dX0_type_40 : decode cX0_type 40 = .ok (.aload_n 0, 1) := dk_42 (dk_at dksX0_type_1 17 rfl rfl)
theorem dX0_type_41 : decode cX0_type 41 = .ok (.dup, 1) := dk_89 (dk_at dksX0_type_1 18 rfl rfl)
theorem dX0_type_42 : decode cX0_type 42 = .ok (.getfield 312, 3) := dk_180 1 56 (dk_at dksX0_type_1 19 rfl rfl)
theorem dX0_type_45 : decode cX0_type 45 = .ok (.iconst 1, 1) := dk_4 (dk_at dksX0_type_1 22 rfl rfl)
theorem dX0_type_46 : decode cX0_type 46 = .ok (.iadd, 1) := dk_96 (dk_at dksX0_type_1 23 rfl rfl)
theorem dX0_type_47 : decode cX0_type 47 = .ok (.putfield 312, 3) := dk_181 1 56 (dk_at dksX0_type_2 0 rfl rfl)
theorem dX0_type_50 : decode cX0_type 50 = .ok (.aload_n 0, 1) := dk_42 (dk_at dksX0_type_2 3 rfl rfl)
theorem dX0_type_51 : decode cX0_type 51 = .ok (.getfield 312, 3) := dk_180 1 56 (dk_at dksX0_type_2 4 rfl rfl)
theorem dX0_type_54 : decode cX0_type 54 = .ok (.ireturn, 1) := dk_172 (dk_at dksX0_type_2 7 rfl rfl)
theorem fo_X0_312 : g_fo RX0 312 [0] 7 := ⟨_, _, _, Or.inl q1623, fun ci h => by
  simp only [List.mem_cons, List.not_mem_nil, or_false] at h; rcases h with rfl
  · exact ⟨_, _, _, rfl, by decide, rfl, rfl, Or.inl rfl, in_X0⟩⟩
theorem fo_X0_315 : g_fo RX0 315 [0] 6 := ⟨_, _, _, Or.inl q1622, fun ci h => by
  simp only [List.mem_cons, List.not_mem_nil, or_false] at h; rcases h with rfl
  · exact ⟨_, _, _, rfl, by decide, rfl, rfl, Or.inl rfl, in_X0⟩⟩
theorem fp_X0_312 : g_fp RX0 312 [0] 7 .int false := ⟨_, _, _, Or.inl q1623, by decide +kernel, fun ci h => by
  simp only [List.mem_cons, List.not_mem_nil, or_false] at h; rcases h with rfl
  · exact ⟨_, _, _, tyX0, rfl, by decide, rfl, rfl, Or.inl rfl, in_X0, rfl, (fun h => by cases h), tyX0_ok, (by decide +kernel)⟩⟩
section CP
variable {Γ : Gc} {p : Program} {l : Launch} {e : Env} {s : State} {m : MethodId} {args : Array Value} {below : List Frame} {meth : Method} {c : Code} {ex : Nat → Option Nat} {z : Nat} {tF : St}
noncomputable def fX0_type (ex : Nat → Option Nat) (z : Nat) (h0 : Nat) (x1 : Int32) (t : St) : Option (Int32 × St) := gb (fX0_in ex (z + t.2.1) x1.toInt64 32 126 (t.1, 0, 0)) t fun r1 t2 => if r1 = 0 then some ((-1), t2) else cgI [0] 7 t2 h0 fun v3 => if v3 = 160 then some ((-3), t2) else cgA [0] 6 t2 h0 fun v4 => cgI [0] 7 t2 h0 fun v5 => cast_ 0 (vp_nar .byte) t2 v4 v5 x1.toInt8.toInt32 fun t6 => cgI [0] 7 t6 h0 fun v7 => cput [0] 7 t6 h0 (.int (v7 + 1)) fun t8 => cgI [0] 7 t8 h0 fun v9 => some (v9, t8)
set_option maxHeartbeats 4000000 in
theorem wX0_type {rF : Int32} (hex : ex = Γ.2.2.2.2) (X : g_X Γ p s m args meth c cX0_type 2 RX0) (hr : meth.sig.returnType = (some .int)) (h0 : Nat) (x1 : Int32) (t : St) : Wf Γ p l e 1 25 s m args below meth c 2 (g_ι z) v_i rF tF 0 [(0, .ref h0), (1, .int x1)] [] t (fX0_type ex z h0 x1 t) := by
  unfold fX0_type
  refine g_iload_n (pc := 0) X 1 dX0_type_0 rfl rfl ?_
  refine g_i2l (pc := 1) X dX0_type_1 ?_
  refine g_ldc2 (pc := 2) X 32 dX0_type_2 q1083 ?_
  refine g_ldc2 (pc := 5) X 126 dX0_type_5 q1084 ?_
  refine g_bS_i (pc := 8) X (y := yX0_in) (As := [.long x1.toInt64, .long 32, .long 126]) (rest := []) (fr' := 0) (lo' := 0) (fun _ => va_cwS 3 X.2.2.2.2.1 (lw_S q122 q123 q70 q124) rfl rfl rfl dmS_X0_in ⟨Nat.le_of_ble_eq_true rfl, Nat.le_of_ble_eq_true rfl⟩) dX0_type_8 rfl rfl (Nat.le_of_ble_eq_true rfl) (fun r u h => kX0_in hex h) (fun r1 t2 => ?_)
  refine g_if_ne (pc := 11) X 16 dX0_type_11 (by decide) ?_ ?_
  · refine g_aload_n (pc := 16) X 0 dX0_type_16 rfl rfl ?_
    refine cg_getI (pc := 17) X fo_X0_312 dX0_type_17 (fun v3 => ?_)
    refine g_sipush (pc := 20) X 160 dX0_type_20 rfl ?_
    refine g_icmp_ne (pc := 23) X 29 dX0_type_23 (by decide) ?_ ?_
    · refine g_aload_n (pc := 29) X 0 dX0_type_29 rfl rfl ?_
      refine cg_getA (pc := 30) X fo_X0_315 dX0_type_30 (fun v4 => ?_)
      refine g_aload_n (pc := 33) X 0 dX0_type_33 rfl rfl ?_
      refine cg_getI (pc := 34) X fo_X0_312 dX0_type_34 (fun v5 => ?_)
      refine g_iload_n (pc := 37) X 1 dX0_type_37 rfl rfl ?_
      refine g_i2b (pc := 38) X dX0_type_38 ?_
      refine cg_bast (pc := 39) X dX0_type_39 (fun t6 => ?_)
      refine g_aload_n (pc := 40) X 0 dX0_type_40 rfl rfl ?_
      refine g_dup (pc := 41) X dX0_type_41 rfl ?_
      refine cg_getI (pc := 42) X fo_X0_312 dX0_type_42 (fun v7 => ?_)
      refine g_iconst (pc := 45) X 1 dX0_type_45 rfl ?_
      refine g_iadd (pc := 46) X dX0_type_46 ?_
      refine cg_put (pc := 47) X fp_X0_312 dX0_type_47 (fun h => by cases h) rfl rfl (fun t8 => ?_)
      refine g_aload_n (pc := 50) X 0 dX0_type_50 rfl rfl ?_
      refine cg_getI (pc := 51) X fo_X0_312 dX0_type_51 (fun v9 => ?_)
      exact g_iret (pc := 54) X hr dX0_type_54
    · refine g_bipush (pc := 26) X (-3) dX0_type_26 rfl ?_
      exact g_iret (pc := 28) X hr dX0_type_28
  · refine g_iconst (pc := 14) X (-1) dX0_type_14 rfl ?_
    exact g_iret (pc := 15) X hr dX0_type_15
theorem kX0_type {ex : Nat → Option Nat} {z : Nat} {h0 : Nat} {x1 : Int32} {σ : Sg} {r : Int32} {u : St} (hex : ex = Γ.2.2.2.2) (h : fX0_type ex z h0 x1 (σ, 0, 0) = some (r, u)) : g_C Γ l yX0_type cX0_type 2 (some .int) 1 25 [.ref h0, .int x1] σ z v_i r (g_ι z u) :=
  g_met (ι := g_ι z) (t := (σ, 0, 0)) [.ref h0, .int x1] (by decide) (Nat.le_of_ble_eq_true rfl) h rfl (fun p e s m args below meth c X hr hn => wX0_type hex X hr h0 x1 (σ, 0, 0))
end CP
abbrev cX0_here : ByteArray := prog_1_method_53_code
def yX0_here : MethodName := ⟨RX0, "here", "()I"⟩
def dkwX0_here_2 : List UInt8 := [162, 0, 15, 42, 180, 1, 59, 42, 180, 1, 62, 51, 167, 0, 4, 3, 172]
abbrev dktX0_here_2 : List UInt8 := dkwX0_here_2 ++ []
def dkwX0_here_1 : List UInt8 := [160, 0, 16, 42, 89, 180, 1, 62, 4, 96, 181, 1, 62, 167, 255, 221, 42, 180, 1, 62, 42, 180, 1, 56]
abbrev dktX0_here_1 : List UInt8 := dkwX0_here_1 ++ dktX0_here_2
def dkwX0_here_0 : List UInt8 := [42, 180, 1, 62, 42, 180, 1, 56, 162, 0, 30, 42, 180, 1, 59, 42, 180, 1, 62, 51, 16, 32]
abbrev dktX0_here_0 : List UInt8 := dkwX0_here_0 ++ dktX0_here_1
theorem dksX0_here_0 : cX0_here.data.toList.drop 0 = dktX0_here_0 := by decide +kernel
theorem dksX0_here_1 : cX0_here.data.toList.drop 22 = dktX0_here_1 := dk_seg dksX0_here_0 22 rfl rfl
theorem dksX0_here_2 : cX0_here.data.toList.drop 46 = dktX0_here_2 := dk_seg dksX0_here_1 24 rfl rfl
theorem dX0_here_0 : decode cX0_here 0 = .ok (.aload_n 0, 1) := dk_42 (dk_at dksX0_here_0 0 rfl rfl)
theorem dX0_here_1 : decode cX0_here 1 = .ok (.getfield 318, 3) := dk_180 1 62 (dk_at dksX0_here_0 1 rfl rfl)
theorem dX0_here_4 : decode cX0_here 4 = .ok (.aload_n 0, 1) := dk_42 (dk_at dksX0_here_0 4 rfl rfl)
theorem dX0_here_5 : decode cX0_here 5 = .ok (.getfield 312, 3) := dk_180 1 56 (dk_at dksX0_here_0 5 rfl rfl)
theorem dX0_here_8 : decode cX0_here 8 = .ok (.if_icmp .ge 30, 3) := dk_162 0 30 (dk_at dksX0_here_0 8 rfl rfl)
theorem dX0_here_11 : decode cX0_here 11 = .ok (.aload_n 0, 1) := dk_42 (dk_at dksX0_here_0 11 rfl rfl)
theorem dX0_here_12 : decode cX0_here 12 = .ok (.getfield 315, 3) := dk_180 1 59 (dk_at dksX0_here_0 12 rfl rfl)
theorem dX0_here_15 : decode cX0_here 15 = .ok (.aload_n 0, 1) := dk_42 (dk_at dksX0_here_0 15 rfl rfl)
theorem dX0_here_16 : decode cX0_here 16 = .ok (.getfield 318, 3) := dk_180 1 62 (dk_at dksX0_here_0 16 rfl rfl)
theorem dX0_here_19 : decode cX0_here 19 = .ok (.baload, 1) := dk_51 (dk_at dksX0_here_0 19 rfl rfl)
theorem dX0_here_20 : decode cX0_here 20 = .ok (.bipush 32, 2) := dk_16 32 (dk_at dksX0_here_0 20 rfl rfl)
theorem dX0_here_22 : decode cX0_here 22 = .ok (.if_icmp .ne 16, 3) := dk_160 0 16 (dk_at dksX0_here_1 0 rfl rfl)
theorem dX0_here_25 : decode cX0_here 25 = .ok (.aload_n 0, 1) := dk_42 (dk_at dksX0_here_1 3 rfl rfl)
theorem dX0_here_26 : decode cX0_here 26 = .ok (.dup, 1) := dk_89 (dk_at dksX0_here_1 4 rfl rfl)
theorem dX0_here_27 : decode cX0_here 27 = .ok (.getfield 318, 3) := dk_180 1 62 (dk_at dksX0_here_1 5 rfl rfl)
theorem dX0_here_30 : decode cX0_here 30 = .ok (.iconst 1, 1) := dk_4 (dk_at dksX0_here_1 8 rfl rfl)
theorem dX0_here_31 : decode cX0_here 31 = .ok (.iadd, 1) := dk_96 (dk_at dksX0_here_1 9 rfl rfl)
theorem dX0_here_32 : decode cX0_here 32 = .ok (.putfield 318, 3) := dk_181 1 62 (dk_at dksX0_here_1 10 rfl rfl)
theorem dX0_here_35 : decode cX0_here 35 = .ok (.goto (-35), 3) := dk_167 255 221 (dk_at dksX0_here_1 13 rfl rfl)
theorem dX0_here_38 : decode cX0_here 38 = .ok (.aload_n 0, 1) := dk_42 (dk_at dksX0_here_1 16 rfl rfl)
theorem dX0_here_39 : decode cX0_here 39 = .ok (.getfield 318, 3) := dk_180 1 62 (dk_at dksX0_here_1 17 rfl rfl)
theorem dX0_here_42 : decode cX0_here 42 = .ok (.aload_n 0, 1) := dk_42 (dk_at dksX0_here_1 20 rfl rfl)
theorem dX0_here_43 : decode cX0_here 43 = .ok (.getfield 312, 3) := dk_180 1 56 (dk_at dksX0_here_1 21 rfl rfl)
theorem dX0_here_46 : decode cX0_here 46 = .ok (.if_icmp .ge 15, 3) := dk_162 0 15 (dk_at dksX0_here_2 0 rfl rfl)
theorem dX0_here_49 : decode cX0_here 49 = .ok (.aload_n 0, 1) := dk_42 (dk_at dksX0_here_2 3 rfl rfl)
theorem dX0_here_50 : decode cX0_here 50 = .ok (.getfield 315, 3) := dk_180 1 59 (dk_at dksX0_here_2 4 rfl rfl)
theorem dX0_here_53 : decode cX0_here 53 = .ok (.aload_n 0, 1) := dk_42 (dk_at dksX0_here_2 7 rfl rfl)
theorem dX0_here_54 : decode cX0_here 54 = .ok (.getfield 318, 3) := dk_180 1 62 (dk_at dksX0_here_2 8 rfl rfl)
theorem dX0_here_57 : decode cX0_here 57 = .ok (.baload, 1) := dk_51 (dk_at dksX0_here_2 11 rfl rfl)
theorem dX0_here_58 : decode cX0_here 58 = .ok (.goto 4, 3) := dk_167 0 4 (dk_at dksX0_here_2 12 rfl rfl)
theorem dX0_here_61 : decode cX0_here 61 = .ok (.iconst 0, 1) := dk_3 (dk_at dksX0_here_2 15 rfl rfl)
theorem dX0_here_62 : decode cX0_here 62 = .ok (.ireturn, 1) := dk_172 (dk_at dksX0_here_2 16 rfl rfl)
theorem fo_X0_318 : g_fo RX0 318 [0] 8 := ⟨_, _, _, Or.inl q1624, fun ci h => by
  simp only [List.mem_cons, List.not_mem_nil, or_false] at h; rcases h with rfl
  · exact ⟨_, _, _, rfl, by decide, rfl, rfl, Or.inl rfl, in_X0⟩⟩
theorem fp_X0_318 : g_fp RX0 318 [0] 8 .int false := ⟨_, _, _, Or.inl q1624, by decide +kernel, fun ci h => by
  simp only [List.mem_cons, List.not_mem_nil, or_false] at h; rcases h with rfl
  · exact ⟨_, _, _, tyX0, rfl, by decide, rfl, rfl, Or.inl rfl, in_X0, rfl, (fun h => by cases h), tyX0_ok, (by decide +kernel)⟩⟩
section CP
variable {Γ : Gc} {p : Program} {l : Launch} {e : Env} {s : State} {m : MethodId} {args : Array Value} {below : List Frame} {meth : Method} {c : Code} {ex : Nat → Option Nat} {z : Nat} {tF : St}
noncomputable def fX0_here_38 (ex : Nat → Option Nat) (z : Nat) (h0 : Nat) (t : St) : Option (Int32 × St) := cgI [0] 8 t h0 fun v1 => cgI [0] 7 t h0 fun v2 => if v2 ≤ v1 then some (0, t) else cgA [0] 6 t h0 fun v3 => cgI [0] 8 t h0 fun v4 => cald 0 t v3 v4 fun v5 => some (v5, t)
set_option maxHeartbeats 4000000 in
theorem wX0_here_38 {rF : Int32} (hex : ex = Γ.2.2.2.2) (X : g_X Γ p s m args meth c cX0_here 1 RX0) (hr : meth.sig.returnType = (some .int)) (h0 : Nat) (t : St) : Wf Γ p l e 0 0 s m args below meth c 1 (g_ι z) v_i rF tF 38 [(0, .ref h0)] [] t (fX0_here_38 ex z h0 t) := by
  unfold fX0_here_38
  refine g_aload_n (pc := 38) X 0 dX0_here_38 rfl rfl ?_
  refine cg_getI (pc := 39) X fo_X0_318 dX0_here_39 (fun v1 => ?_)
  refine g_aload_n (pc := 42) X 0 dX0_here_42 rfl rfl ?_
  refine cg_getI (pc := 43) X fo_X0_312 dX0_here_43 (fun v2 => ?_)
  refine g_icmp_ge (pc := 46) X 61 dX0_here_46 (by decide) ?_ ?_
  · refine g_iconst (pc := 61) X 0 dX0_here_61 rfl ?_
    exact g_iret (pc := 62) X hr dX0_here_62
  · refine g_aload_n (pc := 49) X 0 dX0_here_49 rfl rfl ?_
    refine cg_getA (pc := 50) X fo_X0_315 dX0_here_50 (fun v3 => ?_)
    refine g_aload_n (pc := 53) X 0 dX0_here_53 rfl rfl ?_
    refine cg_getI (pc := 54) X fo_X0_318 dX0_here_54 (fun v4 => ?_)
    refine cg_bald (pc := 57) X dX0_here_57 (fun v5 => ?_)
    refine g_goto (pc := 58) X 62 dX0_here_58 (by decide) ?_
    exact g_iret (pc := 62) X hr dX0_here_62
noncomputable def fX0_here_0 (ex : Nat → Option Nat) (z : Nat) : Nat → Nat → St → Option (Int32 × St)
  | 0, _, _ => none
  | n + 1, h0, t => cgI [0] 8 t h0 fun v1 => cgI [0] 7 t h0 fun v2 => if v2 ≤ v1 then fX0_here_38 ex z h0 t else cgA [0] 6 t h0 fun v3 => cgI [0] 8 t h0 fun v4 => cald 0 t v3 v4 fun v5 => if v5 = 32 then cgI [0] 8 t h0 fun v6 => cput [0] 8 t h0 (.int (v6 + 1)) fun t7 => fX0_here_0 ex z n h0 t7 else fX0_here_38 ex z h0 t
set_option maxHeartbeats 4000000 in
theorem wX0_here_0 {rF : Int32} (hex : ex = Γ.2.2.2.2) (X : g_X Γ p s m args meth c cX0_here 1 RX0) (hr : meth.sig.returnType = (some .int)) (n : Nat) : ∀ (h0 : Nat) (t : St), Wf Γ p l e 0 0 s m args below meth c 1 (g_ι z) v_i rF tF 0 [(0, .ref h0)] [] t (fX0_here_0 ex z n h0 t) := by
  induction n with
  | zero => intro h0 t; exact g_none
  | succ n ih =>
    intro h0 t
    rw [fX0_here_0]
    refine g_aload_n (pc := 0) X 0 dX0_here_0 rfl rfl ?_
    refine cg_getI (pc := 1) X fo_X0_318 dX0_here_1 (fun v1 => ?_)
    refine g_aload_n (pc := 4) X 0 dX0_here_4 rfl rfl ?_
    refine cg_getI (pc := 5) X fo_X0_312 dX0_here_5 (fun v2 => ?_)
    refine g_icmp_ge (pc := 8) X 38 dX0_here_8 (by decide) ?_ ?_
    · exact g_lv (pc := 38) (lv' := [(0, .ref h0)]) [0] rfl (wX0_here_38 hex X hr h0 t)
    · refine g_aload_n (pc := 11) X 0 dX0_here_11 rfl rfl ?_
      refine cg_getA (pc := 12) X fo_X0_315 dX0_here_12 (fun v3 => ?_)
      refine g_aload_n (pc := 15) X 0 dX0_here_15 rfl rfl ?_
      refine cg_getI (pc := 16) X fo_X0_318 dX0_here_16 (fun v4 => ?_)
      refine cg_bald (pc := 19) X dX0_here_19 (fun v5 => ?_)
      refine g_bipush (pc := 20) X 32 dX0_here_20 rfl ?_
      refine g_icmp_ne (pc := 22) X 38 dX0_here_22 (by decide) ?_ ?_
      · exact g_lv (pc := 38) (lv' := [(0, .ref h0)]) [0] rfl (wX0_here_38 hex X hr h0 t)
      · refine g_aload_n (pc := 25) X 0 dX0_here_25 rfl rfl ?_
        refine g_dup (pc := 26) X dX0_here_26 rfl ?_
        refine cg_getI (pc := 27) X fo_X0_318 dX0_here_27 (fun v6 => ?_)
        refine g_iconst (pc := 30) X 1 dX0_here_30 rfl ?_
        refine g_iadd (pc := 31) X dX0_here_31 ?_
        refine cg_put (pc := 32) X fp_X0_318 dX0_here_32 (fun h => by cases h) rfl rfl (fun t7 => ?_)
        refine g_goto (pc := 35) X 0 dX0_here_35 (by decide) ?_
        exact g_lv (pc := 0) (lv' := [(0, .ref h0)]) [0] rfl (ih h0 t7)
noncomputable def fX0_here (ex : Nat → Option Nat) (z : Nat) (h0 : Nat) (t : St) : Option (Int32 × St) := fX0_here_0 ex z 1000 h0 t
set_option maxHeartbeats 4000000 in
theorem wX0_here {rF : Int32} (hex : ex = Γ.2.2.2.2) (X : g_X Γ p s m args meth c cX0_here 1 RX0) (hr : meth.sig.returnType = (some .int)) (h0 : Nat) (t : St) : Wf Γ p l e 0 0 s m args below meth c 1 (g_ι z) v_i rF tF 0 [(0, .ref h0)] [] t (fX0_here ex z h0 t) := by
  unfold fX0_here
  exact g_lv (pc := 0) (lv' := [(0, .ref h0)]) [0] rfl (wX0_here_0 hex X hr 1000 h0 t)
theorem kX0_here {ex : Nat → Option Nat} {z : Nat} {h0 : Nat} {σ : Sg} {r : Int32} {u : St} (hex : ex = Γ.2.2.2.2) (h : fX0_here ex z h0 (σ, 0, 0) = some (r, u)) : g_C Γ l yX0_here cX0_here 1 (some .int) 0 0 [.ref h0] σ z v_i r (g_ι z u) :=
  g_met (ι := g_ι z) (t := (σ, 0, 0)) [.ref h0] (by decide) (Nat.le_of_ble_eq_true rfl) h rfl (fun p e s m args below meth c X hr hn => wX0_here hex X hr h0 (σ, 0, 0))
end CP
abbrev cX0_passes : ByteArray := prog_1_method_54_code
def yX0_passes : MethodName := ⟨RX0, "passes", "(I)Z"⟩
def dkwX0_passes_1 : List UInt8 := [167, 0, 4, 3, 96, 181, 1, 62, 28, 172]
abbrev dktX0_passes_1 : List UInt8 := dkwX0_passes_1 ++ []
def dkwX0_passes_0 : List UInt8 := [42, 182, 1, 65, 27, 160, 0, 7, 4, 167, 0, 4, 3, 61, 42, 89, 180, 1, 62, 28, 153, 0, 7, 4]
abbrev dktX0_passes_0 : List UInt8 := dkwX0_passes_0 ++ dktX0_passes_1
theorem dksX0_passes_0 : cX0_passes.data.toList.drop 0 = dktX0_passes_0 := by decide +kernel
theorem dksX0_passes_1 : cX0_passes.data.toList.drop 24 = dktX0_passes_1 := dk_seg dksX0_passes_0 24 rfl rfl
theorem dX0_passes_0 : decode cX0_passes 0 = .ok (.aload_n 0, 1) := dk_42 (dk_at dksX0_passes_0 0 rfl rfl)
theorem dX0_passes_1 : decode cX0_passes 1 = .ok (.invokevirtual 321, 3) := dk_182 1 65 (dk_at dksX0_passes_0 1 rfl rfl)
theorem dX0_passes_4 : decode cX0_passes 4 = .ok (.iload_n 1, 1) := dk_27 (dk_at dksX0_passes_0 4 rfl rfl)
theorem dX0_passes_5 : decode cX0_passes 5 = .ok (.if_icmp .ne 7, 3) := dk_160 0 7 (dk_at dksX0_passes_0 5 rfl rfl)
theorem dX0_passes_8 : decode cX0_passes 8 = .ok (.iconst 1, 1) := dk_4 (dk_at dksX0_passes_0 8 rfl rfl)
theorem dX0_passes_9 : decode cX0_passes 9 = .ok (.goto 4, 3) := dk_167 0 4 (dk_at dksX0_passes_0 9 rfl rfl)
theorem dX0_passes_12 : decode cX0_passes 12 = .ok (.iconst 0, 1) := dk_3 (dk_at dksX0_passes_0 12 rfl rfl)
theorem dX0_passes_13 : decode cX0_passes 13 = .ok (.istore_n 2, 1) := dk_61 (dk_at dksX0_passes_0 13 rfl rfl)
theorem dX0_passes_14 : decode cX0_passes 14 = .ok (.aload_n 0, 1) := dk_42 (dk_at dksX0_passes_0 14 rfl rfl)
theorem dX0_passes_15 : decode cX0_passes 15 = .ok (.dup, 1) := dk_89 (dk_at dksX0_passes_0 15 rfl rfl)
theorem dX0_passes_16 : decode cX0_passes 16 = .ok (.getfield 318, 3) := dk_180 1 62 (dk_at dksX0_passes_0 16 rfl rfl)
theorem dX0_passes_19 : decode cX0_passes 19 = .ok (.iload_n 2, 1) := dk_28 (dk_at dksX0_passes_0 19 rfl rfl)
theorem dX0_passes_20 : decode cX0_passes 20 = .ok (.ifCond .eq 7, 3) := dk_153 0 7 (dk_at dksX0_passes_0 20 rfl rfl)
theorem dX0_passes_23 : decode cX0_passes 23 = .ok (.iconst 1, 1) := dk_4 (dk_at dksX0_passes_0 23 rfl rfl)
theorem dX0_passes_24 : decode cX0_passes 24 = .ok (.goto 4, 3) := dk_167 0 4 (dk_at dksX0_passes_1 0 rfl rfl)
theorem dX0_passes_27 : decode cX0_passes 27 = .ok (.iconst 0, 1) := dk_3 (dk_at dksX0_passes_1 3 rfl rfl)
theorem dX0_passes_28 : decode cX0_passes 28 = .ok (.iadd, 1) := dk_96 (dk_at dksX0_passes_1 4 rfl rfl)
theorem dX0_passes_29 : decode cX0_passes 29 = .ok (.putfield 318, 3) := dk_181 1 62 (dk_at dksX0_passes_1 5 rfl rfl)
theorem dX0_passes_32 : decode cX0_passes 32 = .ok (.iload_n 2, 1) := dk_28 (dk_at dksX0_passes_1 8 rfl rfl)
theorem dX0_passes_33 : decode cX0_passes 33 = .ok (.ireturn, 1) := dk_172 (dk_at dksX0_passes_1 9 rfl rfl)
theorem dmV_X0_here : yX0_here.cls = RX0 ∧ yX0_here.cls ≠ "java/lang/invoke/MethodHandle" ∧ yX0_here.cls ≠ "java/lang/invoke/VarHandle" ∧ (parseMethodDescriptor yX0_here.desc).map (fun d => d.parameters.length) = some 0 := by decide +kernel
section CP
variable {Γ : Gc} {p : Program} {l : Launch} {e : Env} {s : State} {m : MethodId} {args : Array Value} {below : List Frame} {meth : Method} {c : Code} {ex : Nat → Option Nat} {z : Nat} {tF : St}
noncomputable def fX0_passes_13 (ex : Nat → Option Nat) (z : Nat) (h0 : Nat) (s0 : Int32) (t : St) : Option (Int32 × St) := cgI [0] 8 t h0 fun v1 => if s0 = 0 then cput [0] 8 t h0 (.int (v1 + 0)) fun t2 => if s0 = 0 ∨ s0 = 1 then some (s0, t2) else none else cput [0] 8 t h0 (.int (v1 + 1)) fun t3 => if s0 = 0 ∨ s0 = 1 then some (s0, t3) else none
set_option maxHeartbeats 4000000 in
theorem wX0_passes_13 {rF : Int32} (hex : ex = Γ.2.2.2.2) (X : g_X Γ p s m args meth c cX0_passes 3 RX0) (hr : meth.sig.returnType = (some .boolean)) (h0 : Nat) (s0 : Int32) (t : St) : Wf Γ p l e 1 20 s m args below meth c 3 (g_ι z) v_i rF tF 13 [(0, .ref h0)] [.int s0] t (fX0_passes_13 ex z h0 s0 t) := by
  unfold fX0_passes_13
  refine g_istore_n (pc := 13) X (lv' := [(2, .int s0), (0, .ref h0)]) dX0_passes_13 rfl (by decide) rfl ?_
  refine g_aload_n (pc := 14) X 1 dX0_passes_14 rfl rfl ?_
  refine g_dup (pc := 15) X dX0_passes_15 rfl ?_
  refine cg_getI (pc := 16) X fo_X0_318 dX0_passes_16 (fun v1 => ?_)
  refine g_iload_n (pc := 19) X 0 dX0_passes_19 rfl rfl ?_
  refine g_if_eq (pc := 20) X 27 dX0_passes_20 (by decide) ?_ ?_
  · refine g_iconst (pc := 27) X 0 dX0_passes_27 rfl ?_
    refine g_iadd (pc := 28) X dX0_passes_28 ?_
    refine cg_put (pc := 29) X fp_X0_318 dX0_passes_29 (fun h => by cases h) rfl rfl (fun t2 => ?_)
    refine g_iload_n (pc := 32) X 0 dX0_passes_32 rfl rfl ?_
    exact g_bret (pc := 33) X hr dX0_passes_33
  · refine g_iconst (pc := 23) X 1 dX0_passes_23 rfl ?_
    refine g_goto (pc := 24) X 28 dX0_passes_24 (by decide) ?_
    refine g_iadd (pc := 28) X dX0_passes_28 ?_
    refine cg_put (pc := 29) X fp_X0_318 dX0_passes_29 (fun h => by cases h) rfl rfl (fun t3 => ?_)
    refine g_iload_n (pc := 32) X 0 dX0_passes_32 rfl rfl ?_
    exact g_bret (pc := 33) X hr dX0_passes_33
noncomputable def fX0_passes (ex : Nat → Option Nat) (z : Nat) (h0 : Nat) (x1 : Int32) (t : St) : Option (Int32 × St) := ccast [0] t h0 (gb (fX0_here ex (z + t.2.1) h0 (t.1, 0, 0)) t fun r1 t2 => if r1 = x1 then fX0_passes_13 ex z h0 1 t2 else fX0_passes_13 ex z h0 0 t2)
set_option maxHeartbeats 4000000 in
theorem wX0_passes {rF : Int32} (hex : ex = Γ.2.2.2.2) (X : g_X Γ p s m args meth c cX0_passes 3 RX0) (hr : meth.sig.returnType = (some .boolean)) (h0 : Nat) (x1 : Int32) (t : St) : Wf Γ p l e 1 20 s m args below meth c 3 (g_ι z) v_i rF tF 0 [(0, .ref h0), (1, .int x1)] [] t (fX0_passes ex z h0 x1 t) := by
  unfold fX0_passes
  refine g_aload_n (pc := 0) X 0 dX0_passes_0 rfl rfl ?_
  refine g_bD_i (pc := 1) X (cs := [0]) (As := []) (rest := []) (b := h0) (n := 0) dX0_passes_1 rfl rfl (Nat.le_of_ble_eq_true rfl) (fun fl3 ci4 fs5 hs6 hci7 r u h => ?_) (fun r1 t2 => ?_)
  · obtain rfl := List.mem_singleton.mp hci7
    exact ⟨_, _, _, yX0_here, _, _, _, 0, 0, rfl, kX0_here hex h, Or.inl (cwV 0 X.2.2.2.2.1 (lw_V q1095 q1097 qs18 q70 q1098) rfl rfl rfl dmV_X0_here ⟨Nat.le_of_ble_eq_true rfl, Nat.le_of_ble_eq_true rfl⟩)⟩
  refine g_iload_n (pc := 4) X 1 dX0_passes_4 rfl rfl ?_
  refine g_icmp_ne (pc := 5) X 12 dX0_passes_5 (by decide) ?_ ?_
  · refine g_iconst (pc := 12) X 0 dX0_passes_12 rfl ?_
    exact g_lv (pc := 13) (lv' := [(0, .ref h0)]) [0] rfl (wX0_passes_13 hex X hr h0 0 t2)
  · refine g_iconst (pc := 8) X 1 dX0_passes_8 rfl ?_
    refine g_goto (pc := 9) X 13 dX0_passes_9 (by decide) ?_
    exact g_lv (pc := 13) (lv' := [(0, .ref h0)]) [0] rfl (wX0_passes_13 hex X hr h0 1 t2)
theorem kX0_passes {ex : Nat → Option Nat} {z : Nat} {h0 : Nat} {x1 : Int32} {σ : Sg} {r : Int32} {u : St} (hex : ex = Γ.2.2.2.2) (h : fX0_passes ex z h0 x1 (σ, 0, 0) = some (r, u)) : g_C Γ l yX0_passes cX0_passes 3 (some .boolean) 1 20 [.ref h0, .int x1] σ z v_i r (g_ι z u) :=
  g_met (ι := g_ι z) (t := (σ, 0, 0)) [.ref h0, .int x1] (by decide) (Nat.le_of_ble_eq_true rfl) h rfl (fun p e s m args below meth c X hr hn => wX0_passes hex X hr h0 x1 (σ, 0, 0))
end CP
abbrev cX0_isSheet : ByteArray := prog_1_method_69_code
def yX0_isSheet : MethodName := ⟨RX0, "isSheet", "(I)Z"⟩
def dkwX0_isSheet_0 : List UInt8 := [26, 133, 9, 20, 1, 176, 184, 0, 48, 172]
abbrev dktX0_isSheet_0 : List UInt8 := dkwX0_isSheet_0 ++ []
theorem dksX0_isSheet_0 : cX0_isSheet.data.toList.drop 0 = dktX0_isSheet_0 := by decide +kernel
theorem dX0_isSheet_0 : decode cX0_isSheet 0 = .ok (.iload_n 0, 1) := dk_26 (dk_at dksX0_isSheet_0 0 rfl rfl)
theorem dX0_isSheet_1 : decode cX0_isSheet 1 = .ok (.i2l, 1) := dk_133 (dk_at dksX0_isSheet_0 1 rfl rfl)
theorem dX0_isSheet_2 : decode cX0_isSheet 2 = .ok (.lconst 0, 1) := dk_9 (dk_at dksX0_isSheet_0 2 rfl rfl)
theorem dX0_isSheet_3 : decode cX0_isSheet 3 = .ok (.ldc2_w 432, 3) := dk_20 1 176 (dk_at dksX0_isSheet_0 3 rfl rfl)
theorem dX0_isSheet_6 : decode cX0_isSheet 6 = .ok (.invokestatic 48, 3) := dk_184 0 48 (dk_at dksX0_isSheet_0 6 rfl rfl)
theorem dX0_isSheet_9 : decode cX0_isSheet 9 = .ok (.ireturn, 1) := dk_172 (dk_at dksX0_isSheet_0 9 rfl rfl)
section CP
variable {Γ : Gc} {p : Program} {l : Launch} {e : Env} {s : State} {m : MethodId} {args : Array Value} {below : List Frame} {meth : Method} {c : Code} {ex : Nat → Option Nat} {z : Nat} {tF : St}
noncomputable def fX0_isSheet (ex : Nat → Option Nat) (z : Nat) (x0 : Int32) (t : St) : Option (Int32 × St) := gb (fX0_in ex (z + t.2.1) x0.toInt64 0 3 (t.1, 0, 0)) t fun r1 t2 => if r1 = 0 ∨ r1 = 1 then some (r1, t2) else none
set_option maxHeartbeats 4000000 in
theorem wX0_isSheet {rF : Int32} (hex : ex = Γ.2.2.2.2) (X : g_X Γ p s m args meth c cX0_isSheet 1 RX0) (hr : meth.sig.returnType = (some .boolean)) (x0 : Int32) (t : St) : Wf Γ p l e 1 25 s m args below meth c 1 (g_ι z) v_i rF tF 0 [(0, .int x0)] [] t (fX0_isSheet ex z x0 t) := by
  unfold fX0_isSheet
  refine g_iload_n (pc := 0) X 0 dX0_isSheet_0 rfl rfl ?_
  refine g_i2l (pc := 1) X dX0_isSheet_1 ?_
  refine g_lconst (pc := 2) X 0 dX0_isSheet_2 rfl ?_
  refine g_ldc2 (pc := 3) X 3 dX0_isSheet_3 q1384 ?_
  refine g_bS_i (pc := 6) X (y := yX0_in) (As := [.long x0.toInt64, .long 0, .long 3]) (rest := []) (fr' := 0) (lo' := 0) (fun _ => va_cwS 3 X.2.2.2.2.1 (lw_S q122 q123 q70 q124) rfl rfl rfl dmS_X0_in ⟨Nat.le_of_ble_eq_true rfl, Nat.le_of_ble_eq_true rfl⟩) dX0_isSheet_6 rfl rfl (Nat.le_of_ble_eq_true rfl) (fun r u h => kX0_in hex h) (fun r1 t2 => ?_)
  exact g_bret (pc := 9) X hr dX0_isSheet_9
theorem kX0_isSheet {ex : Nat → Option Nat} {z : Nat} {x0 : Int32} {σ : Sg} {r : Int32} {u : St} (hex : ex = Γ.2.2.2.2) (h : fX0_isSheet ex z x0 (σ, 0, 0) = some (r, u)) : g_C Γ l yX0_isSheet cX0_isSheet 1 (some .boolean) 1 25 [.int x0] σ z v_i r (g_ι z u) :=
  g_met (ι := g_ι z) (t := (σ, 0, 0)) [.int x0] (by decide) (Nat.le_of_ble_eq_true rfl) h rfl (fun p e s m args below meth c X hr hn => wX0_isSheet hex X hr x0 (σ, 0, 0))
end CP
abbrev cX0_isLane : ByteArray := prog_1_method_70_code
def yX0_isLane : MethodName := ⟨RX0, "isLane", "(I)Z"⟩
def dkwX0_isLane_0 : List UInt8 := [26, 133, 9, 20, 1, 176, 184, 0, 48, 172]
abbrev dktX0_isLane_0 : List UInt8 := dkwX0_isLane_0 ++ []
theorem dksX0_isLane_0 : cX0_isLane.data.toList.drop 0 = dktX0_isLane_0 := by decide +kernel
theorem dX0_isLane_0 : decode cX0_isLane 0 = .ok (.iload_n 0, 1) := dk_26 (dk_at dksX0_isLane_0 0 rfl rfl)
theorem dX0_isLane_1 : decode cX0_isLane 1 = .ok (.i2l, 1) := dk_133 (dk_at dksX0_isLane_0 1 rfl rfl)
theorem dX0_isLane_2 : decode cX0_isLane 2 = .ok (.lconst 0, 1) := dk_9 (dk_at dksX0_isLane_0 2 rfl rfl)
theorem dX0_isLane_3 : decode cX0_isLane 3 = .ok (.ldc2_w 432, 3) := dk_20 1 176 (dk_at dksX0_isLane_0 3 rfl rfl)
theorem dX0_isLane_6 : decode cX0_isLane 6 = .ok (.invokestatic 48, 3) := dk_184 0 48 (dk_at dksX0_isLane_0 6 rfl rfl)
theorem dX0_isLane_9 : decode cX0_isLane 9 = .ok (.ireturn, 1) := dk_172 (dk_at dksX0_isLane_0 9 rfl rfl)
section CP
variable {Γ : Gc} {p : Program} {l : Launch} {e : Env} {s : State} {m : MethodId} {args : Array Value} {below : List Frame} {meth : Method} {c : Code} {ex : Nat → Option Nat} {z : Nat} {tF : St}
noncomputable def fX0_isLane (ex : Nat → Option Nat) (z : Nat) (x0 : Int32) (t : St) : Option (Int32 × St) := gb (fX0_in ex (z + t.2.1) x0.toInt64 0 3 (t.1, 0, 0)) t fun r1 t2 => if r1 = 0 ∨ r1 = 1 then some (r1, t2) else none
set_option maxHeartbeats 4000000 in
theorem wX0_isLane {rF : Int32} (hex : ex = Γ.2.2.2.2) (X : g_X Γ p s m args meth c cX0_isLane 1 RX0) (hr : meth.sig.returnType = (some .boolean)) (x0 : Int32) (t : St) : Wf Γ p l e 1 25 s m args below meth c 1 (g_ι z) v_i rF tF 0 [(0, .int x0)] [] t (fX0_isLane ex z x0 t) := by
  unfold fX0_isLane
  refine g_iload_n (pc := 0) X 0 dX0_isLane_0 rfl rfl ?_
  refine g_i2l (pc := 1) X dX0_isLane_1 ?_
  refine g_lconst (pc := 2) X 0 dX0_isLane_2 rfl ?_
  refine g_ldc2 (pc := 3) X 3 dX0_isLane_3 q1384 ?_
  refine g_bS_i (pc := 6) X (y := yX0_in) (As := [.long x0.toInt64, .long 0, .long 3]) (rest := []) (fr' := 0) (lo' := 0) (fun _ => va_cwS 3 X.2.2.2.2.1 (lw_S q122 q123 q70 q124) rfl rfl rfl dmS_X0_in ⟨Nat.le_of_ble_eq_true rfl, Nat.le_of_ble_eq_true rfl⟩) dX0_isLane_6 rfl rfl (Nat.le_of_ble_eq_true rfl) (fun r u h => kX0_in hex h) (fun r1 t2 => ?_)
  exact g_bret (pc := 9) X hr dX0_isLane_9
theorem kX0_isLane {ex : Nat → Option Nat} {z : Nat} {x0 : Int32} {σ : Sg} {r : Int32} {u : St} (hex : ex = Γ.2.2.2.2) (h : fX0_isLane ex z x0 (σ, 0, 0) = some (r, u)) : g_C Γ l yX0_isLane cX0_isLane 1 (some .boolean) 1 25 [.int x0] σ z v_i r (g_ι z u) :=
  g_met (ι := g_ι z) (t := (σ, 0, 0)) [.int x0] (by decide) (Nat.le_of_ble_eq_true rfl) h rfl (fun p e s m args below meth c X hr hn => wX0_isLane hex X hr x0 (σ, 0, 0))
end CP
abbrev cX0_laid : ByteArray := prog_1_method_71_code
def yX0_laid : MethodName := ⟨RX0, "laid", "(II)Ljava/lang/Object;"⟩
def dkwX0_laid_2 : List UInt8 := [27, 188, 8, 176, 27, 188, 9, 176, 27, 188, 10, 176, 27, 188, 11, 176]
abbrev dktX0_laid_2 : List UInt8 := dkwX0_laid_2 ++ []
def dkwX0_laid_1 : List UInt8 := [170, 0, 0, 0, 0, 0, 39, 0, 0, 0, 0, 0, 0, 0, 2, 0, 0, 0, 27, 0, 0, 0, 31, 0, 0, 0, 35]
abbrev dktX0_laid_1 : List UInt8 := dkwX0_laid_1 ++ dktX0_laid_2
def dkwX0_laid_0 : List UInt8 := [26]
abbrev dktX0_laid_0 : List UInt8 := dkwX0_laid_0 ++ dktX0_laid_1
theorem dksX0_laid_0 : cX0_laid.data.toList.drop 0 = dktX0_laid_0 := by decide +kernel
theorem dksX0_laid_1 : cX0_laid.data.toList.drop 1 = dktX0_laid_1 := dk_seg dksX0_laid_0 1 rfl rfl
theorem dksX0_laid_2 : cX0_laid.data.toList.drop 28 = dktX0_laid_2 := dk_seg dksX0_laid_1 27 rfl rfl
theorem dX0_laid_0 : decode cX0_laid 0 = .ok (.iload_n 0, 1) := dk_26 (dk_at dksX0_laid_0 0 rfl rfl)
theorem dX0_laid_1 : decode cX0_laid 1 = .ok (.tableswitch 39 0 2 #[27, 31, 35], 27) := by decide +kernel
theorem dX0_laid_28 : decode cX0_laid 28 = .ok (.iload_n 1, 1) := dk_27 (dk_at dksX0_laid_2 0 rfl rfl)
theorem dX0_laid_29 : decode cX0_laid 29 = .ok (.newarray .byte, 2) := dk_188_8 (dk_at dksX0_laid_2 1 rfl rfl)
theorem dX0_laid_31 : decode cX0_laid 31 = .ok (.areturn, 1) := dk_176 (dk_at dksX0_laid_2 3 rfl rfl)
theorem dX0_laid_32 : decode cX0_laid 32 = .ok (.iload_n 1, 1) := dk_27 (dk_at dksX0_laid_2 4 rfl rfl)
theorem dX0_laid_33 : decode cX0_laid 33 = .ok (.newarray .short, 2) := dk_188_9 (dk_at dksX0_laid_2 5 rfl rfl)
theorem dX0_laid_35 : decode cX0_laid 35 = .ok (.areturn, 1) := dk_176 (dk_at dksX0_laid_2 7 rfl rfl)
theorem dX0_laid_36 : decode cX0_laid 36 = .ok (.iload_n 1, 1) := dk_27 (dk_at dksX0_laid_2 8 rfl rfl)
theorem dX0_laid_37 : decode cX0_laid 37 = .ok (.newarray .int, 2) := dk_188_10 (dk_at dksX0_laid_2 9 rfl rfl)
theorem dX0_laid_39 : decode cX0_laid 39 = .ok (.areturn, 1) := dk_176 (dk_at dksX0_laid_2 11 rfl rfl)
theorem dX0_laid_40 : decode cX0_laid 40 = .ok (.iload_n 1, 1) := dk_27 (dk_at dksX0_laid_2 12 rfl rfl)
theorem dX0_laid_41 : decode cX0_laid 41 = .ok (.newarray .long, 2) := dk_188_11 (dk_at dksX0_laid_2 13 rfl rfl)
theorem dX0_laid_43 : decode cX0_laid 43 = .ok (.areturn, 1) := dk_176 (dk_at dksX0_laid_2 15 rfl rfl)
section CP
variable {Γ : Gc} {p : Program} {l : Launch} {e : Env} {s : State} {m : MethodId} {args : Array Value} {below : List Frame} {meth : Method} {c : Code} {ex : Nat → Option Nat} {z : Nat} {tF : St}
noncomputable def fX0_laid (ex : Nat → Option Nat) (z : Nat) (x0 : Int32) (x1 : Int32) (t : St) : Option (Nat × St) := if x0 = 0 then cnewa z 0 x1 t fun a2 t3 => some (a2, t3) else if x0 = 1 then cnewa z 1 x1 t fun a5 t6 => some (a5, t6) else if x0 = 2 then cnewa z 2 x1 t fun a8 t9 => some (a8, t9) else cnewa z 3 x1 t fun a10 t11 => some (a10, t11)
set_option maxHeartbeats 4000000 in
theorem wX0_laid {rF : Nat} (hex : ex = Γ.2.2.2.2) (X : g_X Γ p s m args meth c cX0_laid 2 RX0) (hr : meth.sig.returnType = (some (.object "java/lang/Object"))) (x0 : Int32) (x1 : Int32) (t : St) : Wf Γ p l e 0 0 s m args below meth c 2 (g_ι z) v_a rF tF 0 [(0, .int x0), (1, .int x1)] [] t (fX0_laid ex z x0 x1 t) := by
  unfold fX0_laid
  refine g_iload_n (pc := 0) X 0 dX0_laid_0 rfl rfl ?_
  refine g_by (pc := 1) (fun hc1 => ?_) (fun hc1 => ?_)
  · refine g_tswI (pc := 1) X 0 28 dX0_laid_1 hc1 (by decide) (by decide) rfl (by decide) ?_
    refine g_iload_n (pc := 28) X 1 dX0_laid_28 rfl rfl ?_
    refine cg_newa (pc := 29) X (j := 0) dX0_laid_29 (by decide) rfl rfl (fun _ _ => rfl) (by decide) q1054 (fun a2 t3 => ?_)
    exact g_aret (pc := 31) X hr (Or.inl ⟨_, rfl⟩) dX0_laid_31
  refine g_by (pc := 1) (fun hc4 => ?_) (fun hc4 => ?_)
  · refine g_tswI (pc := 1) X 1 32 dX0_laid_1 hc4 (by decide) (by decide) rfl (by decide) ?_
    refine g_iload_n (pc := 32) X 1 dX0_laid_32 rfl rfl ?_
    refine cg_newa (pc := 33) X (j := 1) dX0_laid_33 (by decide) rfl rfl (fun _ _ => rfl) (by decide) q1391 (fun a5 t6 => ?_)
    exact g_aret (pc := 35) X hr (Or.inl ⟨_, rfl⟩) dX0_laid_35
  refine g_by (pc := 1) (fun hc7 => ?_) (fun hc7 => ?_)
  · refine g_tswI (pc := 1) X 2 36 dX0_laid_1 hc7 (by decide) (by decide) rfl (by decide) ?_
    refine g_iload_n (pc := 36) X 1 dX0_laid_36 rfl rfl ?_
    refine cg_newa (pc := 37) X (j := 2) dX0_laid_37 (by decide) rfl rfl (fun _ _ => rfl) (by decide) q1392 (fun a8 t9 => ?_)
    exact g_aret (pc := 39) X hr (Or.inl ⟨_, rfl⟩) dX0_laid_39
  refine g_tswO (pc := 1) X 3 40 dX0_laid_1 (fun j hj => by match j, hj with | 0, _ => exact hc1 | 1, _ => exact hc4 | 2, _ => exact hc7) (by decide) (by decide) (by decide) ?_
  refine g_iload_n (pc := 40) X 1 dX0_laid_40 rfl rfl ?_
  refine cg_newa (pc := 41) X (j := 3) dX0_laid_41 (by decide) rfl rfl (fun _ _ => rfl) (by decide) q1393 (fun a10 t11 => ?_)
  exact g_aret (pc := 43) X hr (Or.inl ⟨_, rfl⟩) dX0_laid_43
theorem kX0_laid {ex : Nat → Option Nat} {z : Nat} {x0 : Int32} {x1 : Int32} {σ : Sg} {r : Nat} {u : St} (hex : ex = Γ.2.2.2.2) (h : fX0_laid ex z x0 x1 (σ, 0, 0) = some (r, u)) : g_C Γ l yX0_laid cX0_laid 2 (some (.object "java/lang/Object")) 0 0 [.int x0, .int x1] σ z v_a r (g_ι z u) :=
  g_met (ι := g_ι z) (t := (σ, 0, 0)) [.int x0, .int x1] (by decide) (Nat.le_of_ble_eq_true rfl) h rfl (fun p e s m args below meth c X hr hn => wX0_laid hex X hr x0 x1 (σ, 0, 0))
end CP
abbrev cX1_size : ByteArray := prog_12_method_7_code
def yX1_size : MethodName := ⟨RX1, "size", "()I"⟩
def dkwX1_size_0 : List UInt8 := [42, 180, 0, 22, 182, 0, 44, 172]
abbrev dktX1_size_0 : List UInt8 := dkwX1_size_0 ++ []
theorem dksX1_size_0 : cX1_size.data.toList.drop 0 = dktX1_size_0 := by decide +kernel
theorem dX1_size_0 : decode cX1_size 0 = .ok (.aload_n 0, 1) := dk_42 (dk_at dksX1_size_0 0 rfl rfl)
theorem dX1_size_1 : decode cX1_size 1 = .ok (.getfield 22, 3) := dk_180 0 22 (dk_at dksX1_size_0 1 rfl rfl)
theorem dX1_size_4 : decode cX1_size 4 = .ok (.invokevirtual 44, 3) := dk_182 0 44 (dk_at dksX1_size_0 4 rfl rfl)
theorem dX1_size_7 : decode cX1_size 7 = .ok (.ireturn, 1) := dk_172 (dk_at dksX1_size_0 7 rfl rfl)
theorem fo_X1_22 : g_fo RX1 22 [1] 2 := ⟨_, _, _, Or.inl q1564, fun ci h => by
  simp only [List.mem_cons, List.not_mem_nil, or_false] at h; rcases h with rfl
  · exact ⟨_, _, _, rfl, by decide, rfl, rfl, Or.inl rfl, in_X1⟩⟩
section CP
variable {Γ : Gc} {p : Program} {l : Launch} {e : Env} {s : State} {m : MethodId} {args : Array Value} {below : List Frame} {meth : Method} {c : Code} {ex : Nat → Option Nat} {z : Nat} {tF : St}
noncomputable def fX1_size (ex : Nat → Option Nat) (z : Nat) (h0 : Nat) (t : St) : Option (Int32 × St) := cgA [1] 2 t h0 fun v1 => ccast [15] t v1 (gb (fJ2_size ex (z + t.2.1) v1 (t.1, 0, 0)) t fun r2 t3 => some (r2, t3))
set_option maxHeartbeats 4000000 in
theorem wX1_size {rF : Int32} (hex : ex = Γ.2.2.2.2) (X : g_X Γ p s m args meth c cX1_size 1 RX1) (hr : meth.sig.returnType = (some .int)) (h0 : Nat) (t : St) : Wf Γ p l e 1 20 s m args below meth c 1 (g_ι z) v_i rF tF 0 [(0, .ref h0)] [] t (fX1_size ex z h0 t) := by
  unfold fX1_size
  refine g_aload_n (pc := 0) X 0 dX1_size_0 rfl rfl ?_
  refine cg_getA (pc := 1) X fo_X1_22 dX1_size_1 (fun v1 => ?_)
  refine g_bD_i (pc := 4) X (cs := [15]) (As := []) (rest := []) (b := v1) (n := 0) dX1_size_4 rfl rfl (Nat.le_of_ble_eq_true rfl) (fun fl4 ci5 fs6 hs7 hci8 r u h => ?_) (fun r2 t3 => ?_)
  · obtain rfl := List.mem_singleton.mp hci8
    exact ⟨_, _, _, yJ2_size, _, _, _, 0, 0, rfl, kJ2_size hex h, Or.inl (cwV 0 X.2.2.2.2.1 (lw_V q133 q134 q135 q74 q136) rfl rfl rfl dmV_J2_size ⟨Nat.le_of_ble_eq_true rfl, Nat.le_of_ble_eq_true rfl⟩)⟩
  exact g_iret (pc := 7) X hr dX1_size_7
theorem kX1_size {ex : Nat → Option Nat} {z : Nat} {h0 : Nat} {σ : Sg} {r : Int32} {u : St} (hex : ex = Γ.2.2.2.2) (h : fX1_size ex z h0 (σ, 0, 0) = some (r, u)) : g_C Γ l yX1_size cX1_size 1 (some .int) 1 20 [.ref h0] σ z v_i r (g_ι z u) :=
  g_met (ι := g_ι z) (t := (σ, 0, 0)) [.ref h0] (by decide) (Nat.le_of_ble_eq_true rfl) h rfl (fun p e s m args below meth c X hr hn => wX1_size hex X hr h0 (σ, 0, 0))
end CP
