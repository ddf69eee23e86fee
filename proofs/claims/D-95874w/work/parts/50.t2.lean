/-! the component, its methods: X0_puts, X0_looksAt, X0_refusal, X0_drop, X0_dress (printed by gen/cmain.py) -/
set_option maxRecDepth 100000
theorem q1381 : (Jvm.Cond.methodLink "LameClocks" (441 : Nat) ({ cls := "LameClocks", name := "isSheet", desc := "(I)Z" } : Jvm.MethodName)) ∈ lw_all := lw_g (lw_at lw_m6 112 rfl) rfl
theorem q1382 : (Jvm.Cond.static ({ cls := "LameClocks", name := "isSheet", desc := "(I)Z" } : Jvm.MethodName)) ∈ lw_all := lw_g (lw_at lw_m6 113 rfl) rfl
theorem q1385 : (Jvm.Cond.methodLink "LameClocks" (444 : Nat) ({ cls := "LameClocks", name := "isLane", desc := "(I)Z" } : Jvm.MethodName)) ∈ lw_all := lw_g (lw_at lw_m6 116 rfl) rfl
theorem q1386 : (Jvm.Cond.static ({ cls := "LameClocks", name := "isLane", desc := "(I)Z" } : Jvm.MethodName)) ∈ lw_all := lw_g (lw_at lw_m6 117 rfl) rfl
theorem q1397 : (Jvm.Cond.code ({ cls := "LameClocks", name := "drop", desc := "(I)I" } : Jvm.MethodName) prog_1_method_76_code (3 : Nat) (Option.some Jvm.ClassFile.FieldType.int)) ∈ lw_all := lw_g (lw_at lw_m6 128 rfl) rfl
theorem q1398 : (Jvm.Cond.methodLink "LameClocks" (463 : Nat) ({ cls := "LameClocks", name := "laneOf", desc := "(Ljava/lang/Object;)I" } : Jvm.MethodName)) ∈ lw_all := lw_g (lw_at lw_m6 129 rfl) rfl
theorem q1399 : (Jvm.Cond.static ({ cls := "LameClocks", name := "laneOf", desc := "(Ljava/lang/Object;)I" } : Jvm.MethodName)) ∈ lw_all := lw_g (lw_at lw_m6 130 rfl) rfl
theorem q1404 : (Jvm.Cond.methodLink "LameClocks" (467 : Nat) ({ cls := "LameClocks", name := "sizeOf", desc := "(Ljava/lang/Object;I)I" } : Jvm.MethodName)) ∈ lw_all := lw_g (lw_at lw_m6 135 rfl) rfl
theorem q1405 : (Jvm.Cond.static ({ cls := "LameClocks", name := "sizeOf", desc := "(Ljava/lang/Object;I)I" } : Jvm.MethodName)) ∈ lw_all := lw_g (lw_at lw_m6 136 rfl) rfl
theorem q1412 : (Jvm.Cond.classLink "LameClocks" (475 : Nat) "java/lang/NullPointerException") ∈ lw_all := lw_g (lw_at lw_m6 143 rfl) rfl
theorem q1437 : (Jvm.Cond.classLink "LameClocks" (477 : Nat) "java/lang/ClassCastException") ∈ lw_all := lw_g (lw_at lw_m6 168 rfl) rfl
theorem q1451 : (Jvm.Cond.classLink "LameClocks" (479 : Nat) "java/lang/ArrayIndexOutOfBoundsException") ∈ lw_all := lw_g (lw_at lw_m6 182 rfl) rfl
theorem q1472 : (Jvm.Cond.code ({ cls := "LameClocks", name := "puts", desc := "(Ljava/lang/Object;IIJ)V" } : Jvm.MethodName) prog_1_method_77_code (5 : Nat) (Option.none : Option Jvm.ClassFile.FieldType)) ∈ lw_all := lw_g (lw_at lw_m6 203 rfl) rfl
theorem q1476 : (Jvm.Cond.code ({ cls := "LameClocks", name := "dress", desc := "(IIII)I" } : Jvm.MethodName) prog_1_method_81_code (7 : Nat) (Option.some Jvm.ClassFile.FieldType.int)) ∈ lw_all := lw_g (lw_at lw_m6 207 rfl) rfl
theorem q1477 : (Jvm.Cond.methodLink "LameClocks" (493 : Nat) ({ cls := "LameClocks", name := "refusal", desc := "(IIII)I" } : Jvm.MethodName)) ∈ lw_all := lw_g (lw_at lw_m6 208 rfl) rfl
theorem q1479 : (Jvm.Cond.instanceMethod ({ cls := "LameClocks", name := "refusal", desc := "(IIII)I" } : Jvm.MethodName)) ∈ lw_all := lw_g (lw_at lw_m6 210 rfl) rfl
theorem q1480 : (Jvm.Cond.codeWith ({ cls := "LameClocks", name := "refusal", desc := "(IIII)I" } : Jvm.MethodName) prog_1_method_80_code (6 : Nat) (Option.some Jvm.ClassFile.FieldType.int) [((0 : Nat), (18 : Nat), (19 : Nat), (475 : Nat)), ((0 : Nat), (18 : Nat), (24 : Nat), (477 : Nat)), ((0 : Nat), (18 : Nat), (29 : Nat), (479 : Nat))]) ∈ lw_all := lw_g (lw_at lw_m6 211 rfl) rfl
theorem q1481 : (Jvm.Cond.methodLink "LameClocks" (489 : Nat) ({ cls := "LameClocks", name := "looksAt", desc := "(Ljava/lang/Object;III)V" } : Jvm.MethodName)) ∈ lw_all := lw_g (lw_at lw_m6 212 rfl) rfl
theorem q1483 : (Jvm.Cond.instanceMethod ({ cls := "LameClocks", name := "looksAt", desc := "(Ljava/lang/Object;III)V" } : Jvm.MethodName)) ∈ lw_all := lw_g (lw_at lw_m6 214 rfl) rfl
theorem q1484 : (Jvm.Cond.code ({ cls := "LameClocks", name := "looksAt", desc := "(Ljava/lang/Object;III)V" } : Jvm.MethodName) prog_1_method_79_code (7 : Nat) (Option.none : Option Jvm.ClassFile.FieldType)) ∈ lw_all := lw_g (lw_at lw_m6 215 rfl) rfl
theorem q1492 : (Jvm.Cond.methodLink "LameClocks" (485 : Nat) ({ cls := "LameClocks", name := "itemOf", desc := "(Ljava/lang/Object;II)J" } : Jvm.MethodName)) ∈ lw_all := lw_g (lw_at lw_m6 223 rfl) rfl
theorem q1493 : (Jvm.Cond.static ({ cls := "LameClocks", name := "itemOf", desc := "(Ljava/lang/Object;II)J" } : Jvm.MethodName)) ∈ lw_all := lw_g (lw_at lw_m6 224 rfl) rfl
theorem q1607 : (Jvm.Cond.fieldLinkNest "LameClocks" (455 : Nat) "LameClocks$Held" "row" "Ljava/lang/Object;" "LameClocks") ∈ lw_tbl := lw_at lw_m7 98 rfl
abbrev cX0_puts : ByteArray := prog_1_method_77_code
def yX0_puts : MethodName := ⟨RX0, "puts", "(Ljava/lang/Object;IIJ)V"⟩
def dkwX0_puts_2 : List UInt8 := [167, 0, 10, 42, 192, 1, 183, 28, 33, 80, 177]
abbrev dktX0_puts_2 : List UInt8 := dkwX0_puts_2 ++ []
def dkwX0_puts_1 : List UInt8 := [192, 1, 179, 28, 33, 136, 147, 86, 167, 0, 26, 27, 5, 160, 0, 14, 42, 192, 1, 181, 28, 33, 136, 79]
abbrev dktX0_puts_1 : List UInt8 := dkwX0_puts_1 ++ dktX0_puts_2
def dkwX0_puts_0 : List UInt8 := [27, 154, 0, 15, 42, 192, 1, 178, 28, 33, 136, 145, 84, 167, 0, 43, 27, 4, 160, 0, 15, 42]
abbrev dktX0_puts_0 : List UInt8 := dkwX0_puts_0 ++ dktX0_puts_1
theorem dksX0_puts_0 : cX0_puts.data.toList.drop 0 = dktX0_puts_0 := by decide +kernel
theorem dksX0_puts_1 : cX0_puts.data.toList.drop 22 = dktX0_puts_1 := dk_seg dksX0_puts_0 22 rfl rfl
theorem dksX0_puts_2 : cX0_puts.data.toList.drop 46 = dktX0_puts_2 := dk_seg dksX0_puts_1 24 rfl rfl
theorem dX0_puts_0 : decode cX0_puts 0 = .ok (.iload_n 1, 1) := dk_27 (dk_at dksX0_puts_0 0 rfl rfl)
theorem dX0_puts_1 : decode cX0_puts 1 = .ok (.ifCond .ne 15, 3) := dk_154 0 15 (dk_at dksX0_puts_0 1 rfl rfl)
theorem dX0_puts_4 : decode cX0_puts 4 = .ok (.aload_n 0, 1) := dk_42 (dk_at dksX0_puts_0 4 rfl rfl)
theorem dX0_puts_5 : decode cX0_puts 5 = .ok (.checkcast 434, 3) := dk_192 1 178 (dk_at dksX0_puts_0 5 rfl rfl)
theorem dX0_puts_8 : decode cX0_puts 8 = .ok (.iload_n 2, 1) := dk_28 (dk_at dksX0_puts_0 8 rfl rfl)
theorem dX0_puts_9 : decode cX0_puts 9 = .ok (.lload_n 3, 1) := dk_33 (dk_at dksX0_puts_0 9 rfl rfl)
theorem dX0_puts_10 : decode cX0_puts 10 = .ok (.l2i, 1) := dk_136 (dk_at dksX0_puts_0 10 rfl rfl)
theorem dX0_puts_11 : decode cX0_puts 11 = .ok (.i2b, 1) := dk_145 (dk_at dksX0_puts_0 11 rfl rfl)
theorem dX0_puts_12 : decode cX0_puts 12 = .ok (.bastore, 1) := dk_84 (dk_at dksX0_puts_0 12 rfl rfl)
theorem dX0_puts_13 : decode cX0_puts 13 = .ok (.goto 43, 3) := dk_167 0 43 (dk_at dksX0_puts_0 13 rfl rfl)
theorem dX0_puts_16 : decode cX0_puts 16 = .ok (.iload_n 1, 1) := dk_27 (dk_at dksX0_puts_0 16 rfl rfl)
theorem dX0_puts_17 : decode cX0_puts 17 = .ok (.iconst 1, 1) := dk_4 (dk_at dksX0_puts_0 17 rfl rfl)
theorem dX0_puts_18 : decode cX0_puts 18 = .ok (.if_icmp .ne 15, 3) := dk_160 0 15 (dk_at dksX0_puts_0 18 rfl rfl)
theorem dX0_puts_21 : decode cX0_puts 21 = .ok (.aload_n 0, 1) := dk_42 (dk_at dksX0_puts_0 21 rfl rfl)
theorem dX0_puts_22 : decode cX0_puts 22 = .ok (.checkcast 435, 3) := dk_192 1 179 (dk_at dksX0_puts_1 0 rfl rfl)
theorem dX0_puts_25 : decode cX0_puts 25 = .ok (.iload_n 2, 1) := dk_28 (dk_at dksX0_puts_1 3 rfl rfl)
theorem dX0_puts_26 : decode cX0_puts 26 = .ok (.lload_n 3, 1) := dk_33 (dk_at dksX0_puts_1 4 rfl rfl)
theorem dX0_puts_27 : decode cX0_puts 27 = .ok (.l2i, 1) := dk_136 (dk_at dksX0_puts_1 5 rfl rfl)
theorem dX0_puts_28 : decode cX0_puts 28 = .ok (.i2s, 1) := dk_147 (dk_at dksX0_puts_1 6 rfl rfl)
theorem dX0_puts_29 : decode cX0_puts 29 = .ok (.sastore, 1) := dk_86 (dk_at dksX0_puts_1 7 rfl rfl)
theorem dX0_puts_30 : decode cX0_puts 30 = .ok (.goto 26, 3) := dk_167 0 26 (dk_at dksX0_puts_1 8 rfl rfl)
theorem dX0_puts_33 : decode cX0_puts 33 = .ok (.iload_n 1, 1) := dk_27 (dk_at dksX0_puts_1 11 rfl rfl)
theorem dX0_puts_34 : decode cX0_puts 34 = .ok (.iconst 2, 1) := dk_5 (dk_at dksX0_puts_1 12 rfl rfl)
theorem dX0_puts_35 : decode cX0_puts 35 = .ok (.if_icmp .ne 14, 3) := dk_160 0 14 (dk_at dksX0_puts_1 13 rfl rfl)
theorem dX0_puts_38 : decode cX0_puts 38 = .ok (.aload_n 0, 1) := dk_42 (dk_at dksX0_puts_1 16 rfl rfl)
theorem dX0_puts_39 : decode cX0_puts 39 = .ok (.checkcast 437, 3) := dk_192 1 181 (dk_at dksX0_puts_1 17 rfl rfl)
theorem dX0_puts_42 : decode cX0_puts 42 = .ok (.iload_n 2, 1) := dk_28 (dk_at dksX0_puts_1 20 rfl rfl)
theorem dX0_puts_43 : decode cX0_puts 43 = .ok (.lload_n 3, 1) := dk_33 (dk_at dksX0_puts_1 21 rfl rfl)
theorem dX0_puts_44 : decode cX0_puts 44 = .ok (.l2i, 1) := dk_136 (dk_at dksX0_puts_1 22 rfl rfl)
theorem dX0_puts_45 : decode cX0_puts 45 = .ok (.iastore, 1) := dk_79 (dk_at dksX0_puts_1 23 rfl rfl)
theorem dX0_puts_46 : decode cX0_puts 46 = .ok (.goto 10, 3) := dk_167 0 10 (dk_at dksX0_puts_2 0 rfl rfl)
theorem dX0_puts_49 : decode cX0_puts 49 = .ok (.aload_n 0, 1) := dk_42 (dk_at dksX0_puts_2 3 rfl rfl)
theorem dX0_puts_50 : decode cX0_puts 50 = .ok (.checkcast 439, 3) := dk_192 1 183 (dk_at dksX0_puts_2 4 rfl rfl)
theorem dX0_puts_53 : decode cX0_puts 53 = .ok (.iload_n 2, 1) := dk_28 (dk_at dksX0_puts_2 7 rfl rfl)
theorem dX0_puts_54 : decode cX0_puts 54 = .ok (.lload_n 3, 1) := dk_33 (dk_at dksX0_puts_2 8 rfl rfl)
theorem dX0_puts_55 : decode cX0_puts 55 = .ok (.lastore, 1) := dk_80 (dk_at dksX0_puts_2 9 rfl rfl)
theorem dX0_puts_56 : decode cX0_puts 56 = .ok (.return_, 1) := dk_177 (dk_at dksX0_puts_2 10 rfl rfl)
section CP
variable {Γ : Gc} {p : Program} {l : Launch} {e : Env} {s : State} {m : MethodId} {args : Array Value} {below : List Frame} {meth : Method} {c : Code} {ex : Nat → Option Nat} {z : Nat} {tF : St}
noncomputable def fX0_puts (ex : Nat → Option Nat) (z : Nat) (h0 : Option Nat) (x1 : Int32) (x2 : Int32) (x3 : Int64) (t : St) : Option ((Unit ⊕ Nat) × St) := if x1 = 0 then ccka 0 t h0 (cnul h0 (some (.inr (z + t.2.1), xNew z 0 27 t)) fun a => cidx t a x2 (some (.inr (z + t.2.1 + 2), xNew z 2 29 t)) (cast_ 0 (vp_nar .byte) t a x2 x3.toInt32.toInt8.toInt32 fun t4 => some (.inl (), t4))) (some (.inr (z + t.2.1 + 2), xNew z 2 28 t)) else if x1 = 1 then ccka 1 t h0 (cnul h0 (some (.inr (z + t.2.1), xNew z 0 27 t)) fun a => cidx t a x2 (some (.inr (z + t.2.1 + 2), xNew z 2 29 t)) (cast_ 1 (vp_nar .short) t a x2 x3.toInt32.toInt16.toInt32 fun t3 => some (.inl (), t3))) (some (.inr (z + t.2.1 + 2), xNew z 2 28 t)) else if x1 = 2 then ccka 2 t h0 (cnul h0 (some (.inr (z + t.2.1), xNew z 0 27 t)) fun a => cidx t a x2 (some (.inr (z + t.2.1 + 2), xNew z 2 29 t)) (cast_ 2 (fun x => x) t a x2 x3.toInt32 fun t2 => some (.inl (), t2))) (some (.inr (z + t.2.1 + 2), xNew z 2 28 t)) else ccka 3 t h0 (cnul h0 (some (.inr (z + t.2.1), xNew z 0 27 t)) fun a => cidx t a x2 (some (.inr (z + t.2.1 + 2), xNew z 2 29 t)) (castl t a x2 x3 fun t1 => some (.inl (), t1))) (some (.inr (z + t.2.1 + 2), xNew z 2 28 t))
set_option maxHeartbeats 4000000 in
theorem wX0_puts {rF : (Unit ⊕ Nat)} (hex : ex = Γ.2.2.2.2) (hl : l.stackTraces = false) (X : g_X Γ p s m args meth c cX0_puts 5 RX0) (hr : meth.sig.returnType = none) (ht : g_T meth []) (h0 : Option Nat) (x1 : Int32) (x2 : Int32) (x3 : Int64) (t : St) : Wf Γ p l e 9 10260 s m args below meth c 5 (g_ι z) t_v rF tF 0 [(0, va_rf h0), (1, .int x1), (2, .int x2), (3, .long x3)] [] t (fX0_puts ex z h0 x1 x2 x3 t) := by
  unfold fX0_puts
  refine g_iload_n (pc := 0) X 1 dX0_puts_0 rfl rfl ?_
  refine g_if_ne (pc := 1) X 16 dX0_puts_1 (by decide) ?_ ?_
  · refine g_iload_n (pc := 16) X 1 dX0_puts_16 rfl rfl ?_
    refine g_iconst (pc := 17) X 1 dX0_puts_17 rfl ?_
    refine g_icmp_ne (pc := 18) X 33 dX0_puts_18 (by decide) ?_ ?_
    · refine g_iload_n (pc := 33) X 1 dX0_puts_33 rfl rfl ?_
      refine g_iconst (pc := 34) X 2 dX0_puts_34 rfl ?_
      refine g_icmp_ne (pc := 35) X 49 dX0_puts_35 (by decide) ?_ ?_
      · refine g_aload_n_q (pc := 49) X 0 dX0_puts_49 rfl rfl ?_
        refine cx_cast (pc := 50) X hl (j := 3) (by decide) q1407 dX0_puts_50 (Nat.le_of_ble_eq_true rfl) (Nat.le_of_ble_eq_true rfl) (x_leave X ht rfl rfl) ?_
        refine g_iload_n (pc := 53) X 2 dX0_puts_53 rfl rfl ?_
        refine g_lload_n (pc := 54) X 3 dX0_puts_54 rfl rfl ?_
        refine cx_lastore (pc := 55) X hl dX0_puts_55 (Nat.le_of_ble_eq_true rfl) (Nat.le_of_ble_eq_true rfl) (x_leave X ht rfl rfl) (fun _ => x_leave X ht rfl rfl) (fun t1 => ?_)
        exact g_tvret (pc := 56) X hr dX0_puts_56
      · refine g_aload_n_q (pc := 38) X 0 dX0_puts_38 rfl rfl ?_
        refine cx_cast (pc := 39) X hl (j := 2) (by decide) q1403 dX0_puts_39 (Nat.le_of_ble_eq_true rfl) (Nat.le_of_ble_eq_true rfl) (x_leave X ht rfl rfl) ?_
        refine g_iload_n (pc := 42) X 2 dX0_puts_42 rfl rfl ?_
        refine g_lload_n (pc := 43) X 3 dX0_puts_43 rfl rfl ?_
        refine g_l2i (pc := 44) X dX0_puts_44 ?_
        refine cx_iastore (pc := 45) X hl dX0_puts_45 (Nat.le_of_ble_eq_true rfl) (Nat.le_of_ble_eq_true rfl) (x_leave X ht rfl rfl) (fun _ => x_leave X ht rfl rfl) (fun t2 => ?_)
        refine g_goto (pc := 46) X 56 dX0_puts_46 (by decide) ?_
        exact g_tvret (pc := 56) X hr dX0_puts_56
    · refine g_aload_n_q (pc := 21) X 0 dX0_puts_21 rfl rfl ?_
      refine cx_cast (pc := 22) X hl (j := 1) (by decide) q1402 dX0_puts_22 (Nat.le_of_ble_eq_true rfl) (Nat.le_of_ble_eq_true rfl) (x_leave X ht rfl rfl) ?_
      refine g_iload_n (pc := 25) X 2 dX0_puts_25 rfl rfl ?_
      refine g_lload_n (pc := 26) X 3 dX0_puts_26 rfl rfl ?_
      refine g_l2i (pc := 27) X dX0_puts_27 ?_
      refine g_i2s (pc := 28) X dX0_puts_28 ?_
      refine cx_sastore (pc := 29) X hl dX0_puts_29 (Nat.le_of_ble_eq_true rfl) (Nat.le_of_ble_eq_true rfl) (x_leave X ht rfl rfl) (fun _ => x_leave X ht rfl rfl) (fun t3 => ?_)
      refine g_goto (pc := 30) X 56 dX0_puts_30 (by decide) ?_
      exact g_tvret (pc := 56) X hr dX0_puts_56
  · refine g_aload_n_q (pc := 4) X 0 dX0_puts_4 rfl rfl ?_
    refine cx_cast (pc := 5) X hl (j := 0) (by decide) q1401 dX0_puts_5 (Nat.le_of_ble_eq_true rfl) (Nat.le_of_ble_eq_true rfl) (x_leave X ht rfl rfl) ?_
    refine g_iload_n (pc := 8) X 2 dX0_puts_8 rfl rfl ?_
    refine g_lload_n (pc := 9) X 3 dX0_puts_9 rfl rfl ?_
    refine g_l2i (pc := 10) X dX0_puts_10 ?_
    refine g_i2b (pc := 11) X dX0_puts_11 ?_
    refine cx_bastore (pc := 12) X hl dX0_puts_12 (Nat.le_of_ble_eq_true rfl) (Nat.le_of_ble_eq_true rfl) (x_leave X ht rfl rfl) (fun _ => x_leave X ht rfl rfl) (fun t4 => ?_)
    refine g_goto (pc := 13) X 56 dX0_puts_13 (by decide) ?_
    exact g_tvret (pc := 56) X hr dX0_puts_56
theorem kX0_puts {ex : Nat → Option Nat} {z : Nat} {h0 : Option Nat} {x1 : Int32} {x2 : Int32} {x3 : Int64} {σ : Sg} {r : (Unit ⊕ Nat)} {u : St} (hex : ex = Γ.2.2.2.2) (hl : l.stackTraces = false) (h : fX0_puts ex z h0 x1 x2 x3 (σ, 0, 0) = some (r, u)) : g_CT Γ l yX0_puts cX0_puts 5 none [] 9 10260 [va_rf h0, .int x1, .int x2, .long x3] σ z t_v r (g_ι z u) := by
  rcases h0 with _ | h0
  · exact g_metT (ι := g_ι z) (t := (σ, 0, 0)) [va_rf none, .int x1, .int x2, .long x3] (Nat.le_of_ble_eq_true rfl) h rfl (fun p e s m args below meth c X hr hn ht => wX0_puts hex hl X hr ht none x1 x2 x3 (σ, 0, 0))
  · exact g_metT (ι := g_ι z) (t := (σ, 0, 0)) [va_rf (some h0), .int x1, .int x2, .long x3] (Nat.le_of_ble_eq_true rfl) h rfl (fun p e s m args below meth c X hr hn ht => wX0_puts hex hl X hr ht (some h0) x1 x2 x3 (σ, 0, 0))
end CP
abbrev cX0_looksAt : ByteArray := prog_1_method_79_code
def yX0_looksAt : MethodName := ⟨RX0, "looksAt", "(Ljava/lang/Object;III)V"⟩
def dkwX0_looksAt_2 : List UInt8 := [180, 1, 226, 21, 6, 43, 28, 29, 21, 6, 96, 184, 1, 229, 80, 132, 6, 1, 167, 255, 230, 177]
abbrev dktX0_looksAt_2 : List UInt8 := dkwX0_looksAt_2 ++ []
def dkwX0_looksAt_1 : List UInt8 := [100, 164, 0, 11, 187, 1, 223, 89, 183, 1, 225, 191, 3, 54, 6, 21, 6, 21, 4, 162, 0, 25, 42]
abbrev dktX0_looksAt_1 : List UInt8 := dkwX0_looksAt_1 ++ dktX0_looksAt_2
def dkwX0_looksAt_0 : List UInt8 := [43, 28, 184, 1, 211, 54, 5, 29, 133, 9, 21, 5, 133, 184, 0, 48, 153, 0, 12, 21, 4, 21, 5, 29]
abbrev dktX0_looksAt_0 : List UInt8 := dkwX0_looksAt_0 ++ dktX0_looksAt_1
theorem dksX0_looksAt_0 : cX0_looksAt.data.toList.drop 0 = dktX0_looksAt_0 := by decide +kernel
theorem dksX0_looksAt_1 : cX0_looksAt.data.toList.drop 24 = dktX0_looksAt_1 := dk_seg dksX0_looksAt_0 24 rfl rfl
theorem dksX0_looksAt_2 : cX0_looksAt.data.toList.drop 47 = dktX0_looksAt_2 := dk_seg dksX0_looksAt_1 23 rfl rfl
theorem dX0_looksAt_0 : decode cX0_looksAt 0 = .ok (.aload_n 1, 1) := dk_43 (dk_at dksX0_looksAt_0 0 rfl rfl)
theorem dX0_looksAt_1 : decode cX0_looksAt 1 = .ok (.iload_n 2, 1) := dk_28 (dk_at dksX0_looksAt_0 1 rfl rfl)
theorem dX0_looksAt_2 : decode cX0_looksAt 2 = .ok (.invokestatic 467, 3) := dk_184 1 211 (dk_at dksX0_looksAt_0 2 rfl rfl)
theorem dX0_looksAt_5 : decode cX0_looksAt 5 = .ok (.istore 5, 2) := dk_54 5 (dk_at dksX0_looksAt_0 5 rfl rfl)
theorem dX0_looksAt_7 : decode cX0_looksAt 7 = .ok (.iload_n 3, 1) := dk_29 (dk_at dksX0_looksAt_0 7 rfl rfl)
theorem dX0_looksAt_8 : decode cX0_looksAt 8 = .ok (.i2l, 1) := dk_133 (dk_at dksX0_looksAt_0 8 rfl rfl)
theorem dX0_looksAt_9 : decode cX0_looksAt 9 = .ok (.lconst 0, 1) := dk_9 (dk_at dksX0_looksAt_0 9 rfl rfl)
theorem dX0_looksAt_10 : decode cX0_looksAt 10 = .ok (.iload 5, 2) := dk_21 5 (dk_at dksX0_looksAt_0 10 rfl rfl)
theorem dX0_looksAt_12 : decode cX0_looksAt 12 = .ok (.i2l, 1) := dk_133 (dk_at dksX0_looksAt_0 12 rfl rfl)
theorem dX0_looksAt_13 : decode cX0_looksAt 13 = .ok (.invokestatic 48, 3) := dk_184 0 48 (dk_at dksX0_looksAt_0 13 rfl rfl)
theorem dX0_looksAt_16 : decode cX0_looksAt 16 = .ok (.ifCond .eq 12, 3) := dk_153 0 12 (dk_at dksX0_looksAt_0 16 rfl rfl)
theorem dX0_looksAt_19 : decode cX0_looksAt 19 = .ok (.iload 4, 2) := dk_21 4 (dk_at dksX0_looksAt_0 19 rfl rfl)
theorem dX0_looksAt_21 : decode cX0_looksAt 21 = .ok (.iload 5, 2) := dk_21 5 (dk_at dksX0_looksAt_0 21 rfl rfl)
theorem dX0_looksAt_23 : decode cX0_looksAt 23 = .ok (.iload_n 3, 1) := dk_29 (dk_at dksX0_looksAt_0 23 rfl rfl)
theorem dX0_looksAt_24 : decode cX0_looksAt 24 = .ok (.isub, 1) := dk_100 (dk_at dksX0_looksAt_1 0 rfl rfl)
theorem dX0_looksAt_25 : decode cX0_looksAt 25 = .ok (.if_icmp .le 11, 3) := dk_164 0 11 (dk_at dksX0_looksAt_1 1 rfl rfl)
theorem dX0_looksAt_28 : decode cX0_looksAt 28 = .ok (.new 479, 3) := dk_187 1 223 (dk_at dksX0_looksAt_1 4 rfl rfl)
theorem dX0_looksAt_31 : decode cX0_looksAt 31 = .ok (.dup, 1) := dk_89 (dk_at dksX0_looksAt_1 7 rfl rfl)
theorem dX0_looksAt_32 : decode cX0_looksAt 32 = .ok (.invokespecial 481, 3) := dk_183 1 225 (dk_at dksX0_looksAt_1 8 rfl rfl)
theorem dX0_looksAt_35 : decode cX0_looksAt 35 = .ok (.athrow, 1) := dk_191 (dk_at dksX0_looksAt_1 11 rfl rfl)
theorem dX0_looksAt_36 : decode cX0_looksAt 36 = .ok (.iconst 0, 1) := dk_3 (dk_at dksX0_looksAt_1 12 rfl rfl)
theorem dX0_looksAt_37 : decode cX0_looksAt 37 = .ok (.istore 6, 2) := dk_54 6 (dk_at dksX0_looksAt_1 13 rfl rfl)
theorem dX0_looksAt_39 : decode cX0_looksAt 39 = .ok (.iload 6, 2) := dk_21 6 (dk_at dksX0_looksAt_1 15 rfl rfl)
theorem dX0_looksAt_41 : decode cX0_looksAt 41 = .ok (.iload 4, 2) := dk_21 4 (dk_at dksX0_looksAt_1 17 rfl rfl)
theorem dX0_looksAt_43 : decode cX0_looksAt 43 = .ok (.if_icmp .ge 25, 3) := dk_162 0 25 (dk_at dksX0_looksAt_1 19 rfl rfl)
theorem dX0_looksAt_46 : decode cX0_looksAt 46 = .ok (.aload_n 0, 1) := dk_42 (dk_at dksX0_looksAt_1 22 rfl rfl)
theorem dX0_looksAt_47 : decode cX0_looksAt 47 = .ok (.getfield 482, 3) := dk_180 1 226 (dk_at dksX0_looksAt_2 0 rfl rfl)
theorem dX0_looksAt_50 : decode cX0_looksAt 50 = .ok (.iload 6, 2) := dk_21 6 (dk_at dksX0_looksAt_2 3 rfl rfl)
theorem dX0_looksAt_52 : decode cX0_looksAt 52 = .ok (.aload_n 1, 1) := dk_43 (dk_at dksX0_looksAt_2 5 rfl rfl)
theorem dX0_looksAt_53 : decode cX0_looksAt 53 = .ok (.iload_n 2, 1) := dk_28 (dk_at dksX0_looksAt_2 6 rfl rfl)
theorem dX0_looksAt_54 : decode cX0_looksAt 54 = .ok (.iload_n 3, 1) := dk_29 (dk_at dksX0_looksAt_2 7 rfl rfl)
theorem dX0_looksAt_55 : decode cX0_looksAt 55 = .ok (.iload 6, 2) := dk_21 6 (dk_at dksX0_looksAt_2 8 rfl rfl)
theorem dX0_looksAt_57 : decode cX0_looksAt 57 = .ok (.iadd, 1) := dk_96 (dk_at dksX0_looksAt_2 10 rfl rfl)
theorem dX0_looksAt_58 : decode cX0_looksAt 58 = .ok (.invokestatic 485, 3) := dk_184 1 229 (dk_at dksX0_looksAt_2 11 rfl rfl)
theorem dX0_looksAt_61 : decode cX0_looksAt 61 = .ok (.lastore, 1) := dk_80 (dk_at dksX0_looksAt_2 14 rfl rfl)
theorem dX0_looksAt_62 : decode cX0_looksAt 62 = .ok (.iinc 6 1, 3) := dk_132 6 1 (dk_at dksX0_looksAt_2 15 rfl rfl)
theorem dX0_looksAt_65 : decode cX0_looksAt 65 = .ok (.goto (-26), 3) := dk_167 255 230 (dk_at dksX0_looksAt_2 18 rfl rfl)
theorem dX0_looksAt_68 : decode cX0_looksAt 68 = .ok (.return_, 1) := dk_177 (dk_at dksX0_looksAt_2 21 rfl rfl)
theorem dy_X0_itemOf : (yX0_itemOf.cls ≠ "java/lang/invoke/MethodHandle" ∧ yX0_itemOf.cls ≠ "java/lang/invoke/VarHandle") ∧ (parseMethodDescriptor yX0_itemOf.desc).map (fun d => d.parameters.length) = some 3 := by decide +kernel
theorem dy_X0_sizeOf : (yX0_sizeOf.cls ≠ "java/lang/invoke/MethodHandle" ∧ yX0_sizeOf.cls ≠ "java/lang/invoke/VarHandle") ∧ (parseMethodDescriptor yX0_sizeOf.desc).map (fun d => d.parameters.length) = some 2 := by decide +kernel
section CP
variable {Γ : Gc} {p : Program} {l : Launch} {e : Env} {s : State} {m : MethodId} {args : Array Value} {below : List Frame} {meth : Method} {c : Code} {ex : Nat → Option Nat} {z : Nat} {tF : St}
noncomputable def fX0_looksAt_39 (ex : Nat → Option Nat) (z : Nat) : Nat → Nat → Option Nat → Int32 → Int32 → Int32 → Int32 → St → Option ((Unit ⊕ Nat) × St)
  | 0, _, _, _, _, _, _, _ => none
  | n + 1, h0, h1, x2, x3, x4, x6, t => if x4 ≤ x6 then some (.inl (), t) else cgA [0] 18 t h0 fun v1 => gb (fX0_itemOf ex (z + t.2.1) h1 x2 (x3 + x6) (t.1, 0, 0)) t fun r2 t3 => castl t3 v1 x6 r2 fun t6 => fX0_looksAt_39 ex z n h0 h1 x2 x3 x4 (x6 + 1) t6
set_option maxHeartbeats 4000000 in
theorem wX0_looksAt_39 {rF : (Unit ⊕ Nat)} (hex : ex = Γ.2.2.2.2) (hl : l.stackTraces = false) (X : g_X Γ p s m args meth c cX0_looksAt 7 RX0) (hr : meth.sig.returnType = none) (ht : g_T meth []) (n : Nat) : ∀ (h0 : Nat) (h1 : Option Nat) (x2 : Int32) (x3 : Int32) (x4 : Int32) (x6 : Int32) (t : St), Wf Γ p l e 10 10282 s m args below meth c 7 (g_ι z) t_v rF tF 39 [(0, .ref h0), (1, va_rf h1), (2, .int x2), (3, .int x3), (4, .int x4), (6, .int x6)] [] t (fX0_looksAt_39 ex z n h0 h1 x2 x3 x4 x6 t) := by
  induction n with
  | zero => intro h0 h1 x2 x3 x4 x6 t; exact g_none
  | succ n ih =>
    intro h0 h1 x2 x3 x4 x6 t
    rw [fX0_looksAt_39]
    refine g_iload (pc := 39) X 5 dX0_looksAt_39 rfl ?_
    refine g_iload (pc := 41) X 4 dX0_looksAt_41 rfl ?_
    refine g_icmp_ge (pc := 43) X 68 dX0_looksAt_43 (by decide) ?_ ?_
    · exact g_tvret (pc := 68) X hr dX0_looksAt_68
    · refine g_aload_n (pc := 46) X 0 dX0_looksAt_46 rfl rfl ?_
      refine cg_getA (pc := 47) X fo_X0_482 dX0_looksAt_47 (fun v1 => ?_)
      refine g_iload (pc := 50) X 5 dX0_looksAt_50 rfl ?_
      refine g_aload_n_q (pc := 52) X 1 dX0_looksAt_52 rfl rfl ?_
      refine g_iload_n (pc := 53) X 2 dX0_looksAt_53 rfl rfl ?_
      refine g_iload_n (pc := 54) X 3 dX0_looksAt_54 rfl rfl ?_
      refine g_iload (pc := 55) X 5 dX0_looksAt_55 rfl ?_
      refine g_iadd (pc := 57) X dX0_looksAt_57 ?_
      refine x_bS_l (pc := 58) X (y := yX0_itemOf) (As := [va_rf h1, .int x2, .int (x3 + x6)]) (rest := [.int x6, .ref v1]) (n := 3) (fr' := 9) (lo' := 10260) dX0_looksAt_58 rfl rfl (Nat.le_of_ble_eq_true rfl) (plainFor_of_name (by decide)) (Or.inl ⟨q1494, rfl⟩) ⟨Nat.le_of_ble_eq_true rfl, Nat.le_of_ble_eq_true rfl⟩ q1493 q70 q1492 dy_X0_itemOf.1 dy_X0_itemOf.2 (fun r u h => kX0_itemOf hex hl h) (fun r2 t3 => ?_)
      refine cg_last (pc := 61) X dX0_looksAt_61 (fun t6 => ?_)
      refine g_iinc (pc := 62) X 1 5 (lv' := [(6, .int (x6 + 1)), (0, .ref h0), (1, va_rf h1), (2, .int x2), (3, .int x3), (4, .int x4)]) dX0_looksAt_62 rfl rfl (by decide) rfl ?_
      refine g_goto (pc := 65) X 39 dX0_looksAt_65 (by decide) ?_
      exact g_lv (pc := 39) (lv' := [(0, .ref h0), (1, va_rf h1), (2, .int x2), (3, .int x3), (4, .int x4), (6, .int (x6 + 1))]) [1, 2, 3, 4, 5, 0] rfl (ih h0 h1 x2 x3 x4 (x6 + 1) t6)
noncomputable def fX0_looksAt (ex : Nat → Option Nat) (z : Nat) (h0 : Nat) (h1 : Option Nat) (x2 : Int32) (x3 : Int32) (x4 : Int32) (t : St) : Option ((Unit ⊕ Nat) × St) := gbT (fX0_sizeOf ex (z + t.2.1) h1 x2 (t.1, 0, 0)) t (fun r1 t2 => gb (fX0_in ex (z + t2.2.1) x3.toInt64 0 r1.toInt64 (t2.1, 0, 0)) t2 fun r5 t6 => if r5 = 0 then some (.inr (z + t6.2.1), xNew z 0 29 t6) else if x4 ≤ r1 - x3 then fX0_looksAt_39 ex z 1000 h0 h1 x2 x3 x4 0 t6 else some (.inr (z + t6.2.1), xNew z 0 29 t6)) (fun a4 t3 => some (.inr a4, t3))
set_option maxHeartbeats 4000000 in
theorem wX0_looksAt {rF : (Unit ⊕ Nat)} (hex : ex = Γ.2.2.2.2) (hl : l.stackTraces = false) (X : g_X Γ p s m args meth c cX0_looksAt 7 RX0) (hr : meth.sig.returnType = none) (ht : g_T meth []) (h0 : Nat) (h1 : Option Nat) (x2 : Int32) (x3 : Int32) (x4 : Int32) (t : St) : Wf Γ p l e 10 10282 s m args below meth c 7 (g_ι z) t_v rF tF 0 [(0, .ref h0), (1, va_rf h1), (2, .int x2), (3, .int x3), (4, .int x4)] [] t (fX0_looksAt ex z h0 h1 x2 x3 x4 t) := by
  unfold fX0_looksAt
  refine g_aload_n_q (pc := 0) X 1 dX0_looksAt_0 rfl rfl ?_
  refine g_iload_n (pc := 1) X 2 dX0_looksAt_1 rfl rfl ?_
  refine t_bS_i (pc := 2) X (y := yX0_sizeOf) (As := [va_rf h1, .int x2]) (rest := []) (n := 2) (fr' := 9) (lo' := 10260) dX0_looksAt_2 rfl rfl (Nat.le_of_ble_eq_true rfl) (plainFor_of_name (by decide)) (Or.inl ⟨q1406, rfl⟩) ⟨Nat.le_of_ble_eq_true rfl, Nat.le_of_ble_eq_true rfl⟩ q1405 q70 q1404 dy_X0_sizeOf.1 dy_X0_sizeOf.2 (fun r u h => kX0_sizeOf hex hl h) (fun r1 t2 => ?_) (fun a4 t3 => x_leave X ht rfl rfl)
  refine g_istore (pc := 5) X (lv' := [(5, .int r1), (0, .ref h0), (1, va_rf h1), (2, .int x2), (3, .int x3), (4, .int x4)]) dX0_looksAt_5 (by decide) rfl ?_
  refine g_iload_n (pc := 7) X 4 dX0_looksAt_7 rfl rfl ?_
  refine g_i2l (pc := 8) X dX0_looksAt_8 ?_
  refine g_lconst (pc := 9) X 0 dX0_looksAt_9 rfl ?_
  refine g_iload (pc := 10) X 0 dX0_looksAt_10 rfl ?_
  refine g_i2l (pc := 12) X dX0_looksAt_12 ?_
  refine g_bS_i (pc := 13) X (y := yX0_in) (As := [.long x3.toInt64, .long 0, .long r1.toInt64]) (rest := []) (fr' := 0) (lo' := 0) (fun _ => va_cwS 3 X.2.2.2.2.1 (lw_S q122 q123 q70 q124) rfl rfl rfl dmS_X0_in ⟨Nat.le_of_ble_eq_true rfl, Nat.le_of_ble_eq_true rfl⟩) dX0_looksAt_13 rfl rfl (Nat.le_of_ble_eq_true rfl) (fun r u h => kX0_in hex h) (fun r5 t6 => ?_)
  refine g_if_eq (pc := 16) X 28 dX0_looksAt_16 (by decide) ?_ ?_
  · exact cx_own (pc := 28) X hl ht rfl dX0_looksAt_28 dX0_looksAt_31 dX0_looksAt_32 dX0_looksAt_35 q1451 q111 (Nat.le_of_ble_eq_true rfl) (Nat.le_of_ble_eq_true rfl)
  · refine g_iload (pc := 19) X 5 dX0_looksAt_19 rfl ?_
    refine g_iload (pc := 21) X 0 dX0_looksAt_21 rfl ?_
    refine g_iload_n (pc := 23) X 4 dX0_looksAt_23 rfl rfl ?_
    refine g_isub (pc := 24) X dX0_looksAt_24 ?_
    refine g_icmp_le (pc := 25) X 36 dX0_looksAt_25 (by decide) ?_ ?_
    · refine g_iconst (pc := 36) X 0 dX0_looksAt_36 rfl ?_
      refine g_istore (pc := 37) X (lv' := [(6, .int 0), (5, .int r1), (0, .ref h0), (1, va_rf h1), (2, .int x2), (3, .int x3), (4, .int x4)]) dX0_looksAt_37 (by decide) rfl ?_
      exact g_lv (pc := 39) (lv' := [(0, .ref h0), (1, va_rf h1), (2, .int x2), (3, .int x3), (4, .int x4), (6, .int 0)]) [2, 3, 4, 5, 6, 0] rfl (wX0_looksAt_39 hex hl X hr ht 1000 h0 h1 x2 x3 x4 0 t6)
    · exact cx_own (pc := 28) X hl ht rfl dX0_looksAt_28 dX0_looksAt_31 dX0_looksAt_32 dX0_looksAt_35 q1451 q111 (Nat.le_of_ble_eq_true rfl) (Nat.le_of_ble_eq_true rfl)
theorem kX0_looksAt {ex : Nat → Option Nat} {z : Nat} {h0 : Nat} {h1 : Option Nat} {x2 : Int32} {x3 : Int32} {x4 : Int32} {σ : Sg} {r : (Unit ⊕ Nat)} {u : St} (hex : ex = Γ.2.2.2.2) (hl : l.stackTraces = false) (h : fX0_looksAt ex z h0 h1 x2 x3 x4 (σ, 0, 0) = some (r, u)) : g_CT Γ l yX0_looksAt cX0_looksAt 7 none [] 10 10282 [.ref h0, va_rf h1, .int x2, .int x3, .int x4] σ z t_v r (g_ι z u) := by
  rcases h1 with _ | h1
  · exact g_metT (ι := g_ι z) (t := (σ, 0, 0)) [.ref h0, va_rf none, .int x2, .int x3, .int x4] (Nat.le_of_ble_eq_true rfl) h rfl (fun p e s m args below meth c X hr hn ht => wX0_looksAt hex hl X hr ht h0 none x2 x3 x4 (σ, 0, 0))
  · exact g_metT (ι := g_ι z) (t := (σ, 0, 0)) [.ref h0, va_rf (some h1), .int x2, .int x3, .int x4] (Nat.le_of_ble_eq_true rfl) h rfl (fun p e s m args below meth c X hr hn ht => wX0_looksAt hex hl X hr ht h0 (some h1) x2 x3 x4 (σ, 0, 0))
end CP
abbrev cX0_refusal : ByteArray := prog_1_method_80_code
def yX0_refusal : MethodName := ⟨RX0, "refusal", "(IIII)I"⟩
def dkwX0_refusal_1 : List UInt8 := [58, 5, 16, 244, 172, 58, 5, 16, 243, 172]
abbrev dktX0_refusal_1 : List UInt8 := dkwX0_refusal_1 ++ []
def dkwX0_refusal_0 : List UInt8 := [42, 42, 180, 1, 191, 27, 50, 180, 1, 199, 28, 29, 21, 4, 182, 1, 233, 3, 172, 58, 5, 16, 245, 172]
abbrev dktX0_refusal_0 : List UInt8 := dkwX0_refusal_0 ++ dktX0_refusal_1
theorem dksX0_refusal_0 : cX0_refusal.data.toList.drop 0 = dktX0_refusal_0 := by decide +kernel
theorem dksX0_refusal_1 : cX0_refusal.data.toList.drop 24 = dktX0_refusal_1 := dk_seg dksX0_refusal_0 24 rfl rfl
theorem dX0_refusal_0 : decode cX0_refusal 0 = .ok (.aload_n 0, 1) := dk_42 (dk_at dksX0_refusal_0 0 rfl rfl)
theorem dX0_refusal_1 : decode cX0_refusal 1 = .ok (.aload_n 0, 1) := dk_42 (dk_at dksX0_refusal_0 1 rfl rfl)
theorem dX0_refusal_2 : decode cX0_refusal 2 = .ok (.getfield 447, 3) := dk_180 1 191 (dk_at dksX0_refusal_0 2 rfl rfl)
theorem dX0_refusal_5 : decode cX0_refusal 5 = .ok (.iload_n 1, 1) := dk_27 (dk_at dksX0_refusal_0 5 rfl rfl)
theorem dX0_refusal_6 : decode cX0_refusal 6 = .ok (.aaload, 1) := dk_50 (dk_at dksX0_refusal_0 6 rfl rfl)
theorem dX0_refusal_7 : decode cX0_refusal 7 = .ok (.getfield 455, 3) := dk_180 1 199 (dk_at dksX0_refusal_0 7 rfl rfl)
theorem dX0_refusal_10 : decode cX0_refusal 10 = .ok (.iload_n 2, 1) := dk_28 (dk_at dksX0_refusal_0 10 rfl rfl)
theorem dX0_refusal_11 : decode cX0_refusal 11 = .ok (.iload_n 3, 1) := dk_29 (dk_at dksX0_refusal_0 11 rfl rfl)
theorem dX0_refusal_12 : decode cX0_refusal 12 = .ok (.iload 4, 2) := dk_21 4 (dk_at dksX0_refusal_0 12 rfl rfl)
theorem dX0_refusal_14 : decode cX0_refusal 14 = .ok (.invokevirtual 489, 3) := dk_182 1 233 (dk_at dksX0_refusal_0 14 rfl rfl)
theorem dX0_refusal_17 : decode cX0_refusal 17 = .ok (.iconst 0, 1) := dk_3 (dk_at dksX0_refusal_0 17 rfl rfl)
theorem dX0_refusal_18 : decode cX0_refusal 18 = .ok (.ireturn, 1) := dk_172 (dk_at dksX0_refusal_0 18 rfl rfl)
theorem dX0_refusal_19 : decode cX0_refusal 19 = .ok (.astore 5, 2) := dk_58 5 (dk_at dksX0_refusal_0 19 rfl rfl)
theorem dX0_refusal_21 : decode cX0_refusal 21 = .ok (.bipush (-11), 2) := dk_16 245 (dk_at dksX0_refusal_0 21 rfl rfl)
theorem dX0_refusal_23 : decode cX0_refusal 23 = .ok (.ireturn, 1) := dk_172 (dk_at dksX0_refusal_0 23 rfl rfl)
theorem dX0_refusal_24 : decode cX0_refusal 24 = .ok (.astore 5, 2) := dk_58 5 (dk_at dksX0_refusal_1 0 rfl rfl)
theorem dX0_refusal_26 : decode cX0_refusal 26 = .ok (.bipush (-12), 2) := dk_16 244 (dk_at dksX0_refusal_1 2 rfl rfl)
theorem dX0_refusal_28 : decode cX0_refusal 28 = .ok (.ireturn, 1) := dk_172 (dk_at dksX0_refusal_1 4 rfl rfl)
theorem dX0_refusal_29 : decode cX0_refusal 29 = .ok (.astore 5, 2) := dk_58 5 (dk_at dksX0_refusal_1 5 rfl rfl)
theorem dX0_refusal_31 : decode cX0_refusal 31 = .ok (.bipush (-13), 2) := dk_16 243 (dk_at dksX0_refusal_1 7 rfl rfl)
theorem dX0_refusal_33 : decode cX0_refusal 33 = .ok (.ireturn, 1) := dk_172 (dk_at dksX0_refusal_1 9 rfl rfl)
theorem fo_X0_455 : g_fo RX0 455 [2] 0 := ⟨_, _, _, Or.inr ⟨_, q1607⟩, fun ci h => by
  simp only [List.mem_cons, List.not_mem_nil, or_false] at h; rcases h with rfl
  · exact ⟨_, _, _, rfl, by decide, rfl, rfl, Or.inl rfl, in_X2⟩⟩
theorem nc_J19_J16 : Cond.not (.castable "java/lang/ArrayIndexOutOfBoundsException" "java/lang/NullPointerException") ∈ flatC (Jvm.Cond.and given_1 narrow_1) := by decide +kernel
theorem nc_J19_J17 : Cond.not (.castable "java/lang/ArrayIndexOutOfBoundsException" "java/lang/ClassCastException") ∈ flatC (Jvm.Cond.and given_1 narrow_1) := by decide +kernel
theorem nc_J17_J16 : Cond.not (.castable "java/lang/ClassCastException" "java/lang/NullPointerException") ∈ flatC (Jvm.Cond.and given_1 narrow_1) := by decide +kernel
theorem dy_X0_looksAt : (yX0_looksAt.cls ≠ "java/lang/invoke/MethodHandle" ∧ yX0_looksAt.cls ≠ "java/lang/invoke/VarHandle") ∧ (parseMethodDescriptor yX0_looksAt.desc).map (fun d => d.parameters.length) = some 4 := by decide +kernel
section CP
variable {Γ : Gc} {p : Program} {l : Launch} {e : Env} {s : State} {m : MethodId} {args : Array Value} {below : List Frame} {meth : Method} {c : Code} {ex : Nat → Option Nat} {z : Nat} {tF : St}
noncomputable def fX0_refusal_19 (ex : Nat → Option Nat) (z : Nat) (s0 : Nat) (t : St) : Option (Int32 × St) := some ((-11), t)
set_option maxHeartbeats 4000000 in
theorem wX0_refusal_19 {rF : Int32} (hex : ex = Γ.2.2.2.2) (hl : l.stackTraces = false) (X : g_X Γ p s m args meth c cX0_refusal 6 RX0) (hr : meth.sig.returnType = (some .int)) (ht : g_T meth [(0, 18, 19, 475), (0, 18, 24, 477), (0, 18, 29, 479)]) (s0 : Nat) (t : St) : Wf Γ p l e 11 10308 s m args below meth c 6 (g_ι z) v_i rF tF 19 [] [.ref s0] t (fX0_refusal_19 ex z s0 t) := by
  unfold fX0_refusal_19
  refine g_astore (pc := 19) X (lv' := [(5, .ref s0)]) dX0_refusal_19 (by decide) rfl ?_
  refine g_bipush (pc := 21) X (-11) dX0_refusal_21 rfl ?_
  exact g_iret (pc := 23) X hr dX0_refusal_23
noncomputable def fX0_refusal_24 (ex : Nat → Option Nat) (z : Nat) (s0 : Nat) (t : St) : Option (Int32 × St) := some ((-12), t)
set_option maxHeartbeats 4000000 in
theorem wX0_refusal_24 {rF : Int32} (hex : ex = Γ.2.2.2.2) (hl : l.stackTraces = false) (X : g_X Γ p s m args meth c cX0_refusal 6 RX0) (hr : meth.sig.returnType = (some .int)) (ht : g_T meth [(0, 18, 19, 475), (0, 18, 24, 477), (0, 18, 29, 479)]) (s0 : Nat) (t : St) : Wf Γ p l e 11 10308 s m args below meth c 6 (g_ι z) v_i rF tF 24 [] [.ref s0] t (fX0_refusal_24 ex z s0 t) := by
  unfold fX0_refusal_24
  refine g_astore (pc := 24) X (lv' := [(5, .ref s0)]) dX0_refusal_24 (by decide) rfl ?_
  refine g_bipush (pc := 26) X (-12) dX0_refusal_26 rfl ?_
  exact g_iret (pc := 28) X hr dX0_refusal_28
noncomputable def fX0_refusal_29 (ex : Nat → Option Nat) (z : Nat) (s0 : Nat) (t : St) : Option (Int32 × St) := some ((-13), t)
set_option maxHeartbeats 4000000 in
theorem wX0_refusal_29 {rF : Int32} (hex : ex = Γ.2.2.2.2) (hl : l.stackTraces = false) (X : g_X Γ p s m args meth c cX0_refusal 6 RX0) (hr : meth.sig.returnType = (some .int)) (ht : g_T meth [(0, 18, 19, 475), (0, 18, 24, 477), (0, 18, 29, 479)]) (s0 : Nat) (t : St) : Wf Γ p l e 11 10308 s m args below meth c 6 (g_ι z) v_i rF tF 29 [] [.ref s0] t (fX0_refusal_29 ex z s0 t) := by
  unfold fX0_refusal_29
  refine g_astore (pc := 29) X (lv' := [(5, .ref s0)]) dX0_refusal_29 (by decide) rfl ?_
  refine g_bipush (pc := 31) X (-13) dX0_refusal_31 rfl ?_
  exact g_iret (pc := 33) X hr dX0_refusal_33
noncomputable def fX0_refusal (ex : Nat → Option Nat) (z : Nat) (h0 : Nat) (x1 : Int32) (x2 : Int32) (x3 : Int32) (x4 : Int32) (t : St) : Option (Int32 × St) := cgA [0] 17 t h0 fun v1 => caldA 5 t v1 x1 fun v2 => cgQ [2] 0 t v2 fun v3 => ccast [0] t h0 (gbT (fX0_looksAt ex (z + t.2.1) h0 v3 x2 x3 x4 (t.1, 0, 0)) t (fun _ t5 => some (0, t5)) (fun a7 t6 => cif t6 a7 27 (fX0_refusal_19 ex z a7 t6) (cif t6 a7 28 (fX0_refusal_24 ex z a7 t6) (cif t6 a7 29 (fX0_refusal_29 ex z a7 t6) (none)))))
set_option maxHeartbeats 4000000 in
theorem wX0_refusal {rF : Int32} (hex : ex = Γ.2.2.2.2) (hl : l.stackTraces = false) (X : g_X Γ p s m args meth c cX0_refusal 6 RX0) (hr : meth.sig.returnType = (some .int)) (ht : g_T meth [(0, 18, 19, 475), (0, 18, 24, 477), (0, 18, 29, 479)]) (h0 : Nat) (x1 : Int32) (x2 : Int32) (x3 : Int32) (x4 : Int32) (t : St) : Wf Γ p l e 11 10308 s m args below meth c 6 (g_ι z) v_i rF tF 0 [(0, .ref h0), (1, .int x1), (2, .int x2), (3, .int x3), (4, .int x4)] [] t (fX0_refusal ex z h0 x1 x2 x3 x4 t) := by
  unfold fX0_refusal
  refine g_aload_n (pc := 0) X 0 dX0_refusal_0 rfl rfl ?_
  refine g_aload_n (pc := 1) X 0 dX0_refusal_1 rfl rfl ?_
  refine cg_getA (pc := 2) X fo_X0_447 dX0_refusal_2 (fun v1 => ?_)
  refine g_iload_n (pc := 5) X 1 dX0_refusal_5 rfl rfl ?_
  refine cg_aald (pc := 6) X (j := 5) rfl rfl dX0_refusal_6 (fun v2 => ?_)
  refine cg_getQ (pc := 7) X fo_X0_455 dX0_refusal_7 (fun v3 => ?_)
  refine g_iload_n (pc := 10) X 2 dX0_refusal_10 rfl rfl ?_
  refine g_iload_n (pc := 11) X 3 dX0_refusal_11 rfl rfl ?_
  refine g_iload (pc := 12) X 4 dX0_refusal_12 rfl ?_
  refine t_bV_v (pc := 14) X (ci := 0) (C := RX0) (b := h0) (y := yX0_looksAt) (As := [va_rf v3, .int x2, .int x3, .int x4]) (rest := []) (n := 4) (fr' := 10) (lo' := 10282) ⟨_, _, rfl⟩ dX0_refusal_14 rfl rfl (Nat.le_of_ble_eq_true rfl) (plainFor_of_name (by decide)) (Or.inl ⟨q1484, rfl⟩) ⟨Nat.le_of_ble_eq_true rfl, Nat.le_of_ble_eq_true rfl⟩ q1483 q1481 qs28 dy_X0_looksAt.1 dy_X0_looksAt.2 (fun r u h => kX0_looksAt hex hl h) (fun r4 t5 => ?_) (fun a7 t6 => x_cif (fun fl fs hs => x_catch X ht hs rfl 19 (x_ev.take rfl (by decide) q1412 q1434) (g_lv (pc := 19) (lv' := []) [] rfl (wX0_refusal_19 hex hl X hr ht a7 t6))) (x_cif (fun fl fs hs => x_catch X ht hs rfl 24 (x_ev.pass rfl (by decide) q1412 nc_J17_J16 (x_ev.take rfl (by decide) q1437 q1449)) (g_lv (pc := 24) (lv' := []) [] rfl (wX0_refusal_24 hex hl X hr ht a7 t6))) (x_cif (fun fl fs hs => x_catch X ht hs rfl 29 (x_ev.pass rfl (by decide) q1412 nc_J19_J16 (x_ev.pass rfl (by decide) q1437 nc_J19_J17 (x_ev.take rfl (by decide) q1451 q1466))) (g_lv (pc := 29) (lv' := []) [] rfl (wX0_refusal_29 hex hl X hr ht a7 t6))) (x_none))))
  refine g_iconst (pc := 17) X 0 dX0_refusal_17 rfl ?_
  exact g_iret (pc := 18) X hr dX0_refusal_18
theorem kX0_refusal {ex : Nat → Option Nat} {z : Nat} {h0 : Nat} {x1 : Int32} {x2 : Int32} {x3 : Int32} {x4 : Int32} {σ : Sg} {r : Int32} {u : St} (hex : ex = Γ.2.2.2.2) (hl : l.stackTraces = false) (h : fX0_refusal ex z h0 x1 x2 x3 x4 (σ, 0, 0) = some (r, u)) : g_CT Γ l yX0_refusal cX0_refusal 6 (some .int) [(0, 18, 19, 475), (0, 18, 24, 477), (0, 18, 29, 479)] 11 10308 [.ref h0, .int x1, .int x2, .int x3, .int x4] σ z v_i r (g_ι z u) := by
  exact g_metT (ι := g_ι z) (t := (σ, 0, 0)) [.ref h0, .int x1, .int x2, .int x3, .int x4] (Nat.le_of_ble_eq_true rfl) h rfl (fun p e s m args below meth c X hr hn ht => wX0_refusal hex hl X hr ht h0 x1 x2 x3 x4 (σ, 0, 0))
end CP
abbrev cX0_drop : ByteArray := prog_1_method_76_code
def yX0_drop : MethodName := ⟨RX0, "drop", "(I)I"⟩
def dkwX0_drop_1 : List UInt8 := [16, 245, 172, 42, 180, 1, 191, 27, 50, 1, 181, 1, 199, 44, 44, 184, 1, 207, 184, 1, 211, 172]
abbrev dktX0_drop_1 : List UInt8 := dkwX0_drop_1 ++ []
def dkwX0_drop_0 : List UInt8 := [27, 184, 1, 185, 154, 0, 5, 2, 172, 42, 180, 1, 191, 27, 50, 180, 1, 199, 77, 44, 199, 0, 6]
abbrev dktX0_drop_0 : List UInt8 := dkwX0_drop_0 ++ dktX0_drop_1
theorem dksX0_drop_0 : cX0_drop.data.toList.drop 0 = dktX0_drop_0 := by decide +kernel
theorem dksX0_drop_1 : cX0_drop.data.toList.drop 23 = dktX0_drop_1 := dk_seg dksX0_drop_0 23 rfl rfl
theorem dX0_drop_0 : decode cX0_drop 0 = .ok (.iload_n 1, 1) := dk_27 (dk_at dksX0_drop_0 0 rfl rfl)
theorem dX0_drop_1 : decode cX0_drop 1 = .ok (.invokestatic 441, 3) := dk_184 1 185 (dk_at dksX0_drop_0 1 rfl rfl)
theorem dX0_drop_4 : decode cX0_drop 4 = .ok (.ifCond .ne 5, 3) := dk_154 0 5 (dk_at dksX0_drop_0 4 rfl rfl)
theorem dX0_drop_7 : decode cX0_drop 7 = .ok (.iconst (-1), 1) := dk_2 (dk_at dksX0_drop_0 7 rfl rfl)
theorem dX0_drop_8 : decode cX0_drop 8 = .ok (.ireturn, 1) := dk_172 (dk_at dksX0_drop_0 8 rfl rfl)
theorem dX0_drop_9 : decode cX0_drop 9 = .ok (.aload_n 0, 1) := dk_42 (dk_at dksX0_drop_0 9 rfl rfl)
theorem dX0_drop_10 : decode cX0_drop 10 = .ok (.getfield 447, 3) := dk_180 1 191 (dk_at dksX0_drop_0 10 rfl rfl)
theorem dX0_drop_13 : decode cX0_drop 13 = .ok (.iload_n 1, 1) := dk_27 (dk_at dksX0_drop_0 13 rfl rfl)
theorem dX0_drop_14 : decode cX0_drop 14 = .ok (.aaload, 1) := dk_50 (dk_at dksX0_drop_0 14 rfl rfl)
theorem dX0_drop_15 : decode cX0_drop 15 = .ok (.getfield 455, 3) := dk_180 1 199 (dk_at dksX0_drop_0 15 rfl rfl)
theorem dX0_drop_18 : decode cX0_drop 18 = .ok (.astore_n 2, 1) := dk_77 (dk_at dksX0_drop_0 18 rfl rfl)
theorem dX0_drop_19 : decode cX0_drop 19 = .ok (.aload_n 2, 1) := dk_44 (dk_at dksX0_drop_0 19 rfl rfl)
theorem dX0_drop_20 : decode cX0_drop 20 = .ok (.ifnonnull 6, 3) := dk_199 0 6 (dk_at dksX0_drop_0 20 rfl rfl)
theorem dX0_drop_23 : decode cX0_drop 23 = .ok (.bipush (-11), 2) := dk_16 245 (dk_at dksX0_drop_1 0 rfl rfl)
theorem dX0_drop_25 : decode cX0_drop 25 = .ok (.ireturn, 1) := dk_172 (dk_at dksX0_drop_1 2 rfl rfl)
theorem dX0_drop_26 : decode cX0_drop 26 = .ok (.aload_n 0, 1) := dk_42 (dk_at dksX0_drop_1 3 rfl rfl)
theorem dX0_drop_27 : decode cX0_drop 27 = .ok (.getfield 447, 3) := dk_180 1 191 (dk_at dksX0_drop_1 4 rfl rfl)
theorem dX0_drop_30 : decode cX0_drop 30 = .ok (.iload_n 1, 1) := dk_27 (dk_at dksX0_drop_1 7 rfl rfl)
theorem dX0_drop_31 : decode cX0_drop 31 = .ok (.aaload, 1) := dk_50 (dk_at dksX0_drop_1 8 rfl rfl)
theorem dX0_drop_32 : decode cX0_drop 32 = .ok (.aconst_null, 1) := dk_1 (dk_at dksX0_drop_1 9 rfl rfl)
theorem dX0_drop_33 : decode cX0_drop 33 = .ok (.putfield 455, 3) := dk_181 1 199 (dk_at dksX0_drop_1 10 rfl rfl)
theorem dX0_drop_36 : decode cX0_drop 36 = .ok (.aload_n 2, 1) := dk_44 (dk_at dksX0_drop_1 13 rfl rfl)
theorem dX0_drop_37 : decode cX0_drop 37 = .ok (.aload_n 2, 1) := dk_44 (dk_at dksX0_drop_1 14 rfl rfl)
theorem dX0_drop_38 : decode cX0_drop 38 = .ok (.invokestatic 463, 3) := dk_184 1 207 (dk_at dksX0_drop_1 15 rfl rfl)
theorem dX0_drop_41 : decode cX0_drop 41 = .ok (.invokestatic 467, 3) := dk_184 1 211 (dk_at dksX0_drop_1 18 rfl rfl)
theorem dX0_drop_44 : decode cX0_drop 44 = .ok (.ireturn, 1) := dk_172 (dk_at dksX0_drop_1 21 rfl rfl)
theorem fp_X0_455 : g_fp RX0 455 [2] 0 (.object "java/lang/Object") false := ⟨_, _, _, Or.inr ⟨rfl, _, q1607⟩, by decide +kernel, fun ci h => by
  simp only [List.mem_cons, List.not_mem_nil, or_false] at h; rcases h with rfl
  · exact ⟨_, _, _, tyX2, rfl, by decide, rfl, rfl, Or.inl rfl, in_X2, rfl, (fun h => by cases h), tyX2_ok, (by decide +kernel)⟩⟩
theorem dmS_X0_isSheet : yX0_isSheet.cls ≠ "java/lang/invoke/MethodHandle" ∧ yX0_isSheet.cls ≠ "java/lang/invoke/VarHandle" ∧ (parseMethodDescriptor yX0_isSheet.desc).map (fun d => d.parameters.length) = some 1 := by decide +kernel
theorem dy_X0_laneOf : (yX0_laneOf.cls ≠ "java/lang/invoke/MethodHandle" ∧ yX0_laneOf.cls ≠ "java/lang/invoke/VarHandle") ∧ (parseMethodDescriptor yX0_laneOf.desc).map (fun d => d.parameters.length) = some 1 := by decide +kernel
section CP
variable {Γ : Gc} {p : Program} {l : Launch} {e : Env} {s : State} {m : MethodId} {args : Array Value} {below : List Frame} {meth : Method} {c : Code} {ex : Nat → Option Nat} {z : Nat} {tF : St}
noncomputable def fX0_drop (ex : Nat → Option Nat) (z : Nat) (h0 : Nat) (x1 : Int32) (t : St) : Option (Int32 × St) := gb (fX0_isSheet ex (z + t.2.1) x1 (t.1, 0, 0)) t fun r1 t2 => if r1 = 0 then some ((-1), t2) else cgA [0] 17 t2 h0 fun v3 => caldA 5 t2 v3 x1 fun v4 => cgQ [2] 0 t2 v4 fun v5 => cnn v5 (fun _ => cgA [0] 17 t2 h0 fun v8 => caldA 5 t2 v8 x1 fun v9 => cput [2] 0 t2 v9 (.null) fun t10 => gb (fX0_laneOf ex (z + t10.2.1) v5 (t10.1, 0, 0)) t10 fun r11 t12 => gbT (fX0_sizeOf ex (z + t12.2.1) v5 r11 (t12.1, 0, 0)) t12 (fun r15 t16 => some (r15, t16)) (fun a18 t17 => none)) (some ((-11), t2))
set_option maxHeartbeats 4000000 in
theorem wX0_drop {rF : Int32} (hex : ex = Γ.2.2.2.2) (hl : l.stackTraces = false) (X : g_X Γ p s m args meth c cX0_drop 3 RX0) (hr : meth.sig.returnType = (some .int)) (ht : g_T meth []) (h0 : Nat) (x1 : Int32) (t : St) : Wf Γ p l e 10 10281 s m args below meth c 3 (g_ι z) v_i rF tF 0 [(0, .ref h0), (1, .int x1)] [] t (fX0_drop ex z h0 x1 t) := by
  unfold fX0_drop
  refine g_iload_n (pc := 0) X 1 dX0_drop_0 rfl rfl ?_
  refine g_bS_i (pc := 1) X (y := yX0_isSheet) (As := [.int x1]) (rest := []) (fr' := 1) (lo' := 25) (fun _ => va_cwS 1 X.2.2.2.2.1 (lw_S q1381 q1382 q70 q1383) rfl rfl rfl dmS_X0_isSheet ⟨Nat.le_of_ble_eq_true rfl, Nat.le_of_ble_eq_true rfl⟩) dX0_drop_1 rfl rfl (Nat.le_of_ble_eq_true rfl) (fun r u h => kX0_isSheet hex h) (fun r1 t2 => ?_)
  refine g_if_ne (pc := 4) X 9 dX0_drop_4 (by decide) ?_ ?_
  · refine g_aload_n (pc := 9) X 0 dX0_drop_9 rfl rfl ?_
    refine cg_getA (pc := 10) X fo_X0_447 dX0_drop_10 (fun v3 => ?_)
    refine g_iload_n (pc := 13) X 1 dX0_drop_13 rfl rfl ?_
    refine cg_aald (pc := 14) X (j := 5) rfl rfl dX0_drop_14 (fun v4 => ?_)
    refine cg_getQ (pc := 15) X fo_X0_455 dX0_drop_15 (fun v5 => ?_)
    refine g_astore_n_q (pc := 18) X (lv' := [(2, va_rf v5), (0, .ref h0), (1, .int x1)]) dX0_drop_18 rfl (by decide) rfl ?_
    refine g_aload_n_q (pc := 19) X 0 dX0_drop_19 rfl rfl ?_
    refine cg_ifnonnull (pc := 20) X 26 dX0_drop_20 (by decide) (fun _ _ => ?_) (fun _ => ?_)
    · refine g_aload_n (pc := 26) X 1 dX0_drop_26 rfl rfl ?_
      refine cg_getA (pc := 27) X fo_X0_447 dX0_drop_27 (fun v8 => ?_)
      refine g_iload_n (pc := 30) X 2 dX0_drop_30 rfl rfl ?_
      refine cg_aald (pc := 31) X (j := 5) rfl rfl dX0_drop_31 (fun v9 => ?_)
      refine g_null (pc := 32) X dX0_drop_32 ?_
      refine cg_put (pc := 33) X fp_X0_455 dX0_drop_33 (fun h => by cases h) rfl rfl (fun t10 => ?_)
      refine g_aload_n_q (pc := 36) X 0 dX0_drop_36 rfl rfl ?_
      refine g_aload_n_q (pc := 37) X 0 dX0_drop_37 rfl rfl ?_
      refine x_bS_i (pc := 38) X (y := yX0_laneOf) (As := [va_rf v5]) (rest := [va_rf v5]) (n := 1) (fr' := 0) (lo' := 0) dX0_drop_38 rfl rfl (by rcases v5 with _ | _ <;> exact Nat.le_of_ble_eq_true rfl) (plainFor_of_name (by decide)) (Or.inl ⟨q1400, rfl⟩) ⟨Nat.le_of_ble_eq_true rfl, Nat.le_of_ble_eq_true rfl⟩ q1399 q70 q1398 dy_X0_laneOf.1 dy_X0_laneOf.2 (fun r u h => kX0_laneOf hex hl h) (fun r11 t12 => ?_)
      refine t_bS_i (pc := 41) X (y := yX0_sizeOf) (As := [va_rf v5, .int r11]) (rest := []) (n := 2) (fr' := 9) (lo' := 10260) dX0_drop_41 rfl rfl (Nat.le_of_ble_eq_true rfl) (plainFor_of_name (by decide)) (Or.inl ⟨q1406, rfl⟩) ⟨Nat.le_of_ble_eq_true rfl, Nat.le_of_ble_eq_true rfl⟩ q1405 q70 q1404 dy_X0_sizeOf.1 dy_X0_sizeOf.2 (fun r u h => kX0_sizeOf hex hl h) (fun r15 t16 => ?_) (fun a18 t17 => x_none)
      exact g_iret (pc := 44) X hr dX0_drop_44
    · refine g_bipush (pc := 23) X (-11) dX0_drop_23 rfl ?_
      exact g_iret (pc := 25) X hr dX0_drop_25
  · refine g_iconst (pc := 7) X (-1) dX0_drop_7 rfl ?_
    exact g_iret (pc := 8) X hr dX0_drop_8
theorem kX0_drop {ex : Nat → Option Nat} {z : Nat} {h0 : Nat} {x1 : Int32} {σ : Sg} {r : Int32} {u : St} (hex : ex = Γ.2.2.2.2) (hl : l.stackTraces = false) (h : fX0_drop ex z h0 x1 (σ, 0, 0) = some (r, u)) : g_CT Γ l yX0_drop cX0_drop 3 (some .int) [] 10 10281 [.ref h0, .int x1] σ z v_i r (g_ι z u) := by
  exact g_metT (ι := g_ι z) (t := (σ, 0, 0)) [.ref h0, .int x1] (Nat.le_of_ble_eq_true rfl) h rfl (fun p e s m args below meth c X hr hn ht => wX0_drop hex hl X hr ht h0 x1 (σ, 0, 0))
end CP
abbrev cX0_dress : ByteArray := prog_1_method_81_code
def yX0_dress : MethodName := ⟨RX0, "dress", "(IIII)I"⟩
def dkwX0_dress_5 : List UInt8 := [145, 84, 132, 6, 1, 167, 255, 227, 21, 4, 172]
abbrev dktX0_dress_5 : List UInt8 := dkwX0_dress_5 ++ []
def dkwX0_dress_4 : List UInt8 := [21, 6, 21, 4, 162, 0, 28, 42, 180, 0, 38, 180, 0, 138, 21, 6, 42, 180, 1, 226, 21, 6, 47, 136]
abbrev dktX0_dress_4 : List UInt8 := dkwX0_dress_4 ++ dktX0_dress_5
def dkwX0_dress_3 : List UInt8 := [47, 9, 20, 0, 136, 184, 0, 48, 154, 0, 6, 16, 254, 172, 132, 6, 1, 167, 255, 226, 3, 54, 6]
abbrev dktX0_dress_3 : List UInt8 := dkwX0_dress_3 ++ dktX0_dress_4
def dkwX0_dress_2 : List UInt8 := [21, 5, 156, 0, 6, 21, 5, 172, 3, 54, 6, 21, 6, 21, 4, 162, 0, 29, 42, 180, 1, 226, 21, 6]
abbrev dktX0_dress_2 : List UInt8 := dkwX0_dress_2 ++ dktX0_dress_3
def dkwX0_dress_1 : List UInt8 := [180, 0, 150, 133, 184, 0, 48, 154, 0, 5, 2, 172, 42, 27, 28, 29, 21, 4, 182, 1, 237, 54, 5]
abbrev dktX0_dress_1 : List UInt8 := dkwX0_dress_1 ++ dktX0_dress_2
def dkwX0_dress_0 : List UInt8 := [27, 184, 1, 185, 153, 0, 28, 28, 184, 1, 188, 153, 0, 21, 21, 4, 133, 10, 42, 180, 0, 38]
abbrev dktX0_dress_0 : List UInt8 := dkwX0_dress_0 ++ dktX0_dress_1
theorem dksX0_dress_0 : cX0_dress.data.toList.drop 0 = dktX0_dress_0 := by decide +kernel
theorem dksX0_dress_1 : cX0_dress.data.toList.drop 22 = dktX0_dress_1 := dk_seg dksX0_dress_0 22 rfl rfl
theorem dksX0_dress_2 : cX0_dress.data.toList.drop 45 = dktX0_dress_2 := dk_seg dksX0_dress_1 23 rfl rfl
theorem dksX0_dress_3 : cX0_dress.data.toList.drop 69 = dktX0_dress_3 := dk_seg dksX0_dress_2 24 rfl rfl
theorem dksX0_dress_4 : cX0_dress.data.toList.drop 92 = dktX0_dress_4 := dk_seg dksX0_dress_3 23 rfl rfl
theorem dksX0_dress_5 : cX0_dress.data.toList.drop 116 = dktX0_dress_5 := dk_seg dksX0_dress_4 24 rfl rfl
theorem dX0_dress_0 : decode cX0_dress 0 = .ok (.iload_n 1, 1) := dk_27 (dk_at dksX0_dress_0 0 rfl rfl)
theorem dX0_dress_1 : decode cX0_dress 1 = .ok (.invokestatic 441, 3) := dk_184 1 185 (dk_at dksX0_dress_0 1 rfl rfl)
theorem dX0_dress_4 : decode cX0_dress 4 = .ok (.ifCond .eq 28, 3) := dk_153 0 28 (dk_at dksX0_dress_0 4 rfl rfl)
theorem dX0_dress_7 : decode cX0_dress 7 = .ok (.iload_n 2, 1) := dk_28 (dk_at dksX0_dress_0 7 rfl rfl)
theorem dX0_dress_8 : decode cX0_dress 8 = .ok (.invokestatic 444, 3) := dk_184 1 188 (dk_at dksX0_dress_0 8 rfl rfl)
theorem dX0_dress_11 : decode cX0_dress 11 = .ok (.ifCond .eq 21, 3) := dk_153 0 21 (dk_at dksX0_dress_0 11 rfl rfl)
theorem dX0_dress_14 : decode cX0_dress 14 = .ok (.iload 4, 2) := dk_21 4 (dk_at dksX0_dress_0 14 rfl rfl)
theorem dX0_dress_16 : decode cX0_dress 16 = .ok (.i2l, 1) := dk_133 (dk_at dksX0_dress_0 16 rfl rfl)
theorem dX0_dress_17 : decode cX0_dress 17 = .ok (.lconst 1, 1) := dk_10 (dk_at dksX0_dress_0 17 rfl rfl)
theorem dX0_dress_18 : decode cX0_dress 18 = .ok (.aload_n 0, 1) := dk_42 (dk_at dksX0_dress_0 18 rfl rfl)
theorem dX0_dress_19 : decode cX0_dress 19 = .ok (.getfield 38, 3) := dk_180 0 38 (dk_at dksX0_dress_0 19 rfl rfl)
theorem dX0_dress_22 : decode cX0_dress 22 = .ok (.getfield 150, 3) := dk_180 0 150 (dk_at dksX0_dress_1 0 rfl rfl)
theorem dX0_dress_25 : decode cX0_dress 25 = .ok (.i2l, 1) := dk_133 (dk_at dksX0_dress_1 3 rfl rfl)
theorem dX0_dress_26 : decode cX0_dress 26 = .ok (.invokestatic 48, 3) := dk_184 0 48 (dk_at dksX0_dress_1 4 rfl rfl)
theorem dX0_dress_29 : decode cX0_dress 29 = .ok (.ifCond .ne 5, 3) := dk_154 0 5 (dk_at dksX0_dress_1 7 rfl rfl)
theorem dX0_dress_32 : decode cX0_dress 32 = .ok (.iconst (-1), 1) := dk_2 (dk_at dksX0_dress_1 10 rfl rfl)
theorem dX0_dress_33 : decode cX0_dress 33 = .ok (.ireturn, 1) := dk_172 (dk_at dksX0_dress_1 11 rfl rfl)
theorem dX0_dress_34 : decode cX0_dress 34 = .ok (.aload_n 0, 1) := dk_42 (dk_at dksX0_dress_1 12 rfl rfl)
theorem dX0_dress_35 : decode cX0_dress 35 = .ok (.iload_n 1, 1) := dk_27 (dk_at dksX0_dress_1 13 rfl rfl)
theorem dX0_dress_36 : decode cX0_dress 36 = .ok (.iload_n 2, 1) := dk_28 (dk_at dksX0_dress_1 14 rfl rfl)
theorem dX0_dress_37 : decode cX0_dress 37 = .ok (.iload_n 3, 1) := dk_29 (dk_at dksX0_dress_1 15 rfl rfl)
theorem dX0_dress_38 : decode cX0_dress 38 = .ok (.iload 4, 2) := dk_21 4 (dk_at dksX0_dress_1 16 rfl rfl)
theorem dX0_dress_40 : decode cX0_dress 40 = .ok (.invokevirtual 493, 3) := dk_182 1 237 (dk_at dksX0_dress_1 18 rfl rfl)
theorem dX0_dress_43 : decode cX0_dress 43 = .ok (.istore 5, 2) := dk_54 5 (dk_at dksX0_dress_1 21 rfl rfl)
theorem dX0_dress_45 : decode cX0_dress 45 = .ok (.iload 5, 2) := dk_21 5 (dk_at dksX0_dress_2 0 rfl rfl)
theorem dX0_dress_47 : decode cX0_dress 47 = .ok (.ifCond .ge 6, 3) := dk_156 0 6 (dk_at dksX0_dress_2 2 rfl rfl)
theorem dX0_dress_50 : decode cX0_dress 50 = .ok (.iload 5, 2) := dk_21 5 (dk_at dksX0_dress_2 5 rfl rfl)
theorem dX0_dress_52 : decode cX0_dress 52 = .ok (.ireturn, 1) := dk_172 (dk_at dksX0_dress_2 7 rfl rfl)
theorem dX0_dress_53 : decode cX0_dress 53 = .ok (.iconst 0, 1) := dk_3 (dk_at dksX0_dress_2 8 rfl rfl)
theorem dX0_dress_54 : decode cX0_dress 54 = .ok (.istore 6, 2) := dk_54 6 (dk_at dksX0_dress_2 9 rfl rfl)
theorem dX0_dress_56 : decode cX0_dress 56 = .ok (.iload 6, 2) := dk_21 6 (dk_at dksX0_dress_2 11 rfl rfl)
theorem dX0_dress_58 : decode cX0_dress 58 = .ok (.iload 4, 2) := dk_21 4 (dk_at dksX0_dress_2 13 rfl rfl)
theorem dX0_dress_60 : decode cX0_dress 60 = .ok (.if_icmp .ge 29, 3) := dk_162 0 29 (dk_at dksX0_dress_2 15 rfl rfl)
theorem dX0_dress_63 : decode cX0_dress 63 = .ok (.aload_n 0, 1) := dk_42 (dk_at dksX0_dress_2 18 rfl rfl)
theorem dX0_dress_64 : decode cX0_dress 64 = .ok (.getfield 482, 3) := dk_180 1 226 (dk_at dksX0_dress_2 19 rfl rfl)
theorem dX0_dress_67 : decode cX0_dress 67 = .ok (.iload 6, 2) := dk_21 6 (dk_at dksX0_dress_2 22 rfl rfl)
theorem dX0_dress_69 : decode cX0_dress 69 = .ok (.laload, 1) := dk_47 (dk_at dksX0_dress_3 0 rfl rfl)
theorem dX0_dress_70 : decode cX0_dress 70 = .ok (.lconst 0, 1) := dk_9 (dk_at dksX0_dress_3 1 rfl rfl)
theorem dX0_dress_71 : decode cX0_dress 71 = .ok (.ldc2_w 136, 3) := dk_20 0 136 (dk_at dksX0_dress_3 2 rfl rfl)
theorem dX0_dress_74 : decode cX0_dress 74 = .ok (.invokestatic 48, 3) := dk_184 0 48 (dk_at dksX0_dress_3 5 rfl rfl)
theorem dX0_dress_77 : decode cX0_dress 77 = .ok (.ifCond .ne 6, 3) := dk_154 0 6 (dk_at dksX0_dress_3 8 rfl rfl)
theorem dX0_dress_80 : decode cX0_dress 80 = .ok (.bipush (-2), 2) := dk_16 254 (dk_at dksX0_dress_3 11 rfl rfl)
theorem dX0_dress_82 : decode cX0_dress 82 = .ok (.ireturn, 1) := dk_172 (dk_at dksX0_dress_3 13 rfl rfl)
theorem dX0_dress_83 : decode cX0_dress 83 = .ok (.iinc 6 1, 3) := dk_132 6 1 (dk_at dksX0_dress_3 14 rfl rfl)
theorem dX0_dress_86 : decode cX0_dress 86 = .ok (.goto (-30), 3) := dk_167 255 226 (dk_at dksX0_dress_3 17 rfl rfl)
theorem dX0_dress_89 : decode cX0_dress 89 = .ok (.iconst 0, 1) := dk_3 (dk_at dksX0_dress_3 20 rfl rfl)
theorem dX0_dress_90 : decode cX0_dress 90 = .ok (.istore 6, 2) := dk_54 6 (dk_at dksX0_dress_3 21 rfl rfl)
theorem dX0_dress_92 : decode cX0_dress 92 = .ok (.iload 6, 2) := dk_21 6 (dk_at dksX0_dress_4 0 rfl rfl)
theorem dX0_dress_94 : decode cX0_dress 94 = .ok (.iload 4, 2) := dk_21 4 (dk_at dksX0_dress_4 2 rfl rfl)
theorem dX0_dress_96 : decode cX0_dress 96 = .ok (.if_icmp .ge 28, 3) := dk_162 0 28 (dk_at dksX0_dress_4 4 rfl rfl)
theorem dX0_dress_99 : decode cX0_dress 99 = .ok (.aload_n 0, 1) := dk_42 (dk_at dksX0_dress_4 7 rfl rfl)
theorem dX0_dress_100 : decode cX0_dress 100 = .ok (.getfield 38, 3) := dk_180 0 38 (dk_at dksX0_dress_4 8 rfl rfl)
theorem dX0_dress_103 : decode cX0_dress 103 = .ok (.getfield 138, 3) := dk_180 0 138 (dk_at dksX0_dress_4 11 rfl rfl)
theorem dX0_dress_106 : decode cX0_dress 106 = .ok (.iload 6, 2) := dk_21 6 (dk_at dksX0_dress_4 14 rfl rfl)
theorem dX0_dress_108 : decode cX0_dress 108 = .ok (.aload_n 0, 1) := dk_42 (dk_at dksX0_dress_4 16 rfl rfl)
theorem dX0_dress_109 : decode cX0_dress 109 = .ok (.getfield 482, 3) := dk_180 1 226 (dk_at dksX0_dress_4 17 rfl rfl)
theorem dX0_dress_112 : decode cX0_dress 112 = .ok (.iload 6, 2) := dk_21 6 (dk_at dksX0_dress_4 20 rfl rfl)
theorem dX0_dress_114 : decode cX0_dress 114 = .ok (.laload, 1) := dk_47 (dk_at dksX0_dress_4 22 rfl rfl)
theorem dX0_dress_115 : decode cX0_dress 115 = .ok (.l2i, 1) := dk_136 (dk_at dksX0_dress_4 23 rfl rfl)
theorem dX0_dress_116 : decode cX0_dress 116 = .ok (.i2b, 1) := dk_145 (dk_at dksX0_dress_5 0 rfl rfl)
theorem dX0_dress_117 : decode cX0_dress 117 = .ok (.bastore, 1) := dk_84 (dk_at dksX0_dress_5 1 rfl rfl)
theorem dX0_dress_118 : decode cX0_dress 118 = .ok (.iinc 6 1, 3) := dk_132 6 1 (dk_at dksX0_dress_5 2 rfl rfl)
theorem dX0_dress_121 : decode cX0_dress 121 = .ok (.goto (-29), 3) := dk_167 255 227 (dk_at dksX0_dress_5 5 rfl rfl)
theorem dX0_dress_124 : decode cX0_dress 124 = .ok (.iload 4, 2) := dk_21 4 (dk_at dksX0_dress_5 8 rfl rfl)
theorem dX0_dress_126 : decode cX0_dress 126 = .ok (.ireturn, 1) := dk_172 (dk_at dksX0_dress_5 10 rfl rfl)
theorem dmS_X0_isLane : yX0_isLane.cls ≠ "java/lang/invoke/MethodHandle" ∧ yX0_isLane.cls ≠ "java/lang/invoke/VarHandle" ∧ (parseMethodDescriptor yX0_isLane.desc).map (fun d => d.parameters.length) = some 1 := by decide +kernel
theorem dy_X0_refusal : (yX0_refusal.cls ≠ "java/lang/invoke/MethodHandle" ∧ yX0_refusal.cls ≠ "java/lang/invoke/VarHandle") ∧ (parseMethodDescriptor yX0_refusal.desc).map (fun d => d.parameters.length) = some 4 := by decide +kernel
section CP
variable {Γ : Gc} {p : Program} {l : Launch} {e : Env} {s : State} {m : MethodId} {args : Array Value} {below : List Frame} {meth : Method} {c : Code} {ex : Nat → Option Nat} {z : Nat} {tF : St}
noncomputable def fX0_dress_92 (ex : Nat → Option Nat) (z : Nat) : Nat → Nat → Int32 → Int32 → St → Option (Int32 × St)
  | 0, _, _, _, _ => none
  | n + 1, h0, x4, x6, t => if x4 ≤ x6 then some (x4, t) else cgA [0] 0 t h0 fun v1 => cgA [1] 1 t v1 fun v2 => cgA [0] 18 t h0 fun v3 => caldl t v3 x6 fun v4 => cast_ 0 (vp_nar .byte) t v2 x6 v4.toInt32.toInt8.toInt32 fun t5 => fX0_dress_92 ex z n h0 x4 (x6 + 1) t5
set_option maxHeartbeats 4000000 in
theorem wX0_dress_92 {rF : Int32} (hex : ex = Γ.2.2.2.2) (hl : l.stackTraces = false) (X : g_X Γ p s m args meth c cX0_dress 7 RX0) (hr : meth.sig.returnType = (some .int)) (ht : g_T meth []) (n : Nat) : ∀ (h0 : Nat) (x4 : Int32) (x6 : Int32) (t : St), Wf Γ p l e 12 10333 s m args below meth c 7 (g_ι z) v_i rF tF 92 [(0, .ref h0), (4, .int x4), (6, .int x6)] [] t (fX0_dress_92 ex z n h0 x4 x6 t) := by
  induction n with
  | zero => intro h0 x4 x6 t; exact g_none
  | succ n ih =>
    intro h0 x4 x6 t
    rw [fX0_dress_92]
    refine g_iload (pc := 92) X 2 dX0_dress_92 rfl ?_
    refine g_iload (pc := 94) X 1 dX0_dress_94 rfl ?_
    refine g_icmp_ge (pc := 96) X 124 dX0_dress_96 (by decide) ?_ ?_
    · refine g_iload (pc := 124) X 1 dX0_dress_124 rfl ?_
      exact g_iret (pc := 126) X hr dX0_dress_126
    · refine g_aload_n (pc := 99) X 0 dX0_dress_99 rfl rfl ?_
      refine cg_getA (pc := 100) X fo_X0_38 dX0_dress_100 (fun v1 => ?_)
      refine cg_getA (pc := 103) X fo_X0_138 dX0_dress_103 (fun v2 => ?_)
      refine g_iload (pc := 106) X 2 dX0_dress_106 rfl ?_
      refine g_aload_n (pc := 108) X 0 dX0_dress_108 rfl rfl ?_
      refine cg_getA (pc := 109) X fo_X0_482 dX0_dress_109 (fun v3 => ?_)
      refine g_iload (pc := 112) X 2 dX0_dress_112 rfl ?_
      refine cg_lald (pc := 114) X dX0_dress_114 (fun v4 => ?_)
      refine g_l2i (pc := 115) X dX0_dress_115 ?_
      refine g_i2b (pc := 116) X dX0_dress_116 ?_
      refine cg_bast (pc := 117) X dX0_dress_117 (fun t5 => ?_)
      refine g_iinc (pc := 118) X 1 2 (lv' := [(6, .int (x6 + 1)), (0, .ref h0), (4, .int x4)]) dX0_dress_118 rfl rfl (by decide) rfl ?_
      refine g_goto (pc := 121) X 92 dX0_dress_121 (by decide) ?_
      exact g_lv (pc := 92) (lv' := [(0, .ref h0), (4, .int x4), (6, .int (x6 + 1))]) [1, 2, 0] rfl (ih h0 x4 (x6 + 1) t5)
noncomputable def fX0_dress_56 (ex : Nat → Option Nat) (z : Nat) : Nat → Nat → Int32 → Int32 → St → Option (Int32 × St)
  | 0, _, _, _, _ => none
  | n + 1, h0, x4, x6, t => if x4 ≤ x6 then fX0_dress_92 ex z 1000 h0 x4 0 t else cgA [0] 18 t h0 fun v1 => caldl t v1 x6 fun v2 => gb (fX0_in ex (z + t.2.1) v2 0 12 (t.1, 0, 0)) t fun r3 t4 => if r3 = 0 then some ((-2), t4) else fX0_dress_56 ex z n h0 x4 (x6 + 1) t4
set_option maxHeartbeats 4000000 in
theorem wX0_dress_56 {rF : Int32} (hex : ex = Γ.2.2.2.2) (hl : l.stackTraces = false) (X : g_X Γ p s m args meth c cX0_dress 7 RX0) (hr : meth.sig.returnType = (some .int)) (ht : g_T meth []) (n : Nat) : ∀ (h0 : Nat) (x4 : Int32) (x6 : Int32) (t : St), Wf Γ p l e 12 10333 s m args below meth c 7 (g_ι z) v_i rF tF 56 [(0, .ref h0), (4, .int x4), (6, .int x6)] [] t (fX0_dress_56 ex z n h0 x4 x6 t) := by
  induction n with
  | zero => intro h0 x4 x6 t; exact g_none
  | succ n ih =>
    intro h0 x4 x6 t
    rw [fX0_dress_56]
    refine g_iload (pc := 56) X 2 dX0_dress_56 rfl ?_
    refine g_iload (pc := 58) X 1 dX0_dress_58 rfl ?_
    refine g_icmp_ge (pc := 60) X 89 dX0_dress_60 (by decide) ?_ ?_
    · refine g_iconst (pc := 89) X 0 dX0_dress_89 rfl ?_
      refine g_istore (pc := 90) X (lv' := [(6, .int 0), (0, .ref h0), (4, .int x4)]) dX0_dress_90 (by decide) rfl ?_
      exact g_lv (pc := 92) (lv' := [(0, .ref h0), (4, .int x4), (6, .int 0)]) [1, 2, 0] rfl (wX0_dress_92 hex hl X hr ht 1000 h0 x4 0 t)
    · refine g_aload_n (pc := 63) X 0 dX0_dress_63 rfl rfl ?_
      refine cg_getA (pc := 64) X fo_X0_482 dX0_dress_64 (fun v1 => ?_)
      refine g_iload (pc := 67) X 2 dX0_dress_67 rfl ?_
      refine cg_lald (pc := 69) X dX0_dress_69 (fun v2 => ?_)
      refine g_lconst (pc := 70) X 0 dX0_dress_70 rfl ?_
      refine g_ldc2 (pc := 71) X 12 dX0_dress_71 q479 ?_
      refine g_bS_i (pc := 74) X (y := yX0_in) (As := [.long v2, .long 0, .long 12]) (rest := []) (fr' := 0) (lo' := 0) (fun _ => va_cwS 3 X.2.2.2.2.1 (lw_S q122 q123 q70 q124) rfl rfl rfl dmS_X0_in ⟨Nat.le_of_ble_eq_true rfl, Nat.le_of_ble_eq_true rfl⟩) dX0_dress_74 rfl rfl (Nat.le_of_ble_eq_true rfl) (fun r u h => kX0_in hex h) (fun r3 t4 => ?_)
      refine g_if_ne (pc := 77) X 83 dX0_dress_77 (by decide) ?_ ?_
      · refine g_iinc (pc := 83) X 1 2 (lv' := [(6, .int (x6 + 1)), (0, .ref h0), (4, .int x4)]) dX0_dress_83 rfl rfl (by decide) rfl ?_
        refine g_goto (pc := 86) X 56 dX0_dress_86 (by decide) ?_
        exact g_lv (pc := 56) (lv' := [(0, .ref h0), (4, .int x4), (6, .int (x6 + 1))]) [1, 2, 0] rfl (ih h0 x4 (x6 + 1) t4)
      · refine g_bipush (pc := 80) X (-2) dX0_dress_80 rfl ?_
        exact g_iret (pc := 82) X hr dX0_dress_82
noncomputable def fX0_dress (ex : Nat → Option Nat) (z : Nat) (h0 : Nat) (x1 : Int32) (x2 : Int32) (x3 : Int32) (x4 : Int32) (t : St) : Option (Int32 × St) := gb (fX0_isSheet ex (z + t.2.1) x1 (t.1, 0, 0)) t fun r1 t2 => if r1 = 0 then some ((-1), t2) else gb (fX0_isLane ex (z + t2.2.1) x2 (t2.1, 0, 0)) t2 fun r3 t4 => if r3 = 0 then some ((-1), t4) else cgA [0] 0 t4 h0 fun v5 => cgI [1] 0 t4 v5 fun v6 => gb (fX0_in ex (z + t4.2.1) x4.toInt64 1 v6.toInt64 (t4.1, 0, 0)) t4 fun r7 t8 => if r7 = 0 then some ((-1), t8) else ccast [0] t8 h0 (gb (fX0_refusal ex (z + t8.2.1) h0 x1 x2 x3 x4 (t8.1, 0, 0)) t8 fun r9 t10 => if 0 ≤ r9 then fX0_dress_56 ex z 1000 h0 x4 0 t10 else some (r9, t10))
set_option maxHeartbeats 4000000 in
theorem wX0_dress {rF : Int32} (hex : ex = Γ.2.2.2.2) (hl : l.stackTraces = false) (X : g_X Γ p s m args meth c cX0_dress 7 RX0) (hr : meth.sig.returnType = (some .int)) (ht : g_T meth []) (h0 : Nat) (x1 : Int32) (x2 : Int32) (x3 : Int32) (x4 : Int32) (t : St) : Wf Γ p l e 12 10333 s m args below meth c 7 (g_ι z) v_i rF tF 0 [(0, .ref h0), (1, .int x1), (2, .int x2), (3, .int x3), (4, .int x4)] [] t (fX0_dress ex z h0 x1 x2 x3 x4 t) := by
  unfold fX0_dress
  refine g_iload_n (pc := 0) X 1 dX0_dress_0 rfl rfl ?_
  refine g_bS_i (pc := 1) X (y := yX0_isSheet) (As := [.int x1]) (rest := []) (fr' := 1) (lo' := 25) (fun _ => va_cwS 1 X.2.2.2.2.1 (lw_S q1381 q1382 q70 q1383) rfl rfl rfl dmS_X0_isSheet ⟨Nat.le_of_ble_eq_true rfl, Nat.le_of_ble_eq_true rfl⟩) dX0_dress_1 rfl rfl (Nat.le_of_ble_eq_true rfl) (fun r u h => kX0_isSheet hex h) (fun r1 t2 => ?_)
  refine g_if_eq (pc := 4) X 32 dX0_dress_4 (by decide) ?_ ?_
  · refine g_iconst (pc := 32) X (-1) dX0_dress_32 rfl ?_
    exact g_iret (pc := 33) X hr dX0_dress_33
  · refine g_iload_n (pc := 7) X 2 dX0_dress_7 rfl rfl ?_
    refine g_bS_i (pc := 8) X (y := yX0_isLane) (As := [.int x2]) (rest := []) (fr' := 1) (lo' := 25) (fun _ => va_cwS 1 X.2.2.2.2.1 (lw_S q1385 q1386 q70 q1387) rfl rfl rfl dmS_X0_isLane ⟨Nat.le_of_ble_eq_true rfl, Nat.le_of_ble_eq_true rfl⟩) dX0_dress_8 rfl rfl (Nat.le_of_ble_eq_true rfl) (fun r u h => kX0_isLane hex h) (fun r3 t4 => ?_)
    refine g_if_eq (pc := 11) X 32 dX0_dress_11 (by decide) ?_ ?_
    · refine g_iconst (pc := 32) X (-1) dX0_dress_32 rfl ?_
      exact g_iret (pc := 33) X hr dX0_dress_33
    · refine g_iload (pc := 14) X 4 dX0_dress_14 rfl ?_
      refine g_i2l (pc := 16) X dX0_dress_16 ?_
      refine g_lconst (pc := 17) X 1 dX0_dress_17 rfl ?_
      refine g_aload_n (pc := 18) X 0 dX0_dress_18 rfl rfl ?_
      refine cg_getA (pc := 19) X fo_X0_38 dX0_dress_19 (fun v5 => ?_)
      refine cg_getI (pc := 22) X fo_X0_150 dX0_dress_22 (fun v6 => ?_)
      refine g_i2l (pc := 25) X dX0_dress_25 ?_
      refine g_bS_i (pc := 26) X (y := yX0_in) (As := [.long x4.toInt64, .long 1, .long v6.toInt64]) (rest := []) (fr' := 0) (lo' := 0) (fun _ => va_cwS 3 X.2.2.2.2.1 (lw_S q122 q123 q70 q124) rfl rfl rfl dmS_X0_in ⟨Nat.le_of_ble_eq_true rfl, Nat.le_of_ble_eq_true rfl⟩) dX0_dress_26 rfl rfl (Nat.le_of_ble_eq_true rfl) (fun r u h => kX0_in hex h) (fun r7 t8 => ?_)
      refine g_if_ne (pc := 29) X 34 dX0_dress_29 (by decide) ?_ ?_
      · refine g_aload_n (pc := 34) X 0 dX0_dress_34 rfl rfl ?_
        refine g_iload_n (pc := 35) X 1 dX0_dress_35 rfl rfl ?_
        refine g_iload_n (pc := 36) X 2 dX0_dress_36 rfl rfl ?_
        refine g_iload_n (pc := 37) X 3 dX0_dress_37 rfl rfl ?_
        refine g_iload (pc := 38) X 4 dX0_dress_38 rfl ?_
        refine x_bV_i (pc := 40) X (ci := 0) (C := RX0) (b := h0) (y := yX0_refusal) (As := [.int x1, .int x2, .int x3, .int x4]) (rest := []) (n := 4) (fr' := 11) (lo' := 10308) ⟨_, _, rfl⟩ dX0_dress_40 rfl rfl (Nat.le_of_ble_eq_true rfl) (plainFor_of_name (by decide)) (Or.inr q1480) ⟨Nat.le_of_ble_eq_true rfl, Nat.le_of_ble_eq_true rfl⟩ q1479 q1477 qs27 dy_X0_refusal.1 dy_X0_refusal.2 (fun r u h => kX0_refusal hex hl h) (fun r9 t10 => ?_)
        refine g_istore (pc := 43) X (lv' := [(5, .int r9), (0, .ref h0), (1, .int x1), (2, .int x2), (3, .int x3), (4, .int x4)]) dX0_dress_43 (by decide) rfl ?_
        refine g_iload (pc := 45) X 0 dX0_dress_45 rfl ?_
        refine g_if_ge (pc := 47) X 53 dX0_dress_47 (by decide) ?_ ?_
        · refine g_iconst (pc := 53) X 0 dX0_dress_53 rfl ?_
          refine g_istore (pc := 54) X (lv' := [(6, .int 0), (5, .int r9), (0, .ref h0), (1, .int x1), (2, .int x2), (3, .int x3), (4, .int x4)]) dX0_dress_54 (by decide) rfl ?_
          exact g_lv (pc := 56) (lv' := [(0, .ref h0), (4, .int x4), (6, .int 0)]) [2, 6, 0] rfl (wX0_dress_56 hex hl X hr ht 1000 h0 x4 0 t10)
        · refine g_iload (pc := 50) X 0 dX0_dress_50 rfl ?_
          exact g_iret (pc := 52) X hr dX0_dress_52
      · refine g_iconst (pc := 32) X (-1) dX0_dress_32 rfl ?_
        exact g_iret (pc := 33) X hr dX0_dress_33
theorem kX0_dress {ex : Nat → Option Nat} {z : Nat} {h0 : Nat} {x1 : Int32} {x2 : Int32} {x3 : Int32} {x4 : Int32} {σ : Sg} {r : Int32} {u : St} (hex : ex = Γ.2.2.2.2) (hl : l.stackTraces = false) (h : fX0_dress ex z h0 x1 x2 x3 x4 (σ, 0, 0) = some (r, u)) : g_CT Γ l yX0_dress cX0_dress 7 (some .int) [] 12 10333 [.ref h0, .int x1, .int x2, .int x3, .int x4] σ z v_i r (g_ι z u) := by
  exact g_metT (ι := g_ι z) (t := (σ, 0, 0)) [.ref h0, .int x1, .int x2, .int x3, .int x4] (Nat.le_of_ble_eq_true rfl) h rfl (fun p e s m args below meth c X hr hn ht => wX0_dress hex hl X hr ht h0 x1 x2 x3 x4 (σ, 0, 0))
end CP
