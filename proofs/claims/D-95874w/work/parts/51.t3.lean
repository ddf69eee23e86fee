/-! the component, its methods: X0_film, X0_seen, X0_pays (printed by gen/cmain.py) -/
set_option maxRecDepth 100000
theorem q960 : (Jvm.Cond.fieldLinkNest "LameClocks" (292 : Nat) "LameClocks$Bet" "stake" "I" "LameClocks") ∈ lw_tbl := lw_at lw_m4 171 rfl
theorem q970 : (Jvm.Cond.codeWith ({ cls := "LameClocks", name := "pays", desc := "(II)I" } : Jvm.MethodName) prog_1_method_48_code (7 : Nat) (Option.some Jvm.ClassFile.FieldType.int) [((129 : Nat), (156 : Nat), (157 : Nat), (298 : Nat))]) ∈ lw_all := lw_g (lw_at lw_m4 181 rfl) rfl
theorem q971 : (Jvm.Cond.classLink "LameClocks" (298 : Nat) "java/lang/ArithmeticException") ∈ lw_all := lw_g (lw_at lw_m4 182 rfl) rfl
theorem q1059 : (Jvm.Cond.methodLink "LameClocks" (295 : Nat) ({ cls := "LameClocks$Bet", name := "isIn", desc := "(I)Z" } : Jvm.MethodName)) ∈ lw_all := lw_g (lw_at lw_m5 30 rfl) rfl
theorem q1060 : (Jvm.Cond.instanceMethod ({ cls := "LameClocks$Bet", name := "isIn", desc := "(I)Z" } : Jvm.MethodName)) ∈ lw_all := lw_g (lw_at lw_m5 31 rfl) rfl
theorem q1061 : (Jvm.Cond.selects "LameClocks$Bet" ({ cls := "LameClocks$Bet", name := "isIn", desc := "(I)Z" } : Jvm.MethodName) ({ cls := "LameClocks$Bet", name := "isIn", desc := "(I)Z" } : Jvm.MethodName)) ∈ lw_all := lw_g (lw_at lw_m5 32 rfl) rfl
theorem q1470 : (Jvm.Cond.methodLink "LameClocks" (471 : Nat) ({ cls := "LameClocks", name := "puts", desc := "(Ljava/lang/Object;IIJ)V" } : Jvm.MethodName)) ∈ lw_all := lw_g (lw_at lw_m6 201 rfl) rfl
theorem q1471 : (Jvm.Cond.static ({ cls := "LameClocks", name := "puts", desc := "(Ljava/lang/Object;IIJ)V" } : Jvm.MethodName)) ∈ lw_all := lw_g (lw_at lw_m6 202 rfl) rfl
theorem q1498 : (Jvm.Cond.code ({ cls := "LameClocks", name := "film", desc := "(III)I" } : Jvm.MethodName) prog_1_method_82_code (7 : Nat) (Option.some Jvm.ClassFile.FieldType.int)) ∈ lw_all := lw_g (lw_at lw_m6 229 rfl) rfl
theorem q1502 : (Jvm.Cond.code ({ cls := "LameClocks", name := "seen", desc := "(III)I" } : Jvm.MethodName) prog_1_method_84_code (6 : Nat) (Option.some Jvm.ClassFile.FieldType.int)) ∈ lw_all := lw_g (lw_at lw_m6 233 rfl) rfl
theorem q1503 : (Jvm.Cond.methodLink "LameClocks" (497 : Nat) ({ cls := "LameClocks", name := "isAsTaken", desc := "()Z" } : Jvm.MethodName)) ∈ lw_all := lw_g (lw_at lw_m6 234 rfl) rfl
theorem q1505 : (Jvm.Cond.instanceMethod ({ cls := "LameClocks", name := "isAsTaken", desc := "()Z" } : Jvm.MethodName)) ∈ lw_all := lw_g (lw_at lw_m6 236 rfl) rfl
abbrev cX0_film : ByteArray := prog_1_method_82_code
def yX0_film : MethodName := ⟨RX0, "film", "(III)I"⟩
def dkwX0_film_3 : List UInt8 := [180, 0, 38, 21, 6, 182, 0, 111, 180, 0, 116, 133, 184, 1, 215, 132, 6, 1, 167, 255, 216, 21, 4, 172]
abbrev dktX0_film_3 : List UInt8 := dkwX0_film_3 ++ []
def dkwX0_film_2 : List UInt8 := [21, 6, 21, 4, 162, 0, 39, 42, 180, 1, 191, 27, 50, 180, 1, 199, 28, 29, 21, 6, 96, 42]
abbrev dktX0_film_2 : List UInt8 := dkwX0_film_2 ++ dktX0_film_3
def dkwX0_film_1 : List UInt8 := [54, 4, 42, 27, 28, 29, 21, 4, 182, 1, 237, 54, 5, 21, 5, 156, 0, 6, 21, 5, 172, 3, 54, 6]
abbrev dktX0_film_1 : List UInt8 := dkwX0_film_1 ++ dktX0_film_2
def dkwX0_film_0 : List UInt8 := [27, 184, 1, 185, 153, 0, 10, 28, 184, 1, 188, 154, 0, 5, 2, 172, 42, 180, 0, 38, 182, 0, 42]
abbrev dktX0_film_0 : List UInt8 := dkwX0_film_0 ++ dktX0_film_1
theorem dksX0_film_0 : cX0_film.data.toList.drop 0 = dktX0_film_0 := by decide +kernel
theorem dksX0_film_1 : cX0_film.data.toList.drop 23 = dktX0_film_1 := dk_seg dksX0_film_0 23 rfl rfl
theorem dksX0_film_2 : cX0_film.data.toList.drop 47 = dktX0_film_2 := dk_seg dksX0_film_1 24 rfl rfl
theorem dksX0_film_3 : cX0_film.data.toList.drop 69 = dktX0_film_3 := dk_seg dksX0_film_2 22 rfl rfl
theorem dX0_film_0 : decode cX0_film 0 = .ok (.iload_n 1, 1) := dk_27 (dk_at dksX0_film_0 0 rfl rfl)
theorem dX0_film_1 : decode cX0_film 1 = .ok (.invokestatic 441, 3) := dk_184 1 185 (dk_at dksX0_film_0 1 rfl rfl)
theorem dX0_film_4 : decode cX0_film 4 = .ok (.ifCond .eq 10, 3) := dk_153 0 10 (dk_at dksX0_film_0 4 rfl rfl)
theorem dX0_film_7 : decode cX0_film 7 = .ok (.iload_n 2, 1) := dk_28 (dk_at dksX0_film_0 7 rfl rfl)
theorem dX0_film_8 : decode cX0_film 8 = .ok (.invokestatic 444, 3) := dk_184 1 188 (dk_at dksX0_film_0 8 rfl rfl)
theorem dX0_film_11 : decode cX0_film 11 = .ok (.ifCond .ne 5, 3) := dk_154 0 5 (dk_at dksX0_film_0 11 rfl rfl)
theorem dX0_film_14 : decode cX0_film 14 = .ok (.iconst (-1), 1) := dk_2 (dk_at dksX0_film_0 14 rfl rfl)
theorem dX0_film_15 : decode cX0_film 15 = .ok (.ireturn, 1) := dk_172 (dk_at dksX0_film_0 15 rfl rfl)
theorem dX0_film_16 : decode cX0_film 16 = .ok (.aload_n 0, 1) := dk_42 (dk_at dksX0_film_0 16 rfl rfl)
theorem dX0_film_17 : decode cX0_film 17 = .ok (.getfield 38, 3) := dk_180 0 38 (dk_at dksX0_film_0 17 rfl rfl)
theorem dX0_film_20 : decode cX0_film 20 = .ok (.invokevirtual 42, 3) := dk_182 0 42 (dk_at dksX0_film_0 20 rfl rfl)
theorem dX0_film_23 : decode cX0_film 23 = .ok (.istore 4, 2) := dk_54 4 (dk_at dksX0_film_1 0 rfl rfl)
theorem dX0_film_25 : decode cX0_film 25 = .ok (.aload_n 0, 1) := dk_42 (dk_at dksX0_film_1 2 rfl rfl)
theorem dX0_film_26 : decode cX0_film 26 = .ok (.iload_n 1, 1) := dk_27 (dk_at dksX0_film_1 3 rfl rfl)
theorem dX0_film_27 : decode cX0_film 27 = .ok (.iload_n 2, 1) := dk_28 (dk_at dksX0_film_1 4 rfl rfl)
theorem dX0_film_28 : decode cX0_film 28 = .ok (.iload_n 3, 1) := dk_29 (dk_at dksX0_film_1 5 rfl rfl)
theorem dX0_film_29 : decode cX0_film 29 = .ok (.iload 4, 2) := dk_21 4 (dk_at dksX0_film_1 6 rfl rfl)
theorem dX0_film_31 : decode cX0_film 31 = .ok (.invokevirtual 493, 3) := dk_182 1 237 (dk_at dksX0_film_1 8 rfl rfl)
theorem dX0_film_34 : decode cX0_film 34 = .ok (.istore 5, 2) := dk_54 5 (dk_at dksX0_film_1 11 rfl rfl)
theorem dX0_film_36 : decode cX0_film 36 = .ok (.iload 5, 2) := dk_21 5 (dk_at dksX0_film_1 13 rfl rfl)
theorem dX0_film_38 : decode cX0_film 38 = .ok (.ifCond .ge 6, 3) := dk_156 0 6 (dk_at dksX0_film_1 15 rfl rfl)
theorem dX0_film_41 : decode cX0_film 41 = .ok (.iload 5, 2) := dk_21 5 (dk_at dksX0_film_1 18 rfl rfl)
theorem dX0_film_43 : decode cX0_film 43 = .ok (.ireturn, 1) := dk_172 (dk_at dksX0_film_1 20 rfl rfl)
theorem dX0_film_44 : decode cX0_film 44 = .ok (.iconst 0, 1) := dk_3 (dk_at dksX0_film_1 21 rfl rfl)
theorem dX0_film_45 : decode cX0_film 45 = .ok (.istore 6, 2) := dk_54 6 (dk_at dksX0_film_1 22 rfl rfl)
theorem dX0_film_47 : decode cX0_film 47 = .ok (.iload 6, 2) := dk_21 6 (dk_at dksX0_film_2 0 rfl rfl)
theorem dX0_film_49 : decode cX0_film 49 = .ok (.iload 4, 2) := dk_21 4 (dk_at dksX0_film_2 2 rfl rfl)
theorem dX0_film_51 : decode cX0_film 51 = .ok (.if_icmp .ge 39, 3) := dk_162 0 39 (dk_at dksX0_film_2 4 rfl rfl)
theorem dX0_film_54 : decode cX0_film 54 = .ok (.aload_n 0, 1) := dk_42 (dk_at dksX0_film_2 7 rfl rfl)
theorem dX0_film_55 : decode cX0_film 55 = .ok (.getfield 447, 3) := dk_180 1 191 (dk_at dksX0_film_2 8 rfl rfl)
theorem dX0_film_58 : decode cX0_film 58 = .ok (.iload_n 1, 1) := dk_27 (dk_at dksX0_film_2 11 rfl rfl)
theorem dX0_film_59 : decode cX0_film 59 = .ok (.aaload, 1) := dk_50 (dk_at dksX0_film_2 12 rfl rfl)
theorem dX0_film_60 : decode cX0_film 60 = .ok (.getfield 455, 3) := dk_180 1 199 (dk_at dksX0_film_2 13 rfl rfl)
theorem dX0_film_63 : decode cX0_film 63 = .ok (.iload_n 2, 1) := dk_28 (dk_at dksX0_film_2 16 rfl rfl)
theorem dX0_film_64 : decode cX0_film 64 = .ok (.iload_n 3, 1) := dk_29 (dk_at dksX0_film_2 17 rfl rfl)
theorem dX0_film_65 : decode cX0_film 65 = .ok (.iload 6, 2) := dk_21 6 (dk_at dksX0_film_2 18 rfl rfl)
theorem dX0_film_67 : decode cX0_film 67 = .ok (.iadd, 1) := dk_96 (dk_at dksX0_film_2 20 rfl rfl)
theorem dX0_film_68 : decode cX0_film 68 = .ok (.aload_n 0, 1) := dk_42 (dk_at dksX0_film_2 21 rfl rfl)
theorem dX0_film_69 : decode cX0_film 69 = .ok (.getfield 38, 3) := dk_180 0 38 (dk_at dksX0_film_3 0 rfl rfl)
theorem dX0_film_72 : decode cX0_film 72 = .ok (.iload 6, 2) := dk_21 6 (dk_at dksX0_film_3 3 rfl rfl)
theorem dX0_film_74 : decode cX0_film 74 = .ok (.invokevirtual 111, 3) := dk_182 0 111 (dk_at dksX0_film_3 5 rfl rfl)
theorem dX0_film_77 : decode cX0_film 77 = .ok (.getfield 116, 3) := dk_180 0 116 (dk_at dksX0_film_3 8 rfl rfl)
theorem dX0_film_80 : decode cX0_film 80 = .ok (.i2l, 1) := dk_133 (dk_at dksX0_film_3 11 rfl rfl)
theorem dX0_film_81 : decode cX0_film 81 = .ok (.invokestatic 471, 3) := dk_184 1 215 (dk_at dksX0_film_3 12 rfl rfl)
theorem dX0_film_84 : decode cX0_film 84 = .ok (.iinc 6 1, 3) := dk_132 6 1 (dk_at dksX0_film_3 15 rfl rfl)
theorem dX0_film_87 : decode cX0_film 87 = .ok (.goto (-40), 3) := dk_167 255 216 (dk_at dksX0_film_3 18 rfl rfl)
theorem dX0_film_90 : decode cX0_film 90 = .ok (.iload 4, 2) := dk_21 4 (dk_at dksX0_film_3 21 rfl rfl)
theorem dX0_film_92 : decode cX0_film 92 = .ok (.ireturn, 1) := dk_172 (dk_at dksX0_film_3 23 rfl rfl)
theorem dy_X0_puts : (yX0_puts.cls ≠ "java/lang/invoke/MethodHandle" ∧ yX0_puts.cls ≠ "java/lang/invoke/VarHandle") ∧ (parseMethodDescriptor yX0_puts.desc).map (fun d => d.parameters.length) = some 4 := by decide +kernel
section CP
variable {Γ : Gc} {p : Program} {l : Launch} {e : Env} {s : State} {m : MethodId} {args : Array Value} {below : List Frame} {meth : Method} {c : Code} {ex : Nat → Option Nat} {z : Nat} {tF : St}
noncomputable def fX0_film_47 (ex : Nat → Option Nat) (z : Nat) : Nat → Nat → Int32 → Int32 → Int32 → Int32 → Int32 → St → Option (Int32 × St)
  | 0, _, _, _, _, _, _, _ => none
  | n + 1, h0, x1, x2, x3, x4, x6, t => if x4 ≤ x6 then some (x4, t) else cgA [0] 17 t h0 fun v1 => caldA 5 t v1 x1 fun v2 => cgQ [2] 0 t v2 fun v3 => cgA [0] 0 t h0 fun v4 => ccast [1] t v4 (gb (fX1_clock ex (z + t.2.1) v4 x6 (t.1, 0, 0)) t fun r5 t6 => cgI [4, 5, 6, 7, 8, 9] 4 t6 r5 fun v12 => gbT (fX0_puts ex (z + t6.2.1) v3 x2 (x3 + x6) v12.toInt64 (t6.1, 0, 0)) t6 (fun _ t14 => fX0_film_47 ex z n h0 x1 x2 x3 x4 (x6 + 1) t14) (fun a16 t15 => none))
set_option maxHeartbeats 4000000 in
theorem wX0_film_47 {rF : Int32} (hex : ex = Γ.2.2.2.2) (hl : l.stackTraces = false) (X : g_X Γ p s m args meth c cX0_film 7 RX0) (hr : meth.sig.returnType = (some .int)) (ht : g_T meth []) (n : Nat) : ∀ (h0 : Nat) (x1 : Int32) (x2 : Int32) (x3 : Int32) (x4 : Int32) (x6 : Int32) (t : St), Wf Γ p l e 12 10333 s m args below meth c 7 (g_ι z) v_i rF tF 47 [(0, .ref h0), (1, .int x1), (2, .int x2), (3, .int x3), (4, .int x4), (6, .int x6)] [] t (fX0_film_47 ex z n h0 x1 x2 x3 x4 x6 t) := by
  induction n with
  | zero => intro h0 x1 x2 x3 x4 x6 t; exact g_none
  | succ n ih =>
    intro h0 x1 x2 x3 x4 x6 t
    rw [fX0_film_47]
    refine g_iload (pc := 47) X 5 dX0_film_47 rfl ?_
    refine g_iload (pc := 49) X 4 dX0_film_49 rfl ?_
    refine g_icmp_ge (pc := 51) X 90 dX0_film_51 (by decide) ?_ ?_
    · refine g_iload (pc := 90) X 4 dX0_film_90 rfl ?_
      exact g_iret (pc := 92) X hr dX0_film_92
    · refine g_aload_n (pc := 54) X 0 dX0_film_54 rfl rfl ?_
      refine cg_getA (pc := 55) X fo_X0_447 dX0_film_55 (fun v1 => ?_)
      refine g_iload_n (pc := 58) X 1 dX0_film_58 rfl rfl ?_
      refine cg_aald (pc := 59) X (j := 5) rfl rfl dX0_film_59 (fun v2 => ?_)
      refine cg_getQ (pc := 60) X fo_X0_455 dX0_film_60 (fun v3 => ?_)
      refine g_iload_n (pc := 63) X 2 dX0_film_63 rfl rfl ?_
      refine g_iload_n (pc := 64) X 3 dX0_film_64 rfl rfl ?_
      refine g_iload (pc := 65) X 5 dX0_film_65 rfl ?_
      refine g_iadd (pc := 67) X dX0_film_67 ?_
      refine g_aload_n (pc := 68) X 0 dX0_film_68 rfl rfl ?_
      refine cg_getA (pc := 69) X fo_X0_38 dX0_film_69 (fun v4 => ?_)
      refine g_iload (pc := 72) X 5 dX0_film_72 rfl ?_
      refine g_bD_a (pc := 74) X (cs := [1]) (As := [.int x6]) (rest := [.int (x3 + x6), .int x2, va_rf v3]) (b := v4) (n := 1) dX0_film_74 rfl rfl (by rcases v3 with _ | _ <;> exact Nat.le_of_ble_eq_true rfl) (fun fl7 ci8 fs9 hs10 hci11 r u h => ?_) (fun r5 t6 => ?_)
      · obtain rfl := List.mem_singleton.mp hci11
        exact ⟨_, _, _, yX1_clock, _, _, _, 3, 64, rfl, kX1_clock hex h, Or.inl (cwV 1 X.2.2.2.2.1 (lw_V q373 q374 q375 q71 q376) rfl rfl rfl dmV_X1_clock ⟨Nat.le_of_ble_eq_true rfl, Nat.le_of_ble_eq_true rfl⟩)⟩
      refine cg_getI (pc := 77) X fo_X0_116 dX0_film_77 (fun v12 => ?_)
      refine g_i2l (pc := 80) X dX0_film_80 ?_
      refine t_bS_v (pc := 81) X (y := yX0_puts) (As := [va_rf v3, .int x2, .int (x3 + x6), .long v12.toInt64]) (rest := []) (n := 4) (fr' := 9) (lo' := 10260) dX0_film_81 rfl rfl (Nat.le_of_ble_eq_true rfl) (plainFor_of_name (by decide)) (Or.inl ⟨q1472, rfl⟩) ⟨Nat.le_of_ble_eq_true rfl, Nat.le_of_ble_eq_true rfl⟩ q1471 q70 q1470 dy_X0_puts.1 dy_X0_puts.2 (fun r u h => kX0_puts hex hl h) (fun r13 t14 => ?_) (fun a16 t15 => x_none)
      refine g_iinc (pc := 84) X 1 5 (lv' := [(6, .int (x6 + 1)), (0, .ref h0), (1, .int x1), (2, .int x2), (3, .int x3), (4, .int x4)]) dX0_film_84 rfl rfl (by decide) rfl ?_
      refine g_goto (pc := 87) X 47 dX0_film_87 (by decide) ?_
      exact g_lv (pc := 47) (lv' := [(0, .ref h0), (1, .int x1), (2, .int x2), (3, .int x3), (4, .int x4), (6, .int (x6 + 1))]) [1, 2, 3, 4, 5, 0] rfl (ih h0 x1 x2 x3 x4 (x6 + 1) t14)
noncomputable def fX0_film (ex : Nat → Option Nat) (z : Nat) (h0 : Nat) (x1 : Int32) (x2 : Int32) (x3 : Int32) (t : St) : Option (Int32 × St) := gb (fX0_isSheet ex (z + t.2.1) x1 (t.1, 0, 0)) t fun r1 t2 => if r1 = 0 then some ((-1), t2) else gb (fX0_isLane ex (z + t2.2.1) x2 (t2.1, 0, 0)) t2 fun r3 t4 => if r3 = 0 then some ((-1), t4) else cgA [0] 0 t4 h0 fun v5 => ccast [1] t4 v5 (gb (fX1_size ex (z + t4.2.1) v5 (t4.1, 0, 0)) t4 fun r6 t7 => ccast [0] t7 h0 (gb (fX0_refusal ex (z + t7.2.1) h0 x1 x2 x3 r6 (t7.1, 0, 0)) t7 fun r13 t14 => if 0 ≤ r13 then fX0_film_47 ex z 1000 h0 x1 x2 x3 r6 0 t14 else some (r13, t14)))
set_option maxHeartbeats 4000000 in
theorem wX0_film {rF : Int32} (hex : ex = Γ.2.2.2.2) (hl : l.stackTraces = false) (X : g_X Γ p s m args meth c cX0_film 7 RX0) (hr : meth.sig.returnType = (some .int)) (ht : g_T meth []) (h0 : Nat) (x1 : Int32) (x2 : Int32) (x3 : Int32) (t : St) : Wf Γ p l e 12 10333 s m args below meth c 7 (g_ι z) v_i rF tF 0 [(0, .ref h0), (1, .int x1), (2, .int x2), (3, .int x3)] [] t (fX0_film ex z h0 x1 x2 x3 t) := by
  unfold fX0_film
  refine g_iload_n (pc := 0) X 1 dX0_film_0 rfl rfl ?_
  refine g_bS_i (pc := 1) X (y := yX0_isSheet) (As := [.int x1]) (rest := []) (fr' := 1) (lo' := 25) (fun _ => va_cwS 1 X.2.2.2.2.1 (lw_S q1381 q1382 q70 q1383) rfl rfl rfl dmS_X0_isSheet ⟨Nat.le_of_ble_eq_true rfl, Nat.le_of_ble_eq_true rfl⟩) dX0_film_1 rfl rfl (Nat.le_of_ble_eq_true rfl) (fun r u h => kX0_isSheet hex h) (fun r1 t2 => ?_)
  refine g_if_eq (pc := 4) X 14 dX0_film_4 (by decide) ?_ ?_
  · refine g_iconst (pc := 14) X (-1) dX0_film_14 rfl ?_
    exact g_iret (pc := 15) X hr dX0_film_15
  · refine g_iload_n (pc := 7) X 2 dX0_film_7 rfl rfl ?_
    refine g_bS_i (pc := 8) X (y := yX0_isLane) (As := [.int x2]) (rest := []) (fr' := 1) (lo' := 25) (fun _ => va_cwS 1 X.2.2.2.2.1 (lw_S q1385 q1386 q70 q1387) rfl rfl rfl dmS_X0_isLane ⟨Nat.le_of_ble_eq_true rfl, Nat.le_of_ble_eq_true rfl⟩) dX0_film_8 rfl rfl (Nat.le_of_ble_eq_true rfl) (fun r u h => kX0_isLane hex h) (fun r3 t4 => ?_)
    refine g_if_ne (pc := 11) X 16 dX0_film_11 (by decide) ?_ ?_
    · refine g_aload_n (pc := 16) X 0 dX0_film_16 rfl rfl ?_
      refine cg_getA (pc := 17) X fo_X0_38 dX0_film_17 (fun v5 => ?_)
      refine g_bD_i (pc := 20) X (cs := [1]) (As := []) (rest := []) (b := v5) (n := 0) dX0_film_20 rfl rfl (Nat.le_of_ble_eq_true rfl) (fun fl8 ci9 fs10 hs11 hci12 r u h => ?_) (fun r6 t7 => ?_)
      · obtain rfl := List.mem_singleton.mp hci12
        exact ⟨_, _, _, yX1_size, _, _, _, 1, 20, rfl, kX1_size hex h, Or.inl (cwV 0 X.2.2.2.2.1 (lw_V q129 q130 q131 q71 q132) rfl rfl rfl dmV_X1_size ⟨Nat.le_of_ble_eq_true rfl, Nat.le_of_ble_eq_true rfl⟩)⟩
      refine g_istore (pc := 23) X (lv' := [(4, .int r6), (0, .ref h0), (1, .int x1), (2, .int x2), (3, .int x3)]) dX0_film_23 (by decide) rfl ?_
      refine g_aload_n (pc := 25) X 1 dX0_film_25 rfl rfl ?_
      refine g_iload_n (pc := 26) X 2 dX0_film_26 rfl rfl ?_
      refine g_iload_n (pc := 27) X 3 dX0_film_27 rfl rfl ?_
      refine g_iload_n (pc := 28) X 4 dX0_film_28 rfl rfl ?_
      refine g_iload (pc := 29) X 0 dX0_film_29 rfl ?_
      refine x_bV_i (pc := 31) X (ci := 0) (C := RX0) (b := h0) (y := yX0_refusal) (As := [.int x1, .int x2, .int x3, .int r6]) (rest := []) (n := 4) (fr' := 11) (lo' := 10308) ⟨_, _, rfl⟩ dX0_film_31 rfl rfl (Nat.le_of_ble_eq_true rfl) (plainFor_of_name (by decide)) (Or.inr q1480) ⟨Nat.le_of_ble_eq_true rfl, Nat.le_of_ble_eq_true rfl⟩ q1479 q1477 qs27 dy_X0_refusal.1 dy_X0_refusal.2 (fun r u h => kX0_refusal hex hl h) (fun r13 t14 => ?_)
      refine g_istore (pc := 34) X (lv' := [(5, .int r13), (4, .int r6), (0, .ref h0), (1, .int x1), (2, .int x2), (3, .int x3)]) dX0_film_34 (by decide) rfl ?_
      refine g_iload (pc := 36) X 0 dX0_film_36 rfl ?_
      refine g_if_ge (pc := 38) X 44 dX0_film_38 (by decide) ?_ ?_
      · refine g_iconst (pc := 44) X 0 dX0_film_44 rfl ?_
        refine g_istore (pc := 45) X (lv' := [(6, .int 0), (5, .int r13), (4, .int r6), (0, .ref h0), (1, .int x1), (2, .int x2), (3, .int x3)]) dX0_film_45 (by decide) rfl ?_
        exact g_lv (pc := 47) (lv' := [(0, .ref h0), (1, .int x1), (2, .int x2), (3, .int x3), (4, .int r6), (6, .int 0)]) [3, 4, 5, 6, 2, 0] rfl (wX0_film_47 hex hl X hr ht 1000 h0 x1 x2 x3 r6 0 t14)
      · refine g_iload (pc := 41) X 0 dX0_film_41 rfl ?_
        exact g_iret (pc := 43) X hr dX0_film_43
    · refine g_iconst (pc := 14) X (-1) dX0_film_14 rfl ?_
      exact g_iret (pc := 15) X hr dX0_film_15
theorem kX0_film {ex : Nat → Option Nat} {z : Nat} {h0 : Nat} {x1 : Int32} {x2 : Int32} {x3 : Int32} {σ : Sg} {r : Int32} {u : St} (hex : ex = Γ.2.2.2.2) (hl : l.stackTraces = false) (h : fX0_film ex z h0 x1 x2 x3 (σ, 0, 0) = some (r, u)) : g_CT Γ l yX0_film cX0_film 7 (some .int) [] 12 10333 [.ref h0, .int x1, .int x2, .int x3] σ z v_i r (g_ι z u) := by
  exact g_metT (ι := g_ι z) (t := (σ, 0, 0)) [.ref h0, .int x1, .int x2, .int x3] (Nat.le_of_ble_eq_true rfl) h rfl (fun p e s m args below meth c X hr hn ht => wX0_film hex hl X hr ht h0 x1 x2 x3 (σ, 0, 0))
end CP
abbrev cX0_seen : ByteArray := prog_1_method_84_code
def yX0_seen : MethodName := ⟨RX0, "seen", "(III)I"⟩
def dkwX0_seen_3 : List UInt8 := [42, 180, 0, 213, 182, 0, 169, 87, 132, 5, 1, 167, 255, 227, 16, 252, 172]
abbrev dktX0_seen_3 : List UInt8 := dkwX0_seen_3 ++ []
def dkwX0_seen_2 : List UInt8 := [182, 0, 216, 3, 54, 5, 21, 5, 17, 0, 200, 163, 0, 27, 42, 182, 1, 241, 153, 0, 6, 21, 5, 172]
abbrev dktX0_seen_2 : List UInt8 := dkwX0_seen_2 ++ dktX0_seen_3
def dkwX0_seen_1 : List UInt8 := [182, 0, 42, 182, 1, 237, 54, 4, 21, 4, 156, 0, 6, 21, 4, 172, 42, 180, 0, 213, 42, 180, 0, 38]
abbrev dktX0_seen_1 : List UInt8 := dkwX0_seen_1 ++ dktX0_seen_2
def dkwX0_seen_0 : List UInt8 := [27, 184, 1, 185, 153, 0, 10, 28, 184, 1, 188, 154, 0, 5, 2, 172, 42, 27, 28, 29, 42, 180, 0, 38]
abbrev dktX0_seen_0 : List UInt8 := dkwX0_seen_0 ++ dktX0_seen_1
theorem dksX0_seen_0 : cX0_seen.data.toList.drop 0 = dktX0_seen_0 := by decide +kernel
theorem dksX0_seen_1 : cX0_seen.data.toList.drop 24 = dktX0_seen_1 := dk_seg dksX0_seen_0 24 rfl rfl
theorem dksX0_seen_2 : cX0_seen.data.toList.drop 48 = dktX0_seen_2 := dk_seg dksX0_seen_1 24 rfl rfl
theorem dksX0_seen_3 : cX0_seen.data.toList.drop 72 = dktX0_seen_3 := dk_seg dksX0_seen_2 24 rfl rfl
theorem dX0_seen_0 : decode cX0_seen 0 = .ok (.iload_n 1, 1) := dk_27 (dk_at dksX0_seen_0 0 rfl rfl)
theorem dX0_seen_1 : decode cX0_seen 1 = .ok (.invokestatic 441, 3) := dk_184 1 185 (dk_at dksX0_seen_0 1 rfl rfl)
theorem dX0_seen_4 : decode cX0_seen 4 = .ok (.ifCond .eq 10, 3) := dk_153 0 10 (dk_at dksX0_seen_0 4 rfl rfl)
theorem dX0_seen_7 : decode cX0_seen 7 = .ok (.iload_n 2, 1) := dk_28 (dk_at dksX0_seen_0 7 rfl rfl)
theorem dX0_seen_8 : decode cX0_seen 8 = .ok (.invokestatic 444, 3) := dk_184 1 188 (dk_at dksX0_seen_0 8 rfl rfl)
theorem dX0_seen_11 : decode cX0_seen 11 = .ok (.ifCond .ne 5, 3) := dk_154 0 5 (dk_at dksX0_seen_0 11 rfl rfl)
theorem dX0_seen_14 : decode cX0_seen 14 = .ok (.iconst (-1), 1) := dk_2 (dk_at dksX0_seen_0 14 rfl rfl)
theorem dX0_seen_15 : decode cX0_seen 15 = .ok (.ireturn, 1) := dk_172 (dk_at dksX0_seen_0 15 rfl rfl)
theorem dX0_seen_16 : decode cX0_seen 16 = .ok (.aload_n 0, 1) := dk_42 (dk_at dksX0_seen_0 16 rfl rfl)
theorem dX0_seen_17 : decode cX0_seen 17 = .ok (.iload_n 1, 1) := dk_27 (dk_at dksX0_seen_0 17 rfl rfl)
theorem dX0_seen_18 : decode cX0_seen 18 = .ok (.iload_n 2, 1) := dk_28 (dk_at dksX0_seen_0 18 rfl rfl)
theorem dX0_seen_19 : decode cX0_seen 19 = .ok (.iload_n 3, 1) := dk_29 (dk_at dksX0_seen_0 19 rfl rfl)
theorem dX0_seen_20 : decode cX0_seen 20 = .ok (.aload_n 0, 1) := dk_42 (dk_at dksX0_seen_0 20 rfl rfl)
theorem dX0_seen_21 : decode cX0_seen 21 = .ok (.getfield 38, 3) := dk_180 0 38 (dk_at dksX0_seen_0 21 rfl rfl)
theorem dX0_seen_24 : decode cX0_seen 24 = .ok (.invokevirtual 42, 3) := dk_182 0 42 (dk_at dksX0_seen_1 0 rfl rfl)
theorem dX0_seen_27 : decode cX0_seen 27 = .ok (.invokevirtual 493, 3) := dk_182 1 237 (dk_at dksX0_seen_1 3 rfl rfl)
theorem dX0_seen_30 : decode cX0_seen 30 = .ok (.istore 4, 2) := dk_54 4 (dk_at dksX0_seen_1 6 rfl rfl)
theorem dX0_seen_32 : decode cX0_seen 32 = .ok (.iload 4, 2) := dk_21 4 (dk_at dksX0_seen_1 8 rfl rfl)
theorem dX0_seen_34 : decode cX0_seen 34 = .ok (.ifCond .ge 6, 3) := dk_156 0 6 (dk_at dksX0_seen_1 10 rfl rfl)
theorem dX0_seen_37 : decode cX0_seen 37 = .ok (.iload 4, 2) := dk_21 4 (dk_at dksX0_seen_1 13 rfl rfl)
theorem dX0_seen_39 : decode cX0_seen 39 = .ok (.ireturn, 1) := dk_172 (dk_at dksX0_seen_1 15 rfl rfl)
theorem dX0_seen_40 : decode cX0_seen 40 = .ok (.aload_n 0, 1) := dk_42 (dk_at dksX0_seen_1 16 rfl rfl)
theorem dX0_seen_41 : decode cX0_seen 41 = .ok (.getfield 213, 3) := dk_180 0 213 (dk_at dksX0_seen_1 17 rfl rfl)
theorem dX0_seen_44 : decode cX0_seen 44 = .ok (.aload_n 0, 1) := dk_42 (dk_at dksX0_seen_1 20 rfl rfl)
theorem dX0_seen_45 : decode cX0_seen 45 = .ok (.getfield 38, 3) := dk_180 0 38 (dk_at dksX0_seen_1 21 rfl rfl)
theorem dX0_seen_48 : decode cX0_seen 48 = .ok (.invokevirtual 216, 3) := dk_182 0 216 (dk_at dksX0_seen_2 0 rfl rfl)
theorem dX0_seen_51 : decode cX0_seen 51 = .ok (.iconst 0, 1) := dk_3 (dk_at dksX0_seen_2 3 rfl rfl)
theorem dX0_seen_52 : decode cX0_seen 52 = .ok (.istore 5, 2) := dk_54 5 (dk_at dksX0_seen_2 4 rfl rfl)
theorem dX0_seen_54 : decode cX0_seen 54 = .ok (.iload 5, 2) := dk_21 5 (dk_at dksX0_seen_2 6 rfl rfl)
theorem dX0_seen_56 : decode cX0_seen 56 = .ok (.sipush 200, 3) := dk_17 0 200 (dk_at dksX0_seen_2 8 rfl rfl)
theorem dX0_seen_59 : decode cX0_seen 59 = .ok (.if_icmp .gt 27, 3) := dk_163 0 27 (dk_at dksX0_seen_2 11 rfl rfl)
theorem dX0_seen_62 : decode cX0_seen 62 = .ok (.aload_n 0, 1) := dk_42 (dk_at dksX0_seen_2 14 rfl rfl)
theorem dX0_seen_63 : decode cX0_seen 63 = .ok (.invokevirtual 497, 3) := dk_182 1 241 (dk_at dksX0_seen_2 15 rfl rfl)
theorem dX0_seen_66 : decode cX0_seen 66 = .ok (.ifCond .eq 6, 3) := dk_153 0 6 (dk_at dksX0_seen_2 18 rfl rfl)
theorem dX0_seen_69 : decode cX0_seen 69 = .ok (.iload 5, 2) := dk_21 5 (dk_at dksX0_seen_2 21 rfl rfl)
theorem dX0_seen_71 : decode cX0_seen 71 = .ok (.ireturn, 1) := dk_172 (dk_at dksX0_seen_2 23 rfl rfl)
theorem dX0_seen_72 : decode cX0_seen 72 = .ok (.aload_n 0, 1) := dk_42 (dk_at dksX0_seen_3 0 rfl rfl)
theorem dX0_seen_73 : decode cX0_seen 73 = .ok (.getfield 213, 3) := dk_180 0 213 (dk_at dksX0_seen_3 1 rfl rfl)
theorem dX0_seen_76 : decode cX0_seen 76 = .ok (.invokevirtual 169, 3) := dk_182 0 169 (dk_at dksX0_seen_3 4 rfl rfl)
theorem dX0_seen_79 : decode cX0_seen 79 = .ok (.pop, 1) := dk_87 (dk_at dksX0_seen_3 7 rfl rfl)
theorem dX0_seen_80 : decode cX0_seen 80 = .ok (.iinc 5 1, 3) := dk_132 5 1 (dk_at dksX0_seen_3 8 rfl rfl)
theorem dX0_seen_83 : decode cX0_seen 83 = .ok (.goto (-29), 3) := dk_167 255 227 (dk_at dksX0_seen_3 11 rfl rfl)
theorem dX0_seen_86 : decode cX0_seen 86 = .ok (.bipush (-4), 2) := dk_16 252 (dk_at dksX0_seen_3 14 rfl rfl)
theorem dX0_seen_88 : decode cX0_seen 88 = .ok (.ireturn, 1) := dk_172 (dk_at dksX0_seen_3 16 rfl rfl)
theorem dmV_X0_isAsTaken : yX0_isAsTaken.cls = RX0 ∧ yX0_isAsTaken.cls ≠ "java/lang/invoke/MethodHandle" ∧ yX0_isAsTaken.cls ≠ "java/lang/invoke/VarHandle" ∧ (parseMethodDescriptor yX0_isAsTaken.desc).map (fun d => d.parameters.length) = some 0 := by decide +kernel
section CP
variable {Γ : Gc} {p : Program} {l : Launch} {e : Env} {s : State} {m : MethodId} {args : Array Value} {below : List Frame} {meth : Method} {c : Code} {ex : Nat → Option Nat} {z : Nat} {tF : St}
noncomputable def fX0_seen_54 (ex : Nat → Option Nat) (z : Nat) : Nat → Nat → Int32 → St → Option (Int32 × St)
  | 0, _, _, _ => none
  | n + 1, h0, x5, t => if 200 < x5 then some ((-4), t) else ccast [0] t h0 (gb (fX0_isAsTaken ex (z + t.2.1) h0 (t.1, 0, 0)) t fun r1 t2 => if r1 = 0 then cgA [0] 1 t2 h0 fun v8 => ccast [1] t2 v8 (gb (fX1_goes ex (z + t2.2.1) v8 (t2.1, 0, 0)) t2 fun r9 t10 => fX0_seen_54 ex z n h0 (x5 + 1) t10) else some (x5, t2))
set_option maxHeartbeats 4000000 in
theorem wX0_seen_54 {rF : Int32} (hex : ex = Γ.2.2.2.2) (hl : l.stackTraces = false) (X : g_X Γ p s m args meth c cX0_seen 6 RX0) (hr : meth.sig.returnType = (some .int)) (ht : g_T meth []) (n : Nat) : ∀ (h0 : Nat) (x5 : Int32) (t : St), Wf Γ p l e 19 10333 s m args below meth c 6 (g_ι z) v_i rF tF 54 [(0, .ref h0), (5, .int x5)] [] t (fX0_seen_54 ex z n h0 x5 t) := by
  induction n with
  | zero => intro h0 x5 t; exact g_none
  | succ n ih =>
    intro h0 x5 t
    rw [fX0_seen_54]
    refine g_iload (pc := 54) X 1 dX0_seen_54 rfl ?_
    refine g_sipush (pc := 56) X 200 dX0_seen_56 rfl ?_
    refine g_icmp_gt (pc := 59) X 86 dX0_seen_59 (by decide) ?_ ?_
    · refine g_bipush (pc := 86) X (-4) dX0_seen_86 rfl ?_
      exact g_iret (pc := 88) X hr dX0_seen_88
    · refine g_aload_n (pc := 62) X 0 dX0_seen_62 rfl rfl ?_
      refine g_bD_i (pc := 63) X (cs := [0]) (As := []) (rest := []) (b := h0) (n := 0) dX0_seen_63 rfl rfl (Nat.le_of_ble_eq_true rfl) (fun fl3 ci4 fs5 hs6 hci7 r u h => ?_) (fun r1 t2 => ?_)
      · obtain rfl := List.mem_singleton.mp hci7
        exact ⟨_, _, _, yX0_isAsTaken, _, _, _, 4, 85, rfl, kX0_isAsTaken hex h, Or.inl (cwV 0 X.2.2.2.2.1 (lw_V q1503 q1505 qs29 q70 q1506) rfl rfl rfl dmV_X0_isAsTaken ⟨Nat.le_of_ble_eq_true rfl, Nat.le_of_ble_eq_true rfl⟩)⟩
      refine g_if_eq (pc := 66) X 72 dX0_seen_66 (by decide) ?_ ?_
      · refine g_aload_n (pc := 72) X 0 dX0_seen_72 rfl rfl ?_
        refine cg_getA (pc := 73) X fo_X0_213 dX0_seen_73 (fun v8 => ?_)
        refine g_bD_i (pc := 76) X (cs := [1]) (As := []) (rest := []) (b := v8) (n := 0) dX0_seen_76 rfl rfl (Nat.le_of_ble_eq_true rfl) (fun fl11 ci12 fs13 hs14 hci15 r u h => ?_) (fun r9 t10 => ?_)
        · obtain rfl := List.mem_singleton.mp hci15
          exact ⟨_, _, _, yX1_goes, _, _, _, 18, 380, rfl, kX1_goes hex h, Or.inl (cwV 0 X.2.2.2.2.1 (lw_V q534 q535 q536 q71 q537) rfl rfl rfl dmV_X1_goes ⟨Nat.le_of_ble_eq_true rfl, Nat.le_of_ble_eq_true rfl⟩)⟩
        refine g_pop (pc := 79) X dX0_seen_79 rfl ?_
        refine g_iinc (pc := 80) X 1 1 (lv' := [(5, .int (x5 + 1)), (0, .ref h0)]) dX0_seen_80 rfl rfl (by decide) rfl ?_
        refine g_goto (pc := 83) X 54 dX0_seen_83 (by decide) ?_
        exact g_lv (pc := 54) (lv' := [(0, .ref h0), (5, .int (x5 + 1))]) [1, 0] rfl (ih h0 (x5 + 1) t10)
      · refine g_iload (pc := 69) X 1 dX0_seen_69 rfl ?_
        exact g_iret (pc := 71) X hr dX0_seen_71
noncomputable def fX0_seen (ex : Nat → Option Nat) (z : Nat) (h0 : Nat) (x1 : Int32) (x2 : Int32) (x3 : Int32) (t : St) : Option (Int32 × St) := gb (fX0_isSheet ex (z + t.2.1) x1 (t.1, 0, 0)) t fun r1 t2 => if r1 = 0 then some ((-1), t2) else gb (fX0_isLane ex (z + t2.2.1) x2 (t2.1, 0, 0)) t2 fun r3 t4 => if r3 = 0 then some ((-1), t4) else cgA [0] 0 t4 h0 fun v5 => ccast [1] t4 v5 (gb (fX1_size ex (z + t4.2.1) v5 (t4.1, 0, 0)) t4 fun r6 t7 => ccast [0] t7 h0 (gb (fX0_refusal ex (z + t7.2.1) h0 x1 x2 x3 r6 (t7.1, 0, 0)) t7 fun r13 t14 => if 0 ≤ r13 then cgA [0] 1 t14 h0 fun v17 => cgA [0] 0 t14 h0 fun v18 => ccast [1] t14 v17 (gb (fX1_takes ex (z + t14.2.1) v17 v18 (t14.1, 0, 0)) t14 fun _ t20 => fX0_seen_54 ex z 1000 h0 0 t20) else some (r13, t14)))
set_option maxHeartbeats 4000000 in
theorem wX0_seen {rF : Int32} (hex : ex = Γ.2.2.2.2) (hl : l.stackTraces = false) (X : g_X Γ p s m args meth c cX0_seen 6 RX0) (hr : meth.sig.returnType = (some .int)) (ht : g_T meth []) (h0 : Nat) (x1 : Int32) (x2 : Int32) (x3 : Int32) (t : St) : Wf Γ p l e 19 10333 s m args below meth c 6 (g_ι z) v_i rF tF 0 [(0, .ref h0), (1, .int x1), (2, .int x2), (3, .int x3)] [] t (fX0_seen ex z h0 x1 x2 x3 t) := by
  unfold fX0_seen
  refine g_iload_n (pc := 0) X 1 dX0_seen_0 rfl rfl ?_
  refine g_bS_i (pc := 1) X (y := yX0_isSheet) (As := [.int x1]) (rest := []) (fr' := 1) (lo' := 25) (fun _ => va_cwS 1 X.2.2.2.2.1 (lw_S q1381 q1382 q70 q1383) rfl rfl rfl dmS_X0_isSheet ⟨Nat.le_of_ble_eq_true rfl, Nat.le_of_ble_eq_true rfl⟩) dX0_seen_1 rfl rfl (Nat.le_of_ble_eq_true rfl) (fun r u h => kX0_isSheet hex h) (fun r1 t2 => ?_)
  refine g_if_eq (pc := 4) X 14 dX0_seen_4 (by decide) ?_ ?_
  · refine g_iconst (pc := 14) X (-1) dX0_seen_14 rfl ?_
    exact g_iret (pc := 15) X hr dX0_seen_15
  · refine g_iload_n (pc := 7) X 2 dX0_seen_7 rfl rfl ?_
    refine g_bS_i (pc := 8) X (y := yX0_isLane) (As := [.int x2]) (rest := []) (fr' := 1) (lo' := 25) (fun _ => va_cwS 1 X.2.2.2.2.1 (lw_S q1385 q1386 q70 q1387) rfl rfl rfl dmS_X0_isLane ⟨Nat.le_of_ble_eq_true rfl, Nat.le_of_ble_eq_true rfl⟩) dX0_seen_8 rfl rfl (Nat.le_of_ble_eq_true rfl) (fun r u h => kX0_isLane hex h) (fun r3 t4 => ?_)
    refine g_if_ne (pc := 11) X 16 dX0_seen_11 (by decide) ?_ ?_
    · refine g_aload_n (pc := 16) X 0 dX0_seen_16 rfl rfl ?_
      refine g_iload_n (pc := 17) X 1 dX0_seen_17 rfl rfl ?_
      refine g_iload_n (pc := 18) X 2 dX0_seen_18 rfl rfl ?_
      refine g_iload_n (pc := 19) X 3 dX0_seen_19 rfl rfl ?_
      refine g_aload_n (pc := 20) X 0 dX0_seen_20 rfl rfl ?_
      refine cg_getA (pc := 21) X fo_X0_38 dX0_seen_21 (fun v5 => ?_)
      refine g_bD_i (pc := 24) X (cs := [1]) (As := []) (rest := [.int x3, .int x2, .int x1, .ref h0]) (b := v5) (n := 0) dX0_seen_24 rfl rfl (Nat.le_of_ble_eq_true rfl) (fun fl8 ci9 fs10 hs11 hci12 r u h => ?_) (fun r6 t7 => ?_)
      · obtain rfl := List.mem_singleton.mp hci12
        exact ⟨_, _, _, yX1_size, _, _, _, 1, 20, rfl, kX1_size hex h, Or.inl (cwV 0 X.2.2.2.2.1 (lw_V q129 q130 q131 q71 q132) rfl rfl rfl dmV_X1_size ⟨Nat.le_of_ble_eq_true rfl, Nat.le_of_ble_eq_true rfl⟩)⟩
      refine x_bV_i (pc := 27) X (ci := 0) (C := RX0) (b := h0) (y := yX0_refusal) (As := [.int x1, .int x2, .int x3, .int r6]) (rest := []) (n := 4) (fr' := 11) (lo' := 10308) ⟨_, _, rfl⟩ dX0_seen_27 rfl rfl (Nat.le_of_ble_eq_true rfl) (plainFor_of_name (by decide)) (Or.inr q1480) ⟨Nat.le_of_ble_eq_true rfl, Nat.le_of_ble_eq_true rfl⟩ q1479 q1477 qs27 dy_X0_refusal.1 dy_X0_refusal.2 (fun r u h => kX0_refusal hex hl h) (fun r13 t14 => ?_)
      refine g_istore (pc := 30) X (lv' := [(4, .int r13), (0, .ref h0), (1, .int x1), (2, .int x2), (3, .int x3)]) dX0_seen_30 (by decide) rfl ?_
      refine g_iload (pc := 32) X 0 dX0_seen_32 rfl ?_
      refine g_if_ge (pc := 34) X 40 dX0_seen_34 (by decide) ?_ ?_
      · refine g_aload_n (pc := 40) X 1 dX0_seen_40 rfl rfl ?_
        refine cg_getA (pc := 41) X fo_X0_213 dX0_seen_41 (fun v17 => ?_)
        refine g_aload_n (pc := 44) X 1 dX0_seen_44 rfl rfl ?_
        refine cg_getA (pc := 45) X fo_X0_38 dX0_seen_45 (fun v18 => ?_)
        refine g_bD_v (pc := 48) X (cs := [1]) (As := [.ref v18]) (rest := []) (b := v17) (n := 1) dX0_seen_48 rfl rfl (Nat.le_of_ble_eq_true rfl) (fun fl21 ci22 fs23 hs24 hci25 r u h => ?_) (fun r19 t20 => ?_)
        · obtain rfl := List.mem_singleton.mp hci25
          exact ⟨_, _, _, yX1_takes, _, _, _, 7, 152, rfl, kX1_takes hex h, Or.inl (cwV 1 X.2.2.2.2.1 (lw_V q827 q828 q829 q71 q830) rfl rfl rfl dmV_X1_takes ⟨Nat.le_of_ble_eq_true rfl, Nat.le_of_ble_eq_true rfl⟩)⟩
        refine g_iconst (pc := 51) X 0 dX0_seen_51 rfl ?_
        refine g_istore (pc := 52) X (lv' := [(5, .int 0), (4, .int r13), (0, .ref h0), (1, .int x1), (2, .int x2), (3, .int x3)]) dX0_seen_52 (by decide) rfl ?_
        exact g_lv (pc := 54) (lv' := [(0, .ref h0), (5, .int 0)]) [2, 0] rfl (wX0_seen_54 hex hl X hr ht 1000 h0 0 t20)
      · refine g_iload (pc := 37) X 0 dX0_seen_37 rfl ?_
        exact g_iret (pc := 39) X hr dX0_seen_39
    · refine g_iconst (pc := 14) X (-1) dX0_seen_14 rfl ?_
      exact g_iret (pc := 15) X hr dX0_seen_15
theorem kX0_seen {ex : Nat → Option Nat} {z : Nat} {h0 : Nat} {x1 : Int32} {x2 : Int32} {x3 : Int32} {σ : Sg} {r : Int32} {u : St} (hex : ex = Γ.2.2.2.2) (hl : l.stackTraces = false) (h : fX0_seen ex z h0 x1 x2 x3 (σ, 0, 0) = some (r, u)) : g_CT Γ l yX0_seen cX0_seen 6 (some .int) [] 19 10333 [.ref h0, .int x1, .int x2, .int x3] σ z v_i r (g_ι z u) := by
  exact g_metT (ι := g_ι z) (t := (σ, 0, 0)) [.ref h0, .int x1, .int x2, .int x3] (Nat.le_of_ble_eq_true rfl) h rfl (fun p e s m args below meth c X hr hn ht => wX0_seen hex hl X hr ht h0 x1 x2 x3 (σ, 0, 0))
end CP
abbrev cX0_pays : ByteArray := prog_1_method_48_code
def yX0_pays : MethodName := ⟨RX0, "pays", "(II)I"⟩
def dkwX0_pays_6 : List UInt8 := [25, 5, 28, 182, 1, 39, 153, 0, 8, 21, 6, 167, 0, 4, 3, 172, 58, 6, 25, 5, 180, 1, 36, 172]
abbrev dktX0_pays_6 : List UInt8 := dkwX0_pays_6 ++ []
def dkwX0_pays_5 : List UInt8 := [180, 0, 89, 27, 182, 0, 93, 192, 0, 96, 58, 5, 29, 25, 5, 180, 1, 36, 104, 21, 4, 108, 54, 6]
abbrev dktX0_pays_5 : List UInt8 := dkwX0_pays_5 ++ dktX0_pays_6
def dkwX0_pays_4 : List UInt8 := [182, 0, 93, 192, 0, 96, 180, 1, 36, 167, 0, 4, 3, 96, 54, 4, 132, 5, 1, 167, 255, 180, 42]
abbrev dktX0_pays_4 : List UInt8 := dkwX0_pays_4 ++ dktX0_pays_5
def dkwX0_pays_3 : List UInt8 := [180, 0, 89, 21, 5, 182, 0, 93, 192, 0, 96, 28, 182, 1, 39, 153, 0, 21, 42, 180, 0, 89, 21, 5]
abbrev dktX0_pays_3 : List UInt8 := dkwX0_pays_3 ++ dktX0_pays_4
def dkwX0_pays_2 : List UInt8 := [162, 0, 70, 29, 42, 180, 0, 89, 21, 5, 182, 0, 93, 192, 0, 96, 180, 1, 36, 96, 62, 21, 4, 42]
abbrev dktX0_pays_2 : List UInt8 := dkwX0_pays_2 ++ dktX0_pays_3
def dkwX0_pays_1 : List UInt8 := [154, 0, 5, 2, 172, 3, 62, 3, 54, 4, 3, 54, 5, 21, 5, 42, 180, 0, 89, 182, 0, 92]
abbrev dktX0_pays_1 : List UInt8 := dkwX0_pays_1 ++ dktX0_pays_2
def dkwX0_pays_0 : List UInt8 := [27, 133, 9, 42, 180, 0, 89, 182, 0, 92, 4, 100, 133, 184, 0, 48, 153, 0, 11, 42, 28, 182, 1, 17]
abbrev dktX0_pays_0 : List UInt8 := dkwX0_pays_0 ++ dktX0_pays_1
theorem dksX0_pays_0 : cX0_pays.data.toList.drop 0 = dktX0_pays_0 := by decide +kernel
theorem dksX0_pays_1 : cX0_pays.data.toList.drop 24 = dktX0_pays_1 := dk_seg dksX0_pays_0 24 rfl rfl
theorem dksX0_pays_2 : cX0_pays.data.toList.drop 46 = dktX0_pays_2 := dk_seg dksX0_pays_1 22 rfl rfl
theorem dksX0_pays_3 : cX0_pays.data.toList.drop 70 = dktX0_pays_3 := dk_seg dksX0_pays_2 24 rfl rfl
theorem dksX0_pays_4 : cX0_pays.data.toList.drop 94 = dktX0_pays_4 := dk_seg dksX0_pays_3 24 rfl rfl
theorem dksX0_pays_5 : cX0_pays.data.toList.drop 117 = dktX0_pays_5 := dk_seg dksX0_pays_4 23 rfl rfl
theorem dksX0_pays_6 : cX0_pays.data.toList.drop 141 = dktX0_pays_6 := dk_seg dksX0_pays_5 24 rfl rfl
theorem dX0_pays_0 : decode cX0_pays 0 = .ok (.iload_n 1, 1) := dk_27 (dk_at dksX0_pays_0 0 rfl rfl)
theorem dX0_pays_1 : decode cX0_pays 1 = .ok (.i2l, 1) := dk_133 (dk_at dksX0_pays_0 1 rfl rfl)
theorem dX0_pays_2 : decode cX0_pays 2 = .ok (.lconst 0, 1) := dk_9 (dk_at dksX0_pays_0 2 rfl rfl)
theorem dX0_pays_3 : decode cX0_pays 3 = .ok (.aload_n 0, 1) := dk_42 (dk_at dksX0_pays_0 3 rfl rfl)
theorem dX0_pays_4 : decode cX0_pays 4 = .ok (.getfield 89, 3) := dk_180 0 89 (dk_at dksX0_pays_0 4 rfl rfl)
theorem dX0_pays_7 : decode cX0_pays 7 = .ok (.invokevirtual 92, 3) := dk_182 0 92 (dk_at dksX0_pays_0 7 rfl rfl)
theorem dX0_pays_10 : decode cX0_pays 10 = .ok (.iconst 1, 1) := dk_4 (dk_at dksX0_pays_0 10 rfl rfl)
theorem dX0_pays_11 : decode cX0_pays 11 = .ok (.isub, 1) := dk_100 (dk_at dksX0_pays_0 11 rfl rfl)
theorem dX0_pays_12 : decode cX0_pays 12 = .ok (.i2l, 1) := dk_133 (dk_at dksX0_pays_0 12 rfl rfl)
theorem dX0_pays_13 : decode cX0_pays 13 = .ok (.invokestatic 48, 3) := dk_184 0 48 (dk_at dksX0_pays_0 13 rfl rfl)
theorem dX0_pays_16 : decode cX0_pays 16 = .ok (.ifCond .eq 11, 3) := dk_153 0 11 (dk_at dksX0_pays_0 16 rfl rfl)
theorem dX0_pays_19 : decode cX0_pays 19 = .ok (.aload_n 0, 1) := dk_42 (dk_at dksX0_pays_0 19 rfl rfl)
theorem dX0_pays_20 : decode cX0_pays 20 = .ok (.iload_n 2, 1) := dk_28 (dk_at dksX0_pays_0 20 rfl rfl)
theorem dX0_pays_21 : decode cX0_pays 21 = .ok (.invokevirtual 273, 3) := dk_182 1 17 (dk_at dksX0_pays_0 21 rfl rfl)
theorem dX0_pays_24 : decode cX0_pays 24 = .ok (.ifCond .ne 5, 3) := dk_154 0 5 (dk_at dksX0_pays_1 0 rfl rfl)
theorem dX0_pays_27 : decode cX0_pays 27 = .ok (.iconst (-1), 1) := dk_2 (dk_at dksX0_pays_1 3 rfl rfl)
theorem dX0_pays_28 : decode cX0_pays 28 = .ok (.ireturn, 1) := dk_172 (dk_at dksX0_pays_1 4 rfl rfl)
theorem dX0_pays_29 : decode cX0_pays 29 = .ok (.iconst 0, 1) := dk_3 (dk_at dksX0_pays_1 5 rfl rfl)
theorem dX0_pays_30 : decode cX0_pays 30 = .ok (.istore_n 3, 1) := dk_62 (dk_at dksX0_pays_1 6 rfl rfl)
theorem dX0_pays_31 : decode cX0_pays 31 = .ok (.iconst 0, 1) := dk_3 (dk_at dksX0_pays_1 7 rfl rfl)
theorem dX0_pays_32 : decode cX0_pays 32 = .ok (.istore 4, 2) := dk_54 4 (dk_at dksX0_pays_1 8 rfl rfl)
theorem dX0_pays_34 : decode cX0_pays 34 = .ok (.iconst 0, 1) := dk_3 (dk_at dksX0_pays_1 10 rfl rfl)
theorem dX0_pays_35 : decode cX0_pays 35 = .ok (.istore 5, 2) := dk_54 5 (dk_at dksX0_pays_1 11 rfl rfl)
theorem dX0_pays_37 : decode cX0_pays 37 = .ok (.iload 5, 2) := dk_21 5 (dk_at dksX0_pays_1 13 rfl rfl)
theorem dX0_pays_39 : decode cX0_pays 39 = .ok (.aload_n 0, 1) := dk_42 (dk_at dksX0_pays_1 15 rfl rfl)
theorem dX0_pays_40 : decode cX0_pays 40 = .ok (.getfield 89, 3) := dk_180 0 89 (dk_at dksX0_pays_1 16 rfl rfl)
theorem dX0_pays_43 : decode cX0_pays 43 = .ok (.invokevirtual 92, 3) := dk_182 0 92 (dk_at dksX0_pays_1 19 rfl rfl)
theorem dX0_pays_46 : decode cX0_pays 46 = .ok (.if_icmp .ge 70, 3) := dk_162 0 70 (dk_at dksX0_pays_2 0 rfl rfl)
theorem dX0_pays_49 : decode cX0_pays 49 = .ok (.iload_n 3, 1) := dk_29 (dk_at dksX0_pays_2 3 rfl rfl)
theorem dX0_pays_50 : decode cX0_pays 50 = .ok (.aload_n 0, 1) := dk_42 (dk_at dksX0_pays_2 4 rfl rfl)
theorem dX0_pays_51 : decode cX0_pays 51 = .ok (.getfield 89, 3) := dk_180 0 89 (dk_at dksX0_pays_2 5 rfl rfl)
theorem dX0_pays_54 : decode cX0_pays 54 = .ok (.iload 5, 2) := dk_21 5 (dk_at dksX0_pays_2 8 rfl rfl)
theorem dX0_pays_56 : decode cX0_pays 56 = .ok (.invokevirtual 93, 3) := dk_182 0 93 (dk_at dksX0_pays_2 10 rfl rfl)
theorem dX0_pays_59 : decode cX0_pays 59 = .ok (.checkcast 96, 3) := dk_192 0 96 (dk_at dksX0_pays_2 13 rfl rfl)
theorem dX0_pays_62 : decode cX0_pays 62 = .ok (.getfield 292, 3) := dk_180 1 36 (dk_at dksX0_pays_2 16 rfl rfl)
theorem dX0_pays_65 : decode cX0_pays 65 = .ok (.iadd, 1) := dk_96 (dk_at dksX0_pays_2 19 rfl rfl)
theorem dX0_pays_66 : decode cX0_pays 66 = .ok (.istore_n 3, 1) := dk_62 (dk_at dksX0_pays_2 20 rfl rfl)
theorem dX0_pays_67 : decode cX0_pays 67 = .ok (.iload 4, 2) := dk_21 4 (dk_at dksX0_pays_2 21 rfl rfl)
theorem dX0_pays_69 : decode cX0_pays 69 = .ok (.aload_n 0, 1) := dk_42 (dk_at dksX0_pays_2 23 rfl rfl)
theorem dX0_pays_70 : decode cX0_pays 70 = .ok (.getfield 89, 3) := dk_180 0 89 (dk_at dksX0_pays_3 0 rfl rfl)
theorem dX0_pays_73 : decode cX0_pays 73 = .ok (.iload 5, 2) := dk_21 5 (dk_at dksX0_pays_3 3 rfl rfl)
theorem dX0_pays_75 : decode cX0_pays 75 = .ok (.invokevirtual 93, 3) := dk_182 0 93 (dk_at dksX0_pays_3 5 rfl rfl)
theorem dX0_pays_78 : decode cX0_pays 78 = .ok (.checkcast 96, 3) := dk_192 0 96 (dk_at dksX0_pays_3 8 rfl rfl)
theorem dX0_pays_81 : decode cX0_pays 81 = .ok (.iload_n 2, 1) := dk_28 (dk_at dksX0_pays_3 11 rfl rfl)
theorem dX0_pays_82 : decode cX0_pays 82 = .ok (.invokevirtual 295, 3) := dk_182 1 39 (dk_at dksX0_pays_3 12 rfl rfl)
theorem dX0_pays_85 : decode cX0_pays 85 = .ok (.ifCond .eq 21, 3) := dk_153 0 21 (dk_at dksX0_pays_3 15 rfl rfl)
theorem dX0_pays_88 : decode cX0_pays 88 = .ok (.aload_n 0, 1) := dk_42 (dk_at dksX0_pays_3 18 rfl rfl)
theorem dX0_pays_89 : decode cX0_pays 89 = .ok (.getfield 89, 3) := dk_180 0 89 (dk_at dksX0_pays_3 19 rfl rfl)
theorem dX0_pays_92 : decode cX0_pays 92 = .ok (.iload 5, 2) := dk_21 5 (dk_at dksX0_pays_3 22 rfl rfl)
theorem dX0_pays_94 : decode cX0_pays 94 = .ok (.invokevirtual 93, 3) := dk_182 0 93 (dk_at dksX0_pays_4 0 rfl rfl)
theorem dX0_pays_97 : decode cX0_pays 97 = .ok (.checkcast 96, 3) := dk_192 0 96 (dk_at dksX0_pays_4 3 rfl rfl)
theorem dX0_pays_100 : decode cX0_pays 100 = .ok (.getfield 292, 3) := dk_180 1 36 (dk_at dksX0_pays_4 6 rfl rfl)
theorem dX0_pays_103 : decode cX0_pays 103 = .ok (.goto 4, 3) := dk_167 0 4 (dk_at dksX0_pays_4 9 rfl rfl)
theorem dX0_pays_106 : decode cX0_pays 106 = .ok (.iconst 0, 1) := dk_3 (dk_at dksX0_pays_4 12 rfl rfl)
theorem dX0_pays_107 : decode cX0_pays 107 = .ok (.iadd, 1) := dk_96 (dk_at dksX0_pays_4 13 rfl rfl)
theorem dX0_pays_108 : decode cX0_pays 108 = .ok (.istore 4, 2) := dk_54 4 (dk_at dksX0_pays_4 14 rfl rfl)
theorem dX0_pays_110 : decode cX0_pays 110 = .ok (.iinc 5 1, 3) := dk_132 5 1 (dk_at dksX0_pays_4 16 rfl rfl)
theorem dX0_pays_113 : decode cX0_pays 113 = .ok (.goto (-76), 3) := dk_167 255 180 (dk_at dksX0_pays_4 19 rfl rfl)
theorem dX0_pays_116 : decode cX0_pays 116 = .ok (.aload_n 0, 1) := dk_42 (dk_at dksX0_pays_4 22 rfl rfl)
theorem dX0_pays_117 : decode cX0_pays 117 = .ok (.getfield 89, 3) := dk_180 0 89 (dk_at dksX0_pays_5 0 rfl rfl)
theorem dX0_pays_120 : decode cX0_pays 120 = .ok (.iload_n 1, 1) := dk_27 (dk_at dksX0_pays_5 3 rfl rfl)
theorem dX0_pays_121 : decode cX0_pays 121 = .ok (.invokevirtual 93, 3) := dk_182 0 93 (dk_at dksX0_pays_5 4 rfl rfl)
theorem dX0_pays_124 : decode cX0_pays 124 = .ok (.checkcast 96, 3) := dk_192 0 96 (dk_at dksX0_pays_5 7 rfl rfl)
theorem dX0_pays_127 : decode cX0_pays 127 = .ok (.astore 5, 2) := dk_58 5 (dk_at dksX0_pays_5 10 rfl rfl)
theorem dX0_pays_129 : decode cX0_pays 129 = .ok (.iload_n 3, 1) := dk_29 (dk_at dksX0_pays_5 12 rfl rfl)
theorem dX0_pays_130 : decode cX0_pays 130 = .ok (.aload 5, 2) := dk_25 5 (dk_at dksX0_pays_5 13 rfl rfl)
theorem dX0_pays_132 : decode cX0_pays 132 = .ok (.getfield 292, 3) := dk_180 1 36 (dk_at dksX0_pays_5 15 rfl rfl)
theorem dX0_pays_135 : decode cX0_pays 135 = .ok (.imul, 1) := dk_104 (dk_at dksX0_pays_5 18 rfl rfl)
theorem dX0_pays_136 : decode cX0_pays 136 = .ok (.iload 4, 2) := dk_21 4 (dk_at dksX0_pays_5 19 rfl rfl)
theorem dX0_pays_138 : decode cX0_pays 138 = .ok (.idiv, 1) := dk_108 (dk_at dksX0_pays_5 21 rfl rfl)
theorem dX0_pays_139 : decode cX0_pays 139 = .ok (.istore 6, 2) := dk_54 6 (dk_at dksX0_pays_5 22 rfl rfl)
theorem dX0_pays_141 : decode cX0_pays 141 = .ok (.aload 5, 2) := dk_25 5 (dk_at dksX0_pays_6 0 rfl rfl)
theorem dX0_pays_143 : decode cX0_pays 143 = .ok (.iload_n 2, 1) := dk_28 (dk_at dksX0_pays_6 2 rfl rfl)
theorem dX0_pays_144 : decode cX0_pays 144 = .ok (.invokevirtual 295, 3) := dk_182 1 39 (dk_at dksX0_pays_6 3 rfl rfl)
theorem dX0_pays_147 : decode cX0_pays 147 = .ok (.ifCond .eq 8, 3) := dk_153 0 8 (dk_at dksX0_pays_6 6 rfl rfl)
theorem dX0_pays_150 : decode cX0_pays 150 = .ok (.iload 6, 2) := dk_21 6 (dk_at dksX0_pays_6 9 rfl rfl)
theorem dX0_pays_152 : decode cX0_pays 152 = .ok (.goto 4, 3) := dk_167 0 4 (dk_at dksX0_pays_6 11 rfl rfl)
theorem dX0_pays_155 : decode cX0_pays 155 = .ok (.iconst 0, 1) := dk_3 (dk_at dksX0_pays_6 14 rfl rfl)
theorem dX0_pays_156 : decode cX0_pays 156 = .ok (.ireturn, 1) := dk_172 (dk_at dksX0_pays_6 15 rfl rfl)
theorem dX0_pays_157 : decode cX0_pays 157 = .ok (.astore 6, 2) := dk_58 6 (dk_at dksX0_pays_6 16 rfl rfl)
theorem dX0_pays_159 : decode cX0_pays 159 = .ok (.aload 5, 2) := dk_25 5 (dk_at dksX0_pays_6 18 rfl rfl)
theorem dX0_pays_161 : decode cX0_pays 161 = .ok (.getfield 292, 3) := dk_180 1 36 (dk_at dksX0_pays_6 20 rfl rfl)
theorem dX0_pays_164 : decode cX0_pays 164 = .ok (.ireturn, 1) := dk_172 (dk_at dksX0_pays_6 23 rfl rfl)
theorem fo_X0_292 : g_fo RX0 292 [20] 1 := ⟨_, _, _, Or.inr ⟨_, q960⟩, fun ci h => by
  simp only [List.mem_cons, List.not_mem_nil, or_false] at h; rcases h with rfl
  · exact ⟨_, _, _, rfl, by decide, rfl, rfl, Or.inl rfl, in_X20⟩⟩
theorem dmV_X20_isIn : yX20_isIn.cls = RX20 ∧ yX20_isIn.cls ≠ "java/lang/invoke/MethodHandle" ∧ yX20_isIn.cls ≠ "java/lang/invoke/VarHandle" ∧ (parseMethodDescriptor yX20_isIn.desc).map (fun d => d.parameters.length) = some 1 := by decide +kernel
section CP
variable {Γ : Gc} {p : Program} {l : Launch} {e : Env} {s : State} {m : MethodId} {args : Array Value} {below : List Frame} {meth : Method} {c : Code} {ex : Nat → Option Nat} {z : Nat} {tF : St}
noncomputable def fX0_pays_107 (ex : Nat → Option Nat) (z : Nat) (kc37 : Nat → Int32 → Int32 → Int32 → Int32 → Int32 → St → Option (Int32 × St)) (h0 : Nat) (x1 : Int32) (x2 : Int32) (x3 : Int32) (x5 : Int32) (s0 : Int32) (s1 : Int32) (t : St) : Option (Int32 × St) := lt (s1 + s0) fun y1 => kc37 h0 x1 x2 x3 y1 (x5 + 1) t
set_option maxHeartbeats 4000000 in
theorem wX0_pays_107 {rF : Int32} (hex : ex = Γ.2.2.2.2) (hl : l.stackTraces = false) (X : g_X Γ p s m args meth c cX0_pays 7 RX0) (hr : meth.sig.returnType = (some .int)) (ht : g_T meth [(129, 156, 157, 298)]) {kc37 : Nat → Int32 → Int32 → Int32 → Int32 → Int32 → St → Option (Int32 × St)} (hk37 : ∀ (h0 : Nat) (x1 : Int32) (x2 : Int32) (x3 : Int32) (x4 : Int32) (x5 : Int32) (t : St), Wf Γ p l e 9 10260 s m args below meth c 7 (g_ι z) v_i rF tF 37 [(0, .ref h0), (1, .int x1), (2, .int x2), (3, .int x3), (4, .int x4), (5, .int x5)] [] t (kc37 h0 x1 x2 x3 x4 x5 t)) (h0 : Nat) (x1 : Int32) (x2 : Int32) (x3 : Int32) (x5 : Int32) (s0 : Int32) (s1 : Int32) (t : St) : Wf Γ p l e 9 10260 s m args below meth c 7 (g_ι z) v_i rF tF 107 [(0, .ref h0), (1, .int x1), (2, .int x2), (3, .int x3), (5, .int x5)] [.int s0, .int s1] t (fX0_pays_107 ex z kc37 h0 x1 x2 x3 x5 s0 s1 t) := by
  unfold fX0_pays_107
  refine g_iadd (pc := 107) X dX0_pays_107 ?_
  refine g_lti (pc := 108) (fun y1 => ?_)
  refine g_istore (pc := 108) X (lv' := [(4, .int y1), (0, .ref h0), (1, .int x1), (2, .int x2), (3, .int x3), (5, .int x5)]) dX0_pays_108 (by decide) rfl ?_
  refine g_iinc (pc := 110) X 1 5 (lv' := [(5, .int (x5 + 1)), (4, .int y1), (0, .ref h0), (1, .int x1), (2, .int x2), (3, .int x3)]) dX0_pays_110 rfl rfl (by decide) rfl ?_
  refine g_goto (pc := 113) X 37 dX0_pays_113 (by decide) ?_
  exact g_lv (pc := 37) (lv' := [(0, .ref h0), (1, .int x1), (2, .int x2), (3, .int x3), (4, .int y1), (5, .int (x5 + 1))]) [2, 3, 4, 5, 1, 0] rfl (hk37 h0 x1 x2 x3 y1 (x5 + 1) t)
noncomputable def fX0_pays_157 (ex : Nat → Option Nat) (z : Nat) (h5 : Nat) (s0 : Nat) (t : St) : Option (Int32 × St) := cgI [20] 1 t h5 fun v1 => some (v1, t)
set_option maxHeartbeats 4000000 in
theorem wX0_pays_157 {rF : Int32} (hex : ex = Γ.2.2.2.2) (hl : l.stackTraces = false) (X : g_X Γ p s m args meth c cX0_pays 7 RX0) (hr : meth.sig.returnType = (some .int)) (ht : g_T meth [(129, 156, 157, 298)]) (h5 : Nat) (s0 : Nat) (t : St) : Wf Γ p l e 9 10260 s m args below meth c 7 (g_ι z) v_i rF tF 157 [(5, .ref h5)] [.ref s0] t (fX0_pays_157 ex z h5 s0 t) := by
  unfold fX0_pays_157
  refine g_astore (pc := 157) X (lv' := [(6, .ref s0), (5, .ref h5)]) dX0_pays_157 (by decide) rfl ?_
  refine g_aload (pc := 159) X 1 dX0_pays_159 rfl ?_
  refine cg_getI (pc := 161) X fo_X0_292 dX0_pays_161 (fun v1 => ?_)
  exact g_iret (pc := 164) X hr dX0_pays_164
noncomputable def fX0_pays_37 (ex : Nat → Option Nat) (z : Nat) : Nat → Nat → Int32 → Int32 → Int32 → Int32 → Int32 → St → Option (Int32 × St)
  | 0, _, _, _, _, _, _, _ => none
  | n + 1, h0, x1, x2, x3, x4, x5, t => cgA [0] 4 t h0 fun v1 => ccast [15] t v1 (gb (fJ2_size ex (z + t.2.1) v1 (t.1, 0, 0)) t fun r2 t3 => if r2 ≤ x5 then cgA [0] 4 t3 h0 fun v9 => ccast [15] t3 v9 (gb (fJ2_get ex (z + t3.2.1) v9 x1 (t3.1, 0, 0)) t3 fun r10 t11 => ccast [20] t11 r10 (cgI [20] 1 t11 r10 fun v17 => if x4 = 0 then fX0_pays_157 ex z r10 (z + t11.2.1 + 2) (xNew z 2 26 t11) else lt ((x3 * v17) / x4) fun y19 => ccast [20] t11 r10 (gb (fX20_isIn ex (z + t11.2.1) r10 x2 (t11.1, 0, 0)) t11 fun r20 t21 => if r20 = 0 then some (0, t21) else some (y19, t21)))) else cgA [0] 4 t3 h0 fun v27 => ccast [15] t3 v27 (gb (fJ2_get ex (z + t3.2.1) v27 x5 (t3.1, 0, 0)) t3 fun r28 t29 => ccast [20] t29 r28 (cgI [20] 1 t29 r28 fun v35 => lt (x3 + v35) fun y36 => cgA [0] 4 t29 h0 fun v37 => ccast [15] t29 v37 (gb (fJ2_get ex (z + t29.2.1) v37 x5 (t29.1, 0, 0)) t29 fun r38 t39 => ccast [20] t39 r38 (ccast [20] t39 r38 (gb (fX20_isIn ex (z + t39.2.1) r38 x2 (t39.1, 0, 0)) t39 fun r45 t46 => if r45 = 0 then fX0_pays_107 ex z (fun a0 a1 a2 a3 a4 a5 a6 => fX0_pays_37 ex z n a0 a1 a2 a3 a4 a5 a6) h0 x1 x2 y36 x5 0 x4 t46 else cgA [0] 4 t46 h0 fun v52 => ccast [15] t46 v52 (gb (fJ2_get ex (z + t46.2.1) v52 x5 (t46.1, 0, 0)) t46 fun r53 t54 => ccast [20] t54 r53 (cgI [20] 1 t54 r53 fun v60 => fX0_pays_107 ex z (fun a0 a1 a2 a3 a4 a5 a6 => fX0_pays_37 ex z n a0 a1 a2 a3 a4 a5 a6) h0 x1 x2 y36 x5 v60 x4 t54))))))))
set_option maxHeartbeats 4000000 in
theorem wX0_pays_37 {rF : Int32} (hex : ex = Γ.2.2.2.2) (hl : l.stackTraces = false) (X : g_X Γ p s m args meth c cX0_pays 7 RX0) (hr : meth.sig.returnType = (some .int)) (ht : g_T meth [(129, 156, 157, 298)]) (n : Nat) : ∀ (h0 : Nat) (x1 : Int32) (x2 : Int32) (x3 : Int32) (x4 : Int32) (x5 : Int32) (t : St), Wf Γ p l e 9 10260 s m args below meth c 7 (g_ι z) v_i rF tF 37 [(0, .ref h0), (1, .int x1), (2, .int x2), (3, .int x3), (4, .int x4), (5, .int x5)] [] t (fX0_pays_37 ex z n h0 x1 x2 x3 x4 x5 t) := by
  induction n with
  | zero => intro h0 x1 x2 x3 x4 x5 t; exact g_none
  | succ n ih =>
    intro h0 x1 x2 x3 x4 x5 t
    rw [fX0_pays_37]
    refine g_iload (pc := 37) X 5 dX0_pays_37 rfl ?_
    refine g_aload_n (pc := 39) X 0 dX0_pays_39 rfl rfl ?_
    refine cg_getA (pc := 40) X fo_X0_89 dX0_pays_40 (fun v1 => ?_)
    refine g_bD_i (pc := 43) X (cs := [15]) (As := []) (rest := [.int x5]) (b := v1) (n := 0) dX0_pays_43 rfl rfl (Nat.le_of_ble_eq_true rfl) (fun fl4 ci5 fs6 hs7 hci8 r u h => ?_) (fun r2 t3 => ?_)
    · obtain rfl := List.mem_singleton.mp hci8
      exact ⟨_, _, _, yJ2_size, _, _, _, 0, 0, rfl, kJ2_size hex h, Or.inl (cwV 0 X.2.2.2.2.1 (lw_V q350 q134 q135 q74 q136) rfl rfl rfl dmV_J2_size ⟨Nat.le_of_ble_eq_true rfl, Nat.le_of_ble_eq_true rfl⟩)⟩
    refine g_icmp_ge (pc := 46) X 116 dX0_pays_46 (by decide) ?_ ?_
    · refine g_aload_n (pc := 116) X 0 dX0_pays_116 rfl rfl ?_
      refine cg_getA (pc := 117) X fo_X0_89 dX0_pays_117 (fun v9 => ?_)
      refine g_iload_n (pc := 120) X 1 dX0_pays_120 rfl rfl ?_
      refine g_bD_a (pc := 121) X (cs := [15]) (As := [.int x1]) (rest := []) (b := v9) (n := 1) dX0_pays_121 rfl rfl (Nat.le_of_ble_eq_true rfl) (fun fl12 ci13 fs14 hs15 hci16 r u h => ?_) (fun r10 t11 => ?_)
      · obtain rfl := List.mem_singleton.mp hci16
        exact ⟨_, _, _, yJ2_get, _, _, _, 2, 43, rfl, kJ2_get hex h, Or.inl (cwV 1 X.2.2.2.2.1 (lw_V q351 q352 q353 q74 q354) rfl rfl rfl dmV_J2_get ⟨Nat.le_of_ble_eq_true rfl, Nat.le_of_ble_eq_true rfl⟩)⟩
      refine cg_cast (pc := 124) X (cs := [20]) q359 cf_LameClocks_Bet_1 dX0_pays_124 ?_
      refine g_astore (pc := 127) X (lv' := [(5, .ref r10), (0, .ref h0), (1, .int x1), (2, .int x2), (3, .int x3), (4, .int x4)]) dX0_pays_127 (by decide) rfl ?_
      refine g_iload_n (pc := 129) X 4 dX0_pays_129 rfl rfl ?_
      refine g_aload (pc := 130) X 0 dX0_pays_130 rfl ?_
      refine cg_getI (pc := 132) X fo_X0_292 dX0_pays_132 (fun v17 => ?_)
      refine g_imul (pc := 135) X dX0_pays_135 ?_
      refine g_iload (pc := 136) X 5 dX0_pays_136 rfl ?_
      refine g_by (pc := 138) (fun hn18 => ?_) (fun hn18 => ?_)
      · exact cx_idiv (pc := 138) X hl hn18 dX0_pays_138 (Nat.le_of_ble_eq_true rfl) (Nat.le_of_ble_eq_true rfl) (x_catch X ht (g_u_self _ _ _) rfl 157 (x_ev.take rfl (by decide) q971 q1036) (g_lv (pc := 157) (lv' := [(5, .ref r10)]) [0] rfl (wX0_pays_157 hex hl X hr ht r10 (z + t11.2.1 + 2) (xNew z 2 26 t11))))
      refine g_idiv (pc := 138) X dX0_pays_138 hn18 ?_
      refine g_lti (pc := 139) (fun y19 => ?_)
      refine g_istore (pc := 139) X (lv' := [(6, .int y19), (5, .ref r10), (0, .ref h0), (1, .int x1), (2, .int x2), (3, .int x3), (4, .int x4)]) dX0_pays_139 (by decide) rfl ?_
      refine g_aload (pc := 141) X 1 dX0_pays_141 rfl ?_
      refine g_iload_n (pc := 143) X 4 dX0_pays_143 rfl rfl ?_
      refine g_bD_i (pc := 144) X (cs := [20]) (As := [.int x2]) (rest := []) (b := r10) (n := 1) dX0_pays_144 rfl rfl (Nat.le_of_ble_eq_true rfl) (fun fl22 ci23 fs24 hs25 hci26 r u h => ?_) (fun r20 t21 => ?_)
      · obtain rfl := List.mem_singleton.mp hci26
        exact ⟨_, _, _, yX20_isIn, _, _, _, 0, 0, rfl, kX20_isIn hex h, Or.inl (cwV 1 X.2.2.2.2.1 (lw_V q1059 q1060 q1061 q105 q1062) rfl rfl rfl dmV_X20_isIn ⟨Nat.le_of_ble_eq_true rfl, Nat.le_of_ble_eq_true rfl⟩)⟩
      refine g_if_eq (pc := 147) X 155 dX0_pays_147 (by decide) ?_ ?_
      · refine g_iconst (pc := 155) X 0 dX0_pays_155 rfl ?_
        exact g_iret (pc := 156) X hr dX0_pays_156
      · refine g_iload (pc := 150) X 0 dX0_pays_150 rfl ?_
        refine g_goto (pc := 152) X 156 dX0_pays_152 (by decide) ?_
        exact g_iret (pc := 156) X hr dX0_pays_156
    · refine g_iload_n (pc := 49) X 3 dX0_pays_49 rfl rfl ?_
      refine g_aload_n (pc := 50) X 0 dX0_pays_50 rfl rfl ?_
      refine cg_getA (pc := 51) X fo_X0_89 dX0_pays_51 (fun v27 => ?_)
      refine g_iload (pc := 54) X 5 dX0_pays_54 rfl ?_
      refine g_bD_a (pc := 56) X (cs := [15]) (As := [.int x5]) (rest := [.int x3]) (b := v27) (n := 1) dX0_pays_56 rfl rfl (Nat.le_of_ble_eq_true rfl) (fun fl30 ci31 fs32 hs33 hci34 r u h => ?_) (fun r28 t29 => ?_)
      · obtain rfl := List.mem_singleton.mp hci34
        exact ⟨_, _, _, yJ2_get, _, _, _, 2, 43, rfl, kJ2_get hex h, Or.inl (cwV 1 X.2.2.2.2.1 (lw_V q351 q352 q353 q74 q354) rfl rfl rfl dmV_J2_get ⟨Nat.le_of_ble_eq_true rfl, Nat.le_of_ble_eq_true rfl⟩)⟩
      refine cg_cast (pc := 59) X (cs := [20]) q359 cf_LameClocks_Bet_1 dX0_pays_59 ?_
      refine cg_getI (pc := 62) X fo_X0_292 dX0_pays_62 (fun v35 => ?_)
      refine g_iadd (pc := 65) X dX0_pays_65 ?_
      refine g_lti (pc := 66) (fun y36 => ?_)
      refine g_istore_n (pc := 66) X (lv' := [(3, .int y36), (0, .ref h0), (1, .int x1), (2, .int x2), (4, .int x4), (5, .int x5)]) dX0_pays_66 rfl (by decide) rfl ?_
      refine g_iload (pc := 67) X 4 dX0_pays_67 rfl ?_
      refine g_aload_n (pc := 69) X 1 dX0_pays_69 rfl rfl ?_
      refine cg_getA (pc := 70) X fo_X0_89 dX0_pays_70 (fun v37 => ?_)
      refine g_iload (pc := 73) X 5 dX0_pays_73 rfl ?_
      refine g_bD_a (pc := 75) X (cs := [15]) (As := [.int x5]) (rest := [.int x4]) (b := v37) (n := 1) dX0_pays_75 rfl rfl (Nat.le_of_ble_eq_true rfl) (fun fl40 ci41 fs42 hs43 hci44 r u h => ?_) (fun r38 t39 => ?_)
      · obtain rfl := List.mem_singleton.mp hci44
        exact ⟨_, _, _, yJ2_get, _, _, _, 2, 43, rfl, kJ2_get hex h, Or.inl (cwV 1 X.2.2.2.2.1 (lw_V q351 q352 q353 q74 q354) rfl rfl rfl dmV_J2_get ⟨Nat.le_of_ble_eq_true rfl, Nat.le_of_ble_eq_true rfl⟩)⟩
      refine cg_cast (pc := 78) X (cs := [20]) q359 cf_LameClocks_Bet_1 dX0_pays_78 ?_
      refine g_iload_n (pc := 81) X 3 dX0_pays_81 rfl rfl ?_
      refine g_bD_i (pc := 82) X (cs := [20]) (As := [.int x2]) (rest := [.int x4]) (b := r38) (n := 1) dX0_pays_82 rfl rfl (Nat.le_of_ble_eq_true rfl) (fun fl47 ci48 fs49 hs50 hci51 r u h => ?_) (fun r45 t46 => ?_)
      · obtain rfl := List.mem_singleton.mp hci51
        exact ⟨_, _, _, yX20_isIn, _, _, _, 0, 0, rfl, kX20_isIn hex h, Or.inl (cwV 1 X.2.2.2.2.1 (lw_V q1059 q1060 q1061 q105 q1062) rfl rfl rfl dmV_X20_isIn ⟨Nat.le_of_ble_eq_true rfl, Nat.le_of_ble_eq_true rfl⟩)⟩
      refine g_if_eq (pc := 85) X 106 dX0_pays_85 (by decide) ?_ ?_
      · refine g_iconst (pc := 106) X 0 dX0_pays_106 rfl ?_
        exact g_lv (pc := 107) (lv' := [(0, .ref h0), (1, .int x1), (2, .int x2), (3, .int y36), (5, .int x5)]) [1, 2, 3, 0, 5] rfl (wX0_pays_107 hex hl X hr ht (fun a0 a1 a2 a3 a4 a5 a6 => ih a0 a1 a2 a3 a4 a5 a6) h0 x1 x2 y36 x5 0 x4 t46)
      · refine g_aload_n (pc := 88) X 1 dX0_pays_88 rfl rfl ?_
        refine cg_getA (pc := 89) X fo_X0_89 dX0_pays_89 (fun v52 => ?_)
        refine g_iload (pc := 92) X 5 dX0_pays_92 rfl ?_
        refine g_bD_a (pc := 94) X (cs := [15]) (As := [.int x5]) (rest := [.int x4]) (b := v52) (n := 1) dX0_pays_94 rfl rfl (Nat.le_of_ble_eq_true rfl) (fun fl55 ci56 fs57 hs58 hci59 r u h => ?_) (fun r53 t54 => ?_)
        · obtain rfl := List.mem_singleton.mp hci59
          exact ⟨_, _, _, yJ2_get, _, _, _, 2, 43, rfl, kJ2_get hex h, Or.inl (cwV 1 X.2.2.2.2.1 (lw_V q351 q352 q353 q74 q354) rfl rfl rfl dmV_J2_get ⟨Nat.le_of_ble_eq_true rfl, Nat.le_of_ble_eq_true rfl⟩)⟩
        refine cg_cast (pc := 97) X (cs := [20]) q359 cf_LameClocks_Bet_1 dX0_pays_97 ?_
        refine cg_getI (pc := 100) X fo_X0_292 dX0_pays_100 (fun v60 => ?_)
        refine g_goto (pc := 103) X 107 dX0_pays_103 (by decide) ?_
        exact g_lv (pc := 107) (lv' := [(0, .ref h0), (1, .int x1), (2, .int x2), (3, .int y36), (5, .int x5)]) [1, 2, 3, 0, 5] rfl (wX0_pays_107 hex hl X hr ht (fun a0 a1 a2 a3 a4 a5 a6 => ih a0 a1 a2 a3 a4 a5 a6) h0 x1 x2 y36 x5 v60 x4 t54)
noncomputable def fX0_pays (ex : Nat → Option Nat) (z : Nat) (h0 : Nat) (x1 : Int32) (x2 : Int32) (t : St) : Option (Int32 × St) := cgA [0] 4 t h0 fun v1 => ccast [15] t v1 (gb (fJ2_size ex (z + t.2.1) v1 (t.1, 0, 0)) t fun r2 t3 => gb (fX0_in ex (z + t3.2.1) x1.toInt64 0 ((r2 - 1).toInt64) (t3.1, 0, 0)) t3 fun r9 t10 => if r9 = 0 then some ((-1), t10) else ccast [0] t10 h0 (gb (fX0_areClocks ex (z + t10.2.1) h0 x2 (t10.1, 0, 0)) t10 fun r11 t12 => if r11 = 0 then some ((-1), t12) else fX0_pays_37 ex z 1000 h0 x1 x2 0 0 0 t12))
set_option maxHeartbeats 4000000 in
theorem wX0_pays {rF : Int32} (hex : ex = Γ.2.2.2.2) (hl : l.stackTraces = false) (X : g_X Γ p s m args meth c cX0_pays 7 RX0) (hr : meth.sig.returnType = (some .int)) (ht : g_T meth [(129, 156, 157, 298)]) (h0 : Nat) (x1 : Int32) (x2 : Int32) (t : St) : Wf Γ p l e 9 10260 s m args below meth c 7 (g_ι z) v_i rF tF 0 [(0, .ref h0), (1, .int x1), (2, .int x2)] [] t (fX0_pays ex z h0 x1 x2 t) := by
  unfold fX0_pays
  refine g_iload_n (pc := 0) X 1 dX0_pays_0 rfl rfl ?_
  refine g_i2l (pc := 1) X dX0_pays_1 ?_
  refine g_lconst (pc := 2) X 0 dX0_pays_2 rfl ?_
  refine g_aload_n (pc := 3) X 0 dX0_pays_3 rfl rfl ?_
  refine cg_getA (pc := 4) X fo_X0_89 dX0_pays_4 (fun v1 => ?_)
  refine g_bD_i (pc := 7) X (cs := [15]) (As := []) (rest := [.long 0, .long x1.toInt64]) (b := v1) (n := 0) dX0_pays_7 rfl rfl (Nat.le_of_ble_eq_true rfl) (fun fl4 ci5 fs6 hs7 hci8 r u h => ?_) (fun r2 t3 => ?_)
  · obtain rfl := List.mem_singleton.mp hci8
    exact ⟨_, _, _, yJ2_size, _, _, _, 0, 0, rfl, kJ2_size hex h, Or.inl (cwV 0 X.2.2.2.2.1 (lw_V q350 q134 q135 q74 q136) rfl rfl rfl dmV_J2_size ⟨Nat.le_of_ble_eq_true rfl, Nat.le_of_ble_eq_true rfl⟩)⟩
  refine g_iconst (pc := 10) X 1 dX0_pays_10 rfl ?_
  refine g_isub (pc := 11) X dX0_pays_11 ?_
  refine g_i2l (pc := 12) X dX0_pays_12 ?_
  refine g_bS_i (pc := 13) X (y := yX0_in) (As := [.long x1.toInt64, .long 0, .long ((r2 - 1).toInt64)]) (rest := []) (fr' := 0) (lo' := 0) (fun _ => va_cwS 3 X.2.2.2.2.1 (lw_S q122 q123 q70 q124) rfl rfl rfl dmS_X0_in ⟨Nat.le_of_ble_eq_true rfl, Nat.le_of_ble_eq_true rfl⟩) dX0_pays_13 rfl rfl (Nat.le_of_ble_eq_true rfl) (fun r u h => kX0_in hex h) (fun r9 t10 => ?_)
  refine g_if_eq (pc := 16) X 27 dX0_pays_16 (by decide) ?_ ?_
  · refine g_iconst (pc := 27) X (-1) dX0_pays_27 rfl ?_
    exact g_iret (pc := 28) X hr dX0_pays_28
  · refine g_aload_n (pc := 19) X 0 dX0_pays_19 rfl rfl ?_
    refine g_iload_n (pc := 20) X 2 dX0_pays_20 rfl rfl ?_
    refine g_bD_i (pc := 21) X (cs := [0]) (As := [.int x2]) (rest := []) (b := h0) (n := 1) dX0_pays_21 rfl rfl (Nat.le_of_ble_eq_true rfl) (fun fl13 ci14 fs15 hs16 hci17 r u h => ?_) (fun r11 t12 => ?_)
    · obtain rfl := List.mem_singleton.mp hci17
      exact ⟨_, _, _, yX0_areClocks, _, _, _, 2, 40, rfl, kX0_areClocks hex h, Or.inl (cwV 1 X.2.2.2.2.1 (lw_V q933 q935 qs13 q70 q936) rfl rfl rfl dmV_X0_areClocks ⟨Nat.le_of_ble_eq_true rfl, Nat.le_of_ble_eq_true rfl⟩)⟩
    refine g_if_ne (pc := 24) X 29 dX0_pays_24 (by decide) ?_ ?_
    · refine g_iconst (pc := 29) X 0 dX0_pays_29 rfl ?_
      refine g_istore_n (pc := 30) X (lv' := [(3, .int 0), (0, .ref h0), (1, .int x1), (2, .int x2)]) dX0_pays_30 rfl (by decide) rfl ?_
      refine g_iconst (pc := 31) X 0 dX0_pays_31 rfl ?_
      refine g_istore (pc := 32) X (lv' := [(4, .int 0), (3, .int 0), (0, .ref h0), (1, .int x1), (2, .int x2)]) dX0_pays_32 (by decide) rfl ?_
      refine g_iconst (pc := 34) X 0 dX0_pays_34 rfl ?_
      refine g_istore (pc := 35) X (lv' := [(5, .int 0), (4, .int 0), (3, .int 0), (0, .ref h0), (1, .int x1), (2, .int x2)]) dX0_pays_35 (by decide) rfl ?_
      exact g_lv (pc := 37) (lv' := [(0, .ref h0), (1, .int x1), (2, .int x2), (3, .int 0), (4, .int 0), (5, .int 0)]) [3, 4, 5, 2, 1, 0] rfl (wX0_pays_37 hex hl X hr ht 1000 h0 x1 x2 0 0 0 t12)
    · refine g_iconst (pc := 27) X (-1) dX0_pays_27 rfl ?_
      exact g_iret (pc := 28) X hr dX0_pays_28
theorem kX0_pays {ex : Nat → Option Nat} {z : Nat} {h0 : Nat} {x1 : Int32} {x2 : Int32} {σ : Sg} {r : Int32} {u : St} (hex : ex = Γ.2.2.2.2) (hl : l.stackTraces = false) (h : fX0_pays ex z h0 x1 x2 (σ, 0, 0) = some (r, u)) : g_CT Γ l yX0_pays cX0_pays 7 (some .int) [(129, 156, 157, 298)] 9 10260 [.ref h0, .int x1, .int x2] σ z v_i r (g_ι z u) := by
  exact g_metT (ι := g_ι z) (t := (σ, 0, 0)) [.ref h0, .int x1, .int x2] (Nat.le_of_ble_eq_true rfl) h rfl (fun p e s m args below meth c X hr hn ht => wX0_pays hex hl X hr ht h0 x1 x2 (σ, 0, 0))
end CP
