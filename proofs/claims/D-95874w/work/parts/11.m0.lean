/-! the reference, its methods: add, in, clock, strike, isClock, truth, shownBy, strikes, told, rate, isWindow, dial, paint, weather, type, allBack, nextLetter, end, dialOf, skyOf, readSigns, course, skies (printed by gen/model.py) -/
set_option maxRecDepth 100000
abbrev cX3_add : ByteArray := prog_24_method_7_code
def yX3_add : MethodName := ⟨RX3, "add", "(IIII)V"⟩
def dkwX3_add_3 : List UInt8 := [16, 252, 79, 42, 89, 180, 0, 72, 4, 96, 181, 0, 72, 177]
abbrev dktX3_add_3 : List UInt8 := dkwX3_add_3 ++ []
def dkwX3_add_2 : List UInt8 := [180, 0, 7, 16, 42, 42, 180, 0, 72, 96, 3, 79, 42, 180, 0, 7, 16, 51, 42, 180, 0, 72, 96]
abbrev dktX3_add_2 : List UInt8 := dkwX3_add_2 ++ dktX3_add_3
def dkwX3_add_1 : List UInt8 := [16, 24, 42, 180, 0, 72, 96, 28, 79, 42, 180, 0, 7, 16, 33, 42, 180, 0, 72, 96, 21, 4, 79, 42]
abbrev dktX3_add_1 : List UInt8 := dkwX3_add_1 ++ dktX3_add_2
def dkwX3_add_0 : List UInt8 := [42, 180, 0, 13, 42, 180, 0, 72, 27, 79, 42, 180, 0, 16, 42, 180, 0, 72, 29, 79, 42, 180, 0, 7]
abbrev dktX3_add_0 : List UInt8 := dkwX3_add_0 ++ dktX3_add_1
theorem dksX3_add_0 : cX3_add.data.toList.drop 0 = dktX3_add_0 := by decide +kernel
theorem dksX3_add_1 : cX3_add.data.toList.drop 24 = dktX3_add_1 := dk_seg dksX3_add_0 24 rfl rfl
theorem dksX3_add_2 : cX3_add.data.toList.drop 48 = dktX3_add_2 := dk_seg dksX3_add_1 24 rfl rfl
theorem dksX3_add_3 : cX3_add.data.toList.drop 71 = dktX3_add_3 := dk_seg dksX3_add_2 23 rfl rfl
theorem dX3_add_0 : decode cX3_add 0 = .ok (.aload_n 0, 1) := dk_42 (dk_at dksX3_add_0 0 rfl rfl)
theorem dX3_add_1 : decode cX3_add 1 = .ok (.getfield 13, 3) := dk_180 0 13 (dk_at dksX3_add_0 1 rfl rfl)
theorem dX3_add_4 : decode cX3_add 4 = .ok (.aload_n 0, 1) := dk_42 (dk_at dksX3_add_0 4 rfl rfl)
theorem dX3_add_5 : decode cX3_add 5 = .ok (.getfield 72, 3) := dk_180 0 72 (dk_at dksX3_add_0 5 rfl rfl)
theorem dX3_add_8 : decode cX3_add 8 = .ok (.iload_n 1, 1) := dk_27 (dk_at dksX3_add_0 8 rfl rfl)
theorem dX3_add_9 : decode cX3_add 9 = .ok (.iastore, 1) := dk_79 (dk_at dksX3_add_0 9 rfl rfl)
theorem dX3_add_10 : decode cX3_add 10 = .ok (.aload_n 0, 1) := dk_42 (dk_at dksX3_add_0 10 rfl rfl)
theorem dX3_add_11 : decode cX3_add 11 = .ok (.getfield 16, 3) := dk_180 0 16 (dk_at dksX3_add_0 11 rfl rfl)
theorem dX3_add_14 : decode cX3_add 14 = .ok (.aload_n 0, 1) := dk_42 (dk_at dksX3_add_0 14 rfl rfl)
theorem dX3_add_15 : decode cX3_add 15 = .ok (.getfield 72, 3) := dk_180 0 72 (dk_at dksX3_add_0 15 rfl rfl)
theorem dX3_add_18 : decode cX3_add 18 = .ok (.iload_n 3, 1) := dk_29 (dk_at dksX3_add_0 18 rfl rfl)
theorem dX3_add_19 : decode cX3_add 19 = .ok (.iastore, 1) := dk_79 (dk_at dksX3_add_0 19 rfl rfl)
theorem dX3_add_20 : decode cX3_add 20 = .ok (.aload_n 0, 1) := dk_42 (dk_at dksX3_add_0 20 rfl rfl)
theorem dX3_add_21 : decode cX3_add 21 = .ok (.getfield 7, 3) := dk_180 0 7 (dk_at dksX3_add_0 21 rfl rfl)
theorem dX3_add_24 : decode cX3_add 24 = .ok (.bipush 24, 2) := dk_16 24 (dk_at dksX3_add_1 0 rfl rfl)
theorem dX3_add_26 : decode cX3_add 26 = .ok (.aload_n 0, 1) := dk_42 (dk_at dksX3_add_1 2 rfl rfl)
theorem dX3_add_27 : decode cX3_add 27 = .ok (.getfield 72, 3) := dk_180 0 72 (dk_at dksX3_add_1 3 rfl rfl)
theorem dX3_add_30 : decode cX3_add 30 = .ok (.iadd, 1) := dk_96 (dk_at dksX3_add_1 6 rfl rfl)
theorem dX3_add_31 : decode cX3_add 31 = .ok (.iload_n 2, 1) := dk_28 (dk_at dksX3_add_1 7 rfl rfl)
theorem dX3_add_32 : decode cX3_add 32 = .ok (.iastore, 1) := dk_79 (dk_at dksX3_add_1 8 rfl rfl)
theorem dX3_add_33 : decode cX3_add 33 = .ok (.aload_n 0, 1) := dk_42 (dk_at dksX3_add_1 9 rfl rfl)
theorem dX3_add_34 : decode cX3_add 34 = .ok (.getfield 7, 3) := dk_180 0 7 (dk_at dksX3_add_1 10 rfl rfl)
theorem dX3_add_37 : decode cX3_add 37 = .ok (.bipush 33, 2) := dk_16 33 (dk_at dksX3_add_1 13 rfl rfl)
theorem dX3_add_39 : decode cX3_add 39 = .ok (.aload_n 0, 1) := dk_42 (dk_at dksX3_add_1 15 rfl rfl)
theorem dX3_add_40 : decode cX3_add 40 = .ok (.getfield 72, 3) := dk_180 0 72 (dk_at dksX3_add_1 16 rfl rfl)
theorem dX3_add_43 : decode cX3_add 43 = .ok (.iadd, 1) := dk_96 (dk_at dksX3_add_1 19 rfl rfl)
theorem dX3_add_44 : decode cX3_add 44 = .ok (.iload 4, 2) := dk_21 4 (dk_at dksX3_add_1 20 rfl rfl)
theorem dX3_add_46 : decode cX3_add 46 = .ok (.iastore, 1) := dk_79 (dk_at dksX3_add_1 22 rfl rfl)
theorem dX3_add_47 : decode cX3_add 47 = .ok (.aload_n 0, 1) := dk_42 (dk_at dksX3_add_1 23 rfl rfl)
theorem dX3_add_48 : decode cX3_add 48 = .ok (.getfield 7, 3) := dk_180 0 7 (dk_at dksX3_add_2 0 rfl rfl)
theorem dX3_add_51 : decode cX3_add 51 = .ok (.bipush 42, 2) := dk_16 42 (dk_at dksX3_add_2 3 rfl rfl)
theorem dX3_add_53 : decode cX3_add 53 = .ok (.aload_n 0, 1) := dk_42 (dk_at dksX3_add_2 5 rfl rfl)
theorem dX3_add_54 : decode cX3_add 54 = .ok (.getfield 72, 3) := dk_180 0 72 (dk_at dksX3_add_2 6 rfl rfl)
theorem dX3_add_57 : decode cX3_add 57 = .ok (.iadd, 1) := dk_96 (dk_at dksX3_add_2 9 rfl rfl)
theorem dX3_add_58 : decode cX3_add 58 = .ok (.iconst 0, 1) := dk_3 (dk_at dksX3_add_2 10 rfl rfl)
theorem dX3_add_59 : decode cX3_add 59 = .ok (.iastore, 1) := dk_79 (dk_at dksX3_add_2 11 rfl rfl)
theorem dX3_add_60 : decode cX3_add 60 = .ok (.aload_n 0, 1) := dk_42 (dk_at dksX3_add_2 12 rfl rfl)
theorem dX3_add_61 : decode cX3_add 61 = .ok (.getfield 7, 3) := dk_180 0 7 (dk_at dksX3_add_2 13 rfl rfl)
theorem dX3_add_64 : decode cX3_add 64 = .ok (.bipush 51, 2) := dk_16 51 (dk_at dksX3_add_2 16 rfl rfl)
theorem dX3_add_66 : decode cX3_add 66 = .ok (.aload_n 0, 1) := dk_42 (dk_at dksX3_add_2 18 rfl rfl)
theorem dX3_add_67 : decode cX3_add 67 = .ok (.getfield 72, 3) := dk_180 0 72 (dk_at dksX3_add_2 19 rfl rfl)
theorem dX3_add_70 : decode cX3_add 70 = .ok (.iadd, 1) := dk_96 (dk_at dksX3_add_2 22 rfl rfl)
theorem dX3_add_71 : decode cX3_add 71 = .ok (.bipush (-4), 2) := dk_16 252 (dk_at dksX3_add_3 0 rfl rfl)
theorem dX3_add_73 : decode cX3_add 73 = .ok (.iastore, 1) := dk_79 (dk_at dksX3_add_3 2 rfl rfl)
theorem dX3_add_74 : decode cX3_add 74 = .ok (.aload_n 0, 1) := dk_42 (dk_at dksX3_add_3 3 rfl rfl)
theorem dX3_add_75 : decode cX3_add 75 = .ok (.dup, 1) := dk_89 (dk_at dksX3_add_3 4 rfl rfl)
theorem dX3_add_76 : decode cX3_add 76 = .ok (.getfield 72, 3) := dk_180 0 72 (dk_at dksX3_add_3 5 rfl rfl)
theorem dX3_add_79 : decode cX3_add 79 = .ok (.iconst 1, 1) := dk_4 (dk_at dksX3_add_3 8 rfl rfl)
theorem dX3_add_80 : decode cX3_add 80 = .ok (.iadd, 1) := dk_96 (dk_at dksX3_add_3 9 rfl rfl)
theorem dX3_add_81 : decode cX3_add 81 = .ok (.putfield 72, 3) := dk_181 0 72 (dk_at dksX3_add_3 10 rfl rfl)
theorem dX3_add_84 : decode cX3_add 84 = .ok (.return_, 1) := dk_177 (dk_at dksX3_add_3 13 rfl rfl)
abbrev cX3_in : ByteArray := prog_24_method_2_code
def yX3_in : MethodName := ⟨RX3, "in", "(JJJ)Z"⟩
def dkwX3_in_0 : List UInt8 := [30, 32, 148, 155, 0, 14, 30, 22, 4, 148, 157, 0, 7, 4, 167, 0, 4, 3, 172]
abbrev dktX3_in_0 : List UInt8 := dkwX3_in_0 ++ []
theorem dksX3_in_0 : cX3_in.data.toList.drop 0 = dktX3_in_0 := by decide +kernel
theorem dX3_in_0 : decode cX3_in 0 = .ok (.lload_n 0, 1) := dk_30 (dk_at dksX3_in_0 0 rfl rfl)
theorem dX3_in_1 : decode cX3_in 1 = .ok (.lload_n 2, 1) := dk_32 (dk_at dksX3_in_0 1 rfl rfl)
theorem dX3_in_2 : decode cX3_in 2 = .ok (.lcmp, 1) := dk_148 (dk_at dksX3_in_0 2 rfl rfl)
theorem dX3_in_3 : decode cX3_in 3 = .ok (.ifCond .lt 14, 3) := dk_155 0 14 (dk_at dksX3_in_0 3 rfl rfl)
theorem dX3_in_6 : decode cX3_in 6 = .ok (.lload_n 0, 1) := dk_30 (dk_at dksX3_in_0 6 rfl rfl)
theorem dX3_in_7 : decode cX3_in 7 = .ok (.lload 4, 2) := dk_22 4 (dk_at dksX3_in_0 7 rfl rfl)
theorem dX3_in_9 : decode cX3_in 9 = .ok (.lcmp, 1) := dk_148 (dk_at dksX3_in_0 9 rfl rfl)
theorem dX3_in_10 : decode cX3_in 10 = .ok (.ifCond .gt 7, 3) := dk_157 0 7 (dk_at dksX3_in_0 10 rfl rfl)
theorem dX3_in_13 : decode cX3_in 13 = .ok (.iconst 1, 1) := dk_4 (dk_at dksX3_in_0 13 rfl rfl)
theorem dX3_in_14 : decode cX3_in 14 = .ok (.goto 4, 3) := dk_167 0 4 (dk_at dksX3_in_0 14 rfl rfl)
theorem dX3_in_17 : decode cX3_in 17 = .ok (.iconst 0, 1) := dk_3 (dk_at dksX3_in_0 17 rfl rfl)
theorem dX3_in_18 : decode cX3_in 18 = .ok (.ireturn, 1) := dk_172 (dk_at dksX3_in_0 18 rfl rfl)
abbrev cX3_clock : ByteArray := prog_24_method_8_code
def yX3_clock : MethodName := ⟨RX3, "clock", "(IIII)I"⟩
def dkwX3_clock_3 : List UInt8 := [182, 0, 89, 42, 180, 0, 72, 4, 100, 172]
abbrev dktX3_clock_3 : List UInt8 := dkwX3_clock_3 ++ []
def dkwX3_clock_2 : List UInt8 := [154, 0, 5, 2, 172, 42, 180, 0, 72, 16, 9, 160, 0, 6, 16, 253, 172, 42, 27, 28, 29, 21, 4]
abbrev dktX3_clock_2 : List UInt8 := dkwX3_clock_2 ++ dktX3_clock_3
def dkwX3_clock_1 : List UInt8 := [29, 133, 20, 0, 83, 20, 0, 85, 184, 0, 75, 153, 0, 16, 21, 4, 133, 9, 20, 0, 87, 184, 0, 75]
abbrev dktX3_clock_1 : List UInt8 := dkwX3_clock_1 ++ dktX3_clock_2
def dkwX3_clock_0 : List UInt8 := [27, 133, 9, 20, 0, 79, 184, 0, 75, 153, 0, 42, 28, 133, 9, 20, 0, 81, 184, 0, 75, 153, 0, 30]
abbrev dktX3_clock_0 : List UInt8 := dkwX3_clock_0 ++ dktX3_clock_1
theorem dksX3_clock_0 : cX3_clock.data.toList.drop 0 = dktX3_clock_0 := by decide +kernel
theorem dksX3_clock_1 : cX3_clock.data.toList.drop 24 = dktX3_clock_1 := dk_seg dksX3_clock_0 24 rfl rfl
theorem dksX3_clock_2 : cX3_clock.data.toList.drop 48 = dktX3_clock_2 := dk_seg dksX3_clock_1 24 rfl rfl
theorem dksX3_clock_3 : cX3_clock.data.toList.drop 71 = dktX3_clock_3 := dk_seg dksX3_clock_2 23 rfl rfl
theorem dX3_clock_0 : decode cX3_clock 0 = .ok (.iload_n 1, 1) := dk_27 (dk_at dksX3_clock_0 0 rfl rfl)
theorem dX3_clock_1 : decode cX3_clock 1 = .ok (.i2l, 1) := dk_133 (dk_at dksX3_clock_0 1 rfl rfl)
theorem dX3_clock_2 : decode cX3_clock 2 = .ok (.lconst 0, 1) := dk_9 (dk_at dksX3_clock_0 2 rfl rfl)
theorem dX3_clock_3 : decode cX3_clock 3 = .ok (.ldc2_w 79, 3) := dk_20 0 79 (dk_at dksX3_clock_0 3 rfl rfl)
theorem dX3_clock_6 : decode cX3_clock 6 = .ok (.invokestatic 75, 3) := dk_184 0 75 (dk_at dksX3_clock_0 6 rfl rfl)
theorem dX3_clock_9 : decode cX3_clock 9 = .ok (.ifCond .eq 42, 3) := dk_153 0 42 (dk_at dksX3_clock_0 9 rfl rfl)
theorem dX3_clock_12 : decode cX3_clock 12 = .ok (.iload_n 2, 1) := dk_28 (dk_at dksX3_clock_0 12 rfl rfl)
theorem dX3_clock_13 : decode cX3_clock 13 = .ok (.i2l, 1) := dk_133 (dk_at dksX3_clock_0 13 rfl rfl)
theorem dX3_clock_14 : decode cX3_clock 14 = .ok (.lconst 0, 1) := dk_9 (dk_at dksX3_clock_0 14 rfl rfl)
theorem dX3_clock_15 : decode cX3_clock 15 = .ok (.ldc2_w 81, 3) := dk_20 0 81 (dk_at dksX3_clock_0 15 rfl rfl)
theorem dX3_clock_18 : decode cX3_clock 18 = .ok (.invokestatic 75, 3) := dk_184 0 75 (dk_at dksX3_clock_0 18 rfl rfl)
theorem dX3_clock_21 : decode cX3_clock 21 = .ok (.ifCond .eq 30, 3) := dk_153 0 30 (dk_at dksX3_clock_0 21 rfl rfl)
theorem dX3_clock_24 : decode cX3_clock 24 = .ok (.iload_n 3, 1) := dk_29 (dk_at dksX3_clock_1 0 rfl rfl)
theorem dX3_clock_25 : decode cX3_clock 25 = .ok (.i2l, 1) := dk_133 (dk_at dksX3_clock_1 1 rfl rfl)
theorem dX3_clock_26 : decode cX3_clock 26 = .ok (.ldc2_w 83, 3) := dk_20 0 83 (dk_at dksX3_clock_1 2 rfl rfl)
theorem dX3_clock_29 : decode cX3_clock 29 = .ok (.ldc2_w 85, 3) := dk_20 0 85 (dk_at dksX3_clock_1 5 rfl rfl)
theorem dX3_clock_32 : decode cX3_clock 32 = .ok (.invokestatic 75, 3) := dk_184 0 75 (dk_at dksX3_clock_1 8 rfl rfl)
theorem dX3_clock_35 : decode cX3_clock 35 = .ok (.ifCond .eq 16, 3) := dk_153 0 16 (dk_at dksX3_clock_1 11 rfl rfl)
theorem dX3_clock_38 : decode cX3_clock 38 = .ok (.iload 4, 2) := dk_21 4 (dk_at dksX3_clock_1 14 rfl rfl)
theorem dX3_clock_40 : decode cX3_clock 40 = .ok (.i2l, 1) := dk_133 (dk_at dksX3_clock_1 16 rfl rfl)
theorem dX3_clock_41 : decode cX3_clock 41 = .ok (.lconst 0, 1) := dk_9 (dk_at dksX3_clock_1 17 rfl rfl)
theorem dX3_clock_42 : decode cX3_clock 42 = .ok (.ldc2_w 87, 3) := dk_20 0 87 (dk_at dksX3_clock_1 18 rfl rfl)
theorem dX3_clock_45 : decode cX3_clock 45 = .ok (.invokestatic 75, 3) := dk_184 0 75 (dk_at dksX3_clock_1 21 rfl rfl)
theorem dX3_clock_48 : decode cX3_clock 48 = .ok (.ifCond .ne 5, 3) := dk_154 0 5 (dk_at dksX3_clock_2 0 rfl rfl)
theorem dX3_clock_51 : decode cX3_clock 51 = .ok (.iconst (-1), 1) := dk_2 (dk_at dksX3_clock_2 3 rfl rfl)
theorem dX3_clock_52 : decode cX3_clock 52 = .ok (.ireturn, 1) := dk_172 (dk_at dksX3_clock_2 4 rfl rfl)
theorem dX3_clock_53 : decode cX3_clock 53 = .ok (.aload_n 0, 1) := dk_42 (dk_at dksX3_clock_2 5 rfl rfl)
theorem dX3_clock_54 : decode cX3_clock 54 = .ok (.getfield 72, 3) := dk_180 0 72 (dk_at dksX3_clock_2 6 rfl rfl)
theorem dX3_clock_57 : decode cX3_clock 57 = .ok (.bipush 9, 2) := dk_16 9 (dk_at dksX3_clock_2 9 rfl rfl)
theorem dX3_clock_59 : decode cX3_clock 59 = .ok (.if_icmp .ne 6, 3) := dk_160 0 6 (dk_at dksX3_clock_2 11 rfl rfl)
theorem dX3_clock_62 : decode cX3_clock 62 = .ok (.bipush (-3), 2) := dk_16 253 (dk_at dksX3_clock_2 14 rfl rfl)
theorem dX3_clock_64 : decode cX3_clock 64 = .ok (.ireturn, 1) := dk_172 (dk_at dksX3_clock_2 16 rfl rfl)
theorem dX3_clock_65 : decode cX3_clock 65 = .ok (.aload_n 0, 1) := dk_42 (dk_at dksX3_clock_2 17 rfl rfl)
theorem dX3_clock_66 : decode cX3_clock 66 = .ok (.iload_n 1, 1) := dk_27 (dk_at dksX3_clock_2 18 rfl rfl)
theorem dX3_clock_67 : decode cX3_clock 67 = .ok (.iload_n 2, 1) := dk_28 (dk_at dksX3_clock_2 19 rfl rfl)
theorem dX3_clock_68 : decode cX3_clock 68 = .ok (.iload_n 3, 1) := dk_29 (dk_at dksX3_clock_2 20 rfl rfl)
theorem dX3_clock_69 : decode cX3_clock 69 = .ok (.iload 4, 2) := dk_21 4 (dk_at dksX3_clock_2 21 rfl rfl)
theorem dX3_clock_71 : decode cX3_clock 71 = .ok (.invokevirtual 89, 3) := dk_182 0 89 (dk_at dksX3_clock_3 0 rfl rfl)
theorem dX3_clock_74 : decode cX3_clock 74 = .ok (.aload_n 0, 1) := dk_42 (dk_at dksX3_clock_3 3 rfl rfl)
theorem dX3_clock_75 : decode cX3_clock 75 = .ok (.getfield 72, 3) := dk_180 0 72 (dk_at dksX3_clock_3 4 rfl rfl)
theorem dX3_clock_78 : decode cX3_clock 78 = .ok (.iconst 1, 1) := dk_4 (dk_at dksX3_clock_3 7 rfl rfl)
theorem dX3_clock_79 : decode cX3_clock 79 = .ok (.isub, 1) := dk_100 (dk_at dksX3_clock_3 8 rfl rfl)
theorem dX3_clock_80 : decode cX3_clock 80 = .ok (.ireturn, 1) := dk_172 (dk_at dksX3_clock_3 9 rfl rfl)
abbrev cX3_strike : ByteArray := prog_24_method_9_code
def yX3_strike : MethodName := ⟨RX3, "strike", "()I"⟩
def dkwX3_strike_4 : List UInt8 := [180, 0, 72, 120, 2, 130, 126, 79, 42, 3, 181, 0, 96, 42, 180, 0, 72, 172]
abbrev dktX3_strike_4 : List UInt8 := dkwX3_strike_4 ++ []
def dkwX3_strike_3 : List UInt8 := [132, 1, 1, 132, 2, 1, 167, 255, 205, 42, 27, 181, 0, 93, 42, 180, 0, 7, 16, 61, 92, 46, 4, 42]
abbrev dktX3_strike_3 : List UInt8 := dkwX3_strike_3 ++ dktX3_strike_4
def dkwX3_strike_2 : List UInt8 := [180, 0, 32, 27, 42, 180, 0, 32, 28, 46, 79, 42, 180, 0, 35, 27, 42, 180, 0, 35, 28, 46, 79]
abbrev dktX3_strike_2 : List UInt8 := dkwX3_strike_2 ++ dktX3_strike_3
def dkwX3_strike_1 : List UInt8 := [28, 42, 180, 0, 93, 162, 0, 49, 42, 180, 0, 32, 28, 46, 42, 180, 0, 72, 159, 0, 30, 42]
abbrev dktX3_strike_1 : List UInt8 := dkwX3_strike_1 ++ dktX3_strike_2
def dkwX3_strike_0 : List UInt8 := [42, 180, 0, 72, 154, 0, 6, 16, 252, 172, 42, 89, 180, 0, 72, 4, 100, 181, 0, 72, 3, 60, 3, 61]
abbrev dktX3_strike_0 : List UInt8 := dkwX3_strike_0 ++ dktX3_strike_1
theorem dksX3_strike_0 : cX3_strike.data.toList.drop 0 = dktX3_strike_0 := by decide +kernel
theorem dksX3_strike_1 : cX3_strike.data.toList.drop 24 = dktX3_strike_1 := dk_seg dksX3_strike_0 24 rfl rfl
theorem dksX3_strike_2 : cX3_strike.data.toList.drop 46 = dktX3_strike_2 := dk_seg dksX3_strike_1 22 rfl rfl
theorem dksX3_strike_3 : cX3_strike.data.toList.drop 69 = dktX3_strike_3 := dk_seg dksX3_strike_2 23 rfl rfl
theorem dksX3_strike_4 : cX3_strike.data.toList.drop 93 = dktX3_strike_4 := dk_seg dksX3_strike_3 24 rfl rfl
theorem dX3_strike_0 : decode cX3_strike 0 = .ok (.aload_n 0, 1) := dk_42 (dk_at dksX3_strike_0 0 rfl rfl)
theorem dX3_strike_1 : decode cX3_strike 1 = .ok (.getfield 72, 3) := dk_180 0 72 (dk_at dksX3_strike_0 1 rfl rfl)
theorem dX3_strike_4 : decode cX3_strike 4 = .ok (.ifCond .ne 6, 3) := dk_154 0 6 (dk_at dksX3_strike_0 4 rfl rfl)
theorem dX3_strike_7 : decode cX3_strike 7 = .ok (.bipush (-4), 2) := dk_16 252 (dk_at dksX3_strike_0 7 rfl rfl)
theorem dX3_strike_9 : decode cX3_strike 9 = .ok (.ireturn, 1) := dk_172 (dk_at dksX3_strike_0 9 rfl rfl)
theorem dX3_strike_10 : decode cX3_strike 10 = .ok (.aload_n 0, 1) := dk_42 (dk_at dksX3_strike_0 10 rfl rfl)
theorem dX3_strike_11 : decode cX3_strike 11 = .ok (.dup, 1) := dk_89 (dk_at dksX3_strike_0 11 rfl rfl)
theorem dX3_strike_12 : decode cX3_strike 12 = .ok (.getfield 72, 3) := dk_180 0 72 (dk_at dksX3_strike_0 12 rfl rfl)
theorem dX3_strike_15 : decode cX3_strike 15 = .ok (.iconst 1, 1) := dk_4 (dk_at dksX3_strike_0 15 rfl rfl)
theorem dX3_strike_16 : decode cX3_strike 16 = .ok (.isub, 1) := dk_100 (dk_at dksX3_strike_0 16 rfl rfl)
theorem dX3_strike_17 : decode cX3_strike 17 = .ok (.putfield 72, 3) := dk_181 0 72 (dk_at dksX3_strike_0 17 rfl rfl)
theorem dX3_strike_20 : decode cX3_strike 20 = .ok (.iconst 0, 1) := dk_3 (dk_at dksX3_strike_0 20 rfl rfl)
theorem dX3_strike_21 : decode cX3_strike 21 = .ok (.istore_n 1, 1) := dk_60 (dk_at dksX3_strike_0 21 rfl rfl)
theorem dX3_strike_22 : decode cX3_strike 22 = .ok (.iconst 0, 1) := dk_3 (dk_at dksX3_strike_0 22 rfl rfl)
theorem dX3_strike_23 : decode cX3_strike 23 = .ok (.istore_n 2, 1) := dk_61 (dk_at dksX3_strike_0 23 rfl rfl)
theorem dX3_strike_24 : decode cX3_strike 24 = .ok (.iload_n 2, 1) := dk_28 (dk_at dksX3_strike_1 0 rfl rfl)
theorem dX3_strike_25 : decode cX3_strike 25 = .ok (.aload_n 0, 1) := dk_42 (dk_at dksX3_strike_1 1 rfl rfl)
theorem dX3_strike_26 : decode cX3_strike 26 = .ok (.getfield 93, 3) := dk_180 0 93 (dk_at dksX3_strike_1 2 rfl rfl)
theorem dX3_strike_29 : decode cX3_strike 29 = .ok (.if_icmp .ge 49, 3) := dk_162 0 49 (dk_at dksX3_strike_1 5 rfl rfl)
theorem dX3_strike_32 : decode cX3_strike 32 = .ok (.aload_n 0, 1) := dk_42 (dk_at dksX3_strike_1 8 rfl rfl)
theorem dX3_strike_33 : decode cX3_strike 33 = .ok (.getfield 32, 3) := dk_180 0 32 (dk_at dksX3_strike_1 9 rfl rfl)
theorem dX3_strike_36 : decode cX3_strike 36 = .ok (.iload_n 2, 1) := dk_28 (dk_at dksX3_strike_1 12 rfl rfl)
theorem dX3_strike_37 : decode cX3_strike 37 = .ok (.iaload, 1) := dk_46 (dk_at dksX3_strike_1 13 rfl rfl)
theorem dX3_strike_38 : decode cX3_strike 38 = .ok (.aload_n 0, 1) := dk_42 (dk_at dksX3_strike_1 14 rfl rfl)
theorem dX3_strike_39 : decode cX3_strike 39 = .ok (.getfield 72, 3) := dk_180 0 72 (dk_at dksX3_strike_1 15 rfl rfl)
theorem dX3_strike_42 : decode cX3_strike 42 = .ok (.if_icmp .eq 30, 3) := dk_159 0 30 (dk_at dksX3_strike_1 18 rfl rfl)
theorem dX3_strike_45 : decode cX3_strike 45 = .ok (.aload_n 0, 1) := dk_42 (dk_at dksX3_strike_1 21 rfl rfl)
theorem dX3_strike_46 : decode cX3_strike 46 = .ok (.getfield 32, 3) := dk_180 0 32 (dk_at dksX3_strike_2 0 rfl rfl)
theorem dX3_strike_49 : decode cX3_strike 49 = .ok (.iload_n 1, 1) := dk_27 (dk_at dksX3_strike_2 3 rfl rfl)
theorem dX3_strike_50 : decode cX3_strike 50 = .ok (.aload_n 0, 1) := dk_42 (dk_at dksX3_strike_2 4 rfl rfl)
theorem dX3_strike_51 : decode cX3_strike 51 = .ok (.getfield 32, 3) := dk_180 0 32 (dk_at dksX3_strike_2 5 rfl rfl)
theorem dX3_strike_54 : decode cX3_strike 54 = .ok (.iload_n 2, 1) := dk_28 (dk_at dksX3_strike_2 8 rfl rfl)
theorem dX3_strike_55 : decode cX3_strike 55 = .ok (.iaload, 1) := dk_46 (dk_at dksX3_strike_2 9 rfl rfl)
theorem dX3_strike_56 : decode cX3_strike 56 = .ok (.iastore, 1) := dk_79 (dk_at dksX3_strike_2 10 rfl rfl)
theorem dX3_strike_57 : decode cX3_strike 57 = .ok (.aload_n 0, 1) := dk_42 (dk_at dksX3_strike_2 11 rfl rfl)
theorem dX3_strike_58 : decode cX3_strike 58 = .ok (.getfield 35, 3) := dk_180 0 35 (dk_at dksX3_strike_2 12 rfl rfl)
theorem dX3_strike_61 : decode cX3_strike 61 = .ok (.iload_n 1, 1) := dk_27 (dk_at dksX3_strike_2 15 rfl rfl)
theorem dX3_strike_62 : decode cX3_strike 62 = .ok (.aload_n 0, 1) := dk_42 (dk_at dksX3_strike_2 16 rfl rfl)
theorem dX3_strike_63 : decode cX3_strike 63 = .ok (.getfield 35, 3) := dk_180 0 35 (dk_at dksX3_strike_2 17 rfl rfl)
theorem dX3_strike_66 : decode cX3_strike 66 = .ok (.iload_n 2, 1) := dk_28 (dk_at dksX3_strike_2 20 rfl rfl)
theorem dX3_strike_67 : decode cX3_strike 67 = .ok (.iaload, 1) := dk_46 (dk_at dksX3_strike_2 21 rfl rfl)
theorem dX3_strike_68 : decode cX3_strike 68 = .ok (.iastore, 1) := dk_79 (dk_at dksX3_strike_2 22 rfl rfl)
theorem dX3_strike_69 : decode cX3_strike 69 = .ok (.iinc 1 1, 3) := dk_132 1 1 (dk_at dksX3_strike_3 0 rfl rfl)
theorem dX3_strike_72 : decode cX3_strike 72 = .ok (.iinc 2 1, 3) := dk_132 2 1 (dk_at dksX3_strike_3 3 rfl rfl)
theorem dX3_strike_75 : decode cX3_strike 75 = .ok (.goto (-51), 3) := dk_167 255 205 (dk_at dksX3_strike_3 6 rfl rfl)
theorem dX3_strike_78 : decode cX3_strike 78 = .ok (.aload_n 0, 1) := dk_42 (dk_at dksX3_strike_3 9 rfl rfl)
theorem dX3_strike_79 : decode cX3_strike 79 = .ok (.iload_n 1, 1) := dk_27 (dk_at dksX3_strike_3 10 rfl rfl)
theorem dX3_strike_80 : decode cX3_strike 80 = .ok (.putfield 93, 3) := dk_181 0 93 (dk_at dksX3_strike_3 11 rfl rfl)
theorem dX3_strike_83 : decode cX3_strike 83 = .ok (.aload_n 0, 1) := dk_42 (dk_at dksX3_strike_3 14 rfl rfl)
theorem dX3_strike_84 : decode cX3_strike 84 = .ok (.getfield 7, 3) := dk_180 0 7 (dk_at dksX3_strike_3 15 rfl rfl)
theorem dX3_strike_87 : decode cX3_strike 87 = .ok (.bipush 61, 2) := dk_16 61 (dk_at dksX3_strike_3 18 rfl rfl)
theorem dX3_strike_89 : decode cX3_strike 89 = .ok (.dup2, 1) := dk_92 (dk_at dksX3_strike_3 20 rfl rfl)
theorem dX3_strike_90 : decode cX3_strike 90 = .ok (.iaload, 1) := dk_46 (dk_at dksX3_strike_3 21 rfl rfl)
theorem dX3_strike_91 : decode cX3_strike 91 = .ok (.iconst 1, 1) := dk_4 (dk_at dksX3_strike_3 22 rfl rfl)
theorem dX3_strike_92 : decode cX3_strike 92 = .ok (.aload_n 0, 1) := dk_42 (dk_at dksX3_strike_3 23 rfl rfl)
theorem dX3_strike_93 : decode cX3_strike 93 = .ok (.getfield 72, 3) := dk_180 0 72 (dk_at dksX3_strike_4 0 rfl rfl)
theorem dX3_strike_96 : decode cX3_strike 96 = .ok (.ishl, 1) := dk_120 (dk_at dksX3_strike_4 3 rfl rfl)
theorem dX3_strike_97 : decode cX3_strike 97 = .ok (.iconst (-1), 1) := dk_2 (dk_at dksX3_strike_4 4 rfl rfl)
theorem dX3_strike_98 : decode cX3_strike 98 = .ok (.ixor, 1) := dk_130 (dk_at dksX3_strike_4 5 rfl rfl)
theorem dX3_strike_99 : decode cX3_strike 99 = .ok (.iand, 1) := dk_126 (dk_at dksX3_strike_4 6 rfl rfl)
theorem dX3_strike_100 : decode cX3_strike 100 = .ok (.iastore, 1) := dk_79 (dk_at dksX3_strike_4 7 rfl rfl)
theorem dX3_strike_101 : decode cX3_strike 101 = .ok (.aload_n 0, 1) := dk_42 (dk_at dksX3_strike_4 8 rfl rfl)
theorem dX3_strike_102 : decode cX3_strike 102 = .ok (.iconst 0, 1) := dk_3 (dk_at dksX3_strike_4 9 rfl rfl)
theorem dX3_strike_103 : decode cX3_strike 103 = .ok (.putfield 96, 3) := dk_181 0 96 (dk_at dksX3_strike_4 10 rfl rfl)
theorem dX3_strike_106 : decode cX3_strike 106 = .ok (.aload_n 0, 1) := dk_42 (dk_at dksX3_strike_4 13 rfl rfl)
theorem dX3_strike_107 : decode cX3_strike 107 = .ok (.getfield 72, 3) := dk_180 0 72 (dk_at dksX3_strike_4 14 rfl rfl)
theorem dX3_strike_110 : decode cX3_strike 110 = .ok (.ireturn, 1) := dk_172 (dk_at dksX3_strike_4 17 rfl rfl)
abbrev cX3_isClock : ByteArray := prog_24_method_4_code
def yX3_isClock : MethodName := ⟨RX3, "isClock", "(I)Z"⟩
def dkwX3_isClock_0 : List UInt8 := [27, 133, 9, 42, 180, 0, 72, 4, 100, 133, 184, 0, 75, 172]
abbrev dktX3_isClock_0 : List UInt8 := dkwX3_isClock_0 ++ []
theorem dksX3_isClock_0 : cX3_isClock.data.toList.drop 0 = dktX3_isClock_0 := by decide +kernel
theorem dX3_isClock_0 : decode cX3_isClock 0 = .ok (.iload_n 1, 1) := dk_27 (dk_at dksX3_isClock_0 0 rfl rfl)
theorem dX3_isClock_1 : decode cX3_isClock 1 = .ok (.i2l, 1) := dk_133 (dk_at dksX3_isClock_0 1 rfl rfl)
theorem dX3_isClock_2 : decode cX3_isClock 2 = .ok (.lconst 0, 1) := dk_9 (dk_at dksX3_isClock_0 2 rfl rfl)
theorem dX3_isClock_3 : decode cX3_isClock 3 = .ok (.aload_n 0, 1) := dk_42 (dk_at dksX3_isClock_0 3 rfl rfl)
theorem dX3_isClock_4 : decode cX3_isClock 4 = .ok (.getfield 72, 3) := dk_180 0 72 (dk_at dksX3_isClock_0 4 rfl rfl)
theorem dX3_isClock_7 : decode cX3_isClock 7 = .ok (.iconst 1, 1) := dk_4 (dk_at dksX3_isClock_0 7 rfl rfl)
theorem dX3_isClock_8 : decode cX3_isClock 8 = .ok (.isub, 1) := dk_100 (dk_at dksX3_isClock_0 8 rfl rfl)
theorem dX3_isClock_9 : decode cX3_isClock 9 = .ok (.i2l, 1) := dk_133 (dk_at dksX3_isClock_0 9 rfl rfl)
theorem dX3_isClock_10 : decode cX3_isClock 10 = .ok (.invokestatic 75, 3) := dk_184 0 75 (dk_at dksX3_isClock_0 10 rfl rfl)
theorem dX3_isClock_13 : decode cX3_isClock 13 = .ok (.ireturn, 1) := dk_172 (dk_at dksX3_isClock_0 13 rfl rfl)
abbrev cX3_truth : ByteArray := prog_24_method_10_code
def yX3_truth : MethodName := ⟨RX3, "truth", "()I"⟩
def dkwX3_truth_0 : List UInt8 := [16, 60, 42, 180, 0, 7, 16, 60, 46, 104, 17, 2, 208, 112, 172]
abbrev dktX3_truth_0 : List UInt8 := dkwX3_truth_0 ++ []
theorem dksX3_truth_0 : cX3_truth.data.toList.drop 0 = dktX3_truth_0 := by decide +kernel
theorem dX3_truth_0 : decode cX3_truth 0 = .ok (.bipush 60, 2) := dk_16 60 (dk_at dksX3_truth_0 0 rfl rfl)
theorem dX3_truth_2 : decode cX3_truth 2 = .ok (.aload_n 0, 1) := dk_42 (dk_at dksX3_truth_0 2 rfl rfl)
theorem dX3_truth_3 : decode cX3_truth 3 = .ok (.getfield 7, 3) := dk_180 0 7 (dk_at dksX3_truth_0 3 rfl rfl)
theorem dX3_truth_6 : decode cX3_truth 6 = .ok (.bipush 60, 2) := dk_16 60 (dk_at dksX3_truth_0 6 rfl rfl)
theorem dX3_truth_8 : decode cX3_truth 8 = .ok (.iaload, 1) := dk_46 (dk_at dksX3_truth_0 8 rfl rfl)
theorem dX3_truth_9 : decode cX3_truth 9 = .ok (.imul, 1) := dk_104 (dk_at dksX3_truth_0 9 rfl rfl)
theorem dX3_truth_10 : decode cX3_truth 10 = .ok (.sipush 720, 3) := dk_17 2 208 (dk_at dksX3_truth_0 10 rfl rfl)
theorem dX3_truth_13 : decode cX3_truth 13 = .ok (.irem, 1) := dk_112 (dk_at dksX3_truth_0 13 rfl rfl)
theorem dX3_truth_14 : decode cX3_truth 14 = .ok (.ireturn, 1) := dk_172 (dk_at dksX3_truth_0 14 rfl rfl)
abbrev cX3_shownBy : ByteArray := prog_24_method_11_code
def yX3_shownBy : MethodName := ⟨RX3, "shownBy", "(I)I"⟩
def dkwX3_shownBy_2 : List UInt8 := [46, 172]
abbrev dktX3_shownBy_2 : List UInt8 := dkwX3_shownBy_2 ++ []
def dkwX3_shownBy_1 : List UInt8 := [180, 0, 13, 28, 46, 6, 160, 0, 10, 42, 182, 0, 99, 167, 0, 12, 42, 180, 0, 7, 16, 24, 28, 96]
abbrev dktX3_shownBy_1 : List UInt8 := dkwX3_shownBy_1 ++ dktX3_shownBy_2
def dkwX3_shownBy_0 : List UInt8 := [27, 61, 28, 158, 0, 19, 42, 180, 0, 13, 28, 46, 7, 160, 0, 9, 132, 2, 255, 167, 255, 239, 42]
abbrev dktX3_shownBy_0 : List UInt8 := dkwX3_shownBy_0 ++ dktX3_shownBy_1
theorem dksX3_shownBy_0 : cX3_shownBy.data.toList.drop 0 = dktX3_shownBy_0 := by decide +kernel
theorem dksX3_shownBy_1 : cX3_shownBy.data.toList.drop 23 = dktX3_shownBy_1 := dk_seg dksX3_shownBy_0 23 rfl rfl
theorem dksX3_shownBy_2 : cX3_shownBy.data.toList.drop 47 = dktX3_shownBy_2 := dk_seg dksX3_shownBy_1 24 rfl rfl
theorem dX3_shownBy_0 : decode cX3_shownBy 0 = .ok (.iload_n 1, 1) := dk_27 (dk_at dksX3_shownBy_0 0 rfl rfl)
theorem dX3_shownBy_1 : decode cX3_shownBy 1 = .ok (.istore_n 2, 1) := dk_61 (dk_at dksX3_shownBy_0 1 rfl rfl)
theorem dX3_shownBy_2 : decode cX3_shownBy 2 = .ok (.iload_n 2, 1) := dk_28 (dk_at dksX3_shownBy_0 2 rfl rfl)
theorem dX3_shownBy_3 : decode cX3_shownBy 3 = .ok (.ifCond .le 19, 3) := dk_158 0 19 (dk_at dksX3_shownBy_0 3 rfl rfl)
theorem dX3_shownBy_6 : decode cX3_shownBy 6 = .ok (.aload_n 0, 1) := dk_42 (dk_at dksX3_shownBy_0 6 rfl rfl)
theorem dX3_shownBy_7 : decode cX3_shownBy 7 = .ok (.getfield 13, 3) := dk_180 0 13 (dk_at dksX3_shownBy_0 7 rfl rfl)
theorem dX3_shownBy_10 : decode cX3_shownBy 10 = .ok (.iload_n 2, 1) := dk_28 (dk_at dksX3_shownBy_0 10 rfl rfl)
theorem dX3_shownBy_11 : decode cX3_shownBy 11 = .ok (.iaload, 1) := dk_46 (dk_at dksX3_shownBy_0 11 rfl rfl)
theorem dX3_shownBy_12 : decode cX3_shownBy 12 = .ok (.iconst 4, 1) := dk_7 (dk_at dksX3_shownBy_0 12 rfl rfl)
theorem dX3_shownBy_13 : decode cX3_shownBy 13 = .ok (.if_icmp .ne 9, 3) := dk_160 0 9 (dk_at dksX3_shownBy_0 13 rfl rfl)
theorem dX3_shownBy_16 : decode cX3_shownBy 16 = .ok (.iinc 2 (-1), 3) := dk_132 2 255 (dk_at dksX3_shownBy_0 16 rfl rfl)
theorem dX3_shownBy_19 : decode cX3_shownBy 19 = .ok (.goto (-17), 3) := dk_167 255 239 (dk_at dksX3_shownBy_0 19 rfl rfl)
theorem dX3_shownBy_22 : decode cX3_shownBy 22 = .ok (.aload_n 0, 1) := dk_42 (dk_at dksX3_shownBy_0 22 rfl rfl)
theorem dX3_shownBy_23 : decode cX3_shownBy 23 = .ok (.getfield 13, 3) := dk_180 0 13 (dk_at dksX3_shownBy_1 0 rfl rfl)
theorem dX3_shownBy_26 : decode cX3_shownBy 26 = .ok (.iload_n 2, 1) := dk_28 (dk_at dksX3_shownBy_1 3 rfl rfl)
theorem dX3_shownBy_27 : decode cX3_shownBy 27 = .ok (.iaload, 1) := dk_46 (dk_at dksX3_shownBy_1 4 rfl rfl)
theorem dX3_shownBy_28 : decode cX3_shownBy 28 = .ok (.iconst 3, 1) := dk_6 (dk_at dksX3_shownBy_1 5 rfl rfl)
theorem dX3_shownBy_29 : decode cX3_shownBy 29 = .ok (.if_icmp .ne 10, 3) := dk_160 0 10 (dk_at dksX3_shownBy_1 6 rfl rfl)
theorem dX3_shownBy_32 : decode cX3_shownBy 32 = .ok (.aload_n 0, 1) := dk_42 (dk_at dksX3_shownBy_1 9 rfl rfl)
theorem dX3_shownBy_33 : decode cX3_shownBy 33 = .ok (.invokevirtual 99, 3) := dk_182 0 99 (dk_at dksX3_shownBy_1 10 rfl rfl)
theorem dX3_shownBy_36 : decode cX3_shownBy 36 = .ok (.goto 12, 3) := dk_167 0 12 (dk_at dksX3_shownBy_1 13 rfl rfl)
theorem dX3_shownBy_39 : decode cX3_shownBy 39 = .ok (.aload_n 0, 1) := dk_42 (dk_at dksX3_shownBy_1 16 rfl rfl)
theorem dX3_shownBy_40 : decode cX3_shownBy 40 = .ok (.getfield 7, 3) := dk_180 0 7 (dk_at dksX3_shownBy_1 17 rfl rfl)
theorem dX3_shownBy_43 : decode cX3_shownBy 43 = .ok (.bipush 24, 2) := dk_16 24 (dk_at dksX3_shownBy_1 20 rfl rfl)
theorem dX3_shownBy_45 : decode cX3_shownBy 45 = .ok (.iload_n 2, 1) := dk_28 (dk_at dksX3_shownBy_1 22 rfl rfl)
theorem dX3_shownBy_46 : decode cX3_shownBy 46 = .ok (.iadd, 1) := dk_96 (dk_at dksX3_shownBy_1 23 rfl rfl)
theorem dX3_shownBy_47 : decode cX3_shownBy 47 = .ok (.iaload, 1) := dk_46 (dk_at dksX3_shownBy_2 0 rfl rfl)
theorem dX3_shownBy_48 : decode cX3_shownBy 48 = .ok (.ireturn, 1) := dk_172 (dk_at dksX3_shownBy_2 1 rfl rfl)
abbrev cX3_strikes : ByteArray := prog_24_method_12_code
def yX3_strikes : MethodName := ⟨RX3, "strikes", "(I)I"⟩
def dkwX3_strikes_0 : List UInt8 := [42, 27, 182, 0, 103, 16, 60, 108, 172]
abbrev dktX3_strikes_0 : List UInt8 := dkwX3_strikes_0 ++ []
theorem dksX3_strikes_0 : cX3_strikes.data.toList.drop 0 = dktX3_strikes_0 := by decide +kernel
theorem dX3_strikes_0 : decode cX3_strikes 0 = .ok (.aload_n 0, 1) := dk_42 (dk_at dksX3_strikes_0 0 rfl rfl)
theorem dX3_strikes_1 : decode cX3_strikes 1 = .ok (.iload_n 1, 1) := dk_27 (dk_at dksX3_strikes_0 1 rfl rfl)
theorem dX3_strikes_2 : decode cX3_strikes 2 = .ok (.invokevirtual 103, 3) := dk_182 0 103 (dk_at dksX3_strikes_0 2 rfl rfl)
theorem dX3_strikes_5 : decode cX3_strikes 5 = .ok (.bipush 60, 2) := dk_16 60 (dk_at dksX3_strikes_0 5 rfl rfl)
theorem dX3_strikes_7 : decode cX3_strikes 7 = .ok (.idiv, 1) := dk_108 (dk_at dksX3_strikes_0 7 rfl rfl)
theorem dX3_strikes_8 : decode cX3_strikes 8 = .ok (.ireturn, 1) := dk_172 (dk_at dksX3_strikes_0 8 rfl rfl)
abbrev cX3_told : ByteArray := prog_24_method_14_code
def yX3_told : MethodName := ⟨RX3, "told", "(II)I"⟩
def dkwX3_told_4 : List UInt8 := [27, 182, 0, 103, 172, 42, 27, 182, 0, 111, 172, 2, 172]
abbrev dktX3_told_4 : List UInt8 := dkwX3_told_4 ++ []
def dkwX3_told_3 : List UInt8 := [96, 46, 172, 42, 180, 0, 7, 16, 42, 27, 96, 46, 172, 42, 180, 0, 7, 16, 51, 27, 96, 46, 172, 42]
abbrev dktX3_told_3 : List UInt8 := dkwX3_told_3 ++ dktX3_told_4
def dkwX3_told_2 : List UInt8 := [42, 180, 0, 13, 27, 46, 172, 42, 180, 0, 7, 16, 24, 27, 96, 46, 172, 42, 180, 0, 7, 16, 33, 27]
abbrev dktX3_told_2 : List UInt8 := dkwX3_told_2 ++ dktX3_told_3
def dkwX3_told_1 : List UInt8 := [170, 0, 0, 0, 100, 0, 0, 0, 0, 0, 0, 0, 6, 0, 0, 0, 41, 0, 0, 0, 48, 0, 0, 0, 58, 0, 0, 0, 68, 0, 0, 0, 78, 0, 0, 0, 88, 0, 0, 0, 94]
abbrev dktX3_told_1 : List UInt8 := dkwX3_told_1 ++ dktX3_told_2
def dkwX3_told_0 : List UInt8 := [42, 27, 182, 0, 107, 154, 0, 5, 2, 172, 28]
abbrev dktX3_told_0 : List UInt8 := dkwX3_told_0 ++ dktX3_told_1
theorem dksX3_told_0 : cX3_told.data.toList.drop 0 = dktX3_told_0 := by decide +kernel
theorem dksX3_told_1 : cX3_told.data.toList.drop 11 = dktX3_told_1 := dk_seg dksX3_told_0 11 rfl rfl
theorem dksX3_told_2 : cX3_told.data.toList.drop 52 = dktX3_told_2 := dk_seg dksX3_told_1 41 rfl rfl
theorem dksX3_told_3 : cX3_told.data.toList.drop 76 = dktX3_told_3 := dk_seg dksX3_told_2 24 rfl rfl
theorem dksX3_told_4 : cX3_told.data.toList.drop 100 = dktX3_told_4 := dk_seg dksX3_told_3 24 rfl rfl
theorem dX3_told_0 : decode cX3_told 0 = .ok (.aload_n 0, 1) := dk_42 (dk_at dksX3_told_0 0 rfl rfl)
theorem dX3_told_1 : decode cX3_told 1 = .ok (.iload_n 1, 1) := dk_27 (dk_at dksX3_told_0 1 rfl rfl)
theorem dX3_told_2 : decode cX3_told 2 = .ok (.invokevirtual 107, 3) := dk_182 0 107 (dk_at dksX3_told_0 2 rfl rfl)
theorem dX3_told_5 : decode cX3_told 5 = .ok (.ifCond .ne 5, 3) := dk_154 0 5 (dk_at dksX3_told_0 5 rfl rfl)
theorem dX3_told_8 : decode cX3_told 8 = .ok (.iconst (-1), 1) := dk_2 (dk_at dksX3_told_0 8 rfl rfl)
theorem dX3_told_9 : decode cX3_told 9 = .ok (.ireturn, 1) := dk_172 (dk_at dksX3_told_0 9 rfl rfl)
theorem dX3_told_10 : decode cX3_told 10 = .ok (.iload_n 2, 1) := dk_28 (dk_at dksX3_told_0 10 rfl rfl)
theorem dX3_told_11 : decode cX3_told 11 = .ok (.tableswitch 100 0 6 #[41, 48, 58, 68, 78, 88, 94], 41) := by decide +kernel
theorem dX3_told_52 : decode cX3_told 52 = .ok (.aload_n 0, 1) := dk_42 (dk_at dksX3_told_2 0 rfl rfl)
theorem dX3_told_53 : decode cX3_told 53 = .ok (.getfield 13, 3) := dk_180 0 13 (dk_at dksX3_told_2 1 rfl rfl)
theorem dX3_told_56 : decode cX3_told 56 = .ok (.iload_n 1, 1) := dk_27 (dk_at dksX3_told_2 4 rfl rfl)
theorem dX3_told_57 : decode cX3_told 57 = .ok (.iaload, 1) := dk_46 (dk_at dksX3_told_2 5 rfl rfl)
theorem dX3_told_58 : decode cX3_told 58 = .ok (.ireturn, 1) := dk_172 (dk_at dksX3_told_2 6 rfl rfl)
theorem dX3_told_59 : decode cX3_told 59 = .ok (.aload_n 0, 1) := dk_42 (dk_at dksX3_told_2 7 rfl rfl)
theorem dX3_told_60 : decode cX3_told 60 = .ok (.getfield 7, 3) := dk_180 0 7 (dk_at dksX3_told_2 8 rfl rfl)
theorem dX3_told_63 : decode cX3_told 63 = .ok (.bipush 24, 2) := dk_16 24 (dk_at dksX3_told_2 11 rfl rfl)
theorem dX3_told_65 : decode cX3_told 65 = .ok (.iload_n 1, 1) := dk_27 (dk_at dksX3_told_2 13 rfl rfl)
theorem dX3_told_66 : decode cX3_told 66 = .ok (.iadd, 1) := dk_96 (dk_at dksX3_told_2 14 rfl rfl)
theorem dX3_told_67 : decode cX3_told 67 = .ok (.iaload, 1) := dk_46 (dk_at dksX3_told_2 15 rfl rfl)
theorem dX3_told_68 : decode cX3_told 68 = .ok (.ireturn, 1) := dk_172 (dk_at dksX3_told_2 16 rfl rfl)
theorem dX3_told_69 : decode cX3_told 69 = .ok (.aload_n 0, 1) := dk_42 (dk_at dksX3_told_2 17 rfl rfl)
theorem dX3_told_70 : decode cX3_told 70 = .ok (.getfield 7, 3) := dk_180 0 7 (dk_at dksX3_told_2 18 rfl rfl)
theorem dX3_told_73 : decode cX3_told 73 = .ok (.bipush 33, 2) := dk_16 33 (dk_at dksX3_told_2 21 rfl rfl)
theorem dX3_told_75 : decode cX3_told 75 = .ok (.iload_n 1, 1) := dk_27 (dk_at dksX3_told_2 23 rfl rfl)
theorem dX3_told_76 : decode cX3_told 76 = .ok (.iadd, 1) := dk_96 (dk_at dksX3_told_3 0 rfl rfl)
theorem dX3_told_77 : decode cX3_told 77 = .ok (.iaload, 1) := dk_46 (dk_at dksX3_told_3 1 rfl rfl)
theorem dX3_told_78 : decode cX3_told 78 = .ok (.ireturn, 1) := dk_172 (dk_at dksX3_told_3 2 rfl rfl)
theorem dX3_told_79 : decode cX3_told 79 = .ok (.aload_n 0, 1) := dk_42 (dk_at dksX3_told_3 3 rfl rfl)
theorem dX3_told_80 : decode cX3_told 80 = .ok (.getfield 7, 3) := dk_180 0 7 (dk_at dksX3_told_3 4 rfl rfl)
theorem dX3_told_83 : decode cX3_told 83 = .ok (.bipush 42, 2) := dk_16 42 (dk_at dksX3_told_3 7 rfl rfl)
theorem dX3_told_85 : decode cX3_told 85 = .ok (.iload_n 1, 1) := dk_27 (dk_at dksX3_told_3 9 rfl rfl)
theorem dX3_told_86 : decode cX3_told 86 = .ok (.iadd, 1) := dk_96 (dk_at dksX3_told_3 10 rfl rfl)
theorem dX3_told_87 : decode cX3_told 87 = .ok (.iaload, 1) := dk_46 (dk_at dksX3_told_3 11 rfl rfl)
theorem dX3_told_88 : decode cX3_told 88 = .ok (.ireturn, 1) := dk_172 (dk_at dksX3_told_3 12 rfl rfl)
theorem dX3_told_89 : decode cX3_told 89 = .ok (.aload_n 0, 1) := dk_42 (dk_at dksX3_told_3 13 rfl rfl)
theorem dX3_told_90 : decode cX3_told 90 = .ok (.getfield 7, 3) := dk_180 0 7 (dk_at dksX3_told_3 14 rfl rfl)
theorem dX3_told_93 : decode cX3_told 93 = .ok (.bipush 51, 2) := dk_16 51 (dk_at dksX3_told_3 17 rfl rfl)
theorem dX3_told_95 : decode cX3_told 95 = .ok (.iload_n 1, 1) := dk_27 (dk_at dksX3_told_3 19 rfl rfl)
theorem dX3_told_96 : decode cX3_told 96 = .ok (.iadd, 1) := dk_96 (dk_at dksX3_told_3 20 rfl rfl)
theorem dX3_told_97 : decode cX3_told 97 = .ok (.iaload, 1) := dk_46 (dk_at dksX3_told_3 21 rfl rfl)
theorem dX3_told_98 : decode cX3_told 98 = .ok (.ireturn, 1) := dk_172 (dk_at dksX3_told_3 22 rfl rfl)
theorem dX3_told_99 : decode cX3_told 99 = .ok (.aload_n 0, 1) := dk_42 (dk_at dksX3_told_3 23 rfl rfl)
theorem dX3_told_100 : decode cX3_told 100 = .ok (.iload_n 1, 1) := dk_27 (dk_at dksX3_told_4 0 rfl rfl)
theorem dX3_told_101 : decode cX3_told 101 = .ok (.invokevirtual 103, 3) := dk_182 0 103 (dk_at dksX3_told_4 1 rfl rfl)
theorem dX3_told_104 : decode cX3_told 104 = .ok (.ireturn, 1) := dk_172 (dk_at dksX3_told_4 4 rfl rfl)
theorem dX3_told_105 : decode cX3_told 105 = .ok (.aload_n 0, 1) := dk_42 (dk_at dksX3_told_4 5 rfl rfl)
theorem dX3_told_106 : decode cX3_told 106 = .ok (.iload_n 1, 1) := dk_27 (dk_at dksX3_told_4 6 rfl rfl)
theorem dX3_told_107 : decode cX3_told 107 = .ok (.invokevirtual 111, 3) := dk_182 0 111 (dk_at dksX3_told_4 7 rfl rfl)
theorem dX3_told_110 : decode cX3_told 110 = .ok (.ireturn, 1) := dk_172 (dk_at dksX3_told_4 10 rfl rfl)
theorem dX3_told_111 : decode cX3_told 111 = .ok (.iconst (-1), 1) := dk_2 (dk_at dksX3_told_4 11 rfl rfl)
theorem dX3_told_112 : decode cX3_told 112 = .ok (.ireturn, 1) := dk_172 (dk_at dksX3_told_4 12 rfl rfl)
abbrev cX3_rate : ByteArray := prog_24_method_15_code
def yX3_rate : MethodName := ⟨RX3, "rate", "(I)I"⟩
def dkwX3_rate_0 : List UInt8 := [42, 27, 182, 0, 107, 153, 0, 12, 42, 180, 0, 16, 27, 46, 167, 0, 6, 17, 252, 23, 172]
abbrev dktX3_rate_0 : List UInt8 := dkwX3_rate_0 ++ []
theorem dksX3_rate_0 : cX3_rate.data.toList.drop 0 = dktX3_rate_0 := by decide +kernel
theorem dX3_rate_0 : decode cX3_rate 0 = .ok (.aload_n 0, 1) := dk_42 (dk_at dksX3_rate_0 0 rfl rfl)
theorem dX3_rate_1 : decode cX3_rate 1 = .ok (.iload_n 1, 1) := dk_27 (dk_at dksX3_rate_0 1 rfl rfl)
theorem dX3_rate_2 : decode cX3_rate 2 = .ok (.invokevirtual 107, 3) := dk_182 0 107 (dk_at dksX3_rate_0 2 rfl rfl)
theorem dX3_rate_5 : decode cX3_rate 5 = .ok (.ifCond .eq 12, 3) := dk_153 0 12 (dk_at dksX3_rate_0 5 rfl rfl)
theorem dX3_rate_8 : decode cX3_rate 8 = .ok (.aload_n 0, 1) := dk_42 (dk_at dksX3_rate_0 8 rfl rfl)
theorem dX3_rate_9 : decode cX3_rate 9 = .ok (.getfield 16, 3) := dk_180 0 16 (dk_at dksX3_rate_0 9 rfl rfl)
theorem dX3_rate_12 : decode cX3_rate 12 = .ok (.iload_n 1, 1) := dk_27 (dk_at dksX3_rate_0 12 rfl rfl)
theorem dX3_rate_13 : decode cX3_rate 13 = .ok (.iaload, 1) := dk_46 (dk_at dksX3_rate_0 13 rfl rfl)
theorem dX3_rate_14 : decode cX3_rate 14 = .ok (.goto 6, 3) := dk_167 0 6 (dk_at dksX3_rate_0 14 rfl rfl)
theorem dX3_rate_17 : decode cX3_rate 17 = .ok (.sipush (-1001), 3) := dk_17 252 23 (dk_at dksX3_rate_0 17 rfl rfl)
theorem dX3_rate_20 : decode cX3_rate 20 = .ok (.ireturn, 1) := dk_172 (dk_at dksX3_rate_0 20 rfl rfl)
abbrev cX3_isWindow : ByteArray := prog_24_method_5_code
def yX3_isWindow : MethodName := ⟨RX3, "isWindow", "(I)Z"⟩
def dkwX3_isWindow_0 : List UInt8 := [27, 133, 9, 42, 180, 0, 19, 4, 100, 133, 184, 0, 75, 172]
abbrev dktX3_isWindow_0 : List UInt8 := dkwX3_isWindow_0 ++ []
theorem dksX3_isWindow_0 : cX3_isWindow.data.toList.drop 0 = dktX3_isWindow_0 := by decide +kernel
theorem dX3_isWindow_0 : decode cX3_isWindow 0 = .ok (.iload_n 1, 1) := dk_27 (dk_at dksX3_isWindow_0 0 rfl rfl)
theorem dX3_isWindow_1 : decode cX3_isWindow 1 = .ok (.i2l, 1) := dk_133 (dk_at dksX3_isWindow_0 1 rfl rfl)
theorem dX3_isWindow_2 : decode cX3_isWindow 2 = .ok (.lconst 0, 1) := dk_9 (dk_at dksX3_isWindow_0 2 rfl rfl)
theorem dX3_isWindow_3 : decode cX3_isWindow 3 = .ok (.aload_n 0, 1) := dk_42 (dk_at dksX3_isWindow_0 3 rfl rfl)
theorem dX3_isWindow_4 : decode cX3_isWindow 4 = .ok (.getfield 19, 3) := dk_180 0 19 (dk_at dksX3_isWindow_0 4 rfl rfl)
theorem dX3_isWindow_7 : decode cX3_isWindow 7 = .ok (.iconst 1, 1) := dk_4 (dk_at dksX3_isWindow_0 7 rfl rfl)
theorem dX3_isWindow_8 : decode cX3_isWindow 8 = .ok (.isub, 1) := dk_100 (dk_at dksX3_isWindow_0 8 rfl rfl)
theorem dX3_isWindow_9 : decode cX3_isWindow 9 = .ok (.i2l, 1) := dk_133 (dk_at dksX3_isWindow_0 9 rfl rfl)
theorem dX3_isWindow_10 : decode cX3_isWindow 10 = .ok (.invokestatic 75, 3) := dk_184 0 75 (dk_at dksX3_isWindow_0 10 rfl rfl)
theorem dX3_isWindow_13 : decode cX3_isWindow 13 = .ok (.ireturn, 1) := dk_172 (dk_at dksX3_isWindow_0 13 rfl rfl)
abbrev cX3_dial : ByteArray := prog_24_method_16_code
def yX3_dial : MethodName := ⟨RX3, "dial", "(I)I"⟩
def dkwX3_dial_0 : List UInt8 := [42, 27, 182, 0, 114, 153, 0, 12, 42, 180, 0, 7, 27, 46, 167, 0, 4, 2, 172]
abbrev dktX3_dial_0 : List UInt8 := dkwX3_dial_0 ++ []
theorem dksX3_dial_0 : cX3_dial.data.toList.drop 0 = dktX3_dial_0 := by decide +kernel
theorem dX3_dial_0 : decode cX3_dial 0 = .ok (.aload_n 0, 1) := dk_42 (dk_at dksX3_dial_0 0 rfl rfl)
theorem dX3_dial_1 : decode cX3_dial 1 = .ok (.iload_n 1, 1) := dk_27 (dk_at dksX3_dial_0 1 rfl rfl)
theorem dX3_dial_2 : decode cX3_dial 2 = .ok (.invokevirtual 114, 3) := dk_182 0 114 (dk_at dksX3_dial_0 2 rfl rfl)
theorem dX3_dial_5 : decode cX3_dial 5 = .ok (.ifCond .eq 12, 3) := dk_153 0 12 (dk_at dksX3_dial_0 5 rfl rfl)
theorem dX3_dial_8 : decode cX3_dial 8 = .ok (.aload_n 0, 1) := dk_42 (dk_at dksX3_dial_0 8 rfl rfl)
theorem dX3_dial_9 : decode cX3_dial 9 = .ok (.getfield 7, 3) := dk_180 0 7 (dk_at dksX3_dial_0 9 rfl rfl)
theorem dX3_dial_12 : decode cX3_dial 12 = .ok (.iload_n 1, 1) := dk_27 (dk_at dksX3_dial_0 12 rfl rfl)
theorem dX3_dial_13 : decode cX3_dial 13 = .ok (.iaload, 1) := dk_46 (dk_at dksX3_dial_0 13 rfl rfl)
theorem dX3_dial_14 : decode cX3_dial 14 = .ok (.goto 4, 3) := dk_167 0 4 (dk_at dksX3_dial_0 14 rfl rfl)
theorem dX3_dial_17 : decode cX3_dial 17 = .ok (.iconst (-1), 1) := dk_2 (dk_at dksX3_dial_0 17 rfl rfl)
theorem dX3_dial_18 : decode cX3_dial 18 = .ok (.ireturn, 1) := dk_172 (dk_at dksX3_dial_0 18 rfl rfl)
abbrev cX3_paint : ByteArray := prog_24_method_17_code
def yX3_paint : MethodName := ⟨RX3, "paint", "(II)I"⟩
def dkwX3_paint_1 : List UInt8 := [180, 0, 7, 27, 46, 62, 42, 180, 0, 7, 27, 28, 79, 29, 172]
abbrev dktX3_paint_1 : List UInt8 := dkwX3_paint_1 ++ []
def dkwX3_paint_0 : List UInt8 := [42, 27, 182, 0, 114, 153, 0, 15, 28, 133, 9, 20, 0, 117, 184, 0, 75, 154, 0, 5, 2, 172, 42]
abbrev dktX3_paint_0 : List UInt8 := dkwX3_paint_0 ++ dktX3_paint_1
theorem dksX3_paint_0 : cX3_paint.data.toList.drop 0 = dktX3_paint_0 := by decide +kernel
theorem dksX3_paint_1 : cX3_paint.data.toList.drop 23 = dktX3_paint_1 := dk_seg dksX3_paint_0 23 rfl rfl
theorem dX3_paint_0 : decode cX3_paint 0 = .ok (.aload_n 0, 1) := dk_42 (dk_at dksX3_paint_0 0 rfl rfl)
theorem dX3_paint_1 : decode cX3_paint 1 = .ok (.iload_n 1, 1) := dk_27 (dk_at dksX3_paint_0 1 rfl rfl)
theorem dX3_paint_2 : decode cX3_paint 2 = .ok (.invokevirtual 114, 3) := dk_182 0 114 (dk_at dksX3_paint_0 2 rfl rfl)
theorem dX3_paint_5 : decode cX3_paint 5 = .ok (.ifCond .eq 15, 3) := dk_153 0 15 (dk_at dksX3_paint_0 5 rfl rfl)
theorem dX3_paint_8 : decode cX3_paint 8 = .ok (.iload_n 2, 1) := dk_28 (dk_at dksX3_paint_0 8 rfl rfl)
theorem dX3_paint_9 : decode cX3_paint 9 = .ok (.i2l, 1) := dk_133 (dk_at dksX3_paint_0 9 rfl rfl)
theorem dX3_paint_10 : decode cX3_paint 10 = .ok (.lconst 0, 1) := dk_9 (dk_at dksX3_paint_0 10 rfl rfl)
theorem dX3_paint_11 : decode cX3_paint 11 = .ok (.ldc2_w 117, 3) := dk_20 0 117 (dk_at dksX3_paint_0 11 rfl rfl)
theorem dX3_paint_14 : decode cX3_paint 14 = .ok (.invokestatic 75, 3) := dk_184 0 75 (dk_at dksX3_paint_0 14 rfl rfl)
theorem dX3_paint_17 : decode cX3_paint 17 = .ok (.ifCond .ne 5, 3) := dk_154 0 5 (dk_at dksX3_paint_0 17 rfl rfl)
theorem dX3_paint_20 : decode cX3_paint 20 = .ok (.iconst (-1), 1) := dk_2 (dk_at dksX3_paint_0 20 rfl rfl)
theorem dX3_paint_21 : decode cX3_paint 21 = .ok (.ireturn, 1) := dk_172 (dk_at dksX3_paint_0 21 rfl rfl)
theorem dX3_paint_22 : decode cX3_paint 22 = .ok (.aload_n 0, 1) := dk_42 (dk_at dksX3_paint_0 22 rfl rfl)
theorem dX3_paint_23 : decode cX3_paint 23 = .ok (.getfield 7, 3) := dk_180 0 7 (dk_at dksX3_paint_1 0 rfl rfl)
theorem dX3_paint_26 : decode cX3_paint 26 = .ok (.iload_n 1, 1) := dk_27 (dk_at dksX3_paint_1 3 rfl rfl)
theorem dX3_paint_27 : decode cX3_paint 27 = .ok (.iaload, 1) := dk_46 (dk_at dksX3_paint_1 4 rfl rfl)
theorem dX3_paint_28 : decode cX3_paint 28 = .ok (.istore_n 3, 1) := dk_62 (dk_at dksX3_paint_1 5 rfl rfl)
theorem dX3_paint_29 : decode cX3_paint 29 = .ok (.aload_n 0, 1) := dk_42 (dk_at dksX3_paint_1 6 rfl rfl)
theorem dX3_paint_30 : decode cX3_paint 30 = .ok (.getfield 7, 3) := dk_180 0 7 (dk_at dksX3_paint_1 7 rfl rfl)
theorem dX3_paint_33 : decode cX3_paint 33 = .ok (.iload_n 1, 1) := dk_27 (dk_at dksX3_paint_1 10 rfl rfl)
theorem dX3_paint_34 : decode cX3_paint 34 = .ok (.iload_n 2, 1) := dk_28 (dk_at dksX3_paint_1 11 rfl rfl)
theorem dX3_paint_35 : decode cX3_paint 35 = .ok (.iastore, 1) := dk_79 (dk_at dksX3_paint_1 12 rfl rfl)
theorem dX3_paint_36 : decode cX3_paint 36 = .ok (.iload_n 3, 1) := dk_29 (dk_at dksX3_paint_1 13 rfl rfl)
theorem dX3_paint_37 : decode cX3_paint 37 = .ok (.ireturn, 1) := dk_172 (dk_at dksX3_paint_1 14 rfl rfl)
abbrev cX3_weather : ByteArray := prog_24_method_18_code
def yX3_weather : MethodName := ⟨RX3, "weather", "(I)I"⟩
def dkwX3_weather_1 : List UInt8 := [167, 0, 4, 2, 172]
abbrev dktX3_weather_1 : List UInt8 := dkwX3_weather_1 ++ []
def dkwX3_weather_0 : List UInt8 := [27, 133, 9, 20, 0, 119, 184, 0, 75, 153, 0, 17, 42, 180, 0, 23, 27, 42, 180, 0, 26, 112, 46]
abbrev dktX3_weather_0 : List UInt8 := dkwX3_weather_0 ++ dktX3_weather_1
theorem dksX3_weather_0 : cX3_weather.data.toList.drop 0 = dktX3_weather_0 := by decide +kernel
theorem dksX3_weather_1 : cX3_weather.data.toList.drop 23 = dktX3_weather_1 := dk_seg dksX3_weather_0 23 rfl rfl
theorem dX3_weather_0 : decode cX3_weather 0 = .ok (.iload_n 1, 1) := dk_27 (dk_at dksX3_weather_0 0 rfl rfl)
theorem dX3_weather_1 : decode cX3_weather 1 = .ok (.i2l, 1) := dk_133 (dk_at dksX3_weather_0 1 rfl rfl)
theorem dX3_weather_2 : decode cX3_weather 2 = .ok (.lconst 0, 1) := dk_9 (dk_at dksX3_weather_0 2 rfl rfl)
theorem dX3_weather_3 : decode cX3_weather 3 = .ok (.ldc2_w 119, 3) := dk_20 0 119 (dk_at dksX3_weather_0 3 rfl rfl)
theorem dX3_weather_6 : decode cX3_weather 6 = .ok (.invokestatic 75, 3) := dk_184 0 75 (dk_at dksX3_weather_0 6 rfl rfl)
theorem dX3_weather_9 : decode cX3_weather 9 = .ok (.ifCond .eq 17, 3) := dk_153 0 17 (dk_at dksX3_weather_0 9 rfl rfl)
theorem dX3_weather_12 : decode cX3_weather 12 = .ok (.aload_n 0, 1) := dk_42 (dk_at dksX3_weather_0 12 rfl rfl)
theorem dX3_weather_13 : decode cX3_weather 13 = .ok (.getfield 23, 3) := dk_180 0 23 (dk_at dksX3_weather_0 13 rfl rfl)
theorem dX3_weather_16 : decode cX3_weather 16 = .ok (.iload_n 1, 1) := dk_27 (dk_at dksX3_weather_0 16 rfl rfl)
theorem dX3_weather_17 : decode cX3_weather 17 = .ok (.aload_n 0, 1) := dk_42 (dk_at dksX3_weather_0 17 rfl rfl)
theorem dX3_weather_18 : decode cX3_weather 18 = .ok (.getfield 26, 3) := dk_180 0 26 (dk_at dksX3_weather_0 18 rfl rfl)
theorem dX3_weather_21 : decode cX3_weather 21 = .ok (.irem, 1) := dk_112 (dk_at dksX3_weather_0 21 rfl rfl)
theorem dX3_weather_22 : decode cX3_weather 22 = .ok (.iaload, 1) := dk_46 (dk_at dksX3_weather_0 22 rfl rfl)
theorem dX3_weather_23 : decode cX3_weather 23 = .ok (.goto 4, 3) := dk_167 0 4 (dk_at dksX3_weather_1 0 rfl rfl)
theorem dX3_weather_26 : decode cX3_weather 26 = .ok (.iconst (-1), 1) := dk_2 (dk_at dksX3_weather_1 3 rfl rfl)
theorem dX3_weather_27 : decode cX3_weather 27 = .ok (.ireturn, 1) := dk_172 (dk_at dksX3_weather_1 4 rfl rfl)
abbrev cX3_type : ByteArray := prog_24_method_19_code
def yX3_type : MethodName := ⟨RX3, "type", "(I)I"⟩
def dkwX3_type_2 : List UInt8 := [181, 0, 125, 42, 180, 0, 125, 172]
abbrev dktX3_type_2 : List UInt8 := dkwX3_type_2 ++ []
def dkwX3_type_1 : List UInt8 := [160, 0, 6, 16, 253, 172, 42, 180, 0, 44, 42, 180, 0, 125, 27, 79, 42, 89, 180, 0, 125, 4, 96]
abbrev dktX3_type_1 : List UInt8 := dkwX3_type_1 ++ dktX3_type_2
def dkwX3_type_0 : List UInt8 := [27, 133, 20, 0, 121, 20, 0, 123, 184, 0, 75, 154, 0, 5, 2, 172, 42, 180, 0, 125, 17, 0, 160]
abbrev dktX3_type_0 : List UInt8 := dkwX3_type_0 ++ dktX3_type_1
theorem dksX3_type_0 : cX3_type.data.toList.drop 0 = dktX3_type_0 := by decide +kernel
theorem dksX3_type_1 : cX3_type.data.toList.drop 23 = dktX3_type_1 := dk_seg dksX3_type_0 23 rfl rfl
theorem dksX3_type_2 : cX3_type.data.toList.drop 46 = dktX3_type_2 := dk_seg dksX3_type_1 23 rfl rfl
theorem dX3_type_0 : decode cX3_type 0 = .ok (.iload_n 1, 1) := dk_27 (dk_at dksX3_type_0 0 rfl rfl)
theorem dX3_type_1 : decode cX3_type 1 = .ok (.i2l, 1) := dk_133 (dk_at dksX3_type_0 1 rfl rfl)
theorem dX3_type_2 : decode cX3_type 2 = .ok (.ldc2_w 121, 3) := dk_20 0 121 (dk_at dksX3_type_0 2 rfl rfl)
theorem dX3_type_5 : decode cX3_type 5 = .ok (.ldc2_w 123, 3) := dk_20 0 123 (dk_at dksX3_type_0 5 rfl rfl)
theorem dX3_type_8 : decode cX3_type 8 = .ok (.invokestatic 75, 3) := dk_184 0 75 (dk_at dksX3_type_0 8 rfl rfl)
theorem dX3_type_11 : decode cX3_type 11 = .ok (.ifCond .ne 5, 3) := dk_154 0 5 (dk_at dksX3_type_0 11 rfl rfl)
theorem dX3_type_14 : decode cX3_type 14 = .ok (.iconst (-1), 1) := dk_2 (dk_at dksX3_type_0 14 rfl rfl)
theorem dX3_type_15 : decode cX3_type 15 = .ok (.ireturn, 1) := dk_172 (dk_at dksX3_type_0 15 rfl rfl)
theorem dX3_type_16 : decode cX3_type 16 = .ok (.aload_n 0, 1) := dk_42 (dk_at dksX3_type_0 16 rfl rfl)
theorem dX3_type_17 : decode cX3_type 17 = .ok (.getfield 125, 3) := dk_180 0 125 (dk_at dksX3_type_0 17 rfl rfl)
theorem dX3_type_20 : decode cX3_type 20 = .ok (.sipush 160, 3) := dk_17 0 160 (dk_at dksX3_type_0 20 rfl rfl)
theorem dX3_type_23 : decode cX3_type 23 = .ok (.if_icmp .ne 6, 3) := dk_160 0 6 (dk_at dksX3_type_1 0 rfl rfl)
theorem dX3_type_26 : decode cX3_type 26 = .ok (.bipush (-3), 2) := dk_16 253 (dk_at dksX3_type_1 3 rfl rfl)
theorem dX3_type_28 : decode cX3_type 28 = .ok (.ireturn, 1) := dk_172 (dk_at dksX3_type_1 5 rfl rfl)
theorem dX3_type_29 : decode cX3_type 29 = .ok (.aload_n 0, 1) := dk_42 (dk_at dksX3_type_1 6 rfl rfl)
theorem dX3_type_30 : decode cX3_type 30 = .ok (.getfield 44, 3) := dk_180 0 44 (dk_at dksX3_type_1 7 rfl rfl)
theorem dX3_type_33 : decode cX3_type 33 = .ok (.aload_n 0, 1) := dk_42 (dk_at dksX3_type_1 10 rfl rfl)
theorem dX3_type_34 : decode cX3_type 34 = .ok (.getfield 125, 3) := dk_180 0 125 (dk_at dksX3_type_1 11 rfl rfl)
theorem dX3_type_37 : decode cX3_type 37 = .ok (.iload_n 1, 1) := dk_27 (dk_at dksX3_type_1 14 rfl rfl)
theorem dX3_type_38 : decode cX3_type 38 = .ok (.iastore, 1) := dk_79 (dk_at dksX3_type_1 15 rfl rfl)
theorem dX3_type_39 : decode cX3_type 39 = .ok (.aload_n 0, 1) := dk_42 (dk_at dksX3_type_1 16 rfl rfl)
theorem dX3_type_40 : decode cX3_type 40 = .ok (.dup, 1) := dk_89 (dk_at dksX3_type_1 17 rfl rfl)
theorem dX3_type_41 : decode cX3_type 41 = .ok (.getfield 125, 3) := dk_180 0 125 (dk_at dksX3_type_1 18 rfl rfl)
theorem dX3_type_44 : decode cX3_type 44 = .ok (.iconst 1, 1) := dk_4 (dk_at dksX3_type_1 21 rfl rfl)
theorem dX3_type_45 : decode cX3_type 45 = .ok (.iadd, 1) := dk_96 (dk_at dksX3_type_1 22 rfl rfl)
theorem dX3_type_46 : decode cX3_type 46 = .ok (.putfield 125, 3) := dk_181 0 125 (dk_at dksX3_type_2 0 rfl rfl)
theorem dX3_type_49 : decode cX3_type 49 = .ok (.aload_n 0, 1) := dk_42 (dk_at dksX3_type_2 3 rfl rfl)
theorem dX3_type_50 : decode cX3_type 50 = .ok (.getfield 125, 3) := dk_180 0 125 (dk_at dksX3_type_2 4 rfl rfl)
theorem dX3_type_53 : decode cX3_type 53 = .ok (.ireturn, 1) := dk_172 (dk_at dksX3_type_2 7 rfl rfl)
abbrev cX3_allBack : ByteArray := prog_24_method_27_code
def yX3_allBack : MethodName := ⟨RX3, "allBack", "()V"⟩
def dkwX3_allBack_1 : List UInt8 := [16, 51, 27, 96, 16, 252, 79, 132, 1, 1, 167, 255, 224, 42, 3, 181, 0, 96, 177]
abbrev dktX3_allBack_1 : List UInt8 := dkwX3_allBack_1 ++ []
def dkwX3_allBack_0 : List UInt8 := [3, 60, 27, 42, 180, 0, 72, 162, 0, 30, 42, 180, 0, 7, 16, 42, 27, 96, 3, 79, 42, 180, 0, 7]
abbrev dktX3_allBack_0 : List UInt8 := dkwX3_allBack_0 ++ dktX3_allBack_1
theorem dksX3_allBack_0 : cX3_allBack.data.toList.drop 0 = dktX3_allBack_0 := by decide +kernel
theorem dksX3_allBack_1 : cX3_allBack.data.toList.drop 24 = dktX3_allBack_1 := dk_seg dksX3_allBack_0 24 rfl rfl
theorem dX3_allBack_0 : decode cX3_allBack 0 = .ok (.iconst 0, 1) := dk_3 (dk_at dksX3_allBack_0 0 rfl rfl)
theorem dX3_allBack_1 : decode cX3_allBack 1 = .ok (.istore_n 1, 1) := dk_60 (dk_at dksX3_allBack_0 1 rfl rfl)
theorem dX3_allBack_2 : decode cX3_allBack 2 = .ok (.iload_n 1, 1) := dk_27 (dk_at dksX3_allBack_0 2 rfl rfl)
theorem dX3_allBack_3 : decode cX3_allBack 3 = .ok (.aload_n 0, 1) := dk_42 (dk_at dksX3_allBack_0 3 rfl rfl)
theorem dX3_allBack_4 : decode cX3_allBack 4 = .ok (.getfield 72, 3) := dk_180 0 72 (dk_at dksX3_allBack_0 4 rfl rfl)
theorem dX3_allBack_7 : decode cX3_allBack 7 = .ok (.if_icmp .ge 30, 3) := dk_162 0 30 (dk_at dksX3_allBack_0 7 rfl rfl)
theorem dX3_allBack_10 : decode cX3_allBack 10 = .ok (.aload_n 0, 1) := dk_42 (dk_at dksX3_allBack_0 10 rfl rfl)
theorem dX3_allBack_11 : decode cX3_allBack 11 = .ok (.getfield 7, 3) := dk_180 0 7 (dk_at dksX3_allBack_0 11 rfl rfl)
theorem dX3_allBack_14 : decode cX3_allBack 14 = .ok (.bipush 42, 2) := dk_16 42 (dk_at dksX3_allBack_0 14 rfl rfl)
theorem dX3_allBack_16 : decode cX3_allBack 16 = .ok (.iload_n 1, 1) := dk_27 (dk_at dksX3_allBack_0 16 rfl rfl)
theorem dX3_allBack_17 : decode cX3_allBack 17 = .ok (.iadd, 1) := dk_96 (dk_at dksX3_allBack_0 17 rfl rfl)
theorem dX3_allBack_18 : decode cX3_allBack 18 = .ok (.iconst 0, 1) := dk_3 (dk_at dksX3_allBack_0 18 rfl rfl)
theorem dX3_allBack_19 : decode cX3_allBack 19 = .ok (.iastore, 1) := dk_79 (dk_at dksX3_allBack_0 19 rfl rfl)
theorem dX3_allBack_20 : decode cX3_allBack 20 = .ok (.aload_n 0, 1) := dk_42 (dk_at dksX3_allBack_0 20 rfl rfl)
theorem dX3_allBack_21 : decode cX3_allBack 21 = .ok (.getfield 7, 3) := dk_180 0 7 (dk_at dksX3_allBack_0 21 rfl rfl)
theorem dX3_allBack_24 : decode cX3_allBack 24 = .ok (.bipush 51, 2) := dk_16 51 (dk_at dksX3_allBack_1 0 rfl rfl)
theorem dX3_allBack_26 : decode cX3_allBack 26 = .ok (.iload_n 1, 1) := dk_27 (dk_at dksX3_allBack_1 2 rfl rfl)
theorem dX3_allBack_27 : decode cX3_allBack 27 = .ok (.iadd, 1) := dk_96 (dk_at dksX3_allBack_1 3 rfl rfl)
theorem dX3_allBack_28 : decode cX3_allBack 28 = .ok (.bipush (-4), 2) := dk_16 252 (dk_at dksX3_allBack_1 4 rfl rfl)
theorem dX3_allBack_30 : decode cX3_allBack 30 = .ok (.iastore, 1) := dk_79 (dk_at dksX3_allBack_1 6 rfl rfl)
theorem dX3_allBack_31 : decode cX3_allBack 31 = .ok (.iinc 1 1, 3) := dk_132 1 1 (dk_at dksX3_allBack_1 7 rfl rfl)
theorem dX3_allBack_34 : decode cX3_allBack 34 = .ok (.goto (-32), 3) := dk_167 255 224 (dk_at dksX3_allBack_1 10 rfl rfl)
theorem dX3_allBack_37 : decode cX3_allBack 37 = .ok (.aload_n 0, 1) := dk_42 (dk_at dksX3_allBack_1 13 rfl rfl)
theorem dX3_allBack_38 : decode cX3_allBack 38 = .ok (.iconst 0, 1) := dk_3 (dk_at dksX3_allBack_1 14 rfl rfl)
theorem dX3_allBack_39 : decode cX3_allBack 39 = .ok (.putfield 96, 3) := dk_181 0 96 (dk_at dksX3_allBack_1 15 rfl rfl)
theorem dX3_allBack_42 : decode cX3_allBack 42 = .ok (.return_, 1) := dk_177 (dk_at dksX3_allBack_1 18 rfl rfl)
abbrev cX3_nextLetter : ByteArray := prog_24_method_20_code
def yX3_nextLetter : MethodName := ⟨RX3, "nextLetter", "()I"⟩
def dkwX3_nextLetter_2 : List UInt8 := [162, 0, 15, 42, 180, 0, 44, 42, 180, 0, 128, 46, 167, 0, 4, 2, 172]
abbrev dktX3_nextLetter_2 : List UInt8 := dkwX3_nextLetter_2 ++ []
def dkwX3_nextLetter_1 : List UInt8 := [160, 0, 16, 42, 89, 180, 0, 128, 4, 96, 181, 0, 128, 167, 255, 221, 42, 180, 0, 128, 42, 180, 0, 125]
abbrev dktX3_nextLetter_1 : List UInt8 := dkwX3_nextLetter_1 ++ dktX3_nextLetter_2
def dkwX3_nextLetter_0 : List UInt8 := [42, 180, 0, 128, 42, 180, 0, 125, 162, 0, 30, 42, 180, 0, 44, 42, 180, 0, 128, 46, 16, 32]
abbrev dktX3_nextLetter_0 : List UInt8 := dkwX3_nextLetter_0 ++ dktX3_nextLetter_1
theorem dksX3_nextLetter_0 : cX3_nextLetter.data.toList.drop 0 = dktX3_nextLetter_0 := by decide +kernel
theorem dksX3_nextLetter_1 : cX3_nextLetter.data.toList.drop 22 = dktX3_nextLetter_1 := dk_seg dksX3_nextLetter_0 22 rfl rfl
theorem dksX3_nextLetter_2 : cX3_nextLetter.data.toList.drop 46 = dktX3_nextLetter_2 := dk_seg dksX3_nextLetter_1 24 rfl rfl
theorem dX3_nextLetter_0 : decode cX3_nextLetter 0 = .ok (.aload_n 0, 1) := dk_42 (dk_at dksX3_nextLetter_0 0 rfl rfl)
theorem dX3_nextLetter_1 : decode cX3_nextLetter 1 = .ok (.getfield 128, 3) := dk_180 0 128 (dk_at dksX3_nextLetter_0 1 rfl rfl)
theorem dX3_nextLetter_4 : decode cX3_nextLetter 4 = .ok (.aload_n 0, 1) := dk_42 (dk_at dksX3_nextLetter_0 4 rfl rfl)
theorem dX3_nextLetter_5 : decode cX3_nextLetter 5 = .ok (.getfield 125, 3) := dk_180 0 125 (dk_at dksX3_nextLetter_0 5 rfl rfl)
theorem dX3_nextLetter_8 : decode cX3_nextLetter 8 = .ok (.if_icmp .ge 30, 3) := dk_162 0 30 (dk_at dksX3_nextLetter_0 8 rfl rfl)
theorem dX3_nextLetter_11 : decode cX3_nextLetter 11 = .ok (.aload_n 0, 1) := dk_42 (dk_at dksX3_nextLetter_0 11 rfl rfl)
theorem dX3_nextLetter_12 : decode cX3_nextLetter 12 = .ok (.getfield 44, 3) := dk_180 0 44 (dk_at dksX3_nextLetter_0 12 rfl rfl)
theorem dX3_nextLetter_15 : decode cX3_nextLetter 15 = .ok (.aload_n 0, 1) := dk_42 (dk_at dksX3_nextLetter_0 15 rfl rfl)
theorem dX3_nextLetter_16 : decode cX3_nextLetter 16 = .ok (.getfield 128, 3) := dk_180 0 128 (dk_at dksX3_nextLetter_0 16 rfl rfl)
theorem dX3_nextLetter_19 : decode cX3_nextLetter 19 = .ok (.iaload, 1) := dk_46 (dk_at dksX3_nextLetter_0 19 rfl rfl)
theorem dX3_nextLetter_20 : decode cX3_nextLetter 20 = .ok (.bipush 32, 2) := dk_16 32 (dk_at dksX3_nextLetter_0 20 rfl rfl)
theorem dX3_nextLetter_22 : decode cX3_nextLetter 22 = .ok (.if_icmp .ne 16, 3) := dk_160 0 16 (dk_at dksX3_nextLetter_1 0 rfl rfl)
theorem dX3_nextLetter_25 : decode cX3_nextLetter 25 = .ok (.aload_n 0, 1) := dk_42 (dk_at dksX3_nextLetter_1 3 rfl rfl)
theorem dX3_nextLetter_26 : decode cX3_nextLetter 26 = .ok (.dup, 1) := dk_89 (dk_at dksX3_nextLetter_1 4 rfl rfl)
theorem dX3_nextLetter_27 : decode cX3_nextLetter 27 = .ok (.getfield 128, 3) := dk_180 0 128 (dk_at dksX3_nextLetter_1 5 rfl rfl)
theorem dX3_nextLetter_30 : decode cX3_nextLetter 30 = .ok (.iconst 1, 1) := dk_4 (dk_at dksX3_nextLetter_1 8 rfl rfl)
theorem dX3_nextLetter_31 : decode cX3_nextLetter 31 = .ok (.iadd, 1) := dk_96 (dk_at dksX3_nextLetter_1 9 rfl rfl)
theorem dX3_nextLetter_32 : decode cX3_nextLetter 32 = .ok (.putfield 128, 3) := dk_181 0 128 (dk_at dksX3_nextLetter_1 10 rfl rfl)
theorem dX3_nextLetter_35 : decode cX3_nextLetter 35 = .ok (.goto (-35), 3) := dk_167 255 221 (dk_at dksX3_nextLetter_1 13 rfl rfl)
theorem dX3_nextLetter_38 : decode cX3_nextLetter 38 = .ok (.aload_n 0, 1) := dk_42 (dk_at dksX3_nextLetter_1 16 rfl rfl)
theorem dX3_nextLetter_39 : decode cX3_nextLetter 39 = .ok (.getfield 128, 3) := dk_180 0 128 (dk_at dksX3_nextLetter_1 17 rfl rfl)
theorem dX3_nextLetter_42 : decode cX3_nextLetter 42 = .ok (.aload_n 0, 1) := dk_42 (dk_at dksX3_nextLetter_1 20 rfl rfl)
theorem dX3_nextLetter_43 : decode cX3_nextLetter 43 = .ok (.getfield 125, 3) := dk_180 0 125 (dk_at dksX3_nextLetter_1 21 rfl rfl)
theorem dX3_nextLetter_46 : decode cX3_nextLetter 46 = .ok (.if_icmp .ge 15, 3) := dk_162 0 15 (dk_at dksX3_nextLetter_2 0 rfl rfl)
theorem dX3_nextLetter_49 : decode cX3_nextLetter 49 = .ok (.aload_n 0, 1) := dk_42 (dk_at dksX3_nextLetter_2 3 rfl rfl)
theorem dX3_nextLetter_50 : decode cX3_nextLetter 50 = .ok (.getfield 44, 3) := dk_180 0 44 (dk_at dksX3_nextLetter_2 4 rfl rfl)
theorem dX3_nextLetter_53 : decode cX3_nextLetter 53 = .ok (.aload_n 0, 1) := dk_42 (dk_at dksX3_nextLetter_2 7 rfl rfl)
theorem dX3_nextLetter_54 : decode cX3_nextLetter 54 = .ok (.getfield 128, 3) := dk_180 0 128 (dk_at dksX3_nextLetter_2 8 rfl rfl)
theorem dX3_nextLetter_57 : decode cX3_nextLetter 57 = .ok (.iaload, 1) := dk_46 (dk_at dksX3_nextLetter_2 11 rfl rfl)
theorem dX3_nextLetter_58 : decode cX3_nextLetter 58 = .ok (.goto 4, 3) := dk_167 0 4 (dk_at dksX3_nextLetter_2 12 rfl rfl)
theorem dX3_nextLetter_61 : decode cX3_nextLetter 61 = .ok (.iconst (-1), 1) := dk_2 (dk_at dksX3_nextLetter_2 15 rfl rfl)
theorem dX3_nextLetter_62 : decode cX3_nextLetter 62 = .ok (.ireturn, 1) := dk_172 (dk_at dksX3_nextLetter_2 16 rfl rfl)
abbrev cX3_end : ByteArray := prog_24_method_23_code
def yX3_end : MethodName := ⟨RX3, "end", "(Z)I"⟩
def dkwX3_end_1 : List UInt8 := [42, 180, 0, 128, 100, 172]
abbrev dktX3_end_1 : List UInt8 := dkwX3_end_1 ++ []
def dkwX3_end_0 : List UInt8 := [27, 154, 0, 8, 42, 182, 0, 131, 87, 42, 3, 181, 0, 125, 27, 153, 0, 7, 3, 167, 0, 10, 16, 236]
abbrev dktX3_end_0 : List UInt8 := dkwX3_end_0 ++ dktX3_end_1
theorem dksX3_end_0 : cX3_end.data.toList.drop 0 = dktX3_end_0 := by decide +kernel
theorem dksX3_end_1 : cX3_end.data.toList.drop 24 = dktX3_end_1 := dk_seg dksX3_end_0 24 rfl rfl
theorem dX3_end_0 : decode cX3_end 0 = .ok (.iload_n 1, 1) := dk_27 (dk_at dksX3_end_0 0 rfl rfl)
theorem dX3_end_1 : decode cX3_end 1 = .ok (.ifCond .ne 8, 3) := dk_154 0 8 (dk_at dksX3_end_0 1 rfl rfl)
theorem dX3_end_4 : decode cX3_end 4 = .ok (.aload_n 0, 1) := dk_42 (dk_at dksX3_end_0 4 rfl rfl)
theorem dX3_end_5 : decode cX3_end 5 = .ok (.invokevirtual 131, 3) := dk_182 0 131 (dk_at dksX3_end_0 5 rfl rfl)
theorem dX3_end_8 : decode cX3_end 8 = .ok (.pop, 1) := dk_87 (dk_at dksX3_end_0 8 rfl rfl)
theorem dX3_end_9 : decode cX3_end 9 = .ok (.aload_n 0, 1) := dk_42 (dk_at dksX3_end_0 9 rfl rfl)
theorem dX3_end_10 : decode cX3_end 10 = .ok (.iconst 0, 1) := dk_3 (dk_at dksX3_end_0 10 rfl rfl)
theorem dX3_end_11 : decode cX3_end 11 = .ok (.putfield 125, 3) := dk_181 0 125 (dk_at dksX3_end_0 11 rfl rfl)
theorem dX3_end_14 : decode cX3_end 14 = .ok (.iload_n 1, 1) := dk_27 (dk_at dksX3_end_0 14 rfl rfl)
theorem dX3_end_15 : decode cX3_end 15 = .ok (.ifCond .eq 7, 3) := dk_153 0 7 (dk_at dksX3_end_0 15 rfl rfl)
theorem dX3_end_18 : decode cX3_end 18 = .ok (.iconst 0, 1) := dk_3 (dk_at dksX3_end_0 18 rfl rfl)
theorem dX3_end_19 : decode cX3_end 19 = .ok (.goto 10, 3) := dk_167 0 10 (dk_at dksX3_end_0 19 rfl rfl)
theorem dX3_end_22 : decode cX3_end 22 = .ok (.bipush (-20), 2) := dk_16 236 (dk_at dksX3_end_0 22 rfl rfl)
theorem dX3_end_24 : decode cX3_end 24 = .ok (.aload_n 0, 1) := dk_42 (dk_at dksX3_end_1 0 rfl rfl)
theorem dX3_end_25 : decode cX3_end 25 = .ok (.getfield 128, 3) := dk_180 0 128 (dk_at dksX3_end_1 1 rfl rfl)
theorem dX3_end_28 : decode cX3_end 28 = .ok (.isub, 1) := dk_100 (dk_at dksX3_end_1 4 rfl rfl)
theorem dX3_end_29 : decode cX3_end 29 = .ok (.ireturn, 1) := dk_172 (dk_at dksX3_end_1 5 rfl rfl)
abbrev cX3_dialOf : ByteArray := prog_24_method_24_code
def yX3_dialOf : MethodName := ⟨RX3, "dialOf", "(I)I"⟩
def dkwX3_dialOf_2 : List UInt8 := [160, 0, 8, 16, 12, 167, 0, 4, 2, 172]
abbrev dktX3_dialOf_2 : List UInt8 := dkwX3_dialOf_2 ++ []
def dkwX3_dialOf_1 : List UInt8 := [160, 0, 8, 16, 10, 167, 0, 26, 26, 16, 98, 160, 0, 8, 16, 11, 167, 0, 15, 26, 16, 45]
abbrev dktX3_dialOf_1 : List UInt8 := dkwX3_dialOf_1 ++ dktX3_dialOf_2
def dkwX3_dialOf_0 : List UInt8 := [26, 133, 20, 0, 134, 20, 0, 136, 184, 0, 75, 153, 0, 10, 26, 16, 48, 100, 167, 0, 37, 26, 16, 97]
abbrev dktX3_dialOf_0 : List UInt8 := dkwX3_dialOf_0 ++ dktX3_dialOf_1
theorem dksX3_dialOf_0 : cX3_dialOf.data.toList.drop 0 = dktX3_dialOf_0 := by decide +kernel
theorem dksX3_dialOf_1 : cX3_dialOf.data.toList.drop 24 = dktX3_dialOf_1 := dk_seg dksX3_dialOf_0 24 rfl rfl
theorem dksX3_dialOf_2 : cX3_dialOf.data.toList.drop 46 = dktX3_dialOf_2 := dk_seg dksX3_dialOf_1 22 rfl rfl
theorem dX3_dialOf_0 : decode cX3_dialOf 0 = .ok (.iload_n 0, 1) := dk_26 (dk_at dksX3_dialOf_0 0 rfl rfl)
theorem dX3_dialOf_1 : decode cX3_dialOf 1 = .ok (.i2l, 1) := dk_133 (dk_at dksX3_dialOf_0 1 rfl rfl)
theorem dX3_dialOf_2 : decode cX3_dialOf 2 = .ok (.ldc2_w 134, 3) := dk_20 0 134 (dk_at dksX3_dialOf_0 2 rfl rfl)
theorem dX3_dialOf_5 : decode cX3_dialOf 5 = .ok (.ldc2_w 136, 3) := dk_20 0 136 (dk_at dksX3_dialOf_0 5 rfl rfl)
theorem dX3_dialOf_8 : decode cX3_dialOf 8 = .ok (.invokestatic 75, 3) := dk_184 0 75 (dk_at dksX3_dialOf_0 8 rfl rfl)
theorem dX3_dialOf_11 : decode cX3_dialOf 11 = .ok (.ifCond .eq 10, 3) := dk_153 0 10 (dk_at dksX3_dialOf_0 11 rfl rfl)
theorem dX3_dialOf_14 : decode cX3_dialOf 14 = .ok (.iload_n 0, 1) := dk_26 (dk_at dksX3_dialOf_0 14 rfl rfl)
theorem dX3_dialOf_15 : decode cX3_dialOf 15 = .ok (.bipush 48, 2) := dk_16 48 (dk_at dksX3_dialOf_0 15 rfl rfl)
theorem dX3_dialOf_17 : decode cX3_dialOf 17 = .ok (.isub, 1) := dk_100 (dk_at dksX3_dialOf_0 17 rfl rfl)
theorem dX3_dialOf_18 : decode cX3_dialOf 18 = .ok (.goto 37, 3) := dk_167 0 37 (dk_at dksX3_dialOf_0 18 rfl rfl)
theorem dX3_dialOf_21 : decode cX3_dialOf 21 = .ok (.iload_n 0, 1) := dk_26 (dk_at dksX3_dialOf_0 21 rfl rfl)
theorem dX3_dialOf_22 : decode cX3_dialOf 22 = .ok (.bipush 97, 2) := dk_16 97 (dk_at dksX3_dialOf_0 22 rfl rfl)
theorem dX3_dialOf_24 : decode cX3_dialOf 24 = .ok (.if_icmp .ne 8, 3) := dk_160 0 8 (dk_at dksX3_dialOf_1 0 rfl rfl)
theorem dX3_dialOf_27 : decode cX3_dialOf 27 = .ok (.bipush 10, 2) := dk_16 10 (dk_at dksX3_dialOf_1 3 rfl rfl)
theorem dX3_dialOf_29 : decode cX3_dialOf 29 = .ok (.goto 26, 3) := dk_167 0 26 (dk_at dksX3_dialOf_1 5 rfl rfl)
theorem dX3_dialOf_32 : decode cX3_dialOf 32 = .ok (.iload_n 0, 1) := dk_26 (dk_at dksX3_dialOf_1 8 rfl rfl)
theorem dX3_dialOf_33 : decode cX3_dialOf 33 = .ok (.bipush 98, 2) := dk_16 98 (dk_at dksX3_dialOf_1 9 rfl rfl)
theorem dX3_dialOf_35 : decode cX3_dialOf 35 = .ok (.if_icmp .ne 8, 3) := dk_160 0 8 (dk_at dksX3_dialOf_1 11 rfl rfl)
theorem dX3_dialOf_38 : decode cX3_dialOf 38 = .ok (.bipush 11, 2) := dk_16 11 (dk_at dksX3_dialOf_1 14 rfl rfl)
theorem dX3_dialOf_40 : decode cX3_dialOf 40 = .ok (.goto 15, 3) := dk_167 0 15 (dk_at dksX3_dialOf_1 16 rfl rfl)
theorem dX3_dialOf_43 : decode cX3_dialOf 43 = .ok (.iload_n 0, 1) := dk_26 (dk_at dksX3_dialOf_1 19 rfl rfl)
theorem dX3_dialOf_44 : decode cX3_dialOf 44 = .ok (.bipush 45, 2) := dk_16 45 (dk_at dksX3_dialOf_1 20 rfl rfl)
theorem dX3_dialOf_46 : decode cX3_dialOf 46 = .ok (.if_icmp .ne 8, 3) := dk_160 0 8 (dk_at dksX3_dialOf_2 0 rfl rfl)
theorem dX3_dialOf_49 : decode cX3_dialOf 49 = .ok (.bipush 12, 2) := dk_16 12 (dk_at dksX3_dialOf_2 3 rfl rfl)
theorem dX3_dialOf_51 : decode cX3_dialOf 51 = .ok (.goto 4, 3) := dk_167 0 4 (dk_at dksX3_dialOf_2 5 rfl rfl)
theorem dX3_dialOf_54 : decode cX3_dialOf 54 = .ok (.iconst (-1), 1) := dk_2 (dk_at dksX3_dialOf_2 8 rfl rfl)
theorem dX3_dialOf_55 : decode cX3_dialOf 55 = .ok (.ireturn, 1) := dk_172 (dk_at dksX3_dialOf_2 9 rfl rfl)
abbrev cX3_skyOf : ByteArray := prog_24_method_25_code
def yX3_skyOf : MethodName := ⟨RX3, "skyOf", "(I)I"⟩
def dkwX3_skyOf_1 : List UInt8 := [160, 0, 7, 5, 167, 0, 14, 26, 16, 110, 160, 0, 7, 6, 167, 0, 4, 2, 172]
abbrev dktX3_skyOf_1 : List UInt8 := dkwX3_skyOf_1 ++ []
def dkwX3_skyOf_0 : List UInt8 := [26, 16, 115, 160, 0, 7, 3, 167, 0, 34, 26, 16, 114, 160, 0, 7, 4, 167, 0, 24, 26, 16, 119]
abbrev dktX3_skyOf_0 : List UInt8 := dkwX3_skyOf_0 ++ dktX3_skyOf_1
theorem dksX3_skyOf_0 : cX3_skyOf.data.toList.drop 0 = dktX3_skyOf_0 := by decide +kernel
theorem dksX3_skyOf_1 : cX3_skyOf.data.toList.drop 23 = dktX3_skyOf_1 := dk_seg dksX3_skyOf_0 23 rfl rfl
theorem dX3_skyOf_0 : decode cX3_skyOf 0 = .ok (.iload_n 0, 1) := dk_26 (dk_at dksX3_skyOf_0 0 rfl rfl)
theorem dX3_skyOf_1 : decode cX3_skyOf 1 = .ok (.bipush 115, 2) := dk_16 115 (dk_at dksX3_skyOf_0 1 rfl rfl)
theorem dX3_skyOf_3 : decode cX3_skyOf 3 = .ok (.if_icmp .ne 7, 3) := dk_160 0 7 (dk_at dksX3_skyOf_0 3 rfl rfl)
theorem dX3_skyOf_6 : decode cX3_skyOf 6 = .ok (.iconst 0, 1) := dk_3 (dk_at dksX3_skyOf_0 6 rfl rfl)
theorem dX3_skyOf_7 : decode cX3_skyOf 7 = .ok (.goto 34, 3) := dk_167 0 34 (dk_at dksX3_skyOf_0 7 rfl rfl)
theorem dX3_skyOf_10 : decode cX3_skyOf 10 = .ok (.iload_n 0, 1) := dk_26 (dk_at dksX3_skyOf_0 10 rfl rfl)
theorem dX3_skyOf_11 : decode cX3_skyOf 11 = .ok (.bipush 114, 2) := dk_16 114 (dk_at dksX3_skyOf_0 11 rfl rfl)
theorem dX3_skyOf_13 : decode cX3_skyOf 13 = .ok (.if_icmp .ne 7, 3) := dk_160 0 7 (dk_at dksX3_skyOf_0 13 rfl rfl)
theorem dX3_skyOf_16 : decode cX3_skyOf 16 = .ok (.iconst 1, 1) := dk_4 (dk_at dksX3_skyOf_0 16 rfl rfl)
theorem dX3_skyOf_17 : decode cX3_skyOf 17 = .ok (.goto 24, 3) := dk_167 0 24 (dk_at dksX3_skyOf_0 17 rfl rfl)
theorem dX3_skyOf_20 : decode cX3_skyOf 20 = .ok (.iload_n 0, 1) := dk_26 (dk_at dksX3_skyOf_0 20 rfl rfl)
theorem dX3_skyOf_21 : decode cX3_skyOf 21 = .ok (.bipush 119, 2) := dk_16 119 (dk_at dksX3_skyOf_0 21 rfl rfl)
theorem dX3_skyOf_23 : decode cX3_skyOf 23 = .ok (.if_icmp .ne 7, 3) := dk_160 0 7 (dk_at dksX3_skyOf_1 0 rfl rfl)
theorem dX3_skyOf_26 : decode cX3_skyOf 26 = .ok (.iconst 2, 1) := dk_5 (dk_at dksX3_skyOf_1 3 rfl rfl)
theorem dX3_skyOf_27 : decode cX3_skyOf 27 = .ok (.goto 14, 3) := dk_167 0 14 (dk_at dksX3_skyOf_1 4 rfl rfl)
theorem dX3_skyOf_30 : decode cX3_skyOf 30 = .ok (.iload_n 0, 1) := dk_26 (dk_at dksX3_skyOf_1 7 rfl rfl)
theorem dX3_skyOf_31 : decode cX3_skyOf 31 = .ok (.bipush 110, 2) := dk_16 110 (dk_at dksX3_skyOf_1 8 rfl rfl)
theorem dX3_skyOf_33 : decode cX3_skyOf 33 = .ok (.if_icmp .ne 7, 3) := dk_160 0 7 (dk_at dksX3_skyOf_1 10 rfl rfl)
theorem dX3_skyOf_36 : decode cX3_skyOf 36 = .ok (.iconst 3, 1) := dk_6 (dk_at dksX3_skyOf_1 13 rfl rfl)
theorem dX3_skyOf_37 : decode cX3_skyOf 37 = .ok (.goto 4, 3) := dk_167 0 4 (dk_at dksX3_skyOf_1 14 rfl rfl)
theorem dX3_skyOf_40 : decode cX3_skyOf 40 = .ok (.iconst (-1), 1) := dk_2 (dk_at dksX3_skyOf_1 17 rfl rfl)
theorem dX3_skyOf_41 : decode cX3_skyOf 41 = .ok (.ireturn, 1) := dk_172 (dk_at dksX3_skyOf_1 18 rfl rfl)
abbrev cX3_readSigns : ByteArray := prog_24_method_26_code
def yX3_readSigns : MethodName := ⟨RX3, "readSigns", "(IIZ)Z"⟩
def dkwX3_readSigns_4 : List UInt8 := [180, 0, 139, 27, 161, 0, 7, 4, 167, 0, 4, 3, 172]
abbrev dktX3_readSigns_4 : List UInt8 := dkwX3_readSigns_4 ++ []
def dkwX3_readSigns_3 : List UInt8 := [180, 0, 139, 4, 96, 181, 0, 139, 42, 89, 180, 0, 128, 4, 96, 181, 0, 128, 167, 255, 180, 42]
abbrev dktX3_readSigns_3 : List UInt8 := dkwX3_readSigns_3 ++ dktX3_readSigns_4
def dkwX3_readSigns_2 : List UInt8 := [180, 0, 139, 28, 160, 0, 5, 3, 172, 42, 180, 0, 47, 42, 180, 0, 139, 21, 4, 79, 42, 89]
abbrev dktX3_readSigns_2 : List UInt8 := dkwX3_readSigns_2 ++ dktX3_readSigns_3
def dkwX3_readSigns_1 : List UInt8 := [182, 0, 131, 184, 0, 142, 167, 0, 10, 42, 182, 0, 131, 184, 0, 145, 54, 4, 21, 4, 155, 0, 11, 42]
abbrev dktX3_readSigns_1 : List UInt8 := dkwX3_readSigns_1 ++ dktX3_readSigns_2
def dkwX3_readSigns_0 : List UInt8 := [42, 3, 181, 0, 128, 42, 3, 181, 0, 139, 42, 182, 0, 131, 155, 0, 75, 29, 153, 0, 13, 42]
abbrev dktX3_readSigns_0 : List UInt8 := dkwX3_readSigns_0 ++ dktX3_readSigns_1
theorem dksX3_readSigns_0 : cX3_readSigns.data.toList.drop 0 = dktX3_readSigns_0 := by decide +kernel
theorem dksX3_readSigns_1 : cX3_readSigns.data.toList.drop 22 = dktX3_readSigns_1 := dk_seg dksX3_readSigns_0 22 rfl rfl
theorem dksX3_readSigns_2 : cX3_readSigns.data.toList.drop 46 = dktX3_readSigns_2 := dk_seg dksX3_readSigns_1 24 rfl rfl
theorem dksX3_readSigns_3 : cX3_readSigns.data.toList.drop 68 = dktX3_readSigns_3 := dk_seg dksX3_readSigns_2 22 rfl rfl
theorem dksX3_readSigns_4 : cX3_readSigns.data.toList.drop 90 = dktX3_readSigns_4 := dk_seg dksX3_readSigns_3 22 rfl rfl
theorem dX3_readSigns_0 : decode cX3_readSigns 0 = .ok (.aload_n 0, 1) := dk_42 (dk_at dksX3_readSigns_0 0 rfl rfl)
theorem dX3_readSigns_1 : decode cX3_readSigns 1 = .ok (.iconst 0, 1) := dk_3 (dk_at dksX3_readSigns_0 1 rfl rfl)
theorem dX3_readSigns_2 : decode cX3_readSigns 2 = .ok (.putfield 128, 3) := dk_181 0 128 (dk_at dksX3_readSigns_0 2 rfl rfl)
theorem dX3_readSigns_5 : decode cX3_readSigns 5 = .ok (.aload_n 0, 1) := dk_42 (dk_at dksX3_readSigns_0 5 rfl rfl)
theorem dX3_readSigns_6 : decode cX3_readSigns 6 = .ok (.iconst 0, 1) := dk_3 (dk_at dksX3_readSigns_0 6 rfl rfl)
theorem dX3_readSigns_7 : decode cX3_readSigns 7 = .ok (.putfield 139, 3) := dk_181 0 139 (dk_at dksX3_readSigns_0 7 rfl rfl)
theorem dX3_readSigns_10 : decode cX3_readSigns 10 = .ok (.aload_n 0, 1) := dk_42 (dk_at dksX3_readSigns_0 10 rfl rfl)
theorem dX3_readSigns_11 : decode cX3_readSigns 11 = .ok (.invokevirtual 131, 3) := dk_182 0 131 (dk_at dksX3_readSigns_0 11 rfl rfl)
theorem dX3_readSigns_14 : decode cX3_readSigns 14 = .ok (.ifCond .lt 75, 3) := dk_155 0 75 (dk_at dksX3_readSigns_0 14 rfl rfl)
theorem dX3_readSigns_17 : decode cX3_readSigns 17 = .ok (.iload_n 3, 1) := dk_29 (dk_at dksX3_readSigns_0 17 rfl rfl)
theorem dX3_readSigns_18 : decode cX3_readSigns 18 = .ok (.ifCond .eq 13, 3) := dk_153 0 13 (dk_at dksX3_readSigns_0 18 rfl rfl)
theorem dX3_readSigns_21 : decode cX3_readSigns 21 = .ok (.aload_n 0, 1) := dk_42 (dk_at dksX3_readSigns_0 21 rfl rfl)
theorem dX3_readSigns_22 : decode cX3_readSigns 22 = .ok (.invokevirtual 131, 3) := dk_182 0 131 (dk_at dksX3_readSigns_1 0 rfl rfl)
theorem dX3_readSigns_25 : decode cX3_readSigns 25 = .ok (.invokestatic 142, 3) := dk_184 0 142 (dk_at dksX3_readSigns_1 3 rfl rfl)
theorem dX3_readSigns_28 : decode cX3_readSigns 28 = .ok (.goto 10, 3) := dk_167 0 10 (dk_at dksX3_readSigns_1 6 rfl rfl)
theorem dX3_readSigns_31 : decode cX3_readSigns 31 = .ok (.aload_n 0, 1) := dk_42 (dk_at dksX3_readSigns_1 9 rfl rfl)
theorem dX3_readSigns_32 : decode cX3_readSigns 32 = .ok (.invokevirtual 131, 3) := dk_182 0 131 (dk_at dksX3_readSigns_1 10 rfl rfl)
theorem dX3_readSigns_35 : decode cX3_readSigns 35 = .ok (.invokestatic 145, 3) := dk_184 0 145 (dk_at dksX3_readSigns_1 13 rfl rfl)
theorem dX3_readSigns_38 : decode cX3_readSigns 38 = .ok (.istore 4, 2) := dk_54 4 (dk_at dksX3_readSigns_1 16 rfl rfl)
theorem dX3_readSigns_40 : decode cX3_readSigns 40 = .ok (.iload 4, 2) := dk_21 4 (dk_at dksX3_readSigns_1 18 rfl rfl)
theorem dX3_readSigns_42 : decode cX3_readSigns 42 = .ok (.ifCond .lt 11, 3) := dk_155 0 11 (dk_at dksX3_readSigns_1 20 rfl rfl)
theorem dX3_readSigns_45 : decode cX3_readSigns 45 = .ok (.aload_n 0, 1) := dk_42 (dk_at dksX3_readSigns_1 23 rfl rfl)
theorem dX3_readSigns_46 : decode cX3_readSigns 46 = .ok (.getfield 139, 3) := dk_180 0 139 (dk_at dksX3_readSigns_2 0 rfl rfl)
theorem dX3_readSigns_49 : decode cX3_readSigns 49 = .ok (.iload_n 2, 1) := dk_28 (dk_at dksX3_readSigns_2 3 rfl rfl)
theorem dX3_readSigns_50 : decode cX3_readSigns 50 = .ok (.if_icmp .ne 5, 3) := dk_160 0 5 (dk_at dksX3_readSigns_2 4 rfl rfl)
theorem dX3_readSigns_53 : decode cX3_readSigns 53 = .ok (.iconst 0, 1) := dk_3 (dk_at dksX3_readSigns_2 7 rfl rfl)
theorem dX3_readSigns_54 : decode cX3_readSigns 54 = .ok (.ireturn, 1) := dk_172 (dk_at dksX3_readSigns_2 8 rfl rfl)
theorem dX3_readSigns_55 : decode cX3_readSigns 55 = .ok (.aload_n 0, 1) := dk_42 (dk_at dksX3_readSigns_2 9 rfl rfl)
theorem dX3_readSigns_56 : decode cX3_readSigns 56 = .ok (.getfield 47, 3) := dk_180 0 47 (dk_at dksX3_readSigns_2 10 rfl rfl)
theorem dX3_readSigns_59 : decode cX3_readSigns 59 = .ok (.aload_n 0, 1) := dk_42 (dk_at dksX3_readSigns_2 13 rfl rfl)
theorem dX3_readSigns_60 : decode cX3_readSigns 60 = .ok (.getfield 139, 3) := dk_180 0 139 (dk_at dksX3_readSigns_2 14 rfl rfl)
theorem dX3_readSigns_63 : decode cX3_readSigns 63 = .ok (.iload 4, 2) := dk_21 4 (dk_at dksX3_readSigns_2 17 rfl rfl)
theorem dX3_readSigns_65 : decode cX3_readSigns 65 = .ok (.iastore, 1) := dk_79 (dk_at dksX3_readSigns_2 19 rfl rfl)
theorem dX3_readSigns_66 : decode cX3_readSigns 66 = .ok (.aload_n 0, 1) := dk_42 (dk_at dksX3_readSigns_2 20 rfl rfl)
theorem dX3_readSigns_67 : decode cX3_readSigns 67 = .ok (.dup, 1) := dk_89 (dk_at dksX3_readSigns_2 21 rfl rfl)
theorem dX3_readSigns_68 : decode cX3_readSigns 68 = .ok (.getfield 139, 3) := dk_180 0 139 (dk_at dksX3_readSigns_3 0 rfl rfl)
theorem dX3_readSigns_71 : decode cX3_readSigns 71 = .ok (.iconst 1, 1) := dk_4 (dk_at dksX3_readSigns_3 3 rfl rfl)
theorem dX3_readSigns_72 : decode cX3_readSigns 72 = .ok (.iadd, 1) := dk_96 (dk_at dksX3_readSigns_3 4 rfl rfl)
theorem dX3_readSigns_73 : decode cX3_readSigns 73 = .ok (.putfield 139, 3) := dk_181 0 139 (dk_at dksX3_readSigns_3 5 rfl rfl)
theorem dX3_readSigns_76 : decode cX3_readSigns 76 = .ok (.aload_n 0, 1) := dk_42 (dk_at dksX3_readSigns_3 8 rfl rfl)
theorem dX3_readSigns_77 : decode cX3_readSigns 77 = .ok (.dup, 1) := dk_89 (dk_at dksX3_readSigns_3 9 rfl rfl)
theorem dX3_readSigns_78 : decode cX3_readSigns 78 = .ok (.getfield 128, 3) := dk_180 0 128 (dk_at dksX3_readSigns_3 10 rfl rfl)
theorem dX3_readSigns_81 : decode cX3_readSigns 81 = .ok (.iconst 1, 1) := dk_4 (dk_at dksX3_readSigns_3 13 rfl rfl)
theorem dX3_readSigns_82 : decode cX3_readSigns 82 = .ok (.iadd, 1) := dk_96 (dk_at dksX3_readSigns_3 14 rfl rfl)
theorem dX3_readSigns_83 : decode cX3_readSigns 83 = .ok (.putfield 128, 3) := dk_181 0 128 (dk_at dksX3_readSigns_3 15 rfl rfl)
theorem dX3_readSigns_86 : decode cX3_readSigns 86 = .ok (.goto (-76), 3) := dk_167 255 180 (dk_at dksX3_readSigns_3 18 rfl rfl)
theorem dX3_readSigns_89 : decode cX3_readSigns 89 = .ok (.aload_n 0, 1) := dk_42 (dk_at dksX3_readSigns_3 21 rfl rfl)
theorem dX3_readSigns_90 : decode cX3_readSigns 90 = .ok (.getfield 139, 3) := dk_180 0 139 (dk_at dksX3_readSigns_4 0 rfl rfl)
theorem dX3_readSigns_93 : decode cX3_readSigns 93 = .ok (.iload_n 1, 1) := dk_27 (dk_at dksX3_readSigns_4 3 rfl rfl)
theorem dX3_readSigns_94 : decode cX3_readSigns 94 = .ok (.if_icmp .lt 7, 3) := dk_161 0 7 (dk_at dksX3_readSigns_4 4 rfl rfl)
theorem dX3_readSigns_97 : decode cX3_readSigns 97 = .ok (.iconst 1, 1) := dk_4 (dk_at dksX3_readSigns_4 7 rfl rfl)
theorem dX3_readSigns_98 : decode cX3_readSigns 98 = .ok (.goto 4, 3) := dk_167 0 4 (dk_at dksX3_readSigns_4 8 rfl rfl)
theorem dX3_readSigns_101 : decode cX3_readSigns 101 = .ok (.iconst 0, 1) := dk_3 (dk_at dksX3_readSigns_4 11 rfl rfl)
theorem dX3_readSigns_102 : decode cX3_readSigns 102 = .ok (.ireturn, 1) := dk_172 (dk_at dksX3_readSigns_4 12 rfl rfl)
abbrev cX3_course : ByteArray := prog_24_method_28_code
def yX3_course : MethodName := ⟨RX3, "course", "()I"⟩
def dkwX3_course_2 : List UInt8 := [79, 132, 2, 1, 167, 255, 233, 42, 182, 0, 156, 42, 180, 0, 19, 172]
abbrev dktX3_course_2 : List UInt8 := dkwX3_course_2 ++ []
def dkwX3_course_1 : List UInt8 := [181, 0, 19, 3, 61, 28, 42, 180, 0, 19, 162, 0, 21, 42, 180, 0, 7, 28, 42, 180, 0, 47, 28, 46]
abbrev dktX3_course_1 : List UInt8 := dkwX3_course_1 ++ dktX3_course_2
def dkwX3_course_0 : List UInt8 := [42, 42, 5, 16, 24, 4, 182, 0, 148, 182, 0, 152, 60, 27, 156, 0, 5, 27, 172, 42, 42, 180, 0, 139]
abbrev dktX3_course_0 : List UInt8 := dkwX3_course_0 ++ dktX3_course_1
theorem dksX3_course_0 : cX3_course.data.toList.drop 0 = dktX3_course_0 := by decide +kernel
theorem dksX3_course_1 : cX3_course.data.toList.drop 24 = dktX3_course_1 := dk_seg dksX3_course_0 24 rfl rfl
theorem dksX3_course_2 : cX3_course.data.toList.drop 48 = dktX3_course_2 := dk_seg dksX3_course_1 24 rfl rfl
theorem dX3_course_0 : decode cX3_course 0 = .ok (.aload_n 0, 1) := dk_42 (dk_at dksX3_course_0 0 rfl rfl)
theorem dX3_course_1 : decode cX3_course 1 = .ok (.aload_n 0, 1) := dk_42 (dk_at dksX3_course_0 1 rfl rfl)
theorem dX3_course_2 : decode cX3_course 2 = .ok (.iconst 2, 1) := dk_5 (dk_at dksX3_course_0 2 rfl rfl)
theorem dX3_course_3 : decode cX3_course 3 = .ok (.bipush 24, 2) := dk_16 24 (dk_at dksX3_course_0 3 rfl rfl)
theorem dX3_course_5 : decode cX3_course 5 = .ok (.iconst 1, 1) := dk_4 (dk_at dksX3_course_0 5 rfl rfl)
theorem dX3_course_6 : decode cX3_course 6 = .ok (.invokevirtual 148, 3) := dk_182 0 148 (dk_at dksX3_course_0 6 rfl rfl)
theorem dX3_course_9 : decode cX3_course 9 = .ok (.invokevirtual 152, 3) := dk_182 0 152 (dk_at dksX3_course_0 9 rfl rfl)
theorem dX3_course_12 : decode cX3_course 12 = .ok (.istore_n 1, 1) := dk_60 (dk_at dksX3_course_0 12 rfl rfl)
theorem dX3_course_13 : decode cX3_course 13 = .ok (.iload_n 1, 1) := dk_27 (dk_at dksX3_course_0 13 rfl rfl)
theorem dX3_course_14 : decode cX3_course 14 = .ok (.ifCond .ge 5, 3) := dk_156 0 5 (dk_at dksX3_course_0 14 rfl rfl)
theorem dX3_course_17 : decode cX3_course 17 = .ok (.iload_n 1, 1) := dk_27 (dk_at dksX3_course_0 17 rfl rfl)
theorem dX3_course_18 : decode cX3_course 18 = .ok (.ireturn, 1) := dk_172 (dk_at dksX3_course_0 18 rfl rfl)
theorem dX3_course_19 : decode cX3_course 19 = .ok (.aload_n 0, 1) := dk_42 (dk_at dksX3_course_0 19 rfl rfl)
theorem dX3_course_20 : decode cX3_course 20 = .ok (.aload_n 0, 1) := dk_42 (dk_at dksX3_course_0 20 rfl rfl)
theorem dX3_course_21 : decode cX3_course 21 = .ok (.getfield 139, 3) := dk_180 0 139 (dk_at dksX3_course_0 21 rfl rfl)
theorem dX3_course_24 : decode cX3_course 24 = .ok (.putfield 19, 3) := dk_181 0 19 (dk_at dksX3_course_1 0 rfl rfl)
theorem dX3_course_27 : decode cX3_course 27 = .ok (.iconst 0, 1) := dk_3 (dk_at dksX3_course_1 3 rfl rfl)
theorem dX3_course_28 : decode cX3_course 28 = .ok (.istore_n 2, 1) := dk_61 (dk_at dksX3_course_1 4 rfl rfl)
theorem dX3_course_29 : decode cX3_course 29 = .ok (.iload_n 2, 1) := dk_28 (dk_at dksX3_course_1 5 rfl rfl)
theorem dX3_course_30 : decode cX3_course 30 = .ok (.aload_n 0, 1) := dk_42 (dk_at dksX3_course_1 6 rfl rfl)
theorem dX3_course_31 : decode cX3_course 31 = .ok (.getfield 19, 3) := dk_180 0 19 (dk_at dksX3_course_1 7 rfl rfl)
theorem dX3_course_34 : decode cX3_course 34 = .ok (.if_icmp .ge 21, 3) := dk_162 0 21 (dk_at dksX3_course_1 10 rfl rfl)
theorem dX3_course_37 : decode cX3_course 37 = .ok (.aload_n 0, 1) := dk_42 (dk_at dksX3_course_1 13 rfl rfl)
theorem dX3_course_38 : decode cX3_course 38 = .ok (.getfield 7, 3) := dk_180 0 7 (dk_at dksX3_course_1 14 rfl rfl)
theorem dX3_course_41 : decode cX3_course 41 = .ok (.iload_n 2, 1) := dk_28 (dk_at dksX3_course_1 17 rfl rfl)
theorem dX3_course_42 : decode cX3_course 42 = .ok (.aload_n 0, 1) := dk_42 (dk_at dksX3_course_1 18 rfl rfl)
theorem dX3_course_43 : decode cX3_course 43 = .ok (.getfield 47, 3) := dk_180 0 47 (dk_at dksX3_course_1 19 rfl rfl)
theorem dX3_course_46 : decode cX3_course 46 = .ok (.iload_n 2, 1) := dk_28 (dk_at dksX3_course_1 22 rfl rfl)
theorem dX3_course_47 : decode cX3_course 47 = .ok (.iaload, 1) := dk_46 (dk_at dksX3_course_1 23 rfl rfl)
theorem dX3_course_48 : decode cX3_course 48 = .ok (.iastore, 1) := dk_79 (dk_at dksX3_course_2 0 rfl rfl)
theorem dX3_course_49 : decode cX3_course 49 = .ok (.iinc 2 1, 3) := dk_132 2 1 (dk_at dksX3_course_2 1 rfl rfl)
theorem dX3_course_52 : decode cX3_course 52 = .ok (.goto (-23), 3) := dk_167 255 233 (dk_at dksX3_course_2 4 rfl rfl)
theorem dX3_course_55 : decode cX3_course 55 = .ok (.aload_n 0, 1) := dk_42 (dk_at dksX3_course_2 7 rfl rfl)
theorem dX3_course_56 : decode cX3_course 56 = .ok (.invokevirtual 156, 3) := dk_182 0 156 (dk_at dksX3_course_2 8 rfl rfl)
theorem dX3_course_59 : decode cX3_course 59 = .ok (.aload_n 0, 1) := dk_42 (dk_at dksX3_course_2 11 rfl rfl)
theorem dX3_course_60 : decode cX3_course 60 = .ok (.getfield 19, 3) := dk_180 0 19 (dk_at dksX3_course_2 12 rfl rfl)
theorem dX3_course_63 : decode cX3_course 63 = .ok (.ireturn, 1) := dk_172 (dk_at dksX3_course_2 15 rfl rfl)
abbrev cX3_skies : ByteArray := prog_24_method_29_code
def yX3_skies : MethodName := ⟨RX3, "skies", "()I"⟩
def dkwX3_skies_2 : List UInt8 := [79, 132, 2, 1, 167, 255, 233, 42, 180, 0, 26, 172]
abbrev dktX3_skies_2 : List UInt8 := dkwX3_skies_2 ++ []
def dkwX3_skies_1 : List UInt8 := [181, 0, 26, 3, 61, 28, 42, 180, 0, 26, 162, 0, 21, 42, 180, 0, 23, 28, 42, 180, 0, 47, 28, 46]
abbrev dktX3_skies_1 : List UInt8 := dkwX3_skies_1 ++ dktX3_skies_2
def dkwX3_skies_0 : List UInt8 := [42, 42, 4, 16, 12, 3, 182, 0, 148, 182, 0, 152, 60, 27, 156, 0, 5, 27, 172, 42, 42, 180, 0, 139]
abbrev dktX3_skies_0 : List UInt8 := dkwX3_skies_0 ++ dktX3_skies_1
theorem dksX3_skies_0 : cX3_skies.data.toList.drop 0 = dktX3_skies_0 := by decide +kernel
theorem dksX3_skies_1 : cX3_skies.data.toList.drop 24 = dktX3_skies_1 := dk_seg dksX3_skies_0 24 rfl rfl
theorem dksX3_skies_2 : cX3_skies.data.toList.drop 48 = dktX3_skies_2 := dk_seg dksX3_skies_1 24 rfl rfl
theorem dX3_skies_0 : decode cX3_skies 0 = .ok (.aload_n 0, 1) := dk_42 (dk_at dksX3_skies_0 0 rfl rfl)
theorem dX3_skies_1 : decode cX3_skies 1 = .ok (.aload_n 0, 1) := dk_42 (dk_at dksX3_skies_0 1 rfl rfl)
theorem dX3_skies_2 : decode cX3_skies 2 = .ok (.iconst 1, 1) := dk_4 (dk_at dksX3_skies_0 2 rfl rfl)
theorem dX3_skies_3 : decode cX3_skies 3 = .ok (.bipush 12, 2) := dk_16 12 (dk_at dksX3_skies_0 3 rfl rfl)
theorem dX3_skies_5 : decode cX3_skies 5 = .ok (.iconst 0, 1) := dk_3 (dk_at dksX3_skies_0 5 rfl rfl)
theorem dX3_skies_6 : decode cX3_skies 6 = .ok (.invokevirtual 148, 3) := dk_182 0 148 (dk_at dksX3_skies_0 6 rfl rfl)
theorem dX3_skies_9 : decode cX3_skies 9 = .ok (.invokevirtual 152, 3) := dk_182 0 152 (dk_at dksX3_skies_0 9 rfl rfl)
theorem dX3_skies_12 : decode cX3_skies 12 = .ok (.istore_n 1, 1) := dk_60 (dk_at dksX3_skies_0 12 rfl rfl)
theorem dX3_skies_13 : decode cX3_skies 13 = .ok (.iload_n 1, 1) := dk_27 (dk_at dksX3_skies_0 13 rfl rfl)
theorem dX3_skies_14 : decode cX3_skies 14 = .ok (.ifCond .ge 5, 3) := dk_156 0 5 (dk_at dksX3_skies_0 14 rfl rfl)
theorem dX3_skies_17 : decode cX3_skies 17 = .ok (.iload_n 1, 1) := dk_27 (dk_at dksX3_skies_0 17 rfl rfl)
theorem dX3_skies_18 : decode cX3_skies 18 = .ok (.ireturn, 1) := dk_172 (dk_at dksX3_skies_0 18 rfl rfl)
theorem dX3_skies_19 : decode cX3_skies 19 = .ok (.aload_n 0, 1) := dk_42 (dk_at dksX3_skies_0 19 rfl rfl)
theorem dX3_skies_20 : decode cX3_skies 20 = .ok (.aload_n 0, 1) := dk_42 (dk_at dksX3_skies_0 20 rfl rfl)
theorem dX3_skies_21 : decode cX3_skies 21 = .ok (.getfield 139, 3) := dk_180 0 139 (dk_at dksX3_skies_0 21 rfl rfl)
theorem dX3_skies_24 : decode cX3_skies 24 = .ok (.putfield 26, 3) := dk_181 0 26 (dk_at dksX3_skies_1 0 rfl rfl)
theorem dX3_skies_27 : decode cX3_skies 27 = .ok (.iconst 0, 1) := dk_3 (dk_at dksX3_skies_1 3 rfl rfl)
theorem dX3_skies_28 : decode cX3_skies 28 = .ok (.istore_n 2, 1) := dk_61 (dk_at dksX3_skies_1 4 rfl rfl)
theorem dX3_skies_29 : decode cX3_skies 29 = .ok (.iload_n 2, 1) := dk_28 (dk_at dksX3_skies_1 5 rfl rfl)
theorem dX3_skies_30 : decode cX3_skies 30 = .ok (.aload_n 0, 1) := dk_42 (dk_at dksX3_skies_1 6 rfl rfl)
theorem dX3_skies_31 : decode cX3_skies 31 = .ok (.getfield 26, 3) := dk_180 0 26 (dk_at dksX3_skies_1 7 rfl rfl)
theorem dX3_skies_34 : decode cX3_skies 34 = .ok (.if_icmp .ge 21, 3) := dk_162 0 21 (dk_at dksX3_skies_1 10 rfl rfl)
theorem dX3_skies_37 : decode cX3_skies 37 = .ok (.aload_n 0, 1) := dk_42 (dk_at dksX3_skies_1 13 rfl rfl)
theorem dX3_skies_38 : decode cX3_skies 38 = .ok (.getfield 23, 3) := dk_180 0 23 (dk_at dksX3_skies_1 14 rfl rfl)
theorem dX3_skies_41 : decode cX3_skies 41 = .ok (.iload_n 2, 1) := dk_28 (dk_at dksX3_skies_1 17 rfl rfl)
theorem dX3_skies_42 : decode cX3_skies 42 = .ok (.aload_n 0, 1) := dk_42 (dk_at dksX3_skies_1 18 rfl rfl)
theorem dX3_skies_43 : decode cX3_skies 43 = .ok (.getfield 47, 3) := dk_180 0 47 (dk_at dksX3_skies_1 19 rfl rfl)
theorem dX3_skies_46 : decode cX3_skies 46 = .ok (.iload_n 2, 1) := dk_28 (dk_at dksX3_skies_1 22 rfl rfl)
theorem dX3_skies_47 : decode cX3_skies 47 = .ok (.iaload, 1) := dk_46 (dk_at dksX3_skies_1 23 rfl rfl)
theorem dX3_skies_48 : decode cX3_skies 48 = .ok (.iastore, 1) := dk_79 (dk_at dksX3_skies_2 0 rfl rfl)
theorem dX3_skies_49 : decode cX3_skies 49 = .ok (.iinc 2 1, 3) := dk_132 2 1 (dk_at dksX3_skies_2 1 rfl rfl)
theorem dX3_skies_52 : decode cX3_skies 52 = .ok (.goto (-23), 3) := dk_167 255 233 (dk_at dksX3_skies_2 4 rfl rfl)
theorem dX3_skies_55 : decode cX3_skies 55 = .ok (.aload_n 0, 1) := dk_42 (dk_at dksX3_skies_2 7 rfl rfl)
theorem dX3_skies_56 : decode cX3_skies 56 = .ok (.getfield 26, 3) := dk_180 0 26 (dk_at dksX3_skies_2 8 rfl rfl)
theorem dX3_skies_59 : decode cX3_skies 59 = .ok (.ireturn, 1) := dk_172 (dk_at dksX3_skies_2 11 rfl rfl)
theorem q76 : (Jvm.Cond.initialized "LameClocksModel") ∈ lw_all := lw_g (lw_at lw_m1 7 rfl) rfl
theorem q1680 : (Jvm.Cond.fieldLink "LameClocksModel" (7 : Nat) "LameClocksModel" "st" "[I") ∈ lw_all := lw_g (lw_at lw_m7 171 rfl) rfl
theorem q1681 : (Jvm.Cond.fieldLink "LameClocksModel" (13 : Nat) "LameClocksModel" "kinds" "[I") ∈ lw_all := lw_g (lw_at lw_m7 172 rfl) rfl
theorem q1682 : (Jvm.Cond.fieldLink "LameClocksModel" (16 : Nat) "LameClocksModel" "rates" "[I") ∈ lw_all := lw_g (lw_at lw_m7 173 rfl) rfl
theorem q1683 : (Jvm.Cond.fieldLink "LameClocksModel" (72 : Nat) "LameClocksModel" "clocks" "I") ∈ lw_all := lw_g (lw_at lw_m7 174 rfl) rfl
theorem q1684 : (Jvm.Cond.fieldLink "LameClocksModel" (19 : Nat) "LameClocksModel" "windows" "I") ∈ lw_all := lw_g (lw_at lw_m7 175 rfl) rfl
theorem q1685 : (Jvm.Cond.fieldLink "LameClocksModel" (23 : Nat) "LameClocksModel" "skyRow" "[I") ∈ lw_all := lw_g (lw_at lw_m7 176 rfl) rfl
theorem q1686 : (Jvm.Cond.fieldLink "LameClocksModel" (26 : Nat) "LameClocksModel" "skyMany" "I") ∈ lw_all := lw_g (lw_at lw_m7 177 rfl) rfl
theorem q1688 : (Jvm.Cond.fieldLink "LameClocksModel" (32 : Nat) "LameClocksModel" "betOn" "[I") ∈ lw_all := lw_g (lw_at lw_m7 179 rfl) rfl
theorem q1689 : (Jvm.Cond.fieldLink "LameClocksModel" (35 : Nat) "LameClocksModel" "stakes" "[I") ∈ lw_all := lw_g (lw_at lw_m7 180 rfl) rfl
theorem q1690 : (Jvm.Cond.fieldLink "LameClocksModel" (93 : Nat) "LameClocksModel" "bets" "I") ∈ lw_all := lw_g (lw_at lw_m7 181 rfl) rfl
theorem q1692 : (Jvm.Cond.fieldLink "LameClocksModel" (96 : Nat) "LameClocksModel" "undoMany" "I") ∈ lw_all := lw_g (lw_at lw_m7 183 rfl) rfl
theorem q1694 : (Jvm.Cond.fieldLink "LameClocksModel" (44 : Nat) "LameClocksModel" "tape" "[I") ∈ lw_all := lw_g (lw_at lw_m7 185 rfl) rfl
theorem q1695 : (Jvm.Cond.fieldLink "LameClocksModel" (125 : Nat) "LameClocksModel" "taped" "I") ∈ lw_all := lw_g (lw_at lw_m7 186 rfl) rfl
theorem q1696 : (Jvm.Cond.fieldLink "LameClocksModel" (128 : Nat) "LameClocksModel" "place" "I") ∈ lw_all := lw_g (lw_at lw_m7 187 rfl) rfl
theorem q1697 : (Jvm.Cond.fieldLink "LameClocksModel" (139 : Nat) "LameClocksModel" "reads" "I") ∈ lw_all := lw_g (lw_at lw_m7 188 rfl) rfl
theorem q1698 : (Jvm.Cond.fieldLink "LameClocksModel" (47 : Nat) "LameClocksModel" "read" "[I") ∈ lw_all := lw_g (lw_at lw_m7 189 rfl) rfl
theorem q1765 : (Jvm.Cond.code ({ cls := "LameClocksModel", name := "clock", desc := "(IIII)I" } : Jvm.MethodName) prog_24_method_8_code (5 : Nat) (Option.some Jvm.ClassFile.FieldType.int)) ∈ lw_all := lw_g (lw_at lw_m8 16 rfl) rfl
theorem q1766 : (Jvm.Cond.constantLong "LameClocksModel" (79 : Nat) (5 : Int64)) ∈ lw_all := lw_g (lw_at lw_m8 17 rfl) rfl
theorem q1767 : (Jvm.Cond.methodLink "LameClocksModel" (75 : Nat) ({ cls := "LameClocksModel", name := "in", desc := "(JJJ)Z" } : Jvm.MethodName)) ∈ lw_all := lw_g (lw_at lw_m8 18 rfl) rfl
theorem q1768 : (Jvm.Cond.static ({ cls := "LameClocksModel", name := "in", desc := "(JJJ)Z" } : Jvm.MethodName)) ∈ lw_all := lw_g (lw_at lw_m8 19 rfl) rfl
theorem q1769 : (Jvm.Cond.code ({ cls := "LameClocksModel", name := "in", desc := "(JJJ)Z" } : Jvm.MethodName) prog_24_method_2_code (6 : Nat) (Option.some Jvm.ClassFile.FieldType.boolean)) ∈ lw_all := lw_g (lw_at lw_m8 20 rfl) rfl
theorem q1770 : (Jvm.Cond.constantLong "LameClocksModel" (81 : Nat) (719 : Int64)) ∈ lw_all := lw_g (lw_at lw_m8 21 rfl) rfl
theorem q1771 : (Jvm.Cond.constantLong "LameClocksModel" (83 : Nat) (-30 : Int64)) ∈ lw_all := lw_g (lw_at lw_m8 22 rfl) rfl
theorem q1772 : (Jvm.Cond.constantLong "LameClocksModel" (85 : Nat) (30 : Int64)) ∈ lw_all := lw_g (lw_at lw_m8 23 rfl) rfl
theorem q1773 : (Jvm.Cond.constantLong "LameClocksModel" (87 : Nat) (99 : Int64)) ∈ lw_all := lw_g (lw_at lw_m8 24 rfl) rfl
theorem q1774 : (Jvm.Cond.methodLink "LameClocksModel" (89 : Nat) ({ cls := "LameClocksModel", name := "add", desc := "(IIII)V" } : Jvm.MethodName)) ∈ lw_all := lw_g (lw_at lw_m8 25 rfl) rfl
theorem q1776 : (Jvm.Cond.instanceMethod ({ cls := "LameClocksModel", name := "add", desc := "(IIII)V" } : Jvm.MethodName)) ∈ lw_all := lw_g (lw_at lw_m8 27 rfl) rfl
theorem q1777 : (Jvm.Cond.code ({ cls := "LameClocksModel", name := "add", desc := "(IIII)V" } : Jvm.MethodName) prog_24_method_7_code (5 : Nat) (Option.none : Option Jvm.ClassFile.FieldType)) ∈ lw_all := lw_g (lw_at lw_m8 28 rfl) rfl
theorem q1781 : (Jvm.Cond.code ({ cls := "LameClocksModel", name := "strike", desc := "()I" } : Jvm.MethodName) prog_24_method_9_code (3 : Nat) (Option.some Jvm.ClassFile.FieldType.int)) ∈ lw_all := lw_g (lw_at lw_m8 32 rfl) rfl
theorem q1785 : (Jvm.Cond.code ({ cls := "LameClocksModel", name := "told", desc := "(II)I" } : Jvm.MethodName) prog_24_method_14_code (3 : Nat) (Option.some Jvm.ClassFile.FieldType.int)) ∈ lw_all := lw_g (lw_at lw_m8 36 rfl) rfl
theorem q1786 : (Jvm.Cond.methodLink "LameClocksModel" (107 : Nat) ({ cls := "LameClocksModel", name := "isClock", desc := "(I)Z" } : Jvm.MethodName)) ∈ lw_all := lw_g (lw_at lw_m8 37 rfl) rfl
theorem q1788 : (Jvm.Cond.instanceMethod ({ cls := "LameClocksModel", name := "isClock", desc := "(I)Z" } : Jvm.MethodName)) ∈ lw_all := lw_g (lw_at lw_m8 39 rfl) rfl
theorem q1789 : (Jvm.Cond.code ({ cls := "LameClocksModel", name := "isClock", desc := "(I)Z" } : Jvm.MethodName) prog_24_method_4_code (2 : Nat) (Option.some Jvm.ClassFile.FieldType.boolean)) ∈ lw_all := lw_g (lw_at lw_m8 40 rfl) rfl
theorem q1790 : (Jvm.Cond.methodLink "LameClocksModel" (103 : Nat) ({ cls := "LameClocksModel", name := "shownBy", desc := "(I)I" } : Jvm.MethodName)) ∈ lw_all := lw_g (lw_at lw_m8 41 rfl) rfl
theorem q1792 : (Jvm.Cond.instanceMethod ({ cls := "LameClocksModel", name := "shownBy", desc := "(I)I" } : Jvm.MethodName)) ∈ lw_all := lw_g (lw_at lw_m8 43 rfl) rfl
theorem q1793 : (Jvm.Cond.code ({ cls := "LameClocksModel", name := "shownBy", desc := "(I)I" } : Jvm.MethodName) prog_24_method_11_code (3 : Nat) (Option.some Jvm.ClassFile.FieldType.int)) ∈ lw_all := lw_g (lw_at lw_m8 44 rfl) rfl
theorem q1794 : (Jvm.Cond.methodLink "LameClocksModel" (99 : Nat) ({ cls := "LameClocksModel", name := "truth", desc := "()I" } : Jvm.MethodName)) ∈ lw_all := lw_g (lw_at lw_m8 45 rfl) rfl
theorem q1796 : (Jvm.Cond.instanceMethod ({ cls := "LameClocksModel", name := "truth", desc := "()I" } : Jvm.MethodName)) ∈ lw_all := lw_g (lw_at lw_m8 47 rfl) rfl
theorem q1797 : (Jvm.Cond.code ({ cls := "LameClocksModel", name := "truth", desc := "()I" } : Jvm.MethodName) prog_24_method_10_code (1 : Nat) (Option.some Jvm.ClassFile.FieldType.int)) ∈ lw_all := lw_g (lw_at lw_m8 48 rfl) rfl
theorem q1798 : (Jvm.Cond.methodLink "LameClocksModel" (111 : Nat) ({ cls := "LameClocksModel", name := "strikes", desc := "(I)I" } : Jvm.MethodName)) ∈ lw_all := lw_g (lw_at lw_m8 49 rfl) rfl
theorem q1800 : (Jvm.Cond.instanceMethod ({ cls := "LameClocksModel", name := "strikes", desc := "(I)I" } : Jvm.MethodName)) ∈ lw_all := lw_g (lw_at lw_m8 51 rfl) rfl
theorem q1801 : (Jvm.Cond.code ({ cls := "LameClocksModel", name := "strikes", desc := "(I)I" } : Jvm.MethodName) prog_24_method_12_code (2 : Nat) (Option.some Jvm.ClassFile.FieldType.int)) ∈ lw_all := lw_g (lw_at lw_m8 52 rfl) rfl
theorem q1805 : (Jvm.Cond.code ({ cls := "LameClocksModel", name := "rate", desc := "(I)I" } : Jvm.MethodName) prog_24_method_15_code (2 : Nat) (Option.some Jvm.ClassFile.FieldType.int)) ∈ lw_all := lw_g (lw_at lw_m8 56 rfl) rfl
theorem q1809 : (Jvm.Cond.code ({ cls := "LameClocksModel", name := "dial", desc := "(I)I" } : Jvm.MethodName) prog_24_method_16_code (2 : Nat) (Option.some Jvm.ClassFile.FieldType.int)) ∈ lw_all := lw_g (lw_at lw_m8 60 rfl) rfl
theorem q1810 : (Jvm.Cond.methodLink "LameClocksModel" (114 : Nat) ({ cls := "LameClocksModel", name := "isWindow", desc := "(I)Z" } : Jvm.MethodName)) ∈ lw_all := lw_g (lw_at lw_m8 61 rfl) rfl
theorem q1812 : (Jvm.Cond.instanceMethod ({ cls := "LameClocksModel", name := "isWindow", desc := "(I)Z" } : Jvm.MethodName)) ∈ lw_all := lw_g (lw_at lw_m8 63 rfl) rfl
theorem q1813 : (Jvm.Cond.code ({ cls := "LameClocksModel", name := "isWindow", desc := "(I)Z" } : Jvm.MethodName) prog_24_method_5_code (2 : Nat) (Option.some Jvm.ClassFile.FieldType.boolean)) ∈ lw_all := lw_g (lw_at lw_m8 64 rfl) rfl
theorem q1817 : (Jvm.Cond.code ({ cls := "LameClocksModel", name := "paint", desc := "(II)I" } : Jvm.MethodName) prog_24_method_17_code (4 : Nat) (Option.some Jvm.ClassFile.FieldType.int)) ∈ lw_all := lw_g (lw_at lw_m8 68 rfl) rfl
theorem q1818 : (Jvm.Cond.constantLong "LameClocksModel" (117 : Nat) (12 : Int64)) ∈ lw_all := lw_g (lw_at lw_m8 69 rfl) rfl
theorem q1822 : (Jvm.Cond.code ({ cls := "LameClocksModel", name := "weather", desc := "(I)I" } : Jvm.MethodName) prog_24_method_18_code (2 : Nat) (Option.some Jvm.ClassFile.FieldType.int)) ∈ lw_all := lw_g (lw_at lw_m8 73 rfl) rfl
theorem q1823 : (Jvm.Cond.constantLong "LameClocksModel" (119 : Nat) (9999 : Int64)) ∈ lw_all := lw_g (lw_at lw_m8 74 rfl) rfl
theorem q1827 : (Jvm.Cond.code ({ cls := "LameClocksModel", name := "type", desc := "(I)I" } : Jvm.MethodName) prog_24_method_19_code (2 : Nat) (Option.some Jvm.ClassFile.FieldType.int)) ∈ lw_all := lw_g (lw_at lw_m8 78 rfl) rfl
theorem q1828 : (Jvm.Cond.constantLong "LameClocksModel" (121 : Nat) (32 : Int64)) ∈ lw_all := lw_g (lw_at lw_m8 79 rfl) rfl
theorem q1829 : (Jvm.Cond.constantLong "LameClocksModel" (123 : Nat) (126 : Int64)) ∈ lw_all := lw_g (lw_at lw_m8 80 rfl) rfl
theorem q1833 : (Jvm.Cond.code ({ cls := "LameClocksModel", name := "course", desc := "()I" } : Jvm.MethodName) prog_24_method_28_code (3 : Nat) (Option.some Jvm.ClassFile.FieldType.int)) ∈ lw_all := lw_g (lw_at lw_m8 84 rfl) rfl
theorem q1834 : (Jvm.Cond.methodLink "LameClocksModel" (148 : Nat) ({ cls := "LameClocksModel", name := "readSigns", desc := "(IIZ)Z" } : Jvm.MethodName)) ∈ lw_all := lw_g (lw_at lw_m8 85 rfl) rfl
theorem q1836 : (Jvm.Cond.instanceMethod ({ cls := "LameClocksModel", name := "readSigns", desc := "(IIZ)Z" } : Jvm.MethodName)) ∈ lw_all := lw_g (lw_at lw_m8 87 rfl) rfl
theorem q1837 : (Jvm.Cond.code ({ cls := "LameClocksModel", name := "readSigns", desc := "(IIZ)Z" } : Jvm.MethodName) prog_24_method_26_code (5 : Nat) (Option.some Jvm.ClassFile.FieldType.boolean)) ∈ lw_all := lw_g (lw_at lw_m8 88 rfl) rfl
theorem q1838 : (Jvm.Cond.methodLink "LameClocksModel" (131 : Nat) ({ cls := "LameClocksModel", name := "nextLetter", desc := "()I" } : Jvm.MethodName)) ∈ lw_all := lw_g (lw_at lw_m8 89 rfl) rfl
theorem q1840 : (Jvm.Cond.instanceMethod ({ cls := "LameClocksModel", name := "nextLetter", desc := "()I" } : Jvm.MethodName)) ∈ lw_all := lw_g (lw_at lw_m8 91 rfl) rfl
theorem q1841 : (Jvm.Cond.code ({ cls := "LameClocksModel", name := "nextLetter", desc := "()I" } : Jvm.MethodName) prog_24_method_20_code (1 : Nat) (Option.some Jvm.ClassFile.FieldType.int)) ∈ lw_all := lw_g (lw_at lw_m8 92 rfl) rfl
theorem q1842 : (Jvm.Cond.methodLink "LameClocksModel" (142 : Nat) ({ cls := "LameClocksModel", name := "dialOf", desc := "(I)I" } : Jvm.MethodName)) ∈ lw_all := lw_g (lw_at lw_m8 93 rfl) rfl
theorem q1843 : (Jvm.Cond.static ({ cls := "LameClocksModel", name := "dialOf", desc := "(I)I" } : Jvm.MethodName)) ∈ lw_all := lw_g (lw_at lw_m8 94 rfl) rfl
theorem q1844 : (Jvm.Cond.code ({ cls := "LameClocksModel", name := "dialOf", desc := "(I)I" } : Jvm.MethodName) prog_24_method_24_code (1 : Nat) (Option.some Jvm.ClassFile.FieldType.int)) ∈ lw_all := lw_g (lw_at lw_m8 95 rfl) rfl
theorem q1845 : (Jvm.Cond.constantLong "LameClocksModel" (134 : Nat) (48 : Int64)) ∈ lw_all := lw_g (lw_at lw_m8 96 rfl) rfl
theorem q1846 : (Jvm.Cond.constantLong "LameClocksModel" (136 : Nat) (57 : Int64)) ∈ lw_all := lw_g (lw_at lw_m8 97 rfl) rfl
theorem q1847 : (Jvm.Cond.methodLink "LameClocksModel" (145 : Nat) ({ cls := "LameClocksModel", name := "skyOf", desc := "(I)I" } : Jvm.MethodName)) ∈ lw_all := lw_g (lw_at lw_m8 98 rfl) rfl
theorem q1848 : (Jvm.Cond.static ({ cls := "LameClocksModel", name := "skyOf", desc := "(I)I" } : Jvm.MethodName)) ∈ lw_all := lw_g (lw_at lw_m8 99 rfl) rfl
theorem q1849 : (Jvm.Cond.code ({ cls := "LameClocksModel", name := "skyOf", desc := "(I)I" } : Jvm.MethodName) prog_24_method_25_code (1 : Nat) (Option.some Jvm.ClassFile.FieldType.int)) ∈ lw_all := lw_g (lw_at lw_m8 100 rfl) rfl
theorem q1850 : (Jvm.Cond.methodLink "LameClocksModel" (152 : Nat) ({ cls := "LameClocksModel", name := "end", desc := "(Z)I" } : Jvm.MethodName)) ∈ lw_all := lw_g (lw_at lw_m8 101 rfl) rfl
theorem q1852 : (Jvm.Cond.instanceMethod ({ cls := "LameClocksModel", name := "end", desc := "(Z)I" } : Jvm.MethodName)) ∈ lw_all := lw_g (lw_at lw_m8 103 rfl) rfl
theorem q1853 : (Jvm.Cond.code ({ cls := "LameClocksModel", name := "end", desc := "(Z)I" } : Jvm.MethodName) prog_24_method_23_code (2 : Nat) (Option.some Jvm.ClassFile.FieldType.int)) ∈ lw_all := lw_g (lw_at lw_m8 104 rfl) rfl
theorem q1854 : (Jvm.Cond.methodLink "LameClocksModel" (156 : Nat) ({ cls := "LameClocksModel", name := "allBack", desc := "()V" } : Jvm.MethodName)) ∈ lw_all := lw_g (lw_at lw_m8 105 rfl) rfl
theorem q1856 : (Jvm.Cond.instanceMethod ({ cls := "LameClocksModel", name := "allBack", desc := "()V" } : Jvm.MethodName)) ∈ lw_all := lw_g (lw_at lw_m8 107 rfl) rfl
theorem q1857 : (Jvm.Cond.code ({ cls := "LameClocksModel", name := "allBack", desc := "()V" } : Jvm.MethodName) prog_24_method_27_code (2 : Nat) (Option.none : Option Jvm.ClassFile.FieldType)) ∈ lw_all := lw_g (lw_at lw_m8 108 rfl) rfl
theorem q1861 : (Jvm.Cond.code ({ cls := "LameClocksModel", name := "skies", desc := "()I" } : Jvm.MethodName) prog_24_method_29_code (3 : Nat) (Option.some Jvm.ClassFile.FieldType.int)) ∈ lw_all := lw_g (lw_at lw_m8 112 rfl) rfl
theorem fo_X3_13 : g_fo RX3 13 [3] 1 := ⟨_, _, _, Or.inl q1681, fun ci h => by rcases List.mem_singleton.mp h with rfl; exact ⟨_, _, _, rfl, by decide, rfl, rfl, Or.inl rfl, in_X3⟩⟩
theorem fo_X3_72 : g_fo RX3 72 [3] 3 := ⟨_, _, _, Or.inl q1683, fun ci h => by rcases List.mem_singleton.mp h with rfl; exact ⟨_, _, _, rfl, by decide, rfl, rfl, Or.inl rfl, in_X3⟩⟩
theorem fo_X3_16 : g_fo RX3 16 [3] 2 := ⟨_, _, _, Or.inl q1682, fun ci h => by rcases List.mem_singleton.mp h with rfl; exact ⟨_, _, _, rfl, by decide, rfl, rfl, Or.inl rfl, in_X3⟩⟩
theorem fo_X3_7 : g_fo RX3 7 [3] 0 := ⟨_, _, _, Or.inl q1680, fun ci h => by rcases List.mem_singleton.mp h with rfl; exact ⟨_, _, _, rfl, by decide, rfl, rfl, Or.inl rfl, in_X3⟩⟩
theorem fp_X3_72 : g_fp RX3 72 [3] 3 .int false := ⟨_, _, _, Or.inl q1683, by decide +kernel, fun ci h => by rcases List.mem_singleton.mp h with rfl; exact ⟨_, _, _, tyX3, rfl, by decide, rfl, rfl, Or.inl rfl, in_X3, rfl, (fun h => by cases h), tyX3_ok, fun j hj hne => nmX3 j hj 3 (by decide) hne⟩⟩
theorem dmS_X3_in : yX3_in.cls ≠ "java/lang/invoke/MethodHandle" ∧ yX3_in.cls ≠ "java/lang/invoke/VarHandle" ∧ (parseMethodDescriptor yX3_in.desc).map (fun d => d.parameters.length) = some 3 := by decide +kernel
theorem dmV_X3_add : yX3_add.cls = RX3 ∧ yX3_add.cls ≠ "java/lang/invoke/MethodHandle" ∧ yX3_add.cls ≠ "java/lang/invoke/VarHandle" ∧ (parseMethodDescriptor yX3_add.desc).map (fun d => d.parameters.length) = some 4 := by decide +kernel
theorem fo_X3_93 : g_fo RX3 93 [3] 10 := ⟨_, _, _, Or.inl q1690, fun ci h => by rcases List.mem_singleton.mp h with rfl; exact ⟨_, _, _, rfl, by decide, rfl, rfl, Or.inl rfl, in_X3⟩⟩
theorem fp_X3_93 : g_fp RX3 93 [3] 10 .int false := ⟨_, _, _, Or.inl q1690, by decide +kernel, fun ci h => by rcases List.mem_singleton.mp h with rfl; exact ⟨_, _, _, tyX3, rfl, by decide, rfl, rfl, Or.inl rfl, in_X3, rfl, (fun h => by cases h), tyX3_ok, fun j hj hne => nmX3 j hj 10 (by decide) hne⟩⟩
theorem fp_X3_96 : g_fp RX3 96 [3] 12 .int false := ⟨_, _, _, Or.inl q1692, by decide +kernel, fun ci h => by rcases List.mem_singleton.mp h with rfl; exact ⟨_, _, _, tyX3, rfl, by decide, rfl, rfl, Or.inl rfl, in_X3, rfl, (fun h => by cases h), tyX3_ok, fun j hj hne => nmX3 j hj 12 (by decide) hne⟩⟩
theorem fo_X3_32 : g_fo RX3 32 [3] 8 := ⟨_, _, _, Or.inl q1688, fun ci h => by rcases List.mem_singleton.mp h with rfl; exact ⟨_, _, _, rfl, by decide, rfl, rfl, Or.inl rfl, in_X3⟩⟩
theorem fo_X3_35 : g_fo RX3 35 [3] 9 := ⟨_, _, _, Or.inl q1689, fun ci h => by rcases List.mem_singleton.mp h with rfl; exact ⟨_, _, _, rfl, by decide, rfl, rfl, Or.inl rfl, in_X3⟩⟩
theorem dmV_X3_truth : yX3_truth.cls = RX3 ∧ yX3_truth.cls ≠ "java/lang/invoke/MethodHandle" ∧ yX3_truth.cls ≠ "java/lang/invoke/VarHandle" ∧ (parseMethodDescriptor yX3_truth.desc).map (fun d => d.parameters.length) = some 0 := by decide +kernel
theorem dmV_X3_shownBy : yX3_shownBy.cls = RX3 ∧ yX3_shownBy.cls ≠ "java/lang/invoke/MethodHandle" ∧ yX3_shownBy.cls ≠ "java/lang/invoke/VarHandle" ∧ (parseMethodDescriptor yX3_shownBy.desc).map (fun d => d.parameters.length) = some 1 := by decide +kernel
theorem dmV_X3_isClock : yX3_isClock.cls = RX3 ∧ yX3_isClock.cls ≠ "java/lang/invoke/MethodHandle" ∧ yX3_isClock.cls ≠ "java/lang/invoke/VarHandle" ∧ (parseMethodDescriptor yX3_isClock.desc).map (fun d => d.parameters.length) = some 1 := by decide +kernel
theorem dmV_X3_strikes : yX3_strikes.cls = RX3 ∧ yX3_strikes.cls ≠ "java/lang/invoke/MethodHandle" ∧ yX3_strikes.cls ≠ "java/lang/invoke/VarHandle" ∧ (parseMethodDescriptor yX3_strikes.desc).map (fun d => d.parameters.length) = some 1 := by decide +kernel
theorem fo_X3_19 : g_fo RX3 19 [3] 4 := ⟨_, _, _, Or.inl q1684, fun ci h => by rcases List.mem_singleton.mp h with rfl; exact ⟨_, _, _, rfl, by decide, rfl, rfl, Or.inl rfl, in_X3⟩⟩
theorem dmV_X3_isWindow : yX3_isWindow.cls = RX3 ∧ yX3_isWindow.cls ≠ "java/lang/invoke/MethodHandle" ∧ yX3_isWindow.cls ≠ "java/lang/invoke/VarHandle" ∧ (parseMethodDescriptor yX3_isWindow.desc).map (fun d => d.parameters.length) = some 1 := by decide +kernel
theorem fo_X3_23 : g_fo RX3 23 [3] 5 := ⟨_, _, _, Or.inl q1685, fun ci h => by rcases List.mem_singleton.mp h with rfl; exact ⟨_, _, _, rfl, by decide, rfl, rfl, Or.inl rfl, in_X3⟩⟩
theorem fo_X3_26 : g_fo RX3 26 [3] 6 := ⟨_, _, _, Or.inl q1686, fun ci h => by rcases List.mem_singleton.mp h with rfl; exact ⟨_, _, _, rfl, by decide, rfl, rfl, Or.inl rfl, in_X3⟩⟩
theorem fo_X3_125 : g_fo RX3 125 [3] 15 := ⟨_, _, _, Or.inl q1695, fun ci h => by rcases List.mem_singleton.mp h with rfl; exact ⟨_, _, _, rfl, by decide, rfl, rfl, Or.inl rfl, in_X3⟩⟩
theorem fo_X3_44 : g_fo RX3 44 [3] 14 := ⟨_, _, _, Or.inl q1694, fun ci h => by rcases List.mem_singleton.mp h with rfl; exact ⟨_, _, _, rfl, by decide, rfl, rfl, Or.inl rfl, in_X3⟩⟩
theorem fp_X3_125 : g_fp RX3 125 [3] 15 .int false := ⟨_, _, _, Or.inl q1695, by decide +kernel, fun ci h => by rcases List.mem_singleton.mp h with rfl; exact ⟨_, _, _, tyX3, rfl, by decide, rfl, rfl, Or.inl rfl, in_X3, rfl, (fun h => by cases h), tyX3_ok, fun j hj hne => nmX3 j hj 15 (by decide) hne⟩⟩
theorem fo_X3_128 : g_fo RX3 128 [3] 16 := ⟨_, _, _, Or.inl q1696, fun ci h => by rcases List.mem_singleton.mp h with rfl; exact ⟨_, _, _, rfl, by decide, rfl, rfl, Or.inl rfl, in_X3⟩⟩
theorem fp_X3_128 : g_fp RX3 128 [3] 16 .int false := ⟨_, _, _, Or.inl q1696, by decide +kernel, fun ci h => by rcases List.mem_singleton.mp h with rfl; exact ⟨_, _, _, tyX3, rfl, by decide, rfl, rfl, Or.inl rfl, in_X3, rfl, (fun h => by cases h), tyX3_ok, fun j hj hne => nmX3 j hj 16 (by decide) hne⟩⟩
theorem dmV_X3_nextLetter : yX3_nextLetter.cls = RX3 ∧ yX3_nextLetter.cls ≠ "java/lang/invoke/MethodHandle" ∧ yX3_nextLetter.cls ≠ "java/lang/invoke/VarHandle" ∧ (parseMethodDescriptor yX3_nextLetter.desc).map (fun d => d.parameters.length) = some 0 := by decide +kernel
theorem fp_X3_139 : g_fp RX3 139 [3] 17 .int false := ⟨_, _, _, Or.inl q1697, by decide +kernel, fun ci h => by rcases List.mem_singleton.mp h with rfl; exact ⟨_, _, _, tyX3, rfl, by decide, rfl, rfl, Or.inl rfl, in_X3, rfl, (fun h => by cases h), tyX3_ok, fun j hj hne => nmX3 j hj 17 (by decide) hne⟩⟩
theorem fo_X3_139 : g_fo RX3 139 [3] 17 := ⟨_, _, _, Or.inl q1697, fun ci h => by rcases List.mem_singleton.mp h with rfl; exact ⟨_, _, _, rfl, by decide, rfl, rfl, Or.inl rfl, in_X3⟩⟩
theorem fo_X3_47 : g_fo RX3 47 [3] 18 := ⟨_, _, _, Or.inl q1698, fun ci h => by rcases List.mem_singleton.mp h with rfl; exact ⟨_, _, _, rfl, by decide, rfl, rfl, Or.inl rfl, in_X3⟩⟩
theorem dmS_X3_skyOf : yX3_skyOf.cls ≠ "java/lang/invoke/MethodHandle" ∧ yX3_skyOf.cls ≠ "java/lang/invoke/VarHandle" ∧ (parseMethodDescriptor yX3_skyOf.desc).map (fun d => d.parameters.length) = some 1 := by decide +kernel
theorem dmS_X3_dialOf : yX3_dialOf.cls ≠ "java/lang/invoke/MethodHandle" ∧ yX3_dialOf.cls ≠ "java/lang/invoke/VarHandle" ∧ (parseMethodDescriptor yX3_dialOf.desc).map (fun d => d.parameters.length) = some 1 := by decide +kernel
theorem fp_X3_19 : g_fp RX3 19 [3] 4 .int false := ⟨_, _, _, Or.inl q1684, by decide +kernel, fun ci h => by rcases List.mem_singleton.mp h with rfl; exact ⟨_, _, _, tyX3, rfl, by decide, rfl, rfl, Or.inl rfl, in_X3, rfl, (fun h => by cases h), tyX3_ok, fun j hj hne => nmX3 j hj 4 (by decide) hne⟩⟩
theorem dmV_X3_allBack : yX3_allBack.cls = RX3 ∧ yX3_allBack.cls ≠ "java/lang/invoke/MethodHandle" ∧ yX3_allBack.cls ≠ "java/lang/invoke/VarHandle" ∧ (parseMethodDescriptor yX3_allBack.desc).map (fun d => d.parameters.length) = some 0 := by decide +kernel
theorem dmV_X3_readSigns : yX3_readSigns.cls = RX3 ∧ yX3_readSigns.cls ≠ "java/lang/invoke/MethodHandle" ∧ yX3_readSigns.cls ≠ "java/lang/invoke/VarHandle" ∧ (parseMethodDescriptor yX3_readSigns.desc).map (fun d => d.parameters.length) = some 3 := by decide +kernel
theorem dmV_X3_end : yX3_end.cls = RX3 ∧ yX3_end.cls ≠ "java/lang/invoke/MethodHandle" ∧ yX3_end.cls ≠ "java/lang/invoke/VarHandle" ∧ (parseMethodDescriptor yX3_end.desc).map (fun d => d.parameters.length) = some 1 := by decide +kernel
theorem fp_X3_26 : g_fp RX3 26 [3] 6 .int false := ⟨_, _, _, Or.inl q1686, by decide +kernel, fun ci h => by rcases List.mem_singleton.mp h with rfl; exact ⟨_, _, _, tyX3, rfl, by decide, rfl, rfl, Or.inl rfl, in_X3, rfl, (fun h => by cases h), tyX3_ok, fun j hj hne => nmX3 j hj 6 (by decide) hne⟩⟩
section MP
variable {Γ : Gc} {p : Program} {l : Launch} {e : Env} {s : State} {m : MethodId} {args : Array Value} {below : List Frame} {meth : Method} {c : Code} {mo : Nat} {ρ : Sg} {sz : Nat} {tF : MS}
def fX3_add (x1 : Int32) (x2 : Int32) (x3 : Int32) (x4 : Int32) (t : MS) : Option (Unit × MS) := mast t 1 9 (t.1 3) x1 fun t1 => mast t1 2 9 (t1.1 3) x3 fun t2 => mast t2 0 63 (24 + (t2.1 3)) x2 fun t3 => mast t3 0 63 (33 + (t3.1 3)) x4 fun t4 => mast t4 0 63 (42 + (t4.1 3)) 0 fun t5 => mast t5 0 63 (51 + (t5.1 3)) (-4) fun t6 => lt (setI t6 3 ((t6.1 3) + 1)) fun t7 => some ((), t7)
set_option maxHeartbeats 4000000 in
theorem wX3_add {rF : Unit} (X : g_X Γ p s m args meth c cX3_add 5 RX3) (hr : meth.sig.returnType = (Option.none : Option Jvm.ClassFile.FieldType)) (x1 : Int32) (x2 : Int32) (x3 : Int32) (x4 : Int32) (t : MS) : Wf Γ p l e 0 0 s m args below meth c 5 (m_ι mo ρ sz) v_v rF tF 0 [(0, .ref mo), (1, .int x1), (2, .int x2), (3, .int x3), (4, .int x4)] [] t (fX3_add x1 x2 x3 x4 t) := by
  unfold fX3_add
  refine g_aload_n (pc := 0) X 0 dX3_add_0 rfl rfl ?_
  refine mg_get (pc := 1) X fo_X3_13 dX3_add_1 rfl ?_
  refine g_aload_n (pc := 4) X 0 dX3_add_4 rfl rfl ?_
  refine mg_get (pc := 5) X fo_X3_72 dX3_add_5 rfl ?_
  refine g_iload_n (pc := 8) X 1 dX3_add_8 rfl rfl ?_
  refine mg_ast (pc := 9) X (j := 1) dX3_add_9 (by decide) rfl (fun t1 => ?_)
  refine g_aload_n (pc := 10) X 0 dX3_add_10 rfl rfl ?_
  refine mg_get (pc := 11) X fo_X3_16 dX3_add_11 rfl ?_
  refine g_aload_n (pc := 14) X 0 dX3_add_14 rfl rfl ?_
  refine mg_get (pc := 15) X fo_X3_72 dX3_add_15 rfl ?_
  refine g_iload_n (pc := 18) X 3 dX3_add_18 rfl rfl ?_
  refine mg_ast (pc := 19) X (j := 2) dX3_add_19 (by decide) rfl (fun t2 => ?_)
  refine g_aload_n (pc := 20) X 0 dX3_add_20 rfl rfl ?_
  refine mg_get (pc := 21) X fo_X3_7 dX3_add_21 rfl ?_
  refine g_bipush (pc := 24) X 24 dX3_add_24 rfl ?_
  refine g_aload_n (pc := 26) X 0 dX3_add_26 rfl rfl ?_
  refine mg_get (pc := 27) X fo_X3_72 dX3_add_27 rfl ?_
  refine g_iadd (pc := 30) X dX3_add_30 ?_
  refine g_iload_n (pc := 31) X 2 dX3_add_31 rfl rfl ?_
  refine mg_ast (pc := 32) X (j := 0) dX3_add_32 (by decide) rfl (fun t3 => ?_)
  refine g_aload_n (pc := 33) X 0 dX3_add_33 rfl rfl ?_
  refine mg_get (pc := 34) X fo_X3_7 dX3_add_34 rfl ?_
  refine g_bipush (pc := 37) X 33 dX3_add_37 rfl ?_
  refine g_aload_n (pc := 39) X 0 dX3_add_39 rfl rfl ?_
  refine mg_get (pc := 40) X fo_X3_72 dX3_add_40 rfl ?_
  refine g_iadd (pc := 43) X dX3_add_43 ?_
  refine g_iload (pc := 44) X 4 dX3_add_44 rfl ?_
  refine mg_ast (pc := 46) X (j := 0) dX3_add_46 (by decide) rfl (fun t4 => ?_)
  refine g_aload_n (pc := 47) X 0 dX3_add_47 rfl rfl ?_
  refine mg_get (pc := 48) X fo_X3_7 dX3_add_48 rfl ?_
  refine g_bipush (pc := 51) X 42 dX3_add_51 rfl ?_
  refine g_aload_n (pc := 53) X 0 dX3_add_53 rfl rfl ?_
  refine mg_get (pc := 54) X fo_X3_72 dX3_add_54 rfl ?_
  refine g_iadd (pc := 57) X dX3_add_57 ?_
  refine g_iconst (pc := 58) X 0 dX3_add_58 rfl ?_
  refine mg_ast (pc := 59) X (j := 0) dX3_add_59 (by decide) rfl (fun t5 => ?_)
  refine g_aload_n (pc := 60) X 0 dX3_add_60 rfl rfl ?_
  refine mg_get (pc := 61) X fo_X3_7 dX3_add_61 rfl ?_
  refine g_bipush (pc := 64) X 51 dX3_add_64 rfl ?_
  refine g_aload_n (pc := 66) X 0 dX3_add_66 rfl rfl ?_
  refine mg_get (pc := 67) X fo_X3_72 dX3_add_67 rfl ?_
  refine g_iadd (pc := 70) X dX3_add_70 ?_
  refine g_bipush (pc := 71) X (-4) dX3_add_71 rfl ?_
  refine mg_ast (pc := 73) X (j := 0) dX3_add_73 (by decide) rfl (fun t6 => ?_)
  refine g_aload_n (pc := 74) X 0 dX3_add_74 rfl rfl ?_
  refine g_dup (pc := 75) X dX3_add_75 rfl ?_
  refine mg_get (pc := 76) X fo_X3_72 dX3_add_76 rfl ?_
  refine g_iconst (pc := 79) X 1 dX3_add_79 rfl ?_
  refine g_iadd (pc := 80) X dX3_add_80 ?_
  refine mg_put (pc := 81) X fp_X3_72 dX3_add_81 rfl rfl (by decide) rfl (fun t7 => ?_)
  exact g_vret (pc := 84) X hr dX3_add_84
theorem kX3_add {mo : Nat} {ρ : Sg} {sz : Nat} {x1 : Int32} {x2 : Int32} {x3 : Int32} {x4 : Int32} {t : MS} {r : Unit} {u : MS} (h : fX3_add x1 x2 x3 x4 t = some (r, u)) : g_C Γ l yX3_add cX3_add 5 (Option.none : Option Jvm.ClassFile.FieldType) 0 0 [.ref mo, .int x1, .int x2, .int x3, .int x4] (MC mo t ρ) sz v_v r (m_ι mo ρ sz u) :=
  g_met [.ref mo, .int x1, .int x2, .int x3, .int x4] (by decide) (Nat.le_of_ble_eq_true rfl) h rfl (fun p e s m args below meth c X hr hn => wX3_add X hr x1 x2 x3 x4 t)
def fX3_in (x0 : Int64) (x2 : Int64) (x4 : Int64) (t : MS) : Option (Int32 × MS) := if (if x2 < x0 then 1 else if x0 = x2 then 0 else -1 : Int32) < 0 then some (0, t) else if 0 < (if x4 < x0 then 1 else if x0 = x4 then 0 else -1 : Int32) then some (0, t) else some (1, t)
set_option maxHeartbeats 4000000 in
theorem wX3_in {rF : Int32} (X : g_X Γ p s m args meth c cX3_in 6 RX3) (hr : meth.sig.returnType = (Option.some Jvm.ClassFile.FieldType.boolean)) (x0 : Int64) (x2 : Int64) (x4 : Int64) (t : MS) : Wf Γ p l e 0 0 s m args below meth c 6 (m_ι mo ρ sz) v_i rF tF 0 [(0, .long x0), (2, .long x2), (4, .long x4)] [] t (fX3_in x0 x2 x4 t) := by
  unfold fX3_in
  refine g_lload_n (pc := 0) X 0 dX3_in_0 rfl rfl ?_
  refine g_lload_n (pc := 1) X 1 dX3_in_1 rfl rfl ?_
  refine g_lcmp (pc := 2) X dX3_in_2 ?_
  refine g_if_lt (pc := 3) X 17 dX3_in_3 (by decide) ?_ ?_
  · refine g_iconst (pc := 17) X 0 dX3_in_17 rfl ?_
    exact g_zret (pc := 18) X hr rfl dX3_in_18
  · refine g_lload_n (pc := 6) X 0 dX3_in_6 rfl rfl ?_
    refine g_lload (pc := 7) X 2 dX3_in_7 rfl ?_
    refine g_lcmp (pc := 9) X dX3_in_9 ?_
    refine g_if_gt (pc := 10) X 17 dX3_in_10 (by decide) ?_ ?_
    · refine g_iconst (pc := 17) X 0 dX3_in_17 rfl ?_
      exact g_zret (pc := 18) X hr rfl dX3_in_18
    · refine g_iconst (pc := 13) X 1 dX3_in_13 rfl ?_
      refine g_goto (pc := 14) X 18 dX3_in_14 (by decide) ?_
      exact g_zret (pc := 18) X hr rfl dX3_in_18
theorem kX3_in {mo : Nat} {ρ : Sg} {sz : Nat} {x0 : Int64} {x2 : Int64} {x4 : Int64} {t : MS} {r : Int32} {u : MS} (h : fX3_in x0 x2 x4 t = some (r, u)) : g_C Γ l yX3_in cX3_in 6 (Option.some Jvm.ClassFile.FieldType.boolean) 0 0 [.long x0, .long x2, .long x4] (MC mo t ρ) sz v_i r (m_ι mo ρ sz u) :=
  g_met [.long x0, .long x2, .long x4] (by decide) (Nat.le_of_ble_eq_true rfl) h rfl (fun p e s m args below meth c X hr hn => wX3_in X hr x0 x2 x4 t)
def fX3_clock (x1 : Int32) (x2 : Int32) (x3 : Int32) (x4 : Int32) (t : MS) : Option (Int32 × MS) := gm (fX3_in x1.toInt64 0 5 t) fun r1 t2 => if r1 = 0 then some ((-1), t2) else gm (fX3_in x2.toInt64 0 719 t2) fun r3 t4 => if r3 = 0 then some ((-1), t4) else gm (fX3_in x3.toInt64 (-30) 30 t4) fun r5 t6 => if r5 = 0 then some ((-1), t6) else gm (fX3_in x4.toInt64 0 99 t6) fun r7 t8 => if r7 = 0 then some ((-1), t8) else if t8.1 3 = 9 then some ((-3), t8) else gm (fX3_add x1 x2 x3 x4 t8) fun _ t10 => some ((t10.1 3) - 1, t10)
set_option maxHeartbeats 4000000 in
theorem wX3_clock {rF : Int32} (X : g_X Γ p s m args meth c cX3_clock 5 RX3) (hr : meth.sig.returnType = (Option.some Jvm.ClassFile.FieldType.int)) (x1 : Int32) (x2 : Int32) (x3 : Int32) (x4 : Int32) (t : MS) : Wf Γ p l e 1 25 s m args below meth c 5 (m_ι mo ρ sz) v_i rF tF 0 [(0, .ref mo), (1, .int x1), (2, .int x2), (3, .int x3), (4, .int x4)] [] t (fX3_clock x1 x2 x3 x4 t) := by
  unfold fX3_clock
  refine g_iload_n (pc := 0) X 1 dX3_clock_0 rfl rfl ?_
  refine g_i2l (pc := 1) X dX3_clock_1 ?_
  refine g_lconst (pc := 2) X 0 dX3_clock_2 rfl ?_
  refine g_ldc2 (pc := 3) X 5 dX3_clock_3 q1766 ?_
  refine g_mS_i (pc := 6) X (y := yX3_in) (As := [.long x1.toInt64, .long 0, .long 5]) (rest := []) (fr' := 0) (lo' := 0) (fun _ => va_cwS 3 X.2.2.2.2.1 (lw_S q1767 q1768 q76 q1769) rfl rfl rfl dmS_X3_in ⟨Nat.le_of_ble_eq_true rfl, Nat.le_of_ble_eq_true rfl⟩) dX3_clock_6 rfl rfl (Nat.le_of_ble_eq_true rfl) (fun _ => rfl) (fun r u h => kX3_in h) (fun r1 t2 => ?_)
  refine g_if_eq (pc := 9) X 51 dX3_clock_9 (by decide) ?_ ?_
  · refine g_iconst (pc := 51) X (-1) dX3_clock_51 rfl ?_
    exact g_iret (pc := 52) X hr dX3_clock_52
  · refine g_iload_n (pc := 12) X 2 dX3_clock_12 rfl rfl ?_
    refine g_i2l (pc := 13) X dX3_clock_13 ?_
    refine g_lconst (pc := 14) X 0 dX3_clock_14 rfl ?_
    refine g_ldc2 (pc := 15) X 719 dX3_clock_15 q1770 ?_
    refine g_mS_i (pc := 18) X (y := yX3_in) (As := [.long x2.toInt64, .long 0, .long 719]) (rest := []) (fr' := 0) (lo' := 0) (fun _ => va_cwS 3 X.2.2.2.2.1 (lw_S q1767 q1768 q76 q1769) rfl rfl rfl dmS_X3_in ⟨Nat.le_of_ble_eq_true rfl, Nat.le_of_ble_eq_true rfl⟩) dX3_clock_18 rfl rfl (Nat.le_of_ble_eq_true rfl) (fun _ => rfl) (fun r u h => kX3_in h) (fun r3 t4 => ?_)
    refine g_if_eq (pc := 21) X 51 dX3_clock_21 (by decide) ?_ ?_
    · refine g_iconst (pc := 51) X (-1) dX3_clock_51 rfl ?_
      exact g_iret (pc := 52) X hr dX3_clock_52
    · refine g_iload_n (pc := 24) X 3 dX3_clock_24 rfl rfl ?_
      refine g_i2l (pc := 25) X dX3_clock_25 ?_
      refine g_ldc2 (pc := 26) X (-30) dX3_clock_26 q1771 ?_
      refine g_ldc2 (pc := 29) X 30 dX3_clock_29 q1772 ?_
      refine g_mS_i (pc := 32) X (y := yX3_in) (As := [.long x3.toInt64, .long (-30), .long 30]) (rest := []) (fr' := 0) (lo' := 0) (fun _ => va_cwS 3 X.2.2.2.2.1 (lw_S q1767 q1768 q76 q1769) rfl rfl rfl dmS_X3_in ⟨Nat.le_of_ble_eq_true rfl, Nat.le_of_ble_eq_true rfl⟩) dX3_clock_32 rfl rfl (Nat.le_of_ble_eq_true rfl) (fun _ => rfl) (fun r u h => kX3_in h) (fun r5 t6 => ?_)
      refine g_if_eq (pc := 35) X 51 dX3_clock_35 (by decide) ?_ ?_
      · refine g_iconst (pc := 51) X (-1) dX3_clock_51 rfl ?_
        exact g_iret (pc := 52) X hr dX3_clock_52
      · refine g_iload (pc := 38) X 4 dX3_clock_38 rfl ?_
        refine g_i2l (pc := 40) X dX3_clock_40 ?_
        refine g_lconst (pc := 41) X 0 dX3_clock_41 rfl ?_
        refine g_ldc2 (pc := 42) X 99 dX3_clock_42 q1773 ?_
        refine g_mS_i (pc := 45) X (y := yX3_in) (As := [.long x4.toInt64, .long 0, .long 99]) (rest := []) (fr' := 0) (lo' := 0) (fun _ => va_cwS 3 X.2.2.2.2.1 (lw_S q1767 q1768 q76 q1769) rfl rfl rfl dmS_X3_in ⟨Nat.le_of_ble_eq_true rfl, Nat.le_of_ble_eq_true rfl⟩) dX3_clock_45 rfl rfl (Nat.le_of_ble_eq_true rfl) (fun _ => rfl) (fun r u h => kX3_in h) (fun r7 t8 => ?_)
        refine g_if_ne (pc := 48) X 53 dX3_clock_48 (by decide) ?_ ?_
        · refine g_aload_n (pc := 53) X 0 dX3_clock_53 rfl rfl ?_
          refine mg_get (pc := 54) X fo_X3_72 dX3_clock_54 rfl ?_
          refine g_bipush (pc := 57) X 9 dX3_clock_57 rfl ?_
          refine g_icmp_ne (pc := 59) X 65 dX3_clock_59 (by decide) ?_ ?_
          · refine g_aload_n (pc := 65) X 0 dX3_clock_65 rfl rfl ?_
            refine g_iload_n (pc := 66) X 1 dX3_clock_66 rfl rfl ?_
            refine g_iload_n (pc := 67) X 2 dX3_clock_67 rfl rfl ?_
            refine g_iload_n (pc := 68) X 3 dX3_clock_68 rfl rfl ?_
            refine g_iload (pc := 69) X 4 dX3_clock_69 rfl ?_
            refine g_mV_v (pc := 71) X (C := RX3) (y := yX3_add) (As := [.int x1, .int x2, .int x3, .int x4]) (rest := []) (fr' := 0) (lo' := 0) (fun _ => cwV 4 X.2.2.2.2.1 (lw_V q1774 q1776 qs30 q76 q1777) rfl rfl rfl dmV_X3_add ⟨Nat.le_of_ble_eq_true rfl, Nat.le_of_ble_eq_true rfl⟩) dX3_clock_71 MC_o ⟨_, _, rfl⟩ rfl rfl (Nat.le_of_ble_eq_true rfl) (fun _ => rfl) (fun r u h => kX3_add h) (fun r9 t10 => ?_)
            refine g_aload_n (pc := 74) X 0 dX3_clock_74 rfl rfl ?_
            refine mg_get (pc := 75) X fo_X3_72 dX3_clock_75 rfl ?_
            refine g_iconst (pc := 78) X 1 dX3_clock_78 rfl ?_
            refine g_isub (pc := 79) X dX3_clock_79 ?_
            exact g_iret (pc := 80) X hr dX3_clock_80
          · refine g_bipush (pc := 62) X (-3) dX3_clock_62 rfl ?_
            exact g_iret (pc := 64) X hr dX3_clock_64
        · refine g_iconst (pc := 51) X (-1) dX3_clock_51 rfl ?_
          exact g_iret (pc := 52) X hr dX3_clock_52
theorem kX3_clock {mo : Nat} {ρ : Sg} {sz : Nat} {x1 : Int32} {x2 : Int32} {x3 : Int32} {x4 : Int32} {t : MS} {r : Int32} {u : MS} (h : fX3_clock x1 x2 x3 x4 t = some (r, u)) : g_C Γ l yX3_clock cX3_clock 5 (Option.some Jvm.ClassFile.FieldType.int) 1 25 [.ref mo, .int x1, .int x2, .int x3, .int x4] (MC mo t ρ) sz v_i r (m_ι mo ρ sz u) :=
  g_met [.ref mo, .int x1, .int x2, .int x3, .int x4] (by decide) (Nat.le_of_ble_eq_true rfl) h rfl (fun p e s m args below meth c X hr hn => wX3_clock X hr x1 x2 x3 x4 t)
def fX3_strike_72 (kc24 : Int32 → Int32 → MS → Option (Int32 × MS)) (x1 : Int32) (x2 : Int32) (t : MS) : Option (Int32 × MS) := kc24 x1 (x2 + 1) t
set_option maxHeartbeats 4000000 in
theorem wX3_strike_72 {rF : Int32} (X : g_X Γ p s m args meth c cX3_strike 3 RX3) (hr : meth.sig.returnType = (Option.some Jvm.ClassFile.FieldType.int)) {kc24 : Int32 → Int32 → MS → Option (Int32 × MS)} (hk24 : ∀ (x1 : Int32) (x2 : Int32) (t : MS), Wf Γ p l e 0 0 s m args below meth c 3 (m_ι mo ρ sz) v_i rF tF 24 [(0, .ref mo), (1, .int x1), (2, .int x2)] [] t (kc24 x1 x2 t)) (x1 : Int32) (x2 : Int32) (t : MS) : Wf Γ p l e 0 0 s m args below meth c 3 (m_ι mo ρ sz) v_i rF tF 72 [(0, .ref mo), (1, .int x1), (2, .int x2)] [] t (fX3_strike_72 kc24 x1 x2 t) := by
  unfold fX3_strike_72
  refine g_iinc (pc := 72) X 1 2 (lv' := [(2, .int (x2 + 1)), (0, .ref mo), (1, .int x1)]) dX3_strike_72 rfl rfl (by decide) rfl ?_
  refine g_goto (pc := 75) X 24 dX3_strike_75 (by decide) ?_
  exact g_lv (pc := 24) (lv' := [(0, .ref mo), (1, .int x1), (2, .int (x2 + 1))]) [1, 2, 0] rfl (hk24 x1 (x2 + 1) t)
def fX3_strike_24 : Nat → Int32 → Int32 → MS → Option (Int32 × MS)
  | 0, _, _, _ => none
  | n + 1, x1, x2, t => if t.1 10 ≤ x2 then lt (setI t 10 x1) fun t1 => mald t1 0 63 61 fun v2 => mast t1 0 63 61 (v2 &&& ((1 <<< ((t1.1 3) &&& 31)) ^^^ (-1))) fun t3 => lt (setI t3 12 0) fun t4 => some (t4.1 3, t4) else mald t 4 6 x2 fun v5 => if v5 = t.1 3 then fX3_strike_72 (fun a0 a1 a2 => fX3_strike_24 n a0 a1 a2) x1 x2 t else mald t 4 6 x2 fun v6 => mast t 4 6 x1 v6 fun t7 => mald t7 5 6 x2 fun v8 => mast t7 5 6 x1 v8 fun t9 => fX3_strike_72 (fun a0 a1 a2 => fX3_strike_24 n a0 a1 a2) (x1 + 1) x2 t9
set_option maxHeartbeats 4000000 in
theorem wX3_strike_24 {rF : Int32} (X : g_X Γ p s m args meth c cX3_strike 3 RX3) (hr : meth.sig.returnType = (Option.some Jvm.ClassFile.FieldType.int)) (n : Nat) : ∀ (x1 : Int32) (x2 : Int32) (t : MS), Wf Γ p l e 0 0 s m args below meth c 3 (m_ι mo ρ sz) v_i rF tF 24 [(0, .ref mo), (1, .int x1), (2, .int x2)] [] t (fX3_strike_24 n x1 x2 t) := by
  induction n with
  | zero => intro x1 x2 t; exact g_none
  | succ n ih =>
    intro x1 x2 t
    rw [fX3_strike_24]
    refine g_iload_n (pc := 24) X 2 dX3_strike_24 rfl rfl ?_
    refine g_aload_n (pc := 25) X 0 dX3_strike_25 rfl rfl ?_
    refine mg_get (pc := 26) X fo_X3_93 dX3_strike_26 rfl ?_
    refine g_icmp_ge (pc := 29) X 78 dX3_strike_29 (by decide) ?_ ?_
    · refine g_aload_n (pc := 78) X 0 dX3_strike_78 rfl rfl ?_
      refine g_iload_n (pc := 79) X 1 dX3_strike_79 rfl rfl ?_
      refine mg_put (pc := 80) X fp_X3_93 dX3_strike_80 rfl rfl (by decide) rfl (fun t1 => ?_)
      refine g_aload_n (pc := 83) X 0 dX3_strike_83 rfl rfl ?_
      refine mg_get (pc := 84) X fo_X3_7 dX3_strike_84 rfl ?_
      refine g_bipush (pc := 87) X 61 dX3_strike_87 rfl ?_
      refine g_dup2 (pc := 89) X dX3_strike_89 rfl rfl ?_
      refine mg_ald (pc := 90) X (j := 0) dX3_strike_90 (by decide) rfl (fun v2 => ?_)
      refine g_iconst (pc := 91) X 1 dX3_strike_91 rfl ?_
      refine g_aload_n (pc := 92) X 0 dX3_strike_92 rfl rfl ?_
      refine mg_get (pc := 93) X fo_X3_72 dX3_strike_93 rfl ?_
      refine g_ishl (pc := 96) X dX3_strike_96 ?_
      refine g_iconst (pc := 97) X (-1) dX3_strike_97 rfl ?_
      refine g_ixor (pc := 98) X dX3_strike_98 ?_
      refine g_iand (pc := 99) X dX3_strike_99 ?_
      refine mg_ast (pc := 100) X (j := 0) dX3_strike_100 (by decide) rfl (fun t3 => ?_)
      refine g_aload_n (pc := 101) X 0 dX3_strike_101 rfl rfl ?_
      refine g_iconst (pc := 102) X 0 dX3_strike_102 rfl ?_
      refine mg_put (pc := 103) X fp_X3_96 dX3_strike_103 rfl rfl (by decide) rfl (fun t4 => ?_)
      refine g_aload_n (pc := 106) X 0 dX3_strike_106 rfl rfl ?_
      refine mg_get (pc := 107) X fo_X3_72 dX3_strike_107 rfl ?_
      exact g_iret (pc := 110) X hr dX3_strike_110
    · refine g_aload_n (pc := 32) X 0 dX3_strike_32 rfl rfl ?_
      refine mg_get (pc := 33) X fo_X3_32 dX3_strike_33 rfl ?_
      refine g_iload_n (pc := 36) X 2 dX3_strike_36 rfl rfl ?_
      refine mg_ald (pc := 37) X (j := 4) dX3_strike_37 (by decide) rfl (fun v5 => ?_)
      refine g_aload_n (pc := 38) X 0 dX3_strike_38 rfl rfl ?_
      refine mg_get (pc := 39) X fo_X3_72 dX3_strike_39 rfl ?_
      refine g_icmp_eq (pc := 42) X 72 dX3_strike_42 (by decide) ?_ ?_
      · exact g_lv (pc := 72) (lv' := [(0, .ref mo), (1, .int x1), (2, .int x2)]) [0, 1, 2] rfl (wX3_strike_72 X hr (fun a0 a1 a2 => ih a0 a1 a2) x1 x2 t)
      · refine g_aload_n (pc := 45) X 0 dX3_strike_45 rfl rfl ?_
        refine mg_get (pc := 46) X fo_X3_32 dX3_strike_46 rfl ?_
        refine g_iload_n (pc := 49) X 1 dX3_strike_49 rfl rfl ?_
        refine g_aload_n (pc := 50) X 0 dX3_strike_50 rfl rfl ?_
        refine mg_get (pc := 51) X fo_X3_32 dX3_strike_51 rfl ?_
        refine g_iload_n (pc := 54) X 2 dX3_strike_54 rfl rfl ?_
        refine mg_ald (pc := 55) X (j := 4) dX3_strike_55 (by decide) rfl (fun v6 => ?_)
        refine mg_ast (pc := 56) X (j := 4) dX3_strike_56 (by decide) rfl (fun t7 => ?_)
        refine g_aload_n (pc := 57) X 0 dX3_strike_57 rfl rfl ?_
        refine mg_get (pc := 58) X fo_X3_35 dX3_strike_58 rfl ?_
        refine g_iload_n (pc := 61) X 1 dX3_strike_61 rfl rfl ?_
        refine g_aload_n (pc := 62) X 0 dX3_strike_62 rfl rfl ?_
        refine mg_get (pc := 63) X fo_X3_35 dX3_strike_63 rfl ?_
        refine g_iload_n (pc := 66) X 2 dX3_strike_66 rfl rfl ?_
        refine mg_ald (pc := 67) X (j := 5) dX3_strike_67 (by decide) rfl (fun v8 => ?_)
        refine mg_ast (pc := 68) X (j := 5) dX3_strike_68 (by decide) rfl (fun t9 => ?_)
        refine g_iinc (pc := 69) X 1 1 (lv' := [(1, .int (x1 + 1)), (0, .ref mo), (2, .int x2)]) dX3_strike_69 rfl rfl (by decide) rfl ?_
        exact g_lv (pc := 72) (lv' := [(0, .ref mo), (1, .int (x1 + 1)), (2, .int x2)]) [1, 0, 2] rfl (wX3_strike_72 X hr (fun a0 a1 a2 => ih a0 a1 a2) (x1 + 1) x2 t9)
def fX3_strike (t : MS) : Option (Int32 × MS) := if t.1 3 = 0 then some ((-4), t) else lt (setI t 3 ((t.1 3) - 1)) fun t1 => fX3_strike_24 1000 0 0 t1
set_option maxHeartbeats 4000000 in
theorem wX3_strike {rF : Int32} (X : g_X Γ p s m args meth c cX3_strike 3 RX3) (hr : meth.sig.returnType = (Option.some Jvm.ClassFile.FieldType.int)) (t : MS) : Wf Γ p l e 0 0 s m args below meth c 3 (m_ι mo ρ sz) v_i rF tF 0 [(0, .ref mo)] [] t (fX3_strike  t) := by
  unfold fX3_strike
  refine g_aload_n (pc := 0) X 0 dX3_strike_0 rfl rfl ?_
  refine mg_get (pc := 1) X fo_X3_72 dX3_strike_1 rfl ?_
  refine g_if_ne (pc := 4) X 10 dX3_strike_4 (by decide) ?_ ?_
  · refine g_aload_n (pc := 10) X 0 dX3_strike_10 rfl rfl ?_
    refine g_dup (pc := 11) X dX3_strike_11 rfl ?_
    refine mg_get (pc := 12) X fo_X3_72 dX3_strike_12 rfl ?_
    refine g_iconst (pc := 15) X 1 dX3_strike_15 rfl ?_
    refine g_isub (pc := 16) X dX3_strike_16 ?_
    refine mg_put (pc := 17) X fp_X3_72 dX3_strike_17 rfl rfl (by decide) rfl (fun t1 => ?_)
    refine g_iconst (pc := 20) X 0 dX3_strike_20 rfl ?_
    refine g_istore_n (pc := 21) X (lv' := [(1, .int 0), (0, .ref mo)]) dX3_strike_21 rfl (by decide) rfl ?_
    refine g_iconst (pc := 22) X 0 dX3_strike_22 rfl ?_
    refine g_istore_n (pc := 23) X (lv' := [(2, .int 0), (1, .int 0), (0, .ref mo)]) dX3_strike_23 rfl (by decide) rfl ?_
    exact g_lv (pc := 24) (lv' := [(0, .ref mo), (1, .int 0), (2, .int 0)]) [2, 1, 0] rfl (wX3_strike_24 X hr 1000 0 0 t1)
  · refine g_bipush (pc := 7) X (-4) dX3_strike_7 rfl ?_
    exact g_iret (pc := 9) X hr dX3_strike_9
theorem kX3_strike {mo : Nat} {ρ : Sg} {sz : Nat} {t : MS} {r : Int32} {u : MS} (h : fX3_strike  t = some (r, u)) : g_C Γ l yX3_strike cX3_strike 3 (Option.some Jvm.ClassFile.FieldType.int) 0 0 [.ref mo] (MC mo t ρ) sz v_i r (m_ι mo ρ sz u) :=
  g_met [.ref mo] (by decide) (Nat.le_of_ble_eq_true rfl) h rfl (fun p e s m args below meth c X hr hn => wX3_strike X hr  t)
def fX3_isClock (x1 : Int32) (t : MS) : Option (Int32 × MS) := gm (fX3_in x1.toInt64 0 (((t.1 3) - 1).toInt64) t) fun r1 t2 => if r1 = 0 ∨ r1 = 1 then some (r1, t2) else none
set_option maxHeartbeats 4000000 in
theorem wX3_isClock {rF : Int32} (X : g_X Γ p s m args meth c cX3_isClock 2 RX3) (hr : meth.sig.returnType = (Option.some Jvm.ClassFile.FieldType.boolean)) (x1 : Int32) (t : MS) : Wf Γ p l e 1 25 s m args below meth c 2 (m_ι mo ρ sz) v_i rF tF 0 [(0, .ref mo), (1, .int x1)] [] t (fX3_isClock x1 t) := by
  unfold fX3_isClock
  refine g_iload_n (pc := 0) X 1 dX3_isClock_0 rfl rfl ?_
  refine g_i2l (pc := 1) X dX3_isClock_1 ?_
  refine g_lconst (pc := 2) X 0 dX3_isClock_2 rfl ?_
  refine g_aload_n (pc := 3) X 0 dX3_isClock_3 rfl rfl ?_
  refine mg_get (pc := 4) X fo_X3_72 dX3_isClock_4 rfl ?_
  refine g_iconst (pc := 7) X 1 dX3_isClock_7 rfl ?_
  refine g_isub (pc := 8) X dX3_isClock_8 ?_
  refine g_i2l (pc := 9) X dX3_isClock_9 ?_
  refine g_mS_i (pc := 10) X (y := yX3_in) (As := [.long x1.toInt64, .long 0, .long (((t.1 3) - 1).toInt64)]) (rest := []) (fr' := 0) (lo' := 0) (fun _ => va_cwS 3 X.2.2.2.2.1 (lw_S q1767 q1768 q76 q1769) rfl rfl rfl dmS_X3_in ⟨Nat.le_of_ble_eq_true rfl, Nat.le_of_ble_eq_true rfl⟩) dX3_isClock_10 rfl rfl (Nat.le_of_ble_eq_true rfl) (fun _ => rfl) (fun r u h => kX3_in h) (fun r1 t2 => ?_)
  exact g_bret (pc := 13) X hr dX3_isClock_13
theorem kX3_isClock {mo : Nat} {ρ : Sg} {sz : Nat} {x1 : Int32} {t : MS} {r : Int32} {u : MS} (h : fX3_isClock x1 t = some (r, u)) : g_C Γ l yX3_isClock cX3_isClock 2 (Option.some Jvm.ClassFile.FieldType.boolean) 1 25 [.ref mo, .int x1] (MC mo t ρ) sz v_i r (m_ι mo ρ sz u) :=
  g_met [.ref mo, .int x1] (by decide) (Nat.le_of_ble_eq_true rfl) h rfl (fun p e s m args below meth c X hr hn => wX3_isClock X hr x1 t)
def fX3_truth (t : MS) : Option (Int32 × MS) := mald t 0 63 60 fun v1 => some ((60 * v1) - (60 * v1) / 720 * 720, t)
set_option maxHeartbeats 4000000 in
theorem wX3_truth {rF : Int32} (X : g_X Γ p s m args meth c cX3_truth 1 RX3) (hr : meth.sig.returnType = (Option.some Jvm.ClassFile.FieldType.int)) (t : MS) : Wf Γ p l e 0 0 s m args below meth c 1 (m_ι mo ρ sz) v_i rF tF 0 [(0, .ref mo)] [] t (fX3_truth  t) := by
  unfold fX3_truth
  refine g_bipush (pc := 0) X 60 dX3_truth_0 rfl ?_
  refine g_aload_n (pc := 2) X 0 dX3_truth_2 rfl rfl ?_
  refine mg_get (pc := 3) X fo_X3_7 dX3_truth_3 rfl ?_
  refine g_bipush (pc := 6) X 60 dX3_truth_6 rfl ?_
  refine mg_ald (pc := 8) X (j := 0) dX3_truth_8 (by decide) rfl (fun v1 => ?_)
  refine g_imul (pc := 9) X dX3_truth_9 ?_
  refine g_sipush (pc := 10) X 720 dX3_truth_10 rfl ?_
  refine g_irem (pc := 13) X dX3_truth_13 (by decide) ?_
  exact g_iret (pc := 14) X hr dX3_truth_14
theorem kX3_truth {mo : Nat} {ρ : Sg} {sz : Nat} {t : MS} {r : Int32} {u : MS} (h : fX3_truth  t = some (r, u)) : g_C Γ l yX3_truth cX3_truth 1 (Option.some Jvm.ClassFile.FieldType.int) 0 0 [.ref mo] (MC mo t ρ) sz v_i r (m_ι mo ρ sz u) :=
  g_met [.ref mo] (by decide) (Nat.le_of_ble_eq_true rfl) h rfl (fun p e s m args below meth c X hr hn => wX3_truth X hr  t)
def fX3_shownBy_22 (x2 : Int32) (t : MS) : Option (Int32 × MS) := mald t 1 9 x2 fun v1 => if v1 = 3 then gm (fX3_truth t) fun r3 t4 => some (r3, t4) else mald t 0 63 (24 + x2) fun v2 => some (v2, t)
set_option maxHeartbeats 4000000 in
theorem wX3_shownBy_22 {rF : Int32} (X : g_X Γ p s m args meth c cX3_shownBy 3 RX3) (hr : meth.sig.returnType = (Option.some Jvm.ClassFile.FieldType.int)) (x2 : Int32) (t : MS) : Wf Γ p l e 1 20 s m args below meth c 3 (m_ι mo ρ sz) v_i rF tF 22 [(0, .ref mo), (2, .int x2)] [] t (fX3_shownBy_22 x2 t) := by
  unfold fX3_shownBy_22
  refine g_aload_n (pc := 22) X 0 dX3_shownBy_22 rfl rfl ?_
  refine mg_get (pc := 23) X fo_X3_13 dX3_shownBy_23 rfl ?_
  refine g_iload_n (pc := 26) X 1 dX3_shownBy_26 rfl rfl ?_
  refine mg_ald (pc := 27) X (j := 1) dX3_shownBy_27 (by decide) rfl (fun v1 => ?_)
  refine g_iconst (pc := 28) X 3 dX3_shownBy_28 rfl ?_
  refine g_icmp_ne (pc := 29) X 39 dX3_shownBy_29 (by decide) ?_ ?_
  · refine g_aload_n (pc := 39) X 0 dX3_shownBy_39 rfl rfl ?_
    refine mg_get (pc := 40) X fo_X3_7 dX3_shownBy_40 rfl ?_
    refine g_bipush (pc := 43) X 24 dX3_shownBy_43 rfl ?_
    refine g_iload_n (pc := 45) X 1 dX3_shownBy_45 rfl rfl ?_
    refine g_iadd (pc := 46) X dX3_shownBy_46 ?_
    refine mg_ald (pc := 47) X (j := 0) dX3_shownBy_47 (by decide) rfl (fun v2 => ?_)
    exact g_iret (pc := 48) X hr dX3_shownBy_48
  · refine g_aload_n (pc := 32) X 0 dX3_shownBy_32 rfl rfl ?_
    refine g_mV_i (pc := 33) X (C := RX3) (y := yX3_truth) (As := []) (rest := []) (fr' := 0) (lo' := 0) (fun _ => cwV 0 X.2.2.2.2.1 (lw_V q1794 q1796 qs33 q76 q1797) rfl rfl rfl dmV_X3_truth ⟨Nat.le_of_ble_eq_true rfl, Nat.le_of_ble_eq_true rfl⟩) dX3_shownBy_33 MC_o ⟨_, _, rfl⟩ rfl rfl (Nat.le_of_ble_eq_true rfl) (fun _ => rfl) (fun r u h => kX3_truth h) (fun r3 t4 => ?_)
    refine g_goto (pc := 36) X 48 dX3_shownBy_36 (by decide) ?_
    exact g_iret (pc := 48) X hr dX3_shownBy_48
def fX3_shownBy_2 : Nat → Int32 → MS → Option (Int32 × MS)
  | 0, _, _ => none
  | n + 1, x2, t => if x2 ≤ 0 then fX3_shownBy_22 x2 t else mald t 1 9 x2 fun v1 => if v1 = 4 then fX3_shownBy_2 n (x2 + (-1)) t else fX3_shownBy_22 x2 t
set_option maxHeartbeats 4000000 in
theorem wX3_shownBy_2 {rF : Int32} (X : g_X Γ p s m args meth c cX3_shownBy 3 RX3) (hr : meth.sig.returnType = (Option.some Jvm.ClassFile.FieldType.int)) (n : Nat) : ∀ (x2 : Int32) (t : MS), Wf Γ p l e 1 20 s m args below meth c 3 (m_ι mo ρ sz) v_i rF tF 2 [(0, .ref mo), (2, .int x2)] [] t (fX3_shownBy_2 n x2 t) := by
  induction n with
  | zero => intro x2 t; exact g_none
  | succ n ih =>
    intro x2 t
    rw [fX3_shownBy_2]
    refine g_iload_n (pc := 2) X 1 dX3_shownBy_2 rfl rfl ?_
    refine g_if_le (pc := 3) X 22 dX3_shownBy_3 (by decide) ?_ ?_
    · exact g_lv (pc := 22) (lv' := [(0, .ref mo), (2, .int x2)]) [0, 1] rfl (wX3_shownBy_22 X hr x2 t)
    · refine g_aload_n (pc := 6) X 0 dX3_shownBy_6 rfl rfl ?_
      refine mg_get (pc := 7) X fo_X3_13 dX3_shownBy_7 rfl ?_
      refine g_iload_n (pc := 10) X 1 dX3_shownBy_10 rfl rfl ?_
      refine mg_ald (pc := 11) X (j := 1) dX3_shownBy_11 (by decide) rfl (fun v1 => ?_)
      refine g_iconst (pc := 12) X 4 dX3_shownBy_12 rfl ?_
      refine g_icmp_ne (pc := 13) X 22 dX3_shownBy_13 (by decide) ?_ ?_
      · exact g_lv (pc := 22) (lv' := [(0, .ref mo), (2, .int x2)]) [0, 1] rfl (wX3_shownBy_22 X hr x2 t)
      · refine g_iinc (pc := 16) X (-1) 1 (lv' := [(2, .int (x2 + (-1))), (0, .ref mo)]) dX3_shownBy_16 rfl rfl (by decide) rfl ?_
        refine g_goto (pc := 19) X 2 dX3_shownBy_19 (by decide) ?_
        exact g_lv (pc := 2) (lv' := [(0, .ref mo), (2, .int (x2 + (-1)))]) [1, 0] rfl (ih (x2 + (-1)) t)
def fX3_shownBy (x1 : Int32) (t : MS) : Option (Int32 × MS) := fX3_shownBy_2 1000 x1 t
set_option maxHeartbeats 4000000 in
theorem wX3_shownBy {rF : Int32} (X : g_X Γ p s m args meth c cX3_shownBy 3 RX3) (hr : meth.sig.returnType = (Option.some Jvm.ClassFile.FieldType.int)) (x1 : Int32) (t : MS) : Wf Γ p l e 1 20 s m args below meth c 3 (m_ι mo ρ sz) v_i rF tF 0 [(0, .ref mo), (1, .int x1)] [] t (fX3_shownBy x1 t) := by
  unfold fX3_shownBy
  refine g_iload_n (pc := 0) X 1 dX3_shownBy_0 rfl rfl ?_
  refine g_istore_n (pc := 1) X (lv' := [(2, .int x1), (0, .ref mo), (1, .int x1)]) dX3_shownBy_1 rfl (by decide) rfl ?_
  exact g_lv (pc := 2) (lv' := [(0, .ref mo), (2, .int x1)]) [1, 0] rfl (wX3_shownBy_2 X hr 1000 x1 t)
theorem kX3_shownBy {mo : Nat} {ρ : Sg} {sz : Nat} {x1 : Int32} {t : MS} {r : Int32} {u : MS} (h : fX3_shownBy x1 t = some (r, u)) : g_C Γ l yX3_shownBy cX3_shownBy 3 (Option.some Jvm.ClassFile.FieldType.int) 1 20 [.ref mo, .int x1] (MC mo t ρ) sz v_i r (m_ι mo ρ sz u) :=
  g_met [.ref mo, .int x1] (by decide) (Nat.le_of_ble_eq_true rfl) h rfl (fun p e s m args below meth c X hr hn => wX3_shownBy X hr x1 t)
def fX3_strikes (x1 : Int32) (t : MS) : Option (Int32 × MS) := gm (fX3_shownBy x1 t) fun r1 t2 => some (r1 / 60, t2)
set_option maxHeartbeats 4000000 in
theorem wX3_strikes {rF : Int32} (X : g_X Γ p s m args meth c cX3_strikes 2 RX3) (hr : meth.sig.returnType = (Option.some Jvm.ClassFile.FieldType.int)) (x1 : Int32) (t : MS) : Wf Γ p l e 2 42 s m args below meth c 2 (m_ι mo ρ sz) v_i rF tF 0 [(0, .ref mo), (1, .int x1)] [] t (fX3_strikes x1 t) := by
  unfold fX3_strikes
  refine g_aload_n (pc := 0) X 0 dX3_strikes_0 rfl rfl ?_
  refine g_iload_n (pc := 1) X 1 dX3_strikes_1 rfl rfl ?_
  refine g_mV_i (pc := 2) X (C := RX3) (y := yX3_shownBy) (As := [.int x1]) (rest := []) (fr' := 1) (lo' := 20) (fun _ => cwV 1 X.2.2.2.2.1 (lw_V q1790 q1792 qs32 q76 q1793) rfl rfl rfl dmV_X3_shownBy ⟨Nat.le_of_ble_eq_true rfl, Nat.le_of_ble_eq_true rfl⟩) dX3_strikes_2 MC_o ⟨_, _, rfl⟩ rfl rfl (Nat.le_of_ble_eq_true rfl) (fun _ => rfl) (fun r u h => kX3_shownBy h) (fun r1 t2 => ?_)
  refine g_bipush (pc := 5) X 60 dX3_strikes_5 rfl ?_
  refine g_idiv (pc := 7) X dX3_strikes_7 (by decide) ?_
  exact g_iret (pc := 8) X hr dX3_strikes_8
theorem kX3_strikes {mo : Nat} {ρ : Sg} {sz : Nat} {x1 : Int32} {t : MS} {r : Int32} {u : MS} (h : fX3_strikes x1 t = some (r, u)) : g_C Γ l yX3_strikes cX3_strikes 2 (Option.some Jvm.ClassFile.FieldType.int) 2 42 [.ref mo, .int x1] (MC mo t ρ) sz v_i r (m_ι mo ρ sz u) :=
  g_met [.ref mo, .int x1] (by decide) (Nat.le_of_ble_eq_true rfl) h rfl (fun p e s m args below meth c X hr hn => wX3_strikes X hr x1 t)
def fX3_told (x1 : Int32) (x2 : Int32) (t : MS) : Option (Int32 × MS) := gm (fX3_isClock x1 t) fun r1 t2 => if r1 = 0 then some ((-1), t2) else if x2 = 0 then mald t2 1 9 x1 fun v4 => some (v4, t2) else if x2 = 1 then mald t2 0 63 (24 + x1) fun v6 => some (v6, t2) else if x2 = 2 then mald t2 0 63 (33 + x1) fun v8 => some (v8, t2) else if x2 = 3 then mald t2 0 63 (42 + x1) fun v10 => some (v10, t2) else if x2 = 4 then mald t2 0 63 (51 + x1) fun v12 => some (v12, t2) else if x2 = 5 then gm (fX3_shownBy x1 t2) fun r14 t15 => some (r14, t15) else if x2 = 6 then gm (fX3_strikes x1 t2) fun r17 t18 => some (r17, t18) else some ((-1), t2)
set_option maxHeartbeats 4000000 in
theorem wX3_told {rF : Int32} (X : g_X Γ p s m args meth c cX3_told 3 RX3) (hr : meth.sig.returnType = (Option.some Jvm.ClassFile.FieldType.int)) (x1 : Int32) (x2 : Int32) (t : MS) : Wf Γ p l e 3 63 s m args below meth c 3 (m_ι mo ρ sz) v_i rF tF 0 [(0, .ref mo), (1, .int x1), (2, .int x2)] [] t (fX3_told x1 x2 t) := by
  unfold fX3_told
  refine g_aload_n (pc := 0) X 0 dX3_told_0 rfl rfl ?_
  refine g_iload_n (pc := 1) X 1 dX3_told_1 rfl rfl ?_
  refine g_mV_i (pc := 2) X (C := RX3) (y := yX3_isClock) (As := [.int x1]) (rest := []) (fr' := 1) (lo' := 25) (fun _ => cwV 1 X.2.2.2.2.1 (lw_V q1786 q1788 qs31 q76 q1789) rfl rfl rfl dmV_X3_isClock ⟨Nat.le_of_ble_eq_true rfl, Nat.le_of_ble_eq_true rfl⟩) dX3_told_2 MC_o ⟨_, _, rfl⟩ rfl rfl (Nat.le_of_ble_eq_true rfl) (fun _ => rfl) (fun r u h => kX3_isClock h) (fun r1 t2 => ?_)
  refine g_if_ne (pc := 5) X 10 dX3_told_5 (by decide) ?_ ?_
  · refine g_iload_n (pc := 10) X 2 dX3_told_10 rfl rfl ?_
    refine g_by (pc := 11) (fun hc3 => ?_) (fun hc3 => ?_)
    · refine g_tswI (pc := 11) X 0 52 dX3_told_11 hc3 (by decide) (by decide) rfl (by decide) ?_
      refine g_aload_n (pc := 52) X 0 dX3_told_52 rfl rfl ?_
      refine mg_get (pc := 53) X fo_X3_13 dX3_told_53 rfl ?_
      refine g_iload_n (pc := 56) X 1 dX3_told_56 rfl rfl ?_
      refine mg_ald (pc := 57) X (j := 1) dX3_told_57 (by decide) rfl (fun v4 => ?_)
      exact g_iret (pc := 58) X hr dX3_told_58
    refine g_by (pc := 11) (fun hc5 => ?_) (fun hc5 => ?_)
    · refine g_tswI (pc := 11) X 1 59 dX3_told_11 hc5 (by decide) (by decide) rfl (by decide) ?_
      refine g_aload_n (pc := 59) X 0 dX3_told_59 rfl rfl ?_
      refine mg_get (pc := 60) X fo_X3_7 dX3_told_60 rfl ?_
      refine g_bipush (pc := 63) X 24 dX3_told_63 rfl ?_
      refine g_iload_n (pc := 65) X 1 dX3_told_65 rfl rfl ?_
      refine g_iadd (pc := 66) X dX3_told_66 ?_
      refine mg_ald (pc := 67) X (j := 0) dX3_told_67 (by decide) rfl (fun v6 => ?_)
      exact g_iret (pc := 68) X hr dX3_told_68
    refine g_by (pc := 11) (fun hc7 => ?_) (fun hc7 => ?_)
    · refine g_tswI (pc := 11) X 2 69 dX3_told_11 hc7 (by decide) (by decide) rfl (by decide) ?_
      refine g_aload_n (pc := 69) X 0 dX3_told_69 rfl rfl ?_
      refine mg_get (pc := 70) X fo_X3_7 dX3_told_70 rfl ?_
      refine g_bipush (pc := 73) X 33 dX3_told_73 rfl ?_
      refine g_iload_n (pc := 75) X 1 dX3_told_75 rfl rfl ?_
      refine g_iadd (pc := 76) X dX3_told_76 ?_
      refine mg_ald (pc := 77) X (j := 0) dX3_told_77 (by decide) rfl (fun v8 => ?_)
      exact g_iret (pc := 78) X hr dX3_told_78
    refine g_by (pc := 11) (fun hc9 => ?_) (fun hc9 => ?_)
    · refine g_tswI (pc := 11) X 3 79 dX3_told_11 hc9 (by decide) (by decide) rfl (by decide) ?_
      refine g_aload_n (pc := 79) X 0 dX3_told_79 rfl rfl ?_
      refine mg_get (pc := 80) X fo_X3_7 dX3_told_80 rfl ?_
      refine g_bipush (pc := 83) X 42 dX3_told_83 rfl ?_
      refine g_iload_n (pc := 85) X 1 dX3_told_85 rfl rfl ?_
      refine g_iadd (pc := 86) X dX3_told_86 ?_
      refine mg_ald (pc := 87) X (j := 0) dX3_told_87 (by decide) rfl (fun v10 => ?_)
      exact g_iret (pc := 88) X hr dX3_told_88
    refine g_by (pc := 11) (fun hc11 => ?_) (fun hc11 => ?_)
    · refine g_tswI (pc := 11) X 4 89 dX3_told_11 hc11 (by decide) (by decide) rfl (by decide) ?_
      refine g_aload_n (pc := 89) X 0 dX3_told_89 rfl rfl ?_
      refine mg_get (pc := 90) X fo_X3_7 dX3_told_90 rfl ?_
      refine g_bipush (pc := 93) X 51 dX3_told_93 rfl ?_
      refine g_iload_n (pc := 95) X 1 dX3_told_95 rfl rfl ?_
      refine g_iadd (pc := 96) X dX3_told_96 ?_
      refine mg_ald (pc := 97) X (j := 0) dX3_told_97 (by decide) rfl (fun v12 => ?_)
      exact g_iret (pc := 98) X hr dX3_told_98
    refine g_by (pc := 11) (fun hc13 => ?_) (fun hc13 => ?_)
    · refine g_tswI (pc := 11) X 5 99 dX3_told_11 hc13 (by decide) (by decide) rfl (by decide) ?_
      refine g_aload_n (pc := 99) X 0 dX3_told_99 rfl rfl ?_
      refine g_iload_n (pc := 100) X 1 dX3_told_100 rfl rfl ?_
      refine g_mV_i (pc := 101) X (C := RX3) (y := yX3_shownBy) (As := [.int x1]) (rest := []) (fr' := 1) (lo' := 20) (fun _ => cwV 1 X.2.2.2.2.1 (lw_V q1790 q1792 qs32 q76 q1793) rfl rfl rfl dmV_X3_shownBy ⟨Nat.le_of_ble_eq_true rfl, Nat.le_of_ble_eq_true rfl⟩) dX3_told_101 MC_o ⟨_, _, rfl⟩ rfl rfl (Nat.le_of_ble_eq_true rfl) (fun _ => rfl) (fun r u h => kX3_shownBy h) (fun r14 t15 => ?_)
      exact g_iret (pc := 104) X hr dX3_told_104
    refine g_by (pc := 11) (fun hc16 => ?_) (fun hc16 => ?_)
    · refine g_tswI (pc := 11) X 6 105 dX3_told_11 hc16 (by decide) (by decide) rfl (by decide) ?_
      refine g_aload_n (pc := 105) X 0 dX3_told_105 rfl rfl ?_
      refine g_iload_n (pc := 106) X 1 dX3_told_106 rfl rfl ?_
      refine g_mV_i (pc := 107) X (C := RX3) (y := yX3_strikes) (As := [.int x1]) (rest := []) (fr' := 2) (lo' := 42) (fun _ => cwV 1 X.2.2.2.2.1 (lw_V q1798 q1800 qs34 q76 q1801) rfl rfl rfl dmV_X3_strikes ⟨Nat.le_of_ble_eq_true rfl, Nat.le_of_ble_eq_true rfl⟩) dX3_told_107 MC_o ⟨_, _, rfl⟩ rfl rfl (Nat.le_of_ble_eq_true rfl) (fun _ => rfl) (fun r u h => kX3_strikes h) (fun r17 t18 => ?_)
      exact g_iret (pc := 110) X hr dX3_told_110
    refine g_tswO (pc := 11) X 7 111 dX3_told_11 (fun j hj => by match j, hj with | 0, _ => exact hc3 | 1, _ => exact hc5 | 2, _ => exact hc7 | 3, _ => exact hc9 | 4, _ => exact hc11 | 5, _ => exact hc13 | 6, _ => exact hc16) (by decide) (by decide) (by decide) ?_
    refine g_iconst (pc := 111) X (-1) dX3_told_111 rfl ?_
    exact g_iret (pc := 112) X hr dX3_told_112
  · refine g_iconst (pc := 8) X (-1) dX3_told_8 rfl ?_
    exact g_iret (pc := 9) X hr dX3_told_9
theorem kX3_told {mo : Nat} {ρ : Sg} {sz : Nat} {x1 : Int32} {x2 : Int32} {t : MS} {r : Int32} {u : MS} (h : fX3_told x1 x2 t = some (r, u)) : g_C Γ l yX3_told cX3_told 3 (Option.some Jvm.ClassFile.FieldType.int) 3 63 [.ref mo, .int x1, .int x2] (MC mo t ρ) sz v_i r (m_ι mo ρ sz u) :=
  g_met [.ref mo, .int x1, .int x2] (by decide) (Nat.le_of_ble_eq_true rfl) h rfl (fun p e s m args below meth c X hr hn => wX3_told X hr x1 x2 t)
def fX3_rate (x1 : Int32) (t : MS) : Option (Int32 × MS) := gm (fX3_isClock x1 t) fun r1 t2 => if r1 = 0 then some ((-1001), t2) else mald t2 2 9 x1 fun v3 => some (v3, t2)
set_option maxHeartbeats 4000000 in
theorem wX3_rate {rF : Int32} (X : g_X Γ p s m args meth c cX3_rate 2 RX3) (hr : meth.sig.returnType = (Option.some Jvm.ClassFile.FieldType.int)) (x1 : Int32) (t : MS) : Wf Γ p l e 2 46 s m args below meth c 2 (m_ι mo ρ sz) v_i rF tF 0 [(0, .ref mo), (1, .int x1)] [] t (fX3_rate x1 t) := by
  unfold fX3_rate
  refine g_aload_n (pc := 0) X 0 dX3_rate_0 rfl rfl ?_
  refine g_iload_n (pc := 1) X 1 dX3_rate_1 rfl rfl ?_
  refine g_mV_i (pc := 2) X (C := RX3) (y := yX3_isClock) (As := [.int x1]) (rest := []) (fr' := 1) (lo' := 25) (fun _ => cwV 1 X.2.2.2.2.1 (lw_V q1786 q1788 qs31 q76 q1789) rfl rfl rfl dmV_X3_isClock ⟨Nat.le_of_ble_eq_true rfl, Nat.le_of_ble_eq_true rfl⟩) dX3_rate_2 MC_o ⟨_, _, rfl⟩ rfl rfl (Nat.le_of_ble_eq_true rfl) (fun _ => rfl) (fun r u h => kX3_isClock h) (fun r1 t2 => ?_)
  refine g_if_eq (pc := 5) X 17 dX3_rate_5 (by decide) ?_ ?_
  · refine g_sipush (pc := 17) X (-1001) dX3_rate_17 rfl ?_
    exact g_iret (pc := 20) X hr dX3_rate_20
  · refine g_aload_n (pc := 8) X 0 dX3_rate_8 rfl rfl ?_
    refine mg_get (pc := 9) X fo_X3_16 dX3_rate_9 rfl ?_
    refine g_iload_n (pc := 12) X 1 dX3_rate_12 rfl rfl ?_
    refine mg_ald (pc := 13) X (j := 2) dX3_rate_13 (by decide) rfl (fun v3 => ?_)
    refine g_goto (pc := 14) X 20 dX3_rate_14 (by decide) ?_
    exact g_iret (pc := 20) X hr dX3_rate_20
theorem kX3_rate {mo : Nat} {ρ : Sg} {sz : Nat} {x1 : Int32} {t : MS} {r : Int32} {u : MS} (h : fX3_rate x1 t = some (r, u)) : g_C Γ l yX3_rate cX3_rate 2 (Option.some Jvm.ClassFile.FieldType.int) 2 46 [.ref mo, .int x1] (MC mo t ρ) sz v_i r (m_ι mo ρ sz u) :=
  g_met [.ref mo, .int x1] (by decide) (Nat.le_of_ble_eq_true rfl) h rfl (fun p e s m args below meth c X hr hn => wX3_rate X hr x1 t)
def fX3_isWindow (x1 : Int32) (t : MS) : Option (Int32 × MS) := gm (fX3_in x1.toInt64 0 (((t.1 4) - 1).toInt64) t) fun r1 t2 => if r1 = 0 ∨ r1 = 1 then some (r1, t2) else none
set_option maxHeartbeats 4000000 in
theorem wX3_isWindow {rF : Int32} (X : g_X Γ p s m args meth c cX3_isWindow 2 RX3) (hr : meth.sig.returnType = (Option.some Jvm.ClassFile.FieldType.boolean)) (x1 : Int32) (t : MS) : Wf Γ p l e 1 25 s m args below meth c 2 (m_ι mo ρ sz) v_i rF tF 0 [(0, .ref mo), (1, .int x1)] [] t (fX3_isWindow x1 t) := by
  unfold fX3_isWindow
  refine g_iload_n (pc := 0) X 1 dX3_isWindow_0 rfl rfl ?_
  refine g_i2l (pc := 1) X dX3_isWindow_1 ?_
  refine g_lconst (pc := 2) X 0 dX3_isWindow_2 rfl ?_
  refine g_aload_n (pc := 3) X 0 dX3_isWindow_3 rfl rfl ?_
  refine mg_get (pc := 4) X fo_X3_19 dX3_isWindow_4 rfl ?_
  refine g_iconst (pc := 7) X 1 dX3_isWindow_7 rfl ?_
  refine g_isub (pc := 8) X dX3_isWindow_8 ?_
  refine g_i2l (pc := 9) X dX3_isWindow_9 ?_
  refine g_mS_i (pc := 10) X (y := yX3_in) (As := [.long x1.toInt64, .long 0, .long (((t.1 4) - 1).toInt64)]) (rest := []) (fr' := 0) (lo' := 0) (fun _ => va_cwS 3 X.2.2.2.2.1 (lw_S q1767 q1768 q76 q1769) rfl rfl rfl dmS_X3_in ⟨Nat.le_of_ble_eq_true rfl, Nat.le_of_ble_eq_true rfl⟩) dX3_isWindow_10 rfl rfl (Nat.le_of_ble_eq_true rfl) (fun _ => rfl) (fun r u h => kX3_in h) (fun r1 t2 => ?_)
  exact g_bret (pc := 13) X hr dX3_isWindow_13
theorem kX3_isWindow {mo : Nat} {ρ : Sg} {sz : Nat} {x1 : Int32} {t : MS} {r : Int32} {u : MS} (h : fX3_isWindow x1 t = some (r, u)) : g_C Γ l yX3_isWindow cX3_isWindow 2 (Option.some Jvm.ClassFile.FieldType.boolean) 1 25 [.ref mo, .int x1] (MC mo t ρ) sz v_i r (m_ι mo ρ sz u) :=
  g_met [.ref mo, .int x1] (by decide) (Nat.le_of_ble_eq_true rfl) h rfl (fun p e s m args below meth c X hr hn => wX3_isWindow X hr x1 t)
def fX3_dial (x1 : Int32) (t : MS) : Option (Int32 × MS) := gm (fX3_isWindow x1 t) fun r1 t2 => if r1 = 0 then some ((-1), t2) else mald t2 0 63 x1 fun v3 => some (v3, t2)
set_option maxHeartbeats 4000000 in
theorem wX3_dial {rF : Int32} (X : g_X Γ p s m args meth c cX3_dial 2 RX3) (hr : meth.sig.returnType = (Option.some Jvm.ClassFile.FieldType.int)) (x1 : Int32) (t : MS) : Wf Γ p l e 2 46 s m args below meth c 2 (m_ι mo ρ sz) v_i rF tF 0 [(0, .ref mo), (1, .int x1)] [] t (fX3_dial x1 t) := by
  unfold fX3_dial
  refine g_aload_n (pc := 0) X 0 dX3_dial_0 rfl rfl ?_
  refine g_iload_n (pc := 1) X 1 dX3_dial_1 rfl rfl ?_
  refine g_mV_i (pc := 2) X (C := RX3) (y := yX3_isWindow) (As := [.int x1]) (rest := []) (fr' := 1) (lo' := 25) (fun _ => cwV 1 X.2.2.2.2.1 (lw_V q1810 q1812 qs35 q76 q1813) rfl rfl rfl dmV_X3_isWindow ⟨Nat.le_of_ble_eq_true rfl, Nat.le_of_ble_eq_true rfl⟩) dX3_dial_2 MC_o ⟨_, _, rfl⟩ rfl rfl (Nat.le_of_ble_eq_true rfl) (fun _ => rfl) (fun r u h => kX3_isWindow h) (fun r1 t2 => ?_)
  refine g_if_eq (pc := 5) X 17 dX3_dial_5 (by decide) ?_ ?_
  · refine g_iconst (pc := 17) X (-1) dX3_dial_17 rfl ?_
    exact g_iret (pc := 18) X hr dX3_dial_18
  · refine g_aload_n (pc := 8) X 0 dX3_dial_8 rfl rfl ?_
    refine mg_get (pc := 9) X fo_X3_7 dX3_dial_9 rfl ?_
    refine g_iload_n (pc := 12) X 1 dX3_dial_12 rfl rfl ?_
    refine mg_ald (pc := 13) X (j := 0) dX3_dial_13 (by decide) rfl (fun v3 => ?_)
    refine g_goto (pc := 14) X 18 dX3_dial_14 (by decide) ?_
    exact g_iret (pc := 18) X hr dX3_dial_18
theorem kX3_dial {mo : Nat} {ρ : Sg} {sz : Nat} {x1 : Int32} {t : MS} {r : Int32} {u : MS} (h : fX3_dial x1 t = some (r, u)) : g_C Γ l yX3_dial cX3_dial 2 (Option.some Jvm.ClassFile.FieldType.int) 2 46 [.ref mo, .int x1] (MC mo t ρ) sz v_i r (m_ι mo ρ sz u) :=
  g_met [.ref mo, .int x1] (by decide) (Nat.le_of_ble_eq_true rfl) h rfl (fun p e s m args below meth c X hr hn => wX3_dial X hr x1 t)
def fX3_paint (x1 : Int32) (x2 : Int32) (t : MS) : Option (Int32 × MS) := gm (fX3_isWindow x1 t) fun r1 t2 => if r1 = 0 then some ((-1), t2) else gm (fX3_in x2.toInt64 0 12 t2) fun r3 t4 => if r3 = 0 then some ((-1), t4) else mald t4 0 63 x1 fun v5 => mast t4 0 63 x1 x2 fun t6 => some (v5, t6)
set_option maxHeartbeats 4000000 in
theorem wX3_paint {rF : Int32} (X : g_X Γ p s m args meth c cX3_paint 4 RX3) (hr : meth.sig.returnType = (Option.some Jvm.ClassFile.FieldType.int)) (x1 : Int32) (x2 : Int32) (t : MS) : Wf Γ p l e 2 46 s m args below meth c 4 (m_ι mo ρ sz) v_i rF tF 0 [(0, .ref mo), (1, .int x1), (2, .int x2)] [] t (fX3_paint x1 x2 t) := by
  unfold fX3_paint
  refine g_aload_n (pc := 0) X 0 dX3_paint_0 rfl rfl ?_
  refine g_iload_n (pc := 1) X 1 dX3_paint_1 rfl rfl ?_
  refine g_mV_i (pc := 2) X (C := RX3) (y := yX3_isWindow) (As := [.int x1]) (rest := []) (fr' := 1) (lo' := 25) (fun _ => cwV 1 X.2.2.2.2.1 (lw_V q1810 q1812 qs35 q76 q1813) rfl rfl rfl dmV_X3_isWindow ⟨Nat.le_of_ble_eq_true rfl, Nat.le_of_ble_eq_true rfl⟩) dX3_paint_2 MC_o ⟨_, _, rfl⟩ rfl rfl (Nat.le_of_ble_eq_true rfl) (fun _ => rfl) (fun r u h => kX3_isWindow h) (fun r1 t2 => ?_)
  refine g_if_eq (pc := 5) X 20 dX3_paint_5 (by decide) ?_ ?_
  · refine g_iconst (pc := 20) X (-1) dX3_paint_20 rfl ?_
    exact g_iret (pc := 21) X hr dX3_paint_21
  · refine g_iload_n (pc := 8) X 2 dX3_paint_8 rfl rfl ?_
    refine g_i2l (pc := 9) X dX3_paint_9 ?_
    refine g_lconst (pc := 10) X 0 dX3_paint_10 rfl ?_
    refine g_ldc2 (pc := 11) X 12 dX3_paint_11 q1818 ?_
    refine g_mS_i (pc := 14) X (y := yX3_in) (As := [.long x2.toInt64, .long 0, .long 12]) (rest := []) (fr' := 0) (lo' := 0) (fun _ => va_cwS 3 X.2.2.2.2.1 (lw_S q1767 q1768 q76 q1769) rfl rfl rfl dmS_X3_in ⟨Nat.le_of_ble_eq_true rfl, Nat.le_of_ble_eq_true rfl⟩) dX3_paint_14 rfl rfl (Nat.le_of_ble_eq_true rfl) (fun _ => rfl) (fun r u h => kX3_in h) (fun r3 t4 => ?_)
    refine g_if_ne (pc := 17) X 22 dX3_paint_17 (by decide) ?_ ?_
    · refine g_aload_n (pc := 22) X 0 dX3_paint_22 rfl rfl ?_
      refine mg_get (pc := 23) X fo_X3_7 dX3_paint_23 rfl ?_
      refine g_iload_n (pc := 26) X 1 dX3_paint_26 rfl rfl ?_
      refine mg_ald (pc := 27) X (j := 0) dX3_paint_27 (by decide) rfl (fun v5 => ?_)
      refine g_istore_n (pc := 28) X (lv' := [(3, .int v5), (0, .ref mo), (1, .int x1), (2, .int x2)]) dX3_paint_28 rfl (by decide) rfl ?_
      refine g_aload_n (pc := 29) X 1 dX3_paint_29 rfl rfl ?_
      refine mg_get (pc := 30) X fo_X3_7 dX3_paint_30 rfl ?_
      refine g_iload_n (pc := 33) X 2 dX3_paint_33 rfl rfl ?_
      refine g_iload_n (pc := 34) X 3 dX3_paint_34 rfl rfl ?_
      refine mg_ast (pc := 35) X (j := 0) dX3_paint_35 (by decide) rfl (fun t6 => ?_)
      refine g_iload_n (pc := 36) X 0 dX3_paint_36 rfl rfl ?_
      exact g_iret (pc := 37) X hr dX3_paint_37
    · refine g_iconst (pc := 20) X (-1) dX3_paint_20 rfl ?_
      exact g_iret (pc := 21) X hr dX3_paint_21
theorem kX3_paint {mo : Nat} {ρ : Sg} {sz : Nat} {x1 : Int32} {x2 : Int32} {t : MS} {r : Int32} {u : MS} (h : fX3_paint x1 x2 t = some (r, u)) : g_C Γ l yX3_paint cX3_paint 4 (Option.some Jvm.ClassFile.FieldType.int) 2 46 [.ref mo, .int x1, .int x2] (MC mo t ρ) sz v_i r (m_ι mo ρ sz u) :=
  g_met [.ref mo, .int x1, .int x2] (by decide) (Nat.le_of_ble_eq_true rfl) h rfl (fun p e s m args below meth c X hr hn => wX3_paint X hr x1 x2 t)
def fX3_weather (x1 : Int32) (t : MS) : Option (Int32 × MS) := gm (fX3_in x1.toInt64 0 9999 t) fun r1 t2 => if r1 = 0 then some ((-1), t2) else if t2.1 6 = 0 then none else mald t2 3 12 (x1 - x1 / (t2.1 6) * (t2.1 6)) fun v4 => some (v4, t2)
set_option maxHeartbeats 4000000 in
theorem wX3_weather {rF : Int32} (X : g_X Γ p s m args meth c cX3_weather 2 RX3) (hr : meth.sig.returnType = (Option.some Jvm.ClassFile.FieldType.int)) (x1 : Int32) (t : MS) : Wf Γ p l e 1 25 s m args below meth c 2 (m_ι mo ρ sz) v_i rF tF 0 [(0, .ref mo), (1, .int x1)] [] t (fX3_weather x1 t) := by
  unfold fX3_weather
  refine g_iload_n (pc := 0) X 1 dX3_weather_0 rfl rfl ?_
  refine g_i2l (pc := 1) X dX3_weather_1 ?_
  refine g_lconst (pc := 2) X 0 dX3_weather_2 rfl ?_
  refine g_ldc2 (pc := 3) X 9999 dX3_weather_3 q1823 ?_
  refine g_mS_i (pc := 6) X (y := yX3_in) (As := [.long x1.toInt64, .long 0, .long 9999]) (rest := []) (fr' := 0) (lo' := 0) (fun _ => va_cwS 3 X.2.2.2.2.1 (lw_S q1767 q1768 q76 q1769) rfl rfl rfl dmS_X3_in ⟨Nat.le_of_ble_eq_true rfl, Nat.le_of_ble_eq_true rfl⟩) dX3_weather_6 rfl rfl (Nat.le_of_ble_eq_true rfl) (fun _ => rfl) (fun r u h => kX3_in h) (fun r1 t2 => ?_)
  refine g_if_eq (pc := 9) X 26 dX3_weather_9 (by decide) ?_ ?_
  · refine g_iconst (pc := 26) X (-1) dX3_weather_26 rfl ?_
    exact g_iret (pc := 27) X hr dX3_weather_27
  · refine g_aload_n (pc := 12) X 0 dX3_weather_12 rfl rfl ?_
    refine mg_get (pc := 13) X fo_X3_23 dX3_weather_13 rfl ?_
    refine g_iload_n (pc := 16) X 1 dX3_weather_16 rfl rfl ?_
    refine g_aload_n (pc := 17) X 0 dX3_weather_17 rfl rfl ?_
    refine mg_get (pc := 18) X fo_X3_26 dX3_weather_18 rfl ?_
    refine g_no (pc := 21) (fun hn3 => ?_)
    refine g_irem (pc := 21) X dX3_weather_21 hn3 ?_
    refine mg_ald (pc := 22) X (j := 3) dX3_weather_22 (by decide) rfl (fun v4 => ?_)
    refine g_goto (pc := 23) X 27 dX3_weather_23 (by decide) ?_
    exact g_iret (pc := 27) X hr dX3_weather_27
theorem kX3_weather {mo : Nat} {ρ : Sg} {sz : Nat} {x1 : Int32} {t : MS} {r : Int32} {u : MS} (h : fX3_weather x1 t = some (r, u)) : g_C Γ l yX3_weather cX3_weather 2 (Option.some Jvm.ClassFile.FieldType.int) 1 25 [.ref mo, .int x1] (MC mo t ρ) sz v_i r (m_ι mo ρ sz u) :=
  g_met [.ref mo, .int x1] (by decide) (Nat.le_of_ble_eq_true rfl) h rfl (fun p e s m args below meth c X hr hn => wX3_weather X hr x1 t)
def fX3_type (x1 : Int32) (t : MS) : Option (Int32 × MS) := gm (fX3_in x1.toInt64 32 126 t) fun r1 t2 => if r1 = 0 then some ((-1), t2) else if t2.1 15 = 160 then some ((-3), t2) else mast t2 7 160 (t2.1 15) x1 fun t3 => lt (setI t3 15 ((t3.1 15) + 1)) fun t4 => some (t4.1 15, t4)
set_option maxHeartbeats 4000000 in
theorem wX3_type {rF : Int32} (X : g_X Γ p s m args meth c cX3_type 2 RX3) (hr : meth.sig.returnType = (Option.some Jvm.ClassFile.FieldType.int)) (x1 : Int32) (t : MS) : Wf Γ p l e 1 25 s m args below meth c 2 (m_ι mo ρ sz) v_i rF tF 0 [(0, .ref mo), (1, .int x1)] [] t (fX3_type x1 t) := by
  unfold fX3_type
  refine g_iload_n (pc := 0) X 1 dX3_type_0 rfl rfl ?_
  refine g_i2l (pc := 1) X dX3_type_1 ?_
  refine g_ldc2 (pc := 2) X 32 dX3_type_2 q1828 ?_
  refine g_ldc2 (pc := 5) X 126 dX3_type_5 q1829 ?_
  refine g_mS_i (pc := 8) X (y := yX3_in) (As := [.long x1.toInt64, .long 32, .long 126]) (rest := []) (fr' := 0) (lo' := 0) (fun _ => va_cwS 3 X.2.2.2.2.1 (lw_S q1767 q1768 q76 q1769) rfl rfl rfl dmS_X3_in ⟨Nat.le_of_ble_eq_true rfl, Nat.le_of_ble_eq_true rfl⟩) dX3_type_8 rfl rfl (Nat.le_of_ble_eq_true rfl) (fun _ => rfl) (fun r u h => kX3_in h) (fun r1 t2 => ?_)
  refine g_if_ne (pc := 11) X 16 dX3_type_11 (by decide) ?_ ?_
  · refine g_aload_n (pc := 16) X 0 dX3_type_16 rfl rfl ?_
    refine mg_get (pc := 17) X fo_X3_125 dX3_type_17 rfl ?_
    refine g_sipush (pc := 20) X 160 dX3_type_20 rfl ?_
    refine g_icmp_ne (pc := 23) X 29 dX3_type_23 (by decide) ?_ ?_
    · refine g_aload_n (pc := 29) X 0 dX3_type_29 rfl rfl ?_
      refine mg_get (pc := 30) X fo_X3_44 dX3_type_30 rfl ?_
      refine g_aload_n (pc := 33) X 0 dX3_type_33 rfl rfl ?_
      refine mg_get (pc := 34) X fo_X3_125 dX3_type_34 rfl ?_
      refine g_iload_n (pc := 37) X 1 dX3_type_37 rfl rfl ?_
      refine mg_ast (pc := 38) X (j := 7) dX3_type_38 (by decide) rfl (fun t3 => ?_)
      refine g_aload_n (pc := 39) X 0 dX3_type_39 rfl rfl ?_
      refine g_dup (pc := 40) X dX3_type_40 rfl ?_
      refine mg_get (pc := 41) X fo_X3_125 dX3_type_41 rfl ?_
      refine g_iconst (pc := 44) X 1 dX3_type_44 rfl ?_
      refine g_iadd (pc := 45) X dX3_type_45 ?_
      refine mg_put (pc := 46) X fp_X3_125 dX3_type_46 rfl rfl (by decide) rfl (fun t4 => ?_)
      refine g_aload_n (pc := 49) X 0 dX3_type_49 rfl rfl ?_
      refine mg_get (pc := 50) X fo_X3_125 dX3_type_50 rfl ?_
      exact g_iret (pc := 53) X hr dX3_type_53
    · refine g_bipush (pc := 26) X (-3) dX3_type_26 rfl ?_
      exact g_iret (pc := 28) X hr dX3_type_28
  · refine g_iconst (pc := 14) X (-1) dX3_type_14 rfl ?_
    exact g_iret (pc := 15) X hr dX3_type_15
theorem kX3_type {mo : Nat} {ρ : Sg} {sz : Nat} {x1 : Int32} {t : MS} {r : Int32} {u : MS} (h : fX3_type x1 t = some (r, u)) : g_C Γ l yX3_type cX3_type 2 (Option.some Jvm.ClassFile.FieldType.int) 1 25 [.ref mo, .int x1] (MC mo t ρ) sz v_i r (m_ι mo ρ sz u) :=
  g_met [.ref mo, .int x1] (by decide) (Nat.le_of_ble_eq_true rfl) h rfl (fun p e s m args below meth c X hr hn => wX3_type X hr x1 t)
def fX3_allBack_2 : Nat → Int32 → MS → Option (Unit × MS)
  | 0, _, _ => none
  | n + 1, x1, t => if t.1 3 ≤ x1 then lt (setI t 12 0) fun t1 => some ((), t1) else mast t 0 63 (42 + x1) 0 fun t2 => mast t2 0 63 (51 + x1) (-4) fun t3 => fX3_allBack_2 n (x1 + 1) t3
set_option maxHeartbeats 4000000 in
theorem wX3_allBack_2 {rF : Unit} (X : g_X Γ p s m args meth c cX3_allBack 2 RX3) (hr : meth.sig.returnType = (Option.none : Option Jvm.ClassFile.FieldType)) (n : Nat) : ∀ (x1 : Int32) (t : MS), Wf Γ p l e 0 0 s m args below meth c 2 (m_ι mo ρ sz) v_v rF tF 2 [(0, .ref mo), (1, .int x1)] [] t (fX3_allBack_2 n x1 t) := by
  induction n with
  | zero => intro x1 t; exact g_none
  | succ n ih =>
    intro x1 t
    rw [fX3_allBack_2]
    refine g_iload_n (pc := 2) X 1 dX3_allBack_2 rfl rfl ?_
    refine g_aload_n (pc := 3) X 0 dX3_allBack_3 rfl rfl ?_
    refine mg_get (pc := 4) X fo_X3_72 dX3_allBack_4 rfl ?_
    refine g_icmp_ge (pc := 7) X 37 dX3_allBack_7 (by decide) ?_ ?_
    · refine g_aload_n (pc := 37) X 0 dX3_allBack_37 rfl rfl ?_
      refine g_iconst (pc := 38) X 0 dX3_allBack_38 rfl ?_
      refine mg_put (pc := 39) X fp_X3_96 dX3_allBack_39 rfl rfl (by decide) rfl (fun t1 => ?_)
      exact g_vret (pc := 42) X hr dX3_allBack_42
    · refine g_aload_n (pc := 10) X 0 dX3_allBack_10 rfl rfl ?_
      refine mg_get (pc := 11) X fo_X3_7 dX3_allBack_11 rfl ?_
      refine g_bipush (pc := 14) X 42 dX3_allBack_14 rfl ?_
      refine g_iload_n (pc := 16) X 1 dX3_allBack_16 rfl rfl ?_
      refine g_iadd (pc := 17) X dX3_allBack_17 ?_
      refine g_iconst (pc := 18) X 0 dX3_allBack_18 rfl ?_
      refine mg_ast (pc := 19) X (j := 0) dX3_allBack_19 (by decide) rfl (fun t2 => ?_)
      refine g_aload_n (pc := 20) X 0 dX3_allBack_20 rfl rfl ?_
      refine mg_get (pc := 21) X fo_X3_7 dX3_allBack_21 rfl ?_
      refine g_bipush (pc := 24) X 51 dX3_allBack_24 rfl ?_
      refine g_iload_n (pc := 26) X 1 dX3_allBack_26 rfl rfl ?_
      refine g_iadd (pc := 27) X dX3_allBack_27 ?_
      refine g_bipush (pc := 28) X (-4) dX3_allBack_28 rfl ?_
      refine mg_ast (pc := 30) X (j := 0) dX3_allBack_30 (by decide) rfl (fun t3 => ?_)
      refine g_iinc (pc := 31) X 1 1 (lv' := [(1, .int (x1 + 1)), (0, .ref mo)]) dX3_allBack_31 rfl rfl (by decide) rfl ?_
      refine g_goto (pc := 34) X 2 dX3_allBack_34 (by decide) ?_
      exact g_lv (pc := 2) (lv' := [(0, .ref mo), (1, .int (x1 + 1))]) [1, 0] rfl (ih (x1 + 1) t3)
def fX3_allBack (t : MS) : Option (Unit × MS) := fX3_allBack_2 1000 0 t
set_option maxHeartbeats 4000000 in
theorem wX3_allBack {rF : Unit} (X : g_X Γ p s m args meth c cX3_allBack 2 RX3) (hr : meth.sig.returnType = (Option.none : Option Jvm.ClassFile.FieldType)) (t : MS) : Wf Γ p l e 0 0 s m args below meth c 2 (m_ι mo ρ sz) v_v rF tF 0 [(0, .ref mo)] [] t (fX3_allBack  t) := by
  unfold fX3_allBack
  refine g_iconst (pc := 0) X 0 dX3_allBack_0 rfl ?_
  refine g_istore_n (pc := 1) X (lv' := [(1, .int 0), (0, .ref mo)]) dX3_allBack_1 rfl (by decide) rfl ?_
  exact g_lv (pc := 2) (lv' := [(0, .ref mo), (1, .int 0)]) [1, 0] rfl (wX3_allBack_2 X hr 1000 0 t)
theorem kX3_allBack {mo : Nat} {ρ : Sg} {sz : Nat} {t : MS} {r : Unit} {u : MS} (h : fX3_allBack  t = some (r, u)) : g_C Γ l yX3_allBack cX3_allBack 2 (Option.none : Option Jvm.ClassFile.FieldType) 0 0 [.ref mo] (MC mo t ρ) sz v_v r (m_ι mo ρ sz u) :=
  g_met [.ref mo] (by decide) (Nat.le_of_ble_eq_true rfl) h rfl (fun p e s m args below meth c X hr hn => wX3_allBack X hr  t)
def fX3_nextLetter_38 (t : MS) : Option (Int32 × MS) := if t.1 15 ≤ t.1 16 then some ((-1), t) else mald t 7 160 (t.1 16) fun v1 => some (v1, t)
set_option maxHeartbeats 4000000 in
theorem wX3_nextLetter_38 {rF : Int32} (X : g_X Γ p s m args meth c cX3_nextLetter 1 RX3) (hr : meth.sig.returnType = (Option.some Jvm.ClassFile.FieldType.int)) (t : MS) : Wf Γ p l e 0 0 s m args below meth c 1 (m_ι mo ρ sz) v_i rF tF 38 [(0, .ref mo)] [] t (fX3_nextLetter_38 t) := by
  unfold fX3_nextLetter_38
  refine g_aload_n (pc := 38) X 0 dX3_nextLetter_38 rfl rfl ?_
  refine mg_get (pc := 39) X fo_X3_128 dX3_nextLetter_39 rfl ?_
  refine g_aload_n (pc := 42) X 0 dX3_nextLetter_42 rfl rfl ?_
  refine mg_get (pc := 43) X fo_X3_125 dX3_nextLetter_43 rfl ?_
  refine g_icmp_ge (pc := 46) X 61 dX3_nextLetter_46 (by decide) ?_ ?_
  · refine g_iconst (pc := 61) X (-1) dX3_nextLetter_61 rfl ?_
    exact g_iret (pc := 62) X hr dX3_nextLetter_62
  · refine g_aload_n (pc := 49) X 0 dX3_nextLetter_49 rfl rfl ?_
    refine mg_get (pc := 50) X fo_X3_44 dX3_nextLetter_50 rfl ?_
    refine g_aload_n (pc := 53) X 0 dX3_nextLetter_53 rfl rfl ?_
    refine mg_get (pc := 54) X fo_X3_128 dX3_nextLetter_54 rfl ?_
    refine mg_ald (pc := 57) X (j := 7) dX3_nextLetter_57 (by decide) rfl (fun v1 => ?_)
    refine g_goto (pc := 58) X 62 dX3_nextLetter_58 (by decide) ?_
    exact g_iret (pc := 62) X hr dX3_nextLetter_62
def fX3_nextLetter_0 : Nat → MS → Option (Int32 × MS)
  | 0, _ => none
  | n + 1, t => if t.1 15 ≤ t.1 16 then fX3_nextLetter_38 t else mald t 7 160 (t.1 16) fun v1 => if v1 = 32 then lt (setI t 16 ((t.1 16) + 1)) fun t2 => fX3_nextLetter_0 n t2 else fX3_nextLetter_38 t
set_option maxHeartbeats 4000000 in
theorem wX3_nextLetter_0 {rF : Int32} (X : g_X Γ p s m args meth c cX3_nextLetter 1 RX3) (hr : meth.sig.returnType = (Option.some Jvm.ClassFile.FieldType.int)) (n : Nat) : ∀ (t : MS), Wf Γ p l e 0 0 s m args below meth c 1 (m_ι mo ρ sz) v_i rF tF 0 [(0, .ref mo)] [] t (fX3_nextLetter_0 n t) := by
  induction n with
  | zero => intro t; exact g_none
  | succ n ih =>
    intro t
    rw [fX3_nextLetter_0]
    refine g_aload_n (pc := 0) X 0 dX3_nextLetter_0 rfl rfl ?_
    refine mg_get (pc := 1) X fo_X3_128 dX3_nextLetter_1 rfl ?_
    refine g_aload_n (pc := 4) X 0 dX3_nextLetter_4 rfl rfl ?_
    refine mg_get (pc := 5) X fo_X3_125 dX3_nextLetter_5 rfl ?_
    refine g_icmp_ge (pc := 8) X 38 dX3_nextLetter_8 (by decide) ?_ ?_
    · exact g_lv (pc := 38) (lv' := [(0, .ref mo)]) [0] rfl (wX3_nextLetter_38 X hr t)
    · refine g_aload_n (pc := 11) X 0 dX3_nextLetter_11 rfl rfl ?_
      refine mg_get (pc := 12) X fo_X3_44 dX3_nextLetter_12 rfl ?_
      refine g_aload_n (pc := 15) X 0 dX3_nextLetter_15 rfl rfl ?_
      refine mg_get (pc := 16) X fo_X3_128 dX3_nextLetter_16 rfl ?_
      refine mg_ald (pc := 19) X (j := 7) dX3_nextLetter_19 (by decide) rfl (fun v1 => ?_)
      refine g_bipush (pc := 20) X 32 dX3_nextLetter_20 rfl ?_
      refine g_icmp_ne (pc := 22) X 38 dX3_nextLetter_22 (by decide) ?_ ?_
      · exact g_lv (pc := 38) (lv' := [(0, .ref mo)]) [0] rfl (wX3_nextLetter_38 X hr t)
      · refine g_aload_n (pc := 25) X 0 dX3_nextLetter_25 rfl rfl ?_
        refine g_dup (pc := 26) X dX3_nextLetter_26 rfl ?_
        refine mg_get (pc := 27) X fo_X3_128 dX3_nextLetter_27 rfl ?_
        refine g_iconst (pc := 30) X 1 dX3_nextLetter_30 rfl ?_
        refine g_iadd (pc := 31) X dX3_nextLetter_31 ?_
        refine mg_put (pc := 32) X fp_X3_128 dX3_nextLetter_32 rfl rfl (by decide) rfl (fun t2 => ?_)
        refine g_goto (pc := 35) X 0 dX3_nextLetter_35 (by decide) ?_
        exact g_lv (pc := 0) (lv' := [(0, .ref mo)]) [0] rfl (ih t2)
def fX3_nextLetter (t : MS) : Option (Int32 × MS) := fX3_nextLetter_0 1000 t
set_option maxHeartbeats 4000000 in
theorem wX3_nextLetter {rF : Int32} (X : g_X Γ p s m args meth c cX3_nextLetter 1 RX3) (hr : meth.sig.returnType = (Option.some Jvm.ClassFile.FieldType.int)) (t : MS) : Wf Γ p l e 0 0 s m args below meth c 1 (m_ι mo ρ sz) v_i rF tF 0 [(0, .ref mo)] [] t (fX3_nextLetter  t) := by
  unfold fX3_nextLetter
  exact g_lv (pc := 0) (lv' := [(0, .ref mo)]) [0] rfl (wX3_nextLetter_0 X hr 1000 t)
theorem kX3_nextLetter {mo : Nat} {ρ : Sg} {sz : Nat} {t : MS} {r : Int32} {u : MS} (h : fX3_nextLetter  t = some (r, u)) : g_C Γ l yX3_nextLetter cX3_nextLetter 1 (Option.some Jvm.ClassFile.FieldType.int) 0 0 [.ref mo] (MC mo t ρ) sz v_i r (m_ι mo ρ sz u) :=
  g_met [.ref mo] (by decide) (Nat.le_of_ble_eq_true rfl) h rfl (fun p e s m args below meth c X hr hn => wX3_nextLetter X hr  t)
def fX3_end_9 (x1 : Int32) (t : MS) : Option (Int32 × MS) := lt (setI t 15 0) fun t1 => if x1 = 0 then some ((-20) - (t1.1 16), t1) else some (0, t1)
set_option maxHeartbeats 4000000 in
theorem wX3_end_9 {rF : Int32} (X : g_X Γ p s m args meth c cX3_end 2 RX3) (hr : meth.sig.returnType = (Option.some Jvm.ClassFile.FieldType.int)) (x1 : Int32) (t : MS) : Wf Γ p l e 1 20 s m args below meth c 2 (m_ι mo ρ sz) v_i rF tF 9 [(0, .ref mo), (1, .int x1)] [] t (fX3_end_9 x1 t) := by
  unfold fX3_end_9
  refine g_aload_n (pc := 9) X 0 dX3_end_9 rfl rfl ?_
  refine g_iconst (pc := 10) X 0 dX3_end_10 rfl ?_
  refine mg_put (pc := 11) X fp_X3_125 dX3_end_11 rfl rfl (by decide) rfl (fun t1 => ?_)
  refine g_iload_n (pc := 14) X 1 dX3_end_14 rfl rfl ?_
  refine g_if_eq (pc := 15) X 22 dX3_end_15 (by decide) ?_ ?_
  · refine g_bipush (pc := 22) X (-20) dX3_end_22 rfl ?_
    refine g_aload_n (pc := 24) X 0 dX3_end_24 rfl rfl ?_
    refine mg_get (pc := 25) X fo_X3_128 dX3_end_25 rfl ?_
    refine g_isub (pc := 28) X dX3_end_28 ?_
    exact g_iret (pc := 29) X hr dX3_end_29
  · refine g_iconst (pc := 18) X 0 dX3_end_18 rfl ?_
    refine g_goto (pc := 19) X 29 dX3_end_19 (by decide) ?_
    exact g_iret (pc := 29) X hr dX3_end_29
def fX3_end (x1 : Int32) (t : MS) : Option (Int32 × MS) := if x1 = 0 then gm (fX3_nextLetter t) fun r1 t2 => fX3_end_9 x1 t2 else fX3_end_9 x1 t
set_option maxHeartbeats 4000000 in
theorem wX3_end {rF : Int32} (X : g_X Γ p s m args meth c cX3_end 2 RX3) (hr : meth.sig.returnType = (Option.some Jvm.ClassFile.FieldType.int)) (x1 : Int32) (t : MS) : Wf Γ p l e 1 20 s m args below meth c 2 (m_ι mo ρ sz) v_i rF tF 0 [(0, .ref mo), (1, .int x1)] [] t (fX3_end x1 t) := by
  unfold fX3_end
  refine g_iload_n (pc := 0) X 1 dX3_end_0 rfl rfl ?_
  refine g_if_ne (pc := 1) X 9 dX3_end_1 (by decide) ?_ ?_
  · exact g_lv (pc := 9) (lv' := [(0, .ref mo), (1, .int x1)]) [0, 1] rfl (wX3_end_9 X hr x1 t)
  · refine g_aload_n (pc := 4) X 0 dX3_end_4 rfl rfl ?_
    refine g_mV_i (pc := 5) X (C := RX3) (y := yX3_nextLetter) (As := []) (rest := []) (fr' := 0) (lo' := 0) (fun _ => cwV 0 X.2.2.2.2.1 (lw_V q1838 q1840 qs37 q76 q1841) rfl rfl rfl dmV_X3_nextLetter ⟨Nat.le_of_ble_eq_true rfl, Nat.le_of_ble_eq_true rfl⟩) dX3_end_5 MC_o ⟨_, _, rfl⟩ rfl rfl (Nat.le_of_ble_eq_true rfl) (fun _ => rfl) (fun r u h => kX3_nextLetter h) (fun r1 t2 => ?_)
    refine g_pop (pc := 8) X dX3_end_8 rfl ?_
    exact g_lv (pc := 9) (lv' := [(0, .ref mo), (1, .int x1)]) [0, 1] rfl (wX3_end_9 X hr x1 t2)
theorem kX3_end {mo : Nat} {ρ : Sg} {sz : Nat} {x1 : Int32} {t : MS} {r : Int32} {u : MS} (h : fX3_end x1 t = some (r, u)) : g_C Γ l yX3_end cX3_end 2 (Option.some Jvm.ClassFile.FieldType.int) 1 20 [.ref mo, .int x1] (MC mo t ρ) sz v_i r (m_ι mo ρ sz u) :=
  g_met [.ref mo, .int x1] (by decide) (Nat.le_of_ble_eq_true rfl) h rfl (fun p e s m args below meth c X hr hn => wX3_end X hr x1 t)
def fX3_dialOf (x0 : Int32) (t : MS) : Option (Int32 × MS) := gm (fX3_in x0.toInt64 48 57 t) fun r1 t2 => if r1 = 0 then if x0 = 97 then some (10, t2) else if x0 = 98 then some (11, t2) else if x0 = 45 then some (12, t2) else some ((-1), t2) else some (x0 - 48, t2)
set_option maxHeartbeats 4000000 in
theorem wX3_dialOf {rF : Int32} (X : g_X Γ p s m args meth c cX3_dialOf 1 RX3) (hr : meth.sig.returnType = (Option.some Jvm.ClassFile.FieldType.int)) (x0 : Int32) (t : MS) : Wf Γ p l e 1 25 s m args below meth c 1 (m_ι mo ρ sz) v_i rF tF 0 [(0, .int x0)] [] t (fX3_dialOf x0 t) := by
  unfold fX3_dialOf
  refine g_iload_n (pc := 0) X 0 dX3_dialOf_0 rfl rfl ?_
  refine g_i2l (pc := 1) X dX3_dialOf_1 ?_
  refine g_ldc2 (pc := 2) X 48 dX3_dialOf_2 q1845 ?_
  refine g_ldc2 (pc := 5) X 57 dX3_dialOf_5 q1846 ?_
  refine g_mS_i (pc := 8) X (y := yX3_in) (As := [.long x0.toInt64, .long 48, .long 57]) (rest := []) (fr' := 0) (lo' := 0) (fun _ => va_cwS 3 X.2.2.2.2.1 (lw_S q1767 q1768 q76 q1769) rfl rfl rfl dmS_X3_in ⟨Nat.le_of_ble_eq_true rfl, Nat.le_of_ble_eq_true rfl⟩) dX3_dialOf_8 rfl rfl (Nat.le_of_ble_eq_true rfl) (fun _ => rfl) (fun r u h => kX3_in h) (fun r1 t2 => ?_)
  refine g_if_eq (pc := 11) X 21 dX3_dialOf_11 (by decide) ?_ ?_
  · refine g_iload_n (pc := 21) X 0 dX3_dialOf_21 rfl rfl ?_
    refine g_bipush (pc := 22) X 97 dX3_dialOf_22 rfl ?_
    refine g_icmp_ne (pc := 24) X 32 dX3_dialOf_24 (by decide) ?_ ?_
    · refine g_iload_n (pc := 32) X 0 dX3_dialOf_32 rfl rfl ?_
      refine g_bipush (pc := 33) X 98 dX3_dialOf_33 rfl ?_
      refine g_icmp_ne (pc := 35) X 43 dX3_dialOf_35 (by decide) ?_ ?_
      · refine g_iload_n (pc := 43) X 0 dX3_dialOf_43 rfl rfl ?_
        refine g_bipush (pc := 44) X 45 dX3_dialOf_44 rfl ?_
        refine g_icmp_ne (pc := 46) X 54 dX3_dialOf_46 (by decide) ?_ ?_
        · refine g_iconst (pc := 54) X (-1) dX3_dialOf_54 rfl ?_
          exact g_iret (pc := 55) X hr dX3_dialOf_55
        · refine g_bipush (pc := 49) X 12 dX3_dialOf_49 rfl ?_
          refine g_goto (pc := 51) X 55 dX3_dialOf_51 (by decide) ?_
          exact g_iret (pc := 55) X hr dX3_dialOf_55
      · refine g_bipush (pc := 38) X 11 dX3_dialOf_38 rfl ?_
        refine g_goto (pc := 40) X 55 dX3_dialOf_40 (by decide) ?_
        exact g_iret (pc := 55) X hr dX3_dialOf_55
    · refine g_bipush (pc := 27) X 10 dX3_dialOf_27 rfl ?_
      refine g_goto (pc := 29) X 55 dX3_dialOf_29 (by decide) ?_
      exact g_iret (pc := 55) X hr dX3_dialOf_55
  · refine g_iload_n (pc := 14) X 0 dX3_dialOf_14 rfl rfl ?_
    refine g_bipush (pc := 15) X 48 dX3_dialOf_15 rfl ?_
    refine g_isub (pc := 17) X dX3_dialOf_17 ?_
    refine g_goto (pc := 18) X 55 dX3_dialOf_18 (by decide) ?_
    exact g_iret (pc := 55) X hr dX3_dialOf_55
theorem kX3_dialOf {mo : Nat} {ρ : Sg} {sz : Nat} {x0 : Int32} {t : MS} {r : Int32} {u : MS} (h : fX3_dialOf x0 t = some (r, u)) : g_C Γ l yX3_dialOf cX3_dialOf 1 (Option.some Jvm.ClassFile.FieldType.int) 1 25 [.int x0] (MC mo t ρ) sz v_i r (m_ι mo ρ sz u) :=
  g_met [.int x0] (by decide) (Nat.le_of_ble_eq_true rfl) h rfl (fun p e s m args below meth c X hr hn => wX3_dialOf X hr x0 t)
def fX3_skyOf (x0 : Int32) (t : MS) : Option (Int32 × MS) := if x0 = 115 then some (0, t) else if x0 = 114 then some (1, t) else if x0 = 119 then some (2, t) else if x0 = 110 then some (3, t) else some ((-1), t)
set_option maxHeartbeats 4000000 in
theorem wX3_skyOf {rF : Int32} (X : g_X Γ p s m args meth c cX3_skyOf 1 RX3) (hr : meth.sig.returnType = (Option.some Jvm.ClassFile.FieldType.int)) (x0 : Int32) (t : MS) : Wf Γ p l e 0 0 s m args below meth c 1 (m_ι mo ρ sz) v_i rF tF 0 [(0, .int x0)] [] t (fX3_skyOf x0 t) := by
  unfold fX3_skyOf
  refine g_iload_n (pc := 0) X 0 dX3_skyOf_0 rfl rfl ?_
  refine g_bipush (pc := 1) X 115 dX3_skyOf_1 rfl ?_
  refine g_icmp_ne (pc := 3) X 10 dX3_skyOf_3 (by decide) ?_ ?_
  · refine g_iload_n (pc := 10) X 0 dX3_skyOf_10 rfl rfl ?_
    refine g_bipush (pc := 11) X 114 dX3_skyOf_11 rfl ?_
    refine g_icmp_ne (pc := 13) X 20 dX3_skyOf_13 (by decide) ?_ ?_
    · refine g_iload_n (pc := 20) X 0 dX3_skyOf_20 rfl rfl ?_
      refine g_bipush (pc := 21) X 119 dX3_skyOf_21 rfl ?_
      refine g_icmp_ne (pc := 23) X 30 dX3_skyOf_23 (by decide) ?_ ?_
      · refine g_iload_n (pc := 30) X 0 dX3_skyOf_30 rfl rfl ?_
        refine g_bipush (pc := 31) X 110 dX3_skyOf_31 rfl ?_
        refine g_icmp_ne (pc := 33) X 40 dX3_skyOf_33 (by decide) ?_ ?_
        · refine g_iconst (pc := 40) X (-1) dX3_skyOf_40 rfl ?_
          exact g_iret (pc := 41) X hr dX3_skyOf_41
        · refine g_iconst (pc := 36) X 3 dX3_skyOf_36 rfl ?_
          refine g_goto (pc := 37) X 41 dX3_skyOf_37 (by decide) ?_
          exact g_iret (pc := 41) X hr dX3_skyOf_41
      · refine g_iconst (pc := 26) X 2 dX3_skyOf_26 rfl ?_
        refine g_goto (pc := 27) X 41 dX3_skyOf_27 (by decide) ?_
        exact g_iret (pc := 41) X hr dX3_skyOf_41
    · refine g_iconst (pc := 16) X 1 dX3_skyOf_16 rfl ?_
      refine g_goto (pc := 17) X 41 dX3_skyOf_17 (by decide) ?_
      exact g_iret (pc := 41) X hr dX3_skyOf_41
  · refine g_iconst (pc := 6) X 0 dX3_skyOf_6 rfl ?_
    refine g_goto (pc := 7) X 41 dX3_skyOf_7 (by decide) ?_
    exact g_iret (pc := 41) X hr dX3_skyOf_41
theorem kX3_skyOf {mo : Nat} {ρ : Sg} {sz : Nat} {x0 : Int32} {t : MS} {r : Int32} {u : MS} (h : fX3_skyOf x0 t = some (r, u)) : g_C Γ l yX3_skyOf cX3_skyOf 1 (Option.some Jvm.ClassFile.FieldType.int) 0 0 [.int x0] (MC mo t ρ) sz v_i r (m_ι mo ρ sz u) :=
  g_met [.int x0] (by decide) (Nat.le_of_ble_eq_true rfl) h rfl (fun p e s m args below meth c X hr hn => wX3_skyOf X hr x0 t)
def fX3_readSigns_38 (kc10 : Int32 → Int32 → Int32 → MS → Option (Int32 × MS)) (x1 : Int32) (x2 : Int32) (x3 : Int32) (s0 : Int32) (t : MS) : Option (Int32 × MS) := if s0 < 0 then some (0, t) else if t.1 17 = x2 then some (0, t) else mast t 8 480 (t.1 17) s0 fun t1 => lt (setI t1 17 ((t1.1 17) + 1)) fun t2 => lt (setI t2 16 ((t2.1 16) + 1)) fun t3 => kc10 x1 x2 x3 t3
set_option maxHeartbeats 4000000 in
theorem wX3_readSigns_38 {rF : Int32} (X : g_X Γ p s m args meth c cX3_readSigns 5 RX3) (hr : meth.sig.returnType = (Option.some Jvm.ClassFile.FieldType.boolean)) {kc10 : Int32 → Int32 → Int32 → MS → Option (Int32 × MS)} (hk10 : ∀ (x1 : Int32) (x2 : Int32) (x3 : Int32) (t : MS), Wf Γ p l e 2 45 s m args below meth c 5 (m_ι mo ρ sz) v_i rF tF 10 [(0, .ref mo), (1, .int x1), (2, .int x2), (3, .int x3)] [] t (kc10 x1 x2 x3 t)) (x1 : Int32) (x2 : Int32) (x3 : Int32) (s0 : Int32) (t : MS) : Wf Γ p l e 2 45 s m args below meth c 5 (m_ι mo ρ sz) v_i rF tF 38 [(0, .ref mo), (1, .int x1), (2, .int x2), (3, .int x3)] [.int s0] t (fX3_readSigns_38 kc10 x1 x2 x3 s0 t) := by
  unfold fX3_readSigns_38
  refine g_istore (pc := 38) X (lv' := [(4, .int s0), (0, .ref mo), (1, .int x1), (2, .int x2), (3, .int x3)]) dX3_readSigns_38 (by decide) rfl ?_
  refine g_iload (pc := 40) X 0 dX3_readSigns_40 rfl ?_
  refine g_if_lt (pc := 42) X 53 dX3_readSigns_42 (by decide) ?_ ?_
  · refine g_iconst (pc := 53) X 0 dX3_readSigns_53 rfl ?_
    exact g_zret (pc := 54) X hr rfl dX3_readSigns_54
  · refine g_aload_n (pc := 45) X 1 dX3_readSigns_45 rfl rfl ?_
    refine mg_get (pc := 46) X fo_X3_139 dX3_readSigns_46 rfl ?_
    refine g_iload_n (pc := 49) X 3 dX3_readSigns_49 rfl rfl ?_
    refine g_icmp_ne (pc := 50) X 55 dX3_readSigns_50 (by decide) ?_ ?_
    · refine g_aload_n (pc := 55) X 1 dX3_readSigns_55 rfl rfl ?_
      refine mg_get (pc := 56) X fo_X3_47 dX3_readSigns_56 rfl ?_
      refine g_aload_n (pc := 59) X 1 dX3_readSigns_59 rfl rfl ?_
      refine mg_get (pc := 60) X fo_X3_139 dX3_readSigns_60 rfl ?_
      refine g_iload (pc := 63) X 0 dX3_readSigns_63 rfl ?_
      refine mg_ast (pc := 65) X (j := 8) dX3_readSigns_65 (by decide) rfl (fun t1 => ?_)
      refine g_aload_n (pc := 66) X 1 dX3_readSigns_66 rfl rfl ?_
      refine g_dup (pc := 67) X dX3_readSigns_67 rfl ?_
      refine mg_get (pc := 68) X fo_X3_139 dX3_readSigns_68 rfl ?_
      refine g_iconst (pc := 71) X 1 dX3_readSigns_71 rfl ?_
      refine g_iadd (pc := 72) X dX3_readSigns_72 ?_
      refine mg_put (pc := 73) X fp_X3_139 dX3_readSigns_73 rfl rfl (by decide) rfl (fun t2 => ?_)
      refine g_aload_n (pc := 76) X 1 dX3_readSigns_76 rfl rfl ?_
      refine g_dup (pc := 77) X dX3_readSigns_77 rfl ?_
      refine mg_get (pc := 78) X fo_X3_128 dX3_readSigns_78 rfl ?_
      refine g_iconst (pc := 81) X 1 dX3_readSigns_81 rfl ?_
      refine g_iadd (pc := 82) X dX3_readSigns_82 ?_
      refine mg_put (pc := 83) X fp_X3_128 dX3_readSigns_83 rfl rfl (by decide) rfl (fun t3 => ?_)
      refine g_goto (pc := 86) X 10 dX3_readSigns_86 (by decide) ?_
      exact g_lv (pc := 10) (lv' := [(0, .ref mo), (1, .int x1), (2, .int x2), (3, .int x3)]) [1, 2, 3, 4] rfl (hk10 x1 x2 x3 t3)
    · refine g_iconst (pc := 53) X 0 dX3_readSigns_53 rfl ?_
      exact g_zret (pc := 54) X hr rfl dX3_readSigns_54
def fX3_readSigns_10 : Nat → Int32 → Int32 → Int32 → MS → Option (Int32 × MS)
  | 0, _, _, _, _ => none
  | n + 1, x1, x2, x3, t => gm (fX3_nextLetter t) fun r1 t2 => if r1 < 0 then if t2.1 17 < x1 then some (0, t2) else some (1, t2) else if x3 = 0 then gm (fX3_nextLetter t2) fun r3 t4 => gm (fX3_skyOf r3 t4) fun r5 t6 => fX3_readSigns_38 (fun a0 a1 a2 a3 => fX3_readSigns_10 n a0 a1 a2 a3) x1 x2 x3 r5 t6 else gm (fX3_nextLetter t2) fun r7 t8 => gm (fX3_dialOf r7 t8) fun r9 t10 => fX3_readSigns_38 (fun a0 a1 a2 a3 => fX3_readSigns_10 n a0 a1 a2 a3) x1 x2 x3 r9 t10
set_option maxHeartbeats 4000000 in
theorem wX3_readSigns_10 {rF : Int32} (X : g_X Γ p s m args meth c cX3_readSigns 5 RX3) (hr : meth.sig.returnType = (Option.some Jvm.ClassFile.FieldType.boolean)) (n : Nat) : ∀ (x1 : Int32) (x2 : Int32) (x3 : Int32) (t : MS), Wf Γ p l e 2 45 s m args below meth c 5 (m_ι mo ρ sz) v_i rF tF 10 [(0, .ref mo), (1, .int x1), (2, .int x2), (3, .int x3)] [] t (fX3_readSigns_10 n x1 x2 x3 t) := by
  induction n with
  | zero => intro x1 x2 x3 t; exact g_none
  | succ n ih =>
    intro x1 x2 x3 t
    rw [fX3_readSigns_10]
    refine g_aload_n (pc := 10) X 0 dX3_readSigns_10 rfl rfl ?_
    refine g_mV_i (pc := 11) X (C := RX3) (y := yX3_nextLetter) (As := []) (rest := []) (fr' := 0) (lo' := 0) (fun _ => cwV 0 X.2.2.2.2.1 (lw_V q1838 q1840 qs37 q76 q1841) rfl rfl rfl dmV_X3_nextLetter ⟨Nat.le_of_ble_eq_true rfl, Nat.le_of_ble_eq_true rfl⟩) dX3_readSigns_11 MC_o ⟨_, _, rfl⟩ rfl rfl (Nat.le_of_ble_eq_true rfl) (fun _ => rfl) (fun r u h => kX3_nextLetter h) (fun r1 t2 => ?_)
    refine g_if_lt (pc := 14) X 89 dX3_readSigns_14 (by decide) ?_ ?_
    · refine g_aload_n (pc := 89) X 0 dX3_readSigns_89 rfl rfl ?_
      refine mg_get (pc := 90) X fo_X3_139 dX3_readSigns_90 rfl ?_
      refine g_iload_n (pc := 93) X 1 dX3_readSigns_93 rfl rfl ?_
      refine g_icmp_lt (pc := 94) X 101 dX3_readSigns_94 (by decide) ?_ ?_
      · refine g_iconst (pc := 101) X 0 dX3_readSigns_101 rfl ?_
        exact g_zret (pc := 102) X hr rfl dX3_readSigns_102
      · refine g_iconst (pc := 97) X 1 dX3_readSigns_97 rfl ?_
        refine g_goto (pc := 98) X 102 dX3_readSigns_98 (by decide) ?_
        exact g_zret (pc := 102) X hr rfl dX3_readSigns_102
    · refine g_iload_n (pc := 17) X 3 dX3_readSigns_17 rfl rfl ?_
      refine g_if_eq (pc := 18) X 31 dX3_readSigns_18 (by decide) ?_ ?_
      · refine g_aload_n (pc := 31) X 0 dX3_readSigns_31 rfl rfl ?_
        refine g_mV_i (pc := 32) X (C := RX3) (y := yX3_nextLetter) (As := []) (rest := []) (fr' := 0) (lo' := 0) (fun _ => cwV 0 X.2.2.2.2.1 (lw_V q1838 q1840 qs37 q76 q1841) rfl rfl rfl dmV_X3_nextLetter ⟨Nat.le_of_ble_eq_true rfl, Nat.le_of_ble_eq_true rfl⟩) dX3_readSigns_32 MC_o ⟨_, _, rfl⟩ rfl rfl (Nat.le_of_ble_eq_true rfl) (fun _ => rfl) (fun r u h => kX3_nextLetter h) (fun r3 t4 => ?_)
        refine g_mS_i (pc := 35) X (y := yX3_skyOf) (As := [.int r3]) (rest := []) (fr' := 0) (lo' := 0) (fun _ => va_cwS 1 X.2.2.2.2.1 (lw_S q1847 q1848 q76 q1849) rfl rfl rfl dmS_X3_skyOf ⟨Nat.le_of_ble_eq_true rfl, Nat.le_of_ble_eq_true rfl⟩) dX3_readSigns_35 rfl rfl (Nat.le_of_ble_eq_true rfl) (fun _ => rfl) (fun r u h => kX3_skyOf h) (fun r5 t6 => ?_)
        exact g_lv (pc := 38) (lv' := [(0, .ref mo), (1, .int x1), (2, .int x2), (3, .int x3)]) [0, 1, 2, 3] rfl (wX3_readSigns_38 X hr (fun a0 a1 a2 a3 => ih a0 a1 a2 a3) x1 x2 x3 r5 t6)
      · refine g_aload_n (pc := 21) X 0 dX3_readSigns_21 rfl rfl ?_
        refine g_mV_i (pc := 22) X (C := RX3) (y := yX3_nextLetter) (As := []) (rest := []) (fr' := 0) (lo' := 0) (fun _ => cwV 0 X.2.2.2.2.1 (lw_V q1838 q1840 qs37 q76 q1841) rfl rfl rfl dmV_X3_nextLetter ⟨Nat.le_of_ble_eq_true rfl, Nat.le_of_ble_eq_true rfl⟩) dX3_readSigns_22 MC_o ⟨_, _, rfl⟩ rfl rfl (Nat.le_of_ble_eq_true rfl) (fun _ => rfl) (fun r u h => kX3_nextLetter h) (fun r7 t8 => ?_)
        refine g_mS_i (pc := 25) X (y := yX3_dialOf) (As := [.int r7]) (rest := []) (fr' := 1) (lo' := 25) (fun _ => va_cwS 1 X.2.2.2.2.1 (lw_S q1842 q1843 q76 q1844) rfl rfl rfl dmS_X3_dialOf ⟨Nat.le_of_ble_eq_true rfl, Nat.le_of_ble_eq_true rfl⟩) dX3_readSigns_25 rfl rfl (Nat.le_of_ble_eq_true rfl) (fun _ => rfl) (fun r u h => kX3_dialOf h) (fun r9 t10 => ?_)
        refine g_goto (pc := 28) X 38 dX3_readSigns_28 (by decide) ?_
        exact g_lv (pc := 38) (lv' := [(0, .ref mo), (1, .int x1), (2, .int x2), (3, .int x3)]) [0, 1, 2, 3] rfl (wX3_readSigns_38 X hr (fun a0 a1 a2 a3 => ih a0 a1 a2 a3) x1 x2 x3 r9 t10)
def fX3_readSigns (x1 : Int32) (x2 : Int32) (x3 : Int32) (t : MS) : Option (Int32 × MS) := lt (setI t 16 0) fun t1 => lt (setI t1 17 0) fun t2 => fX3_readSigns_10 1000 x1 x2 x3 t2
set_option maxHeartbeats 4000000 in
theorem wX3_readSigns {rF : Int32} (X : g_X Γ p s m args meth c cX3_readSigns 5 RX3) (hr : meth.sig.returnType = (Option.some Jvm.ClassFile.FieldType.boolean)) (x1 : Int32) (x2 : Int32) (x3 : Int32) (t : MS) : Wf Γ p l e 2 45 s m args below meth c 5 (m_ι mo ρ sz) v_i rF tF 0 [(0, .ref mo), (1, .int x1), (2, .int x2), (3, .int x3)] [] t (fX3_readSigns x1 x2 x3 t) := by
  unfold fX3_readSigns
  refine g_aload_n (pc := 0) X 0 dX3_readSigns_0 rfl rfl ?_
  refine g_iconst (pc := 1) X 0 dX3_readSigns_1 rfl ?_
  refine mg_put (pc := 2) X fp_X3_128 dX3_readSigns_2 rfl rfl (by decide) rfl (fun t1 => ?_)
  refine g_aload_n (pc := 5) X 0 dX3_readSigns_5 rfl rfl ?_
  refine g_iconst (pc := 6) X 0 dX3_readSigns_6 rfl ?_
  refine mg_put (pc := 7) X fp_X3_139 dX3_readSigns_7 rfl rfl (by decide) rfl (fun t2 => ?_)
  exact g_lv (pc := 10) (lv' := [(0, .ref mo), (1, .int x1), (2, .int x2), (3, .int x3)]) [0, 1, 2, 3] rfl (wX3_readSigns_10 X hr 1000 x1 x2 x3 t2)
theorem kX3_readSigns {mo : Nat} {ρ : Sg} {sz : Nat} {x1 : Int32} {x2 : Int32} {x3 : Int32} {t : MS} {r : Int32} {u : MS} (h : fX3_readSigns x1 x2 x3 t = some (r, u)) : g_C Γ l yX3_readSigns cX3_readSigns 5 (Option.some Jvm.ClassFile.FieldType.boolean) 2 45 [.ref mo, .int x1, .int x2, .int x3] (MC mo t ρ) sz v_i r (m_ι mo ρ sz u) :=
  g_met [.ref mo, .int x1, .int x2, .int x3] (by decide) (Nat.le_of_ble_eq_true rfl) h rfl (fun p e s m args below meth c X hr hn => wX3_readSigns X hr x1 x2 x3 t)
def fX3_course_29 : Nat → Int32 → MS → Option (Int32 × MS)
  | 0, _, _ => none
  | n + 1, x2, t => if t.1 4 ≤ x2 then gm (fX3_allBack t) fun _ t2 => some (t2.1 4, t2) else mald t 8 480 x2 fun v3 => mast t 0 63 x2 v3 fun t4 => fX3_course_29 n (x2 + 1) t4
set_option maxHeartbeats 4000000 in
theorem wX3_course_29 {rF : Int32} (X : g_X Γ p s m args meth c cX3_course 3 RX3) (hr : meth.sig.returnType = (Option.some Jvm.ClassFile.FieldType.int)) (n : Nat) : ∀ (x2 : Int32) (t : MS), Wf Γ p l e 3 69 s m args below meth c 3 (m_ι mo ρ sz) v_i rF tF 29 [(0, .ref mo), (2, .int x2)] [] t (fX3_course_29 n x2 t) := by
  induction n with
  | zero => intro x2 t; exact g_none
  | succ n ih =>
    intro x2 t
    rw [fX3_course_29]
    refine g_iload_n (pc := 29) X 1 dX3_course_29 rfl rfl ?_
    refine g_aload_n (pc := 30) X 0 dX3_course_30 rfl rfl ?_
    refine mg_get (pc := 31) X fo_X3_19 dX3_course_31 rfl ?_
    refine g_icmp_ge (pc := 34) X 55 dX3_course_34 (by decide) ?_ ?_
    · refine g_aload_n (pc := 55) X 0 dX3_course_55 rfl rfl ?_
      refine g_mV_v (pc := 56) X (C := RX3) (y := yX3_allBack) (As := []) (rest := []) (fr' := 0) (lo' := 0) (fun _ => cwV 0 X.2.2.2.2.1 (lw_V q1854 q1856 qs39 q76 q1857) rfl rfl rfl dmV_X3_allBack ⟨Nat.le_of_ble_eq_true rfl, Nat.le_of_ble_eq_true rfl⟩) dX3_course_56 MC_o ⟨_, _, rfl⟩ rfl rfl (Nat.le_of_ble_eq_true rfl) (fun _ => rfl) (fun r u h => kX3_allBack h) (fun r1 t2 => ?_)
      refine g_aload_n (pc := 59) X 0 dX3_course_59 rfl rfl ?_
      refine mg_get (pc := 60) X fo_X3_19 dX3_course_60 rfl ?_
      exact g_iret (pc := 63) X hr dX3_course_63
    · refine g_aload_n (pc := 37) X 0 dX3_course_37 rfl rfl ?_
      refine mg_get (pc := 38) X fo_X3_7 dX3_course_38 rfl ?_
      refine g_iload_n (pc := 41) X 1 dX3_course_41 rfl rfl ?_
      refine g_aload_n (pc := 42) X 0 dX3_course_42 rfl rfl ?_
      refine mg_get (pc := 43) X fo_X3_47 dX3_course_43 rfl ?_
      refine g_iload_n (pc := 46) X 1 dX3_course_46 rfl rfl ?_
      refine mg_ald (pc := 47) X (j := 8) dX3_course_47 (by decide) rfl (fun v3 => ?_)
      refine mg_ast (pc := 48) X (j := 0) dX3_course_48 (by decide) rfl (fun t4 => ?_)
      refine g_iinc (pc := 49) X 1 1 (lv' := [(2, .int (x2 + 1)), (0, .ref mo)]) dX3_course_49 rfl rfl (by decide) rfl ?_
      refine g_goto (pc := 52) X 29 dX3_course_52 (by decide) ?_
      exact g_lv (pc := 29) (lv' := [(0, .ref mo), (2, .int (x2 + 1))]) [1, 0] rfl (ih (x2 + 1) t4)
def fX3_course (t : MS) : Option (Int32 × MS) := gm (fX3_readSigns 2 24 1 t) fun r1 t2 => gm (fX3_end r1 t2) fun r3 t4 => if 0 ≤ r3 then lt (setI t4 4 (t4.1 17)) fun t5 => fX3_course_29 1000 0 t5 else some (r3, t4)
set_option maxHeartbeats 4000000 in
theorem wX3_course {rF : Int32} (X : g_X Γ p s m args meth c cX3_course 3 RX3) (hr : meth.sig.returnType = (Option.some Jvm.ClassFile.FieldType.int)) (t : MS) : Wf Γ p l e 3 69 s m args below meth c 3 (m_ι mo ρ sz) v_i rF tF 0 [(0, .ref mo)] [] t (fX3_course  t) := by
  unfold fX3_course
  refine g_aload_n (pc := 0) X 0 dX3_course_0 rfl rfl ?_
  refine g_aload_n (pc := 1) X 0 dX3_course_1 rfl rfl ?_
  refine g_iconst (pc := 2) X 2 dX3_course_2 rfl ?_
  refine g_bipush (pc := 3) X 24 dX3_course_3 rfl ?_
  refine g_iconst (pc := 5) X 1 dX3_course_5 rfl ?_
  refine g_mV_i (pc := 6) X (C := RX3) (y := yX3_readSigns) (As := [.int 2, .int 24, .int 1]) (rest := [.ref mo]) (fr' := 2) (lo' := 45) (fun _ => cwV 3 X.2.2.2.2.1 (lw_V q1834 q1836 qs36 q76 q1837) rfl rfl rfl dmV_X3_readSigns ⟨Nat.le_of_ble_eq_true rfl, Nat.le_of_ble_eq_true rfl⟩) dX3_course_6 MC_o ⟨_, _, rfl⟩ rfl rfl (Nat.le_of_ble_eq_true rfl) (fun _ => rfl) (fun r u h => kX3_readSigns h) (fun r1 t2 => ?_)
  refine g_mV_i (pc := 9) X (C := RX3) (y := yX3_end) (As := [.int r1]) (rest := []) (fr' := 1) (lo' := 20) (fun _ => cwV 1 X.2.2.2.2.1 (lw_V q1850 q1852 qs38 q76 q1853) rfl rfl rfl dmV_X3_end ⟨Nat.le_of_ble_eq_true rfl, Nat.le_of_ble_eq_true rfl⟩) dX3_course_9 MC_o ⟨_, _, rfl⟩ rfl rfl (Nat.le_of_ble_eq_true rfl) (fun _ => rfl) (fun r u h => kX3_end h) (fun r3 t4 => ?_)
  refine g_istore_n (pc := 12) X (lv' := [(1, .int r3), (0, .ref mo)]) dX3_course_12 rfl (by decide) rfl ?_
  refine g_iload_n (pc := 13) X 0 dX3_course_13 rfl rfl ?_
  refine g_if_ge (pc := 14) X 19 dX3_course_14 (by decide) ?_ ?_
  · refine g_aload_n (pc := 19) X 1 dX3_course_19 rfl rfl ?_
    refine g_aload_n (pc := 20) X 1 dX3_course_20 rfl rfl ?_
    refine mg_get (pc := 21) X fo_X3_139 dX3_course_21 rfl ?_
    refine mg_put (pc := 24) X fp_X3_19 dX3_course_24 rfl rfl (by decide) rfl (fun t5 => ?_)
    refine g_iconst (pc := 27) X 0 dX3_course_27 rfl ?_
    refine g_istore_n (pc := 28) X (lv' := [(2, .int 0), (1, .int r3), (0, .ref mo)]) dX3_course_28 rfl (by decide) rfl ?_
    exact g_lv (pc := 29) (lv' := [(0, .ref mo), (2, .int 0)]) [2, 0] rfl (wX3_course_29 X hr 1000 0 t5)
  · refine g_iload_n (pc := 17) X 0 dX3_course_17 rfl rfl ?_
    exact g_iret (pc := 18) X hr dX3_course_18
theorem kX3_course {mo : Nat} {ρ : Sg} {sz : Nat} {t : MS} {r : Int32} {u : MS} (h : fX3_course  t = some (r, u)) : g_C Γ l yX3_course cX3_course 3 (Option.some Jvm.ClassFile.FieldType.int) 3 69 [.ref mo] (MC mo t ρ) sz v_i r (m_ι mo ρ sz u) :=
  g_met [.ref mo] (by decide) (Nat.le_of_ble_eq_true rfl) h rfl (fun p e s m args below meth c X hr hn => wX3_course X hr  t)
def fX3_skies_29 : Nat → Int32 → MS → Option (Int32 × MS)
  | 0, _, _ => none
  | n + 1, x2, t => if t.1 6 ≤ x2 then some (t.1 6, t) else mald t 8 480 x2 fun v1 => mast t 3 12 x2 v1 fun t2 => fX3_skies_29 n (x2 + 1) t2
set_option maxHeartbeats 4000000 in
theorem wX3_skies_29 {rF : Int32} (X : g_X Γ p s m args meth c cX3_skies 3 RX3) (hr : meth.sig.returnType = (Option.some Jvm.ClassFile.FieldType.int)) (n : Nat) : ∀ (x2 : Int32) (t : MS), Wf Γ p l e 3 69 s m args below meth c 3 (m_ι mo ρ sz) v_i rF tF 29 [(0, .ref mo), (2, .int x2)] [] t (fX3_skies_29 n x2 t) := by
  induction n with
  | zero => intro x2 t; exact g_none
  | succ n ih =>
    intro x2 t
    rw [fX3_skies_29]
    refine g_iload_n (pc := 29) X 1 dX3_skies_29 rfl rfl ?_
    refine g_aload_n (pc := 30) X 0 dX3_skies_30 rfl rfl ?_
    refine mg_get (pc := 31) X fo_X3_26 dX3_skies_31 rfl ?_
    refine g_icmp_ge (pc := 34) X 55 dX3_skies_34 (by decide) ?_ ?_
    · refine g_aload_n (pc := 55) X 0 dX3_skies_55 rfl rfl ?_
      refine mg_get (pc := 56) X fo_X3_26 dX3_skies_56 rfl ?_
      exact g_iret (pc := 59) X hr dX3_skies_59
    · refine g_aload_n (pc := 37) X 0 dX3_skies_37 rfl rfl ?_
      refine mg_get (pc := 38) X fo_X3_23 dX3_skies_38 rfl ?_
      refine g_iload_n (pc := 41) X 1 dX3_skies_41 rfl rfl ?_
      refine g_aload_n (pc := 42) X 0 dX3_skies_42 rfl rfl ?_
      refine mg_get (pc := 43) X fo_X3_47 dX3_skies_43 rfl ?_
      refine g_iload_n (pc := 46) X 1 dX3_skies_46 rfl rfl ?_
      refine mg_ald (pc := 47) X (j := 8) dX3_skies_47 (by decide) rfl (fun v1 => ?_)
      refine mg_ast (pc := 48) X (j := 3) dX3_skies_48 (by decide) rfl (fun t2 => ?_)
      refine g_iinc (pc := 49) X 1 1 (lv' := [(2, .int (x2 + 1)), (0, .ref mo)]) dX3_skies_49 rfl rfl (by decide) rfl ?_
      refine g_goto (pc := 52) X 29 dX3_skies_52 (by decide) ?_
      exact g_lv (pc := 29) (lv' := [(0, .ref mo), (2, .int (x2 + 1))]) [1, 0] rfl (ih (x2 + 1) t2)
def fX3_skies (t : MS) : Option (Int32 × MS) := gm (fX3_readSigns 1 12 0 t) fun r1 t2 => gm (fX3_end r1 t2) fun r3 t4 => if 0 ≤ r3 then lt (setI t4 6 (t4.1 17)) fun t5 => fX3_skies_29 1000 0 t5 else some (r3, t4)
set_option maxHeartbeats 4000000 in
theorem wX3_skies {rF : Int32} (X : g_X Γ p s m args meth c cX3_skies 3 RX3) (hr : meth.sig.returnType = (Option.some Jvm.ClassFile.FieldType.int)) (t : MS) : Wf Γ p l e 3 69 s m args below meth c 3 (m_ι mo ρ sz) v_i rF tF 0 [(0, .ref mo)] [] t (fX3_skies  t) := by
  unfold fX3_skies
  refine g_aload_n (pc := 0) X 0 dX3_skies_0 rfl rfl ?_
  refine g_aload_n (pc := 1) X 0 dX3_skies_1 rfl rfl ?_
  refine g_iconst (pc := 2) X 1 dX3_skies_2 rfl ?_
  refine g_bipush (pc := 3) X 12 dX3_skies_3 rfl ?_
  refine g_iconst (pc := 5) X 0 dX3_skies_5 rfl ?_
  refine g_mV_i (pc := 6) X (C := RX3) (y := yX3_readSigns) (As := [.int 1, .int 12, .int 0]) (rest := [.ref mo]) (fr' := 2) (lo' := 45) (fun _ => cwV 3 X.2.2.2.2.1 (lw_V q1834 q1836 qs36 q76 q1837) rfl rfl rfl dmV_X3_readSigns ⟨Nat.le_of_ble_eq_true rfl, Nat.le_of_ble_eq_true rfl⟩) dX3_skies_6 MC_o ⟨_, _, rfl⟩ rfl rfl (Nat.le_of_ble_eq_true rfl) (fun _ => rfl) (fun r u h => kX3_readSigns h) (fun r1 t2 => ?_)
  refine g_mV_i (pc := 9) X (C := RX3) (y := yX3_end) (As := [.int r1]) (rest := []) (fr' := 1) (lo' := 20) (fun _ => cwV 1 X.2.2.2.2.1 (lw_V q1850 q1852 qs38 q76 q1853) rfl rfl rfl dmV_X3_end ⟨Nat.le_of_ble_eq_true rfl, Nat.le_of_ble_eq_true rfl⟩) dX3_skies_9 MC_o ⟨_, _, rfl⟩ rfl rfl (Nat.le_of_ble_eq_true rfl) (fun _ => rfl) (fun r u h => kX3_end h) (fun r3 t4 => ?_)
  refine g_istore_n (pc := 12) X (lv' := [(1, .int r3), (0, .ref mo)]) dX3_skies_12 rfl (by decide) rfl ?_
  refine g_iload_n (pc := 13) X 0 dX3_skies_13 rfl rfl ?_
  refine g_if_ge (pc := 14) X 19 dX3_skies_14 (by decide) ?_ ?_
  · refine g_aload_n (pc := 19) X 1 dX3_skies_19 rfl rfl ?_
    refine g_aload_n (pc := 20) X 1 dX3_skies_20 rfl rfl ?_
    refine mg_get (pc := 21) X fo_X3_139 dX3_skies_21 rfl ?_
    refine mg_put (pc := 24) X fp_X3_26 dX3_skies_24 rfl rfl (by decide) rfl (fun t5 => ?_)
    refine g_iconst (pc := 27) X 0 dX3_skies_27 rfl ?_
    refine g_istore_n (pc := 28) X (lv' := [(2, .int 0), (1, .int r3), (0, .ref mo)]) dX3_skies_28 rfl (by decide) rfl ?_
    exact g_lv (pc := 29) (lv' := [(0, .ref mo), (2, .int 0)]) [2, 0] rfl (wX3_skies_29 X hr 1000 0 t5)
  · refine g_iload_n (pc := 17) X 0 dX3_skies_17 rfl rfl ?_
    exact g_iret (pc := 18) X hr dX3_skies_18
theorem kX3_skies {mo : Nat} {ρ : Sg} {sz : Nat} {t : MS} {r : Int32} {u : MS} (h : fX3_skies  t = some (r, u)) : g_C Γ l yX3_skies cX3_skies 3 (Option.some Jvm.ClassFile.FieldType.int) 3 69 [.ref mo] (MC mo t ρ) sz v_i r (m_ι mo ρ sz u) :=
  g_met [.ref mo] (by decide) (Nat.le_of_ble_eq_true rfl) h rfl (fun p e s m args below meth c X hr hn => wX3_skies X hr  t)
end MP
