/-! the reference, its methods: homes, tied, count, heard, tune, undo, restart, bringBack, goHours, isLong, keepAside, behind, leads, finish, over, isAsked, placeWith, turns, hands, both, doesRest (printed by gen/model.py) -/
set_option maxRecDepth 100000
abbrev cX3_homes : ByteArray := prog_24_method_41_code
def yX3_homes : MethodName := ⟨RX3, "homes", "()I"⟩
def dkwX3_homes_1 : List UInt8 := [167, 0, 4, 3, 96, 60, 132, 2, 1, 167, 255, 229, 27, 172]
abbrev dktX3_homes_1 : List UInt8 := dkwX3_homes_1 ++ []
def dkwX3_homes_0 : List UInt8 := [3, 60, 3, 61, 28, 42, 180, 0, 72, 162, 0, 25, 27, 42, 28, 182, 0, 197, 153, 0, 7, 4]
abbrev dktX3_homes_0 : List UInt8 := dkwX3_homes_0 ++ dktX3_homes_1
theorem dksX3_homes_0 : cX3_homes.data.toList.drop 0 = dktX3_homes_0 := by decide +kernel
theorem dksX3_homes_1 : cX3_homes.data.toList.drop 22 = dktX3_homes_1 := dk_seg dksX3_homes_0 22 rfl rfl
theorem dX3_homes_0 : decode cX3_homes 0 = .ok (.iconst 0, 1) := dk_3 (dk_at dksX3_homes_0 0 rfl rfl)
theorem dX3_homes_1 : decode cX3_homes 1 = .ok (.istore_n 1, 1) := dk_60 (dk_at dksX3_homes_0 1 rfl rfl)
theorem dX3_homes_2 : decode cX3_homes 2 = .ok (.iconst 0, 1) := dk_3 (dk_at dksX3_homes_0 2 rfl rfl)
theorem dX3_homes_3 : decode cX3_homes 3 = .ok (.istore_n 2, 1) := dk_61 (dk_at dksX3_homes_0 3 rfl rfl)
theorem dX3_homes_4 : decode cX3_homes 4 = .ok (.iload_n 2, 1) := dk_28 (dk_at dksX3_homes_0 4 rfl rfl)
theorem dX3_homes_5 : decode cX3_homes 5 = .ok (.aload_n 0, 1) := dk_42 (dk_at dksX3_homes_0 5 rfl rfl)
theorem dX3_homes_6 : decode cX3_homes 6 = .ok (.getfield 72, 3) := dk_180 0 72 (dk_at dksX3_homes_0 6 rfl rfl)
theorem dX3_homes_9 : decode cX3_homes 9 = .ok (.if_icmp .ge 25, 3) := dk_162 0 25 (dk_at dksX3_homes_0 9 rfl rfl)
theorem dX3_homes_12 : decode cX3_homes 12 = .ok (.iload_n 1, 1) := dk_27 (dk_at dksX3_homes_0 12 rfl rfl)
theorem dX3_homes_13 : decode cX3_homes 13 = .ok (.aload_n 0, 1) := dk_42 (dk_at dksX3_homes_0 13 rfl rfl)
theorem dX3_homes_14 : decode cX3_homes 14 = .ok (.iload_n 2, 1) := dk_28 (dk_at dksX3_homes_0 14 rfl rfl)
theorem dX3_homes_15 : decode cX3_homes 15 = .ok (.invokevirtual 197, 3) := dk_182 0 197 (dk_at dksX3_homes_0 15 rfl rfl)
theorem dX3_homes_18 : decode cX3_homes 18 = .ok (.ifCond .eq 7, 3) := dk_153 0 7 (dk_at dksX3_homes_0 18 rfl rfl)
theorem dX3_homes_21 : decode cX3_homes 21 = .ok (.iconst 1, 1) := dk_4 (dk_at dksX3_homes_0 21 rfl rfl)
theorem dX3_homes_22 : decode cX3_homes 22 = .ok (.goto 4, 3) := dk_167 0 4 (dk_at dksX3_homes_1 0 rfl rfl)
theorem dX3_homes_25 : decode cX3_homes 25 = .ok (.iconst 0, 1) := dk_3 (dk_at dksX3_homes_1 3 rfl rfl)
theorem dX3_homes_26 : decode cX3_homes 26 = .ok (.iadd, 1) := dk_96 (dk_at dksX3_homes_1 4 rfl rfl)
theorem dX3_homes_27 : decode cX3_homes 27 = .ok (.istore_n 1, 1) := dk_60 (dk_at dksX3_homes_1 5 rfl rfl)
theorem dX3_homes_28 : decode cX3_homes 28 = .ok (.iinc 2 1, 3) := dk_132 2 1 (dk_at dksX3_homes_1 6 rfl rfl)
theorem dX3_homes_31 : decode cX3_homes 31 = .ok (.goto (-27), 3) := dk_167 255 229 (dk_at dksX3_homes_1 9 rfl rfl)
theorem dX3_homes_34 : decode cX3_homes 34 = .ok (.iload_n 1, 1) := dk_27 (dk_at dksX3_homes_1 12 rfl rfl)
theorem dX3_homes_35 : decode cX3_homes 35 = .ok (.ireturn, 1) := dk_172 (dk_at dksX3_homes_1 13 rfl rfl)
abbrev cX3_tied : ByteArray := prog_24_method_42_code
def yX3_tied : MethodName := ⟨RX3, "tied", "()I"⟩
def dkwX3_tied_2 : List UInt8 := [132, 3, 1, 167, 255, 222, 132, 2, 1, 167, 255, 206, 27, 172]
abbrev dktX3_tied_2 : List UInt8 := dkwX3_tied_2 ++ []
def dkwX3_tied_1 : List UInt8 := [182, 0, 200, 154, 0, 16, 42, 29, 28, 182, 0, 200, 154, 0, 7, 4, 167, 0, 4, 3, 96, 60]
abbrev dktX3_tied_1 : List UInt8 := dkwX3_tied_1 ++ dktX3_tied_2
def dkwX3_tied_0 : List UInt8 := [3, 60, 3, 61, 28, 42, 180, 0, 72, 162, 0, 48, 3, 62, 29, 28, 162, 0, 35, 27, 42, 28, 29]
abbrev dktX3_tied_0 : List UInt8 := dkwX3_tied_0 ++ dktX3_tied_1
theorem dksX3_tied_0 : cX3_tied.data.toList.drop 0 = dktX3_tied_0 := by decide +kernel
theorem dksX3_tied_1 : cX3_tied.data.toList.drop 23 = dktX3_tied_1 := dk_seg dksX3_tied_0 23 rfl rfl
theorem dksX3_tied_2 : cX3_tied.data.toList.drop 45 = dktX3_tied_2 := dk_seg dksX3_tied_1 22 rfl rfl
theorem dX3_tied_0 : decode cX3_tied 0 = .ok (.iconst 0, 1) := dk_3 (dk_at dksX3_tied_0 0 rfl rfl)
theorem dX3_tied_1 : decode cX3_tied 1 = .ok (.istore_n 1, 1) := dk_60 (dk_at dksX3_tied_0 1 rfl rfl)
theorem dX3_tied_2 : decode cX3_tied 2 = .ok (.iconst 0, 1) := dk_3 (dk_at dksX3_tied_0 2 rfl rfl)
theorem dX3_tied_3 : decode cX3_tied 3 = .ok (.istore_n 2, 1) := dk_61 (dk_at dksX3_tied_0 3 rfl rfl)
theorem dX3_tied_4 : decode cX3_tied 4 = .ok (.iload_n 2, 1) := dk_28 (dk_at dksX3_tied_0 4 rfl rfl)
theorem dX3_tied_5 : decode cX3_tied 5 = .ok (.aload_n 0, 1) := dk_42 (dk_at dksX3_tied_0 5 rfl rfl)
theorem dX3_tied_6 : decode cX3_tied 6 = .ok (.getfield 72, 3) := dk_180 0 72 (dk_at dksX3_tied_0 6 rfl rfl)
theorem dX3_tied_9 : decode cX3_tied 9 = .ok (.if_icmp .ge 48, 3) := dk_162 0 48 (dk_at dksX3_tied_0 9 rfl rfl)
theorem dX3_tied_12 : decode cX3_tied 12 = .ok (.iconst 0, 1) := dk_3 (dk_at dksX3_tied_0 12 rfl rfl)
theorem dX3_tied_13 : decode cX3_tied 13 = .ok (.istore_n 3, 1) := dk_62 (dk_at dksX3_tied_0 13 rfl rfl)
theorem dX3_tied_14 : decode cX3_tied 14 = .ok (.iload_n 3, 1) := dk_29 (dk_at dksX3_tied_0 14 rfl rfl)
theorem dX3_tied_15 : decode cX3_tied 15 = .ok (.iload_n 2, 1) := dk_28 (dk_at dksX3_tied_0 15 rfl rfl)
theorem dX3_tied_16 : decode cX3_tied 16 = .ok (.if_icmp .ge 35, 3) := dk_162 0 35 (dk_at dksX3_tied_0 16 rfl rfl)
theorem dX3_tied_19 : decode cX3_tied 19 = .ok (.iload_n 1, 1) := dk_27 (dk_at dksX3_tied_0 19 rfl rfl)
theorem dX3_tied_20 : decode cX3_tied 20 = .ok (.aload_n 0, 1) := dk_42 (dk_at dksX3_tied_0 20 rfl rfl)
theorem dX3_tied_21 : decode cX3_tied 21 = .ok (.iload_n 2, 1) := dk_28 (dk_at dksX3_tied_0 21 rfl rfl)
theorem dX3_tied_22 : decode cX3_tied 22 = .ok (.iload_n 3, 1) := dk_29 (dk_at dksX3_tied_0 22 rfl rfl)
theorem dX3_tied_23 : decode cX3_tied 23 = .ok (.invokevirtual 200, 3) := dk_182 0 200 (dk_at dksX3_tied_1 0 rfl rfl)
theorem dX3_tied_26 : decode cX3_tied 26 = .ok (.ifCond .ne 16, 3) := dk_154 0 16 (dk_at dksX3_tied_1 3 rfl rfl)
theorem dX3_tied_29 : decode cX3_tied 29 = .ok (.aload_n 0, 1) := dk_42 (dk_at dksX3_tied_1 6 rfl rfl)
theorem dX3_tied_30 : decode cX3_tied 30 = .ok (.iload_n 3, 1) := dk_29 (dk_at dksX3_tied_1 7 rfl rfl)
theorem dX3_tied_31 : decode cX3_tied 31 = .ok (.iload_n 2, 1) := dk_28 (dk_at dksX3_tied_1 8 rfl rfl)
theorem dX3_tied_32 : decode cX3_tied 32 = .ok (.invokevirtual 200, 3) := dk_182 0 200 (dk_at dksX3_tied_1 9 rfl rfl)
theorem dX3_tied_35 : decode cX3_tied 35 = .ok (.ifCond .ne 7, 3) := dk_154 0 7 (dk_at dksX3_tied_1 12 rfl rfl)
theorem dX3_tied_38 : decode cX3_tied 38 = .ok (.iconst 1, 1) := dk_4 (dk_at dksX3_tied_1 15 rfl rfl)
theorem dX3_tied_39 : decode cX3_tied 39 = .ok (.goto 4, 3) := dk_167 0 4 (dk_at dksX3_tied_1 16 rfl rfl)
theorem dX3_tied_42 : decode cX3_tied 42 = .ok (.iconst 0, 1) := dk_3 (dk_at dksX3_tied_1 19 rfl rfl)
theorem dX3_tied_43 : decode cX3_tied 43 = .ok (.iadd, 1) := dk_96 (dk_at dksX3_tied_1 20 rfl rfl)
theorem dX3_tied_44 : decode cX3_tied 44 = .ok (.istore_n 1, 1) := dk_60 (dk_at dksX3_tied_1 21 rfl rfl)
theorem dX3_tied_45 : decode cX3_tied 45 = .ok (.iinc 3 1, 3) := dk_132 3 1 (dk_at dksX3_tied_2 0 rfl rfl)
theorem dX3_tied_48 : decode cX3_tied 48 = .ok (.goto (-34), 3) := dk_167 255 222 (dk_at dksX3_tied_2 3 rfl rfl)
theorem dX3_tied_51 : decode cX3_tied 51 = .ok (.iinc 2 1, 3) := dk_132 2 1 (dk_at dksX3_tied_2 6 rfl rfl)
theorem dX3_tied_54 : decode cX3_tied 54 = .ok (.goto (-50), 3) := dk_167 255 206 (dk_at dksX3_tied_2 9 rfl rfl)
theorem dX3_tied_57 : decode cX3_tied 57 = .ok (.iload_n 1, 1) := dk_27 (dk_at dksX3_tied_2 12 rfl rfl)
theorem dX3_tied_58 : decode cX3_tied 58 = .ok (.ireturn, 1) := dk_172 (dk_at dksX3_tied_2 13 rfl rfl)
abbrev cX3_count : ByteArray := prog_24_method_43_code
def yX3_count : MethodName := ⟨RX3, "count", "(I)I"⟩
def dkwX3_count_3 : List UInt8 := [180, 0, 7, 16, 62, 46, 172, 42, 180, 0, 93, 172, 42, 180, 0, 96, 172, 42, 182, 0, 210, 172, 2, 172]
abbrev dktX3_count_3 : List UInt8 := dkwX3_count_3 ++ []
def dkwX3_count_2 : List UInt8 := [42, 180, 0, 19, 172, 42, 180, 0, 72, 172, 42, 180, 0, 7, 16, 60, 46, 172, 42, 182, 0, 207, 172, 42]
abbrev dktX3_count_2 : List UInt8 := dkwX3_count_2 ++ dktX3_count_3
def dkwX3_count_1 : List UInt8 := [170, 0, 0, 0, 0, 0, 93, 0, 0, 0, 0, 0, 0, 0, 7, 0, 0, 0, 47, 0, 0, 0, 52, 0, 0, 0, 57, 0, 0, 0, 65, 0, 0, 0, 70, 0, 0, 0, 78, 0, 0, 0, 83, 0, 0, 0, 88]
abbrev dktX3_count_1 : List UInt8 := dkwX3_count_1 ++ dktX3_count_2
def dkwX3_count_0 : List UInt8 := [27]
abbrev dktX3_count_0 : List UInt8 := dkwX3_count_0 ++ dktX3_count_1
theorem dksX3_count_0 : cX3_count.data.toList.drop 0 = dktX3_count_0 := by decide +kernel
theorem dksX3_count_1 : cX3_count.data.toList.drop 1 = dktX3_count_1 := dk_seg dksX3_count_0 1 rfl rfl
theorem dksX3_count_2 : cX3_count.data.toList.drop 48 = dktX3_count_2 := dk_seg dksX3_count_1 47 rfl rfl
theorem dksX3_count_3 : cX3_count.data.toList.drop 72 = dktX3_count_3 := dk_seg dksX3_count_2 24 rfl rfl
theorem dX3_count_0 : decode cX3_count 0 = .ok (.iload_n 1, 1) := dk_27 (dk_at dksX3_count_0 0 rfl rfl)
theorem dX3_count_1 : decode cX3_count 1 = .ok (.tableswitch 93 0 7 #[47, 52, 57, 65, 70, 78, 83, 88], 47) := by decide +kernel
theorem dX3_count_48 : decode cX3_count 48 = .ok (.aload_n 0, 1) := dk_42 (dk_at dksX3_count_2 0 rfl rfl)
theorem dX3_count_49 : decode cX3_count 49 = .ok (.getfield 19, 3) := dk_180 0 19 (dk_at dksX3_count_2 1 rfl rfl)
theorem dX3_count_52 : decode cX3_count 52 = .ok (.ireturn, 1) := dk_172 (dk_at dksX3_count_2 4 rfl rfl)
theorem dX3_count_53 : decode cX3_count 53 = .ok (.aload_n 0, 1) := dk_42 (dk_at dksX3_count_2 5 rfl rfl)
theorem dX3_count_54 : decode cX3_count 54 = .ok (.getfield 72, 3) := dk_180 0 72 (dk_at dksX3_count_2 6 rfl rfl)
theorem dX3_count_57 : decode cX3_count 57 = .ok (.ireturn, 1) := dk_172 (dk_at dksX3_count_2 9 rfl rfl)
theorem dX3_count_58 : decode cX3_count 58 = .ok (.aload_n 0, 1) := dk_42 (dk_at dksX3_count_2 10 rfl rfl)
theorem dX3_count_59 : decode cX3_count 59 = .ok (.getfield 7, 3) := dk_180 0 7 (dk_at dksX3_count_2 11 rfl rfl)
theorem dX3_count_62 : decode cX3_count 62 = .ok (.bipush 60, 2) := dk_16 60 (dk_at dksX3_count_2 14 rfl rfl)
theorem dX3_count_64 : decode cX3_count 64 = .ok (.iaload, 1) := dk_46 (dk_at dksX3_count_2 16 rfl rfl)
theorem dX3_count_65 : decode cX3_count 65 = .ok (.ireturn, 1) := dk_172 (dk_at dksX3_count_2 17 rfl rfl)
theorem dX3_count_66 : decode cX3_count 66 = .ok (.aload_n 0, 1) := dk_42 (dk_at dksX3_count_2 18 rfl rfl)
theorem dX3_count_67 : decode cX3_count 67 = .ok (.invokevirtual 207, 3) := dk_182 0 207 (dk_at dksX3_count_2 19 rfl rfl)
theorem dX3_count_70 : decode cX3_count 70 = .ok (.ireturn, 1) := dk_172 (dk_at dksX3_count_2 22 rfl rfl)
theorem dX3_count_71 : decode cX3_count 71 = .ok (.aload_n 0, 1) := dk_42 (dk_at dksX3_count_2 23 rfl rfl)
theorem dX3_count_72 : decode cX3_count 72 = .ok (.getfield 7, 3) := dk_180 0 7 (dk_at dksX3_count_3 0 rfl rfl)
theorem dX3_count_75 : decode cX3_count 75 = .ok (.bipush 62, 2) := dk_16 62 (dk_at dksX3_count_3 3 rfl rfl)
theorem dX3_count_77 : decode cX3_count 77 = .ok (.iaload, 1) := dk_46 (dk_at dksX3_count_3 5 rfl rfl)
theorem dX3_count_78 : decode cX3_count 78 = .ok (.ireturn, 1) := dk_172 (dk_at dksX3_count_3 6 rfl rfl)
theorem dX3_count_79 : decode cX3_count 79 = .ok (.aload_n 0, 1) := dk_42 (dk_at dksX3_count_3 7 rfl rfl)
theorem dX3_count_80 : decode cX3_count 80 = .ok (.getfield 93, 3) := dk_180 0 93 (dk_at dksX3_count_3 8 rfl rfl)
theorem dX3_count_83 : decode cX3_count 83 = .ok (.ireturn, 1) := dk_172 (dk_at dksX3_count_3 11 rfl rfl)
theorem dX3_count_84 : decode cX3_count 84 = .ok (.aload_n 0, 1) := dk_42 (dk_at dksX3_count_3 12 rfl rfl)
theorem dX3_count_85 : decode cX3_count 85 = .ok (.getfield 96, 3) := dk_180 0 96 (dk_at dksX3_count_3 13 rfl rfl)
theorem dX3_count_88 : decode cX3_count 88 = .ok (.ireturn, 1) := dk_172 (dk_at dksX3_count_3 16 rfl rfl)
theorem dX3_count_89 : decode cX3_count 89 = .ok (.aload_n 0, 1) := dk_42 (dk_at dksX3_count_3 17 rfl rfl)
theorem dX3_count_90 : decode cX3_count 90 = .ok (.invokevirtual 210, 3) := dk_182 0 210 (dk_at dksX3_count_3 18 rfl rfl)
theorem dX3_count_93 : decode cX3_count 93 = .ok (.ireturn, 1) := dk_172 (dk_at dksX3_count_3 21 rfl rfl)
theorem dX3_count_94 : decode cX3_count 94 = .ok (.iconst (-1), 1) := dk_2 (dk_at dksX3_count_3 22 rfl rfl)
theorem dX3_count_95 : decode cX3_count 95 = .ok (.ireturn, 1) := dk_172 (dk_at dksX3_count_3 23 rfl rfl)
abbrev cX3_heard : ByteArray := prog_24_method_44_code
def yX3_heard : MethodName := ⟨RX3, "heard", "()I"⟩
def dkwX3_heard_0 : List UInt8 := [42, 180, 0, 7, 16, 61, 46, 172]
abbrev dktX3_heard_0 : List UInt8 := dkwX3_heard_0 ++ []
theorem dksX3_heard_0 : cX3_heard.data.toList.drop 0 = dktX3_heard_0 := by decide +kernel
theorem dX3_heard_0 : decode cX3_heard 0 = .ok (.aload_n 0, 1) := dk_42 (dk_at dksX3_heard_0 0 rfl rfl)
theorem dX3_heard_1 : decode cX3_heard 1 = .ok (.getfield 7, 3) := dk_180 0 7 (dk_at dksX3_heard_0 1 rfl rfl)
theorem dX3_heard_4 : decode cX3_heard 4 = .ok (.bipush 61, 2) := dk_16 61 (dk_at dksX3_heard_0 4 rfl rfl)
theorem dX3_heard_6 : decode cX3_heard 6 = .ok (.iaload, 1) := dk_46 (dk_at dksX3_heard_0 6 rfl rfl)
theorem dX3_heard_7 : decode cX3_heard 7 = .ok (.ireturn, 1) := dk_172 (dk_at dksX3_heard_0 7 rfl rfl)
abbrev cX3_tune : ByteArray := prog_24_method_55_code
def yX3_tune : MethodName := ⟨RX3, "tune", "(II)I"⟩
def dkwX3_tune_2 : List UInt8 := [79, 29, 172]
abbrev dktX3_tune_2 : List UInt8 := dkwX3_tune_2 ++ []
def dkwX3_tune_1 : List UInt8 := [17, 252, 23, 172, 42, 180, 0, 16, 27, 46, 62, 42, 5, 27, 29, 182, 0, 229, 42, 180, 0, 16, 27, 28]
abbrev dktX3_tune_1 : List UInt8 := dkwX3_tune_1 ++ dktX3_tune_2
def dkwX3_tune_0 : List UInt8 := [42, 27, 182, 0, 107, 153, 0, 17, 28, 133, 20, 0, 83, 20, 0, 85, 184, 0, 75, 154, 0, 7]
abbrev dktX3_tune_0 : List UInt8 := dkwX3_tune_0 ++ dktX3_tune_1
theorem dksX3_tune_0 : cX3_tune.data.toList.drop 0 = dktX3_tune_0 := by decide +kernel
theorem dksX3_tune_1 : cX3_tune.data.toList.drop 22 = dktX3_tune_1 := dk_seg dksX3_tune_0 22 rfl rfl
theorem dksX3_tune_2 : cX3_tune.data.toList.drop 46 = dktX3_tune_2 := dk_seg dksX3_tune_1 24 rfl rfl
theorem dX3_tune_0 : decode cX3_tune 0 = .ok (.aload_n 0, 1) := dk_42 (dk_at dksX3_tune_0 0 rfl rfl)
theorem dX3_tune_1 : decode cX3_tune 1 = .ok (.iload_n 1, 1) := dk_27 (dk_at dksX3_tune_0 1 rfl rfl)
theorem dX3_tune_2 : decode cX3_tune 2 = .ok (.invokevirtual 107, 3) := dk_182 0 107 (dk_at dksX3_tune_0 2 rfl rfl)
theorem dX3_tune_5 : decode cX3_tune 5 = .ok (.ifCond .eq 17, 3) := dk_153 0 17 (dk_at dksX3_tune_0 5 rfl rfl)
theorem dX3_tune_8 : decode cX3_tune 8 = .ok (.iload_n 2, 1) := dk_28 (dk_at dksX3_tune_0 8 rfl rfl)
theorem dX3_tune_9 : decode cX3_tune 9 = .ok (.i2l, 1) := dk_133 (dk_at dksX3_tune_0 9 rfl rfl)
theorem dX3_tune_10 : decode cX3_tune 10 = .ok (.ldc2_w 83, 3) := dk_20 0 83 (dk_at dksX3_tune_0 10 rfl rfl)
theorem dX3_tune_13 : decode cX3_tune 13 = .ok (.ldc2_w 85, 3) := dk_20 0 85 (dk_at dksX3_tune_0 13 rfl rfl)
theorem dX3_tune_16 : decode cX3_tune 16 = .ok (.invokestatic 75, 3) := dk_184 0 75 (dk_at dksX3_tune_0 16 rfl rfl)
theorem dX3_tune_19 : decode cX3_tune 19 = .ok (.ifCond .ne 7, 3) := dk_154 0 7 (dk_at dksX3_tune_0 19 rfl rfl)
theorem dX3_tune_22 : decode cX3_tune 22 = .ok (.sipush (-1001), 3) := dk_17 252 23 (dk_at dksX3_tune_1 0 rfl rfl)
theorem dX3_tune_25 : decode cX3_tune 25 = .ok (.ireturn, 1) := dk_172 (dk_at dksX3_tune_1 3 rfl rfl)
theorem dX3_tune_26 : decode cX3_tune 26 = .ok (.aload_n 0, 1) := dk_42 (dk_at dksX3_tune_1 4 rfl rfl)
theorem dX3_tune_27 : decode cX3_tune 27 = .ok (.getfield 16, 3) := dk_180 0 16 (dk_at dksX3_tune_1 5 rfl rfl)
theorem dX3_tune_30 : decode cX3_tune 30 = .ok (.iload_n 1, 1) := dk_27 (dk_at dksX3_tune_1 8 rfl rfl)
theorem dX3_tune_31 : decode cX3_tune 31 = .ok (.iaload, 1) := dk_46 (dk_at dksX3_tune_1 9 rfl rfl)
theorem dX3_tune_32 : decode cX3_tune 32 = .ok (.istore_n 3, 1) := dk_62 (dk_at dksX3_tune_1 10 rfl rfl)
theorem dX3_tune_33 : decode cX3_tune 33 = .ok (.aload_n 0, 1) := dk_42 (dk_at dksX3_tune_1 11 rfl rfl)
theorem dX3_tune_34 : decode cX3_tune 34 = .ok (.iconst 2, 1) := dk_5 (dk_at dksX3_tune_1 12 rfl rfl)
theorem dX3_tune_35 : decode cX3_tune 35 = .ok (.iload_n 1, 1) := dk_27 (dk_at dksX3_tune_1 13 rfl rfl)
theorem dX3_tune_36 : decode cX3_tune 36 = .ok (.iload_n 3, 1) := dk_29 (dk_at dksX3_tune_1 14 rfl rfl)
theorem dX3_tune_37 : decode cX3_tune 37 = .ok (.invokevirtual 229, 3) := dk_182 0 229 (dk_at dksX3_tune_1 15 rfl rfl)
theorem dX3_tune_40 : decode cX3_tune 40 = .ok (.aload_n 0, 1) := dk_42 (dk_at dksX3_tune_1 18 rfl rfl)
theorem dX3_tune_41 : decode cX3_tune 41 = .ok (.getfield 16, 3) := dk_180 0 16 (dk_at dksX3_tune_1 19 rfl rfl)
theorem dX3_tune_44 : decode cX3_tune 44 = .ok (.iload_n 1, 1) := dk_27 (dk_at dksX3_tune_1 22 rfl rfl)
theorem dX3_tune_45 : decode cX3_tune 45 = .ok (.iload_n 2, 1) := dk_28 (dk_at dksX3_tune_1 23 rfl rfl)
theorem dX3_tune_46 : decode cX3_tune 46 = .ok (.iastore, 1) := dk_79 (dk_at dksX3_tune_2 0 rfl rfl)
theorem dX3_tune_47 : decode cX3_tune 47 = .ok (.iload_n 3, 1) := dk_29 (dk_at dksX3_tune_2 1 rfl rfl)
theorem dX3_tune_48 : decode cX3_tune 48 = .ok (.ireturn, 1) := dk_172 (dk_at dksX3_tune_2 2 rfl rfl)
abbrev cX3_undo : ByteArray := prog_24_method_57_code
def yX3_undo : MethodName := ⟨RX3, "undo", "()I"⟩
def dkwX3_undo_4 : List UInt8 := [167, 0, 4, 3, 28, 96, 29, 79, 42, 180, 0, 96, 172]
abbrev dktX3_undo_4 : List UInt8 := dkwX3_undo_4 ++ []
def dkwX3_undo_3 : List UInt8 := [79, 167, 0, 31, 42, 180, 0, 7, 27, 154, 0, 8, 16, 33, 167, 0, 14, 27, 4, 160, 0, 8, 16, 24]
abbrev dktX3_undo_3 : List UInt8 := dkwX3_undo_3 ++ dktX3_undo_4
def dkwX3_undo_2 : List UInt8 := [180, 0, 38, 6, 42, 180, 0, 96, 104, 5, 96, 46, 62, 27, 5, 160, 0, 13, 42, 180, 0, 16, 28, 29]
abbrev dktX3_undo_2 : List UInt8 := dkwX3_undo_2 ++ dktX3_undo_3
def dkwX3_undo_1 : List UInt8 := [6, 42, 180, 0, 96, 104, 46, 60, 42, 180, 0, 38, 6, 42, 180, 0, 96, 104, 4, 96, 46, 61, 42]
abbrev dktX3_undo_1 : List UInt8 := dkwX3_undo_1 ++ dktX3_undo_2
def dkwX3_undo_0 : List UInt8 := [42, 180, 0, 96, 154, 0, 6, 16, 252, 172, 42, 89, 180, 0, 96, 4, 100, 181, 0, 96, 42, 180, 0, 38]
abbrev dktX3_undo_0 : List UInt8 := dkwX3_undo_0 ++ dktX3_undo_1
theorem dksX3_undo_0 : cX3_undo.data.toList.drop 0 = dktX3_undo_0 := by decide +kernel
theorem dksX3_undo_1 : cX3_undo.data.toList.drop 24 = dktX3_undo_1 := dk_seg dksX3_undo_0 24 rfl rfl
theorem dksX3_undo_2 : cX3_undo.data.toList.drop 47 = dktX3_undo_2 := dk_seg dksX3_undo_1 23 rfl rfl
theorem dksX3_undo_3 : cX3_undo.data.toList.drop 71 = dktX3_undo_3 := dk_seg dksX3_undo_2 24 rfl rfl
theorem dksX3_undo_4 : cX3_undo.data.toList.drop 95 = dktX3_undo_4 := dk_seg dksX3_undo_3 24 rfl rfl
theorem dX3_undo_0 : decode cX3_undo 0 = .ok (.aload_n 0, 1) := dk_42 (dk_at dksX3_undo_0 0 rfl rfl)
theorem dX3_undo_1 : decode cX3_undo 1 = .ok (.getfield 96, 3) := dk_180 0 96 (dk_at dksX3_undo_0 1 rfl rfl)
theorem dX3_undo_4 : decode cX3_undo 4 = .ok (.ifCond .ne 6, 3) := dk_154 0 6 (dk_at dksX3_undo_0 4 rfl rfl)
theorem dX3_undo_7 : decode cX3_undo 7 = .ok (.bipush (-4), 2) := dk_16 252 (dk_at dksX3_undo_0 7 rfl rfl)
theorem dX3_undo_9 : decode cX3_undo 9 = .ok (.ireturn, 1) := dk_172 (dk_at dksX3_undo_0 9 rfl rfl)
theorem dX3_undo_10 : decode cX3_undo 10 = .ok (.aload_n 0, 1) := dk_42 (dk_at dksX3_undo_0 10 rfl rfl)
theorem dX3_undo_11 : decode cX3_undo 11 = .ok (.dup, 1) := dk_89 (dk_at dksX3_undo_0 11 rfl rfl)
theorem dX3_undo_12 : decode cX3_undo 12 = .ok (.getfield 96, 3) := dk_180 0 96 (dk_at dksX3_undo_0 12 rfl rfl)
theorem dX3_undo_15 : decode cX3_undo 15 = .ok (.iconst 1, 1) := dk_4 (dk_at dksX3_undo_0 15 rfl rfl)
theorem dX3_undo_16 : decode cX3_undo 16 = .ok (.isub, 1) := dk_100 (dk_at dksX3_undo_0 16 rfl rfl)
theorem dX3_undo_17 : decode cX3_undo 17 = .ok (.putfield 96, 3) := dk_181 0 96 (dk_at dksX3_undo_0 17 rfl rfl)
theorem dX3_undo_20 : decode cX3_undo 20 = .ok (.aload_n 0, 1) := dk_42 (dk_at dksX3_undo_0 20 rfl rfl)
theorem dX3_undo_21 : decode cX3_undo 21 = .ok (.getfield 38, 3) := dk_180 0 38 (dk_at dksX3_undo_0 21 rfl rfl)
theorem dX3_undo_24 : decode cX3_undo 24 = .ok (.iconst 3, 1) := dk_6 (dk_at dksX3_undo_1 0 rfl rfl)
theorem dX3_undo_25 : decode cX3_undo 25 = .ok (.aload_n 0, 1) := dk_42 (dk_at dksX3_undo_1 1 rfl rfl)
theorem dX3_undo_26 : decode cX3_undo 26 = .ok (.getfield 96, 3) := dk_180 0 96 (dk_at dksX3_undo_1 2 rfl rfl)
theorem dX3_undo_29 : decode cX3_undo 29 = .ok (.imul, 1) := dk_104 (dk_at dksX3_undo_1 5 rfl rfl)
theorem dX3_undo_30 : decode cX3_undo 30 = .ok (.iaload, 1) := dk_46 (dk_at dksX3_undo_1 6 rfl rfl)
theorem dX3_undo_31 : decode cX3_undo 31 = .ok (.istore_n 1, 1) := dk_60 (dk_at dksX3_undo_1 7 rfl rfl)
theorem dX3_undo_32 : decode cX3_undo 32 = .ok (.aload_n 0, 1) := dk_42 (dk_at dksX3_undo_1 8 rfl rfl)
theorem dX3_undo_33 : decode cX3_undo 33 = .ok (.getfield 38, 3) := dk_180 0 38 (dk_at dksX3_undo_1 9 rfl rfl)
theorem dX3_undo_36 : decode cX3_undo 36 = .ok (.iconst 3, 1) := dk_6 (dk_at dksX3_undo_1 12 rfl rfl)
theorem dX3_undo_37 : decode cX3_undo 37 = .ok (.aload_n 0, 1) := dk_42 (dk_at dksX3_undo_1 13 rfl rfl)
theorem dX3_undo_38 : decode cX3_undo 38 = .ok (.getfield 96, 3) := dk_180 0 96 (dk_at dksX3_undo_1 14 rfl rfl)
theorem dX3_undo_41 : decode cX3_undo 41 = .ok (.imul, 1) := dk_104 (dk_at dksX3_undo_1 17 rfl rfl)
theorem dX3_undo_42 : decode cX3_undo 42 = .ok (.iconst 1, 1) := dk_4 (dk_at dksX3_undo_1 18 rfl rfl)
theorem dX3_undo_43 : decode cX3_undo 43 = .ok (.iadd, 1) := dk_96 (dk_at dksX3_undo_1 19 rfl rfl)
theorem dX3_undo_44 : decode cX3_undo 44 = .ok (.iaload, 1) := dk_46 (dk_at dksX3_undo_1 20 rfl rfl)
theorem dX3_undo_45 : decode cX3_undo 45 = .ok (.istore_n 2, 1) := dk_61 (dk_at dksX3_undo_1 21 rfl rfl)
theorem dX3_undo_46 : decode cX3_undo 46 = .ok (.aload_n 0, 1) := dk_42 (dk_at dksX3_undo_1 22 rfl rfl)
theorem dX3_undo_47 : decode cX3_undo 47 = .ok (.getfield 38, 3) := dk_180 0 38 (dk_at dksX3_undo_2 0 rfl rfl)
theorem dX3_undo_50 : decode cX3_undo 50 = .ok (.iconst 3, 1) := dk_6 (dk_at dksX3_undo_2 3 rfl rfl)
theorem dX3_undo_51 : decode cX3_undo 51 = .ok (.aload_n 0, 1) := dk_42 (dk_at dksX3_undo_2 4 rfl rfl)
theorem dX3_undo_52 : decode cX3_undo 52 = .ok (.getfield 96, 3) := dk_180 0 96 (dk_at dksX3_undo_2 5 rfl rfl)
theorem dX3_undo_55 : decode cX3_undo 55 = .ok (.imul, 1) := dk_104 (dk_at dksX3_undo_2 8 rfl rfl)
theorem dX3_undo_56 : decode cX3_undo 56 = .ok (.iconst 2, 1) := dk_5 (dk_at dksX3_undo_2 9 rfl rfl)
theorem dX3_undo_57 : decode cX3_undo 57 = .ok (.iadd, 1) := dk_96 (dk_at dksX3_undo_2 10 rfl rfl)
theorem dX3_undo_58 : decode cX3_undo 58 = .ok (.iaload, 1) := dk_46 (dk_at dksX3_undo_2 11 rfl rfl)
theorem dX3_undo_59 : decode cX3_undo 59 = .ok (.istore_n 3, 1) := dk_62 (dk_at dksX3_undo_2 12 rfl rfl)
theorem dX3_undo_60 : decode cX3_undo 60 = .ok (.iload_n 1, 1) := dk_27 (dk_at dksX3_undo_2 13 rfl rfl)
theorem dX3_undo_61 : decode cX3_undo 61 = .ok (.iconst 2, 1) := dk_5 (dk_at dksX3_undo_2 14 rfl rfl)
theorem dX3_undo_62 : decode cX3_undo 62 = .ok (.if_icmp .ne 13, 3) := dk_160 0 13 (dk_at dksX3_undo_2 15 rfl rfl)
theorem dX3_undo_65 : decode cX3_undo 65 = .ok (.aload_n 0, 1) := dk_42 (dk_at dksX3_undo_2 18 rfl rfl)
theorem dX3_undo_66 : decode cX3_undo 66 = .ok (.getfield 16, 3) := dk_180 0 16 (dk_at dksX3_undo_2 19 rfl rfl)
theorem dX3_undo_69 : decode cX3_undo 69 = .ok (.iload_n 2, 1) := dk_28 (dk_at dksX3_undo_2 22 rfl rfl)
theorem dX3_undo_70 : decode cX3_undo 70 = .ok (.iload_n 3, 1) := dk_29 (dk_at dksX3_undo_2 23 rfl rfl)
theorem dX3_undo_71 : decode cX3_undo 71 = .ok (.iastore, 1) := dk_79 (dk_at dksX3_undo_3 0 rfl rfl)
theorem dX3_undo_72 : decode cX3_undo 72 = .ok (.goto 31, 3) := dk_167 0 31 (dk_at dksX3_undo_3 1 rfl rfl)
theorem dX3_undo_75 : decode cX3_undo 75 = .ok (.aload_n 0, 1) := dk_42 (dk_at dksX3_undo_3 4 rfl rfl)
theorem dX3_undo_76 : decode cX3_undo 76 = .ok (.getfield 7, 3) := dk_180 0 7 (dk_at dksX3_undo_3 5 rfl rfl)
theorem dX3_undo_79 : decode cX3_undo 79 = .ok (.iload_n 1, 1) := dk_27 (dk_at dksX3_undo_3 8 rfl rfl)
theorem dX3_undo_80 : decode cX3_undo 80 = .ok (.ifCond .ne 8, 3) := dk_154 0 8 (dk_at dksX3_undo_3 9 rfl rfl)
theorem dX3_undo_83 : decode cX3_undo 83 = .ok (.bipush 33, 2) := dk_16 33 (dk_at dksX3_undo_3 12 rfl rfl)
theorem dX3_undo_85 : decode cX3_undo 85 = .ok (.goto 14, 3) := dk_167 0 14 (dk_at dksX3_undo_3 14 rfl rfl)
theorem dX3_undo_88 : decode cX3_undo 88 = .ok (.iload_n 1, 1) := dk_27 (dk_at dksX3_undo_3 17 rfl rfl)
theorem dX3_undo_89 : decode cX3_undo 89 = .ok (.iconst 1, 1) := dk_4 (dk_at dksX3_undo_3 18 rfl rfl)
theorem dX3_undo_90 : decode cX3_undo 90 = .ok (.if_icmp .ne 8, 3) := dk_160 0 8 (dk_at dksX3_undo_3 19 rfl rfl)
theorem dX3_undo_93 : decode cX3_undo 93 = .ok (.bipush 24, 2) := dk_16 24 (dk_at dksX3_undo_3 22 rfl rfl)
theorem dX3_undo_95 : decode cX3_undo 95 = .ok (.goto 4, 3) := dk_167 0 4 (dk_at dksX3_undo_4 0 rfl rfl)
theorem dX3_undo_98 : decode cX3_undo 98 = .ok (.iconst 0, 1) := dk_3 (dk_at dksX3_undo_4 3 rfl rfl)
theorem dX3_undo_99 : decode cX3_undo 99 = .ok (.iload_n 2, 1) := dk_28 (dk_at dksX3_undo_4 4 rfl rfl)
theorem dX3_undo_100 : decode cX3_undo 100 = .ok (.iadd, 1) := dk_96 (dk_at dksX3_undo_4 5 rfl rfl)
theorem dX3_undo_101 : decode cX3_undo 101 = .ok (.iload_n 3, 1) := dk_29 (dk_at dksX3_undo_4 6 rfl rfl)
theorem dX3_undo_102 : decode cX3_undo 102 = .ok (.iastore, 1) := dk_79 (dk_at dksX3_undo_4 7 rfl rfl)
theorem dX3_undo_103 : decode cX3_undo 103 = .ok (.aload_n 0, 1) := dk_42 (dk_at dksX3_undo_4 8 rfl rfl)
theorem dX3_undo_104 : decode cX3_undo 104 = .ok (.getfield 96, 3) := dk_180 0 96 (dk_at dksX3_undo_4 9 rfl rfl)
theorem dX3_undo_107 : decode cX3_undo 107 = .ok (.ireturn, 1) := dk_172 (dk_at dksX3_undo_4 12 rfl rfl)
abbrev cX3_restart : ByteArray := prog_24_method_58_code
def yX3_restart : MethodName := ⟨RX3, "restart", "()I"⟩
def dkwX3_restart_1 : List UInt8 := [79, 42, 180, 0, 7, 16, 62, 3, 79, 27, 172]
abbrev dktX3_restart_1 : List UInt8 := dkwX3_restart_1 ++ []
def dkwX3_restart_0 : List UInt8 := [42, 182, 0, 207, 60, 42, 182, 0, 156, 42, 180, 0, 7, 16, 60, 3, 79, 42, 180, 0, 7, 16, 61, 3]
abbrev dktX3_restart_0 : List UInt8 := dkwX3_restart_0 ++ dktX3_restart_1
theorem dksX3_restart_0 : cX3_restart.data.toList.drop 0 = dktX3_restart_0 := by decide +kernel
theorem dksX3_restart_1 : cX3_restart.data.toList.drop 24 = dktX3_restart_1 := dk_seg dksX3_restart_0 24 rfl rfl
theorem dX3_restart_0 : decode cX3_restart 0 = .ok (.aload_n 0, 1) := dk_42 (dk_at dksX3_restart_0 0 rfl rfl)
theorem dX3_restart_1 : decode cX3_restart 1 = .ok (.invokevirtual 207, 3) := dk_182 0 207 (dk_at dksX3_restart_0 1 rfl rfl)
theorem dX3_restart_4 : decode cX3_restart 4 = .ok (.istore_n 1, 1) := dk_60 (dk_at dksX3_restart_0 4 rfl rfl)
theorem dX3_restart_5 : decode cX3_restart 5 = .ok (.aload_n 0, 1) := dk_42 (dk_at dksX3_restart_0 5 rfl rfl)
theorem dX3_restart_6 : decode cX3_restart 6 = .ok (.invokevirtual 156, 3) := dk_182 0 156 (dk_at dksX3_restart_0 6 rfl rfl)
theorem dX3_restart_9 : decode cX3_restart 9 = .ok (.aload_n 0, 1) := dk_42 (dk_at dksX3_restart_0 9 rfl rfl)
theorem dX3_restart_10 : decode cX3_restart 10 = .ok (.getfield 7, 3) := dk_180 0 7 (dk_at dksX3_restart_0 10 rfl rfl)
theorem dX3_restart_13 : decode cX3_restart 13 = .ok (.bipush 60, 2) := dk_16 60 (dk_at dksX3_restart_0 13 rfl rfl)
theorem dX3_restart_15 : decode cX3_restart 15 = .ok (.iconst 0, 1) := dk_3 (dk_at dksX3_restart_0 15 rfl rfl)
theorem dX3_restart_16 : decode cX3_restart 16 = .ok (.iastore, 1) := dk_79 (dk_at dksX3_restart_0 16 rfl rfl)
theorem dX3_restart_17 : decode cX3_restart 17 = .ok (.aload_n 0, 1) := dk_42 (dk_at dksX3_restart_0 17 rfl rfl)
theorem dX3_restart_18 : decode cX3_restart 18 = .ok (.getfield 7, 3) := dk_180 0 7 (dk_at dksX3_restart_0 18 rfl rfl)
theorem dX3_restart_21 : decode cX3_restart 21 = .ok (.bipush 61, 2) := dk_16 61 (dk_at dksX3_restart_0 21 rfl rfl)
theorem dX3_restart_23 : decode cX3_restart 23 = .ok (.iconst 0, 1) := dk_3 (dk_at dksX3_restart_0 23 rfl rfl)
theorem dX3_restart_24 : decode cX3_restart 24 = .ok (.iastore, 1) := dk_79 (dk_at dksX3_restart_1 0 rfl rfl)
theorem dX3_restart_25 : decode cX3_restart 25 = .ok (.aload_n 0, 1) := dk_42 (dk_at dksX3_restart_1 1 rfl rfl)
theorem dX3_restart_26 : decode cX3_restart 26 = .ok (.getfield 7, 3) := dk_180 0 7 (dk_at dksX3_restart_1 2 rfl rfl)
theorem dX3_restart_29 : decode cX3_restart 29 = .ok (.bipush 62, 2) := dk_16 62 (dk_at dksX3_restart_1 5 rfl rfl)
theorem dX3_restart_31 : decode cX3_restart 31 = .ok (.iconst 0, 1) := dk_3 (dk_at dksX3_restart_1 7 rfl rfl)
theorem dX3_restart_32 : decode cX3_restart 32 = .ok (.iastore, 1) := dk_79 (dk_at dksX3_restart_1 8 rfl rfl)
theorem dX3_restart_33 : decode cX3_restart 33 = .ok (.iload_n 1, 1) := dk_27 (dk_at dksX3_restart_1 9 rfl rfl)
theorem dX3_restart_34 : decode cX3_restart 34 = .ok (.ireturn, 1) := dk_172 (dk_at dksX3_restart_1 10 rfl rfl)
abbrev cX3_bringBack : ByteArray := prog_24_method_60_code
def yX3_bringBack : MethodName := ⟨RX3, "bringBack", "()V"⟩
def dkwX3_bringBack_1 : List UInt8 := [167, 255, 235, 177]
abbrev dktX3_bringBack_1 : List UInt8 := dkwX3_bringBack_1 ++ []
def dkwX3_bringBack_0 : List UInt8 := [3, 60, 27, 16, 63, 162, 0, 21, 42, 180, 0, 7, 27, 42, 180, 0, 50, 27, 46, 79, 132, 1, 1]
abbrev dktX3_bringBack_0 : List UInt8 := dkwX3_bringBack_0 ++ dktX3_bringBack_1
theorem dksX3_bringBack_0 : cX3_bringBack.data.toList.drop 0 = dktX3_bringBack_0 := by decide +kernel
theorem dksX3_bringBack_1 : cX3_bringBack.data.toList.drop 23 = dktX3_bringBack_1 := dk_seg dksX3_bringBack_0 23 rfl rfl
theorem dX3_bringBack_0 : decode cX3_bringBack 0 = .ok (.iconst 0, 1) := dk_3 (dk_at dksX3_bringBack_0 0 rfl rfl)
theorem dX3_bringBack_1 : decode cX3_bringBack 1 = .ok (.istore_n 1, 1) := dk_60 (dk_at dksX3_bringBack_0 1 rfl rfl)
theorem dX3_bringBack_2 : decode cX3_bringBack 2 = .ok (.iload_n 1, 1) := dk_27 (dk_at dksX3_bringBack_0 2 rfl rfl)
theorem dX3_bringBack_3 : decode cX3_bringBack 3 = .ok (.bipush 63, 2) := dk_16 63 (dk_at dksX3_bringBack_0 3 rfl rfl)
theorem dX3_bringBack_5 : decode cX3_bringBack 5 = .ok (.if_icmp .ge 21, 3) := dk_162 0 21 (dk_at dksX3_bringBack_0 5 rfl rfl)
theorem dX3_bringBack_8 : decode cX3_bringBack 8 = .ok (.aload_n 0, 1) := dk_42 (dk_at dksX3_bringBack_0 8 rfl rfl)
theorem dX3_bringBack_9 : decode cX3_bringBack 9 = .ok (.getfield 7, 3) := dk_180 0 7 (dk_at dksX3_bringBack_0 9 rfl rfl)
theorem dX3_bringBack_12 : decode cX3_bringBack 12 = .ok (.iload_n 1, 1) := dk_27 (dk_at dksX3_bringBack_0 12 rfl rfl)
theorem dX3_bringBack_13 : decode cX3_bringBack 13 = .ok (.aload_n 0, 1) := dk_42 (dk_at dksX3_bringBack_0 13 rfl rfl)
theorem dX3_bringBack_14 : decode cX3_bringBack 14 = .ok (.getfield 50, 3) := dk_180 0 50 (dk_at dksX3_bringBack_0 14 rfl rfl)
theorem dX3_bringBack_17 : decode cX3_bringBack 17 = .ok (.iload_n 1, 1) := dk_27 (dk_at dksX3_bringBack_0 17 rfl rfl)
theorem dX3_bringBack_18 : decode cX3_bringBack 18 = .ok (.iaload, 1) := dk_46 (dk_at dksX3_bringBack_0 18 rfl rfl)
theorem dX3_bringBack_19 : decode cX3_bringBack 19 = .ok (.iastore, 1) := dk_79 (dk_at dksX3_bringBack_0 19 rfl rfl)
theorem dX3_bringBack_20 : decode cX3_bringBack 20 = .ok (.iinc 1 1, 3) := dk_132 1 1 (dk_at dksX3_bringBack_0 20 rfl rfl)
theorem dX3_bringBack_23 : decode cX3_bringBack 23 = .ok (.goto (-21), 3) := dk_167 255 235 (dk_at dksX3_bringBack_1 0 rfl rfl)
theorem dX3_bringBack_26 : decode cX3_bringBack 26 = .ok (.return_, 1) := dk_177 (dk_at dksX3_bringBack_1 3 rfl rfl)
abbrev cX3_goHours : ByteArray := prog_24_method_61_code
def yX3_goHours : MethodName := ⟨RX3, "goHours", "(I)V"⟩
def dkwX3_goHours_0 : List UInt8 := [3, 61, 28, 27, 162, 0, 18, 42, 42, 182, 0, 223, 182, 0, 226, 87, 132, 2, 1, 167, 255, 239, 177]
abbrev dktX3_goHours_0 : List UInt8 := dkwX3_goHours_0 ++ []
theorem dksX3_goHours_0 : cX3_goHours.data.toList.drop 0 = dktX3_goHours_0 := by decide +kernel
theorem dX3_goHours_0 : decode cX3_goHours 0 = .ok (.iconst 0, 1) := dk_3 (dk_at dksX3_goHours_0 0 rfl rfl)
theorem dX3_goHours_1 : decode cX3_goHours 1 = .ok (.istore_n 2, 1) := dk_61 (dk_at dksX3_goHours_0 1 rfl rfl)
theorem dX3_goHours_2 : decode cX3_goHours 2 = .ok (.iload_n 2, 1) := dk_28 (dk_at dksX3_goHours_0 2 rfl rfl)
theorem dX3_goHours_3 : decode cX3_goHours 3 = .ok (.iload_n 1, 1) := dk_27 (dk_at dksX3_goHours_0 3 rfl rfl)
theorem dX3_goHours_4 : decode cX3_goHours 4 = .ok (.if_icmp .ge 18, 3) := dk_162 0 18 (dk_at dksX3_goHours_0 4 rfl rfl)
theorem dX3_goHours_7 : decode cX3_goHours 7 = .ok (.aload_n 0, 1) := dk_42 (dk_at dksX3_goHours_0 7 rfl rfl)
theorem dX3_goHours_8 : decode cX3_goHours 8 = .ok (.aload_n 0, 1) := dk_42 (dk_at dksX3_goHours_0 8 rfl rfl)
theorem dX3_goHours_9 : decode cX3_goHours 9 = .ok (.invokevirtual 223, 3) := dk_182 0 223 (dk_at dksX3_goHours_0 9 rfl rfl)
theorem dX3_goHours_12 : decode cX3_goHours 12 = .ok (.invokevirtual 226, 3) := dk_182 0 226 (dk_at dksX3_goHours_0 12 rfl rfl)
theorem dX3_goHours_15 : decode cX3_goHours 15 = .ok (.pop, 1) := dk_87 (dk_at dksX3_goHours_0 15 rfl rfl)
theorem dX3_goHours_16 : decode cX3_goHours 16 = .ok (.iinc 2 1, 3) := dk_132 2 1 (dk_at dksX3_goHours_0 16 rfl rfl)
theorem dX3_goHours_19 : decode cX3_goHours 19 = .ok (.goto (-17), 3) := dk_167 255 239 (dk_at dksX3_goHours_0 19 rfl rfl)
theorem dX3_goHours_22 : decode cX3_goHours 22 = .ok (.return_, 1) := dk_177 (dk_at dksX3_goHours_0 22 rfl rfl)
abbrev cX3_isLong : ByteArray := prog_24_method_62_code
def yX3_isLong : MethodName := ⟨RX3, "isLong", "(I)Z"⟩
def dkwX3_isLong_0 : List UInt8 := [26, 133, 9, 20, 0, 240, 184, 0, 75, 172]
abbrev dktX3_isLong_0 : List UInt8 := dkwX3_isLong_0 ++ []
theorem dksX3_isLong_0 : cX3_isLong.data.toList.drop 0 = dktX3_isLong_0 := by decide +kernel
theorem dX3_isLong_0 : decode cX3_isLong 0 = .ok (.iload_n 0, 1) := dk_26 (dk_at dksX3_isLong_0 0 rfl rfl)
theorem dX3_isLong_1 : decode cX3_isLong 1 = .ok (.i2l, 1) := dk_133 (dk_at dksX3_isLong_0 1 rfl rfl)
theorem dX3_isLong_2 : decode cX3_isLong 2 = .ok (.lconst 0, 1) := dk_9 (dk_at dksX3_isLong_0 2 rfl rfl)
theorem dX3_isLong_3 : decode cX3_isLong 3 = .ok (.ldc2_w 240, 3) := dk_20 0 240 (dk_at dksX3_isLong_0 3 rfl rfl)
theorem dX3_isLong_6 : decode cX3_isLong 6 = .ok (.invokestatic 75, 3) := dk_184 0 75 (dk_at dksX3_isLong_0 6 rfl rfl)
theorem dX3_isLong_9 : decode cX3_isLong 9 = .ok (.ireturn, 1) := dk_172 (dk_at dksX3_isLong_0 9 rfl rfl)
abbrev cX3_keepAside : ByteArray := prog_24_method_59_code
def yX3_keepAside : MethodName := ⟨RX3, "keepAside", "()V"⟩
def dkwX3_keepAside_1 : List UInt8 := [167, 255, 235, 177]
abbrev dktX3_keepAside_1 : List UInt8 := dkwX3_keepAside_1 ++ []
def dkwX3_keepAside_0 : List UInt8 := [3, 60, 27, 16, 63, 162, 0, 21, 42, 180, 0, 50, 27, 42, 180, 0, 7, 27, 46, 79, 132, 1, 1]
abbrev dktX3_keepAside_0 : List UInt8 := dkwX3_keepAside_0 ++ dktX3_keepAside_1
theorem dksX3_keepAside_0 : cX3_keepAside.data.toList.drop 0 = dktX3_keepAside_0 := by decide +kernel
theorem dksX3_keepAside_1 : cX3_keepAside.data.toList.drop 23 = dktX3_keepAside_1 := dk_seg dksX3_keepAside_0 23 rfl rfl
theorem dX3_keepAside_0 : decode cX3_keepAside 0 = .ok (.iconst 0, 1) := dk_3 (dk_at dksX3_keepAside_0 0 rfl rfl)
theorem dX3_keepAside_1 : decode cX3_keepAside 1 = .ok (.istore_n 1, 1) := dk_60 (dk_at dksX3_keepAside_0 1 rfl rfl)
theorem dX3_keepAside_2 : decode cX3_keepAside 2 = .ok (.iload_n 1, 1) := dk_27 (dk_at dksX3_keepAside_0 2 rfl rfl)
theorem dX3_keepAside_3 : decode cX3_keepAside 3 = .ok (.bipush 63, 2) := dk_16 63 (dk_at dksX3_keepAside_0 3 rfl rfl)
theorem dX3_keepAside_5 : decode cX3_keepAside 5 = .ok (.if_icmp .ge 21, 3) := dk_162 0 21 (dk_at dksX3_keepAside_0 5 rfl rfl)
theorem dX3_keepAside_8 : decode cX3_keepAside 8 = .ok (.aload_n 0, 1) := dk_42 (dk_at dksX3_keepAside_0 8 rfl rfl)
theorem dX3_keepAside_9 : decode cX3_keepAside 9 = .ok (.getfield 50, 3) := dk_180 0 50 (dk_at dksX3_keepAside_0 9 rfl rfl)
theorem dX3_keepAside_12 : decode cX3_keepAside 12 = .ok (.iload_n 1, 1) := dk_27 (dk_at dksX3_keepAside_0 12 rfl rfl)
theorem dX3_keepAside_13 : decode cX3_keepAside 13 = .ok (.aload_n 0, 1) := dk_42 (dk_at dksX3_keepAside_0 13 rfl rfl)
theorem dX3_keepAside_14 : decode cX3_keepAside 14 = .ok (.getfield 7, 3) := dk_180 0 7 (dk_at dksX3_keepAside_0 14 rfl rfl)
theorem dX3_keepAside_17 : decode cX3_keepAside 17 = .ok (.iload_n 1, 1) := dk_27 (dk_at dksX3_keepAside_0 17 rfl rfl)
theorem dX3_keepAside_18 : decode cX3_keepAside 18 = .ok (.iaload, 1) := dk_46 (dk_at dksX3_keepAside_0 18 rfl rfl)
theorem dX3_keepAside_19 : decode cX3_keepAside 19 = .ok (.iastore, 1) := dk_79 (dk_at dksX3_keepAside_0 19 rfl rfl)
theorem dX3_keepAside_20 : decode cX3_keepAside 20 = .ok (.iinc 1 1, 3) := dk_132 1 1 (dk_at dksX3_keepAside_0 20 rfl rfl)
theorem dX3_keepAside_23 : decode cX3_keepAside 23 = .ok (.goto (-21), 3) := dk_167 255 235 (dk_at dksX3_keepAside_1 0 rfl rfl)
theorem dX3_keepAside_26 : decode cX3_keepAside 26 = .ok (.return_, 1) := dk_177 (dk_at dksX3_keepAside_1 3 rfl rfl)
abbrev cX3_behind : ByteArray := prog_24_method_63_code
def yX3_behind : MethodName := ⟨RX3, "behind", "(III)I"⟩
def dkwX3_behind_2 : List UInt8 := [27, 96, 46, 167, 0, 8, 42, 27, 182, 0, 204, 54, 4, 42, 182, 0, 251, 21, 4, 172]
abbrev dktX3_behind_2 : List UInt8 := dkwX3_behind_2 ++ []
def dkwX3_behind_1 : List UInt8 := [154, 0, 5, 2, 172, 42, 182, 0, 245, 42, 28, 182, 0, 248, 29, 154, 0, 15, 42, 180, 0, 7, 16, 42]
abbrev dktX3_behind_1 : List UInt8 := dkwX3_behind_1 ++ dktX3_behind_2
def dkwX3_behind_0 : List UInt8 := [42, 27, 182, 0, 107, 153, 0, 20, 28, 184, 0, 242, 153, 0, 13, 29, 133, 9, 10, 184, 0, 75]
abbrev dktX3_behind_0 : List UInt8 := dkwX3_behind_0 ++ dktX3_behind_1
theorem dksX3_behind_0 : cX3_behind.data.toList.drop 0 = dktX3_behind_0 := by decide +kernel
theorem dksX3_behind_1 : cX3_behind.data.toList.drop 22 = dktX3_behind_1 := dk_seg dksX3_behind_0 22 rfl rfl
theorem dksX3_behind_2 : cX3_behind.data.toList.drop 46 = dktX3_behind_2 := dk_seg dksX3_behind_1 24 rfl rfl
theorem dX3_behind_0 : decode cX3_behind 0 = .ok (.aload_n 0, 1) := dk_42 (dk_at dksX3_behind_0 0 rfl rfl)
theorem dX3_behind_1 : decode cX3_behind 1 = .ok (.iload_n 1, 1) := dk_27 (dk_at dksX3_behind_0 1 rfl rfl)
theorem dX3_behind_2 : decode cX3_behind 2 = .ok (.invokevirtual 107, 3) := dk_182 0 107 (dk_at dksX3_behind_0 2 rfl rfl)
theorem dX3_behind_5 : decode cX3_behind 5 = .ok (.ifCond .eq 20, 3) := dk_153 0 20 (dk_at dksX3_behind_0 5 rfl rfl)
theorem dX3_behind_8 : decode cX3_behind 8 = .ok (.iload_n 2, 1) := dk_28 (dk_at dksX3_behind_0 8 rfl rfl)
theorem dX3_behind_9 : decode cX3_behind 9 = .ok (.invokestatic 242, 3) := dk_184 0 242 (dk_at dksX3_behind_0 9 rfl rfl)
theorem dX3_behind_12 : decode cX3_behind 12 = .ok (.ifCond .eq 13, 3) := dk_153 0 13 (dk_at dksX3_behind_0 12 rfl rfl)
theorem dX3_behind_15 : decode cX3_behind 15 = .ok (.iload_n 3, 1) := dk_29 (dk_at dksX3_behind_0 15 rfl rfl)
theorem dX3_behind_16 : decode cX3_behind 16 = .ok (.i2l, 1) := dk_133 (dk_at dksX3_behind_0 16 rfl rfl)
theorem dX3_behind_17 : decode cX3_behind 17 = .ok (.lconst 0, 1) := dk_9 (dk_at dksX3_behind_0 17 rfl rfl)
theorem dX3_behind_18 : decode cX3_behind 18 = .ok (.lconst 1, 1) := dk_10 (dk_at dksX3_behind_0 18 rfl rfl)
theorem dX3_behind_19 : decode cX3_behind 19 = .ok (.invokestatic 75, 3) := dk_184 0 75 (dk_at dksX3_behind_0 19 rfl rfl)
theorem dX3_behind_22 : decode cX3_behind 22 = .ok (.ifCond .ne 5, 3) := dk_154 0 5 (dk_at dksX3_behind_1 0 rfl rfl)
theorem dX3_behind_25 : decode cX3_behind 25 = .ok (.iconst (-1), 1) := dk_2 (dk_at dksX3_behind_1 3 rfl rfl)
theorem dX3_behind_26 : decode cX3_behind 26 = .ok (.ireturn, 1) := dk_172 (dk_at dksX3_behind_1 4 rfl rfl)
theorem dX3_behind_27 : decode cX3_behind 27 = .ok (.aload_n 0, 1) := dk_42 (dk_at dksX3_behind_1 5 rfl rfl)
theorem dX3_behind_28 : decode cX3_behind 28 = .ok (.invokevirtual 245, 3) := dk_182 0 245 (dk_at dksX3_behind_1 6 rfl rfl)
theorem dX3_behind_31 : decode cX3_behind 31 = .ok (.aload_n 0, 1) := dk_42 (dk_at dksX3_behind_1 9 rfl rfl)
theorem dX3_behind_32 : decode cX3_behind 32 = .ok (.iload_n 2, 1) := dk_28 (dk_at dksX3_behind_1 10 rfl rfl)
theorem dX3_behind_33 : decode cX3_behind 33 = .ok (.invokevirtual 248, 3) := dk_182 0 248 (dk_at dksX3_behind_1 11 rfl rfl)
theorem dX3_behind_36 : decode cX3_behind 36 = .ok (.iload_n 3, 1) := dk_29 (dk_at dksX3_behind_1 14 rfl rfl)
theorem dX3_behind_37 : decode cX3_behind 37 = .ok (.ifCond .ne 15, 3) := dk_154 0 15 (dk_at dksX3_behind_1 15 rfl rfl)
theorem dX3_behind_40 : decode cX3_behind 40 = .ok (.aload_n 0, 1) := dk_42 (dk_at dksX3_behind_1 18 rfl rfl)
theorem dX3_behind_41 : decode cX3_behind 41 = .ok (.getfield 7, 3) := dk_180 0 7 (dk_at dksX3_behind_1 19 rfl rfl)
theorem dX3_behind_44 : decode cX3_behind 44 = .ok (.bipush 42, 2) := dk_16 42 (dk_at dksX3_behind_1 22 rfl rfl)
theorem dX3_behind_46 : decode cX3_behind 46 = .ok (.iload_n 1, 1) := dk_27 (dk_at dksX3_behind_2 0 rfl rfl)
theorem dX3_behind_47 : decode cX3_behind 47 = .ok (.iadd, 1) := dk_96 (dk_at dksX3_behind_2 1 rfl rfl)
theorem dX3_behind_48 : decode cX3_behind 48 = .ok (.iaload, 1) := dk_46 (dk_at dksX3_behind_2 2 rfl rfl)
theorem dX3_behind_49 : decode cX3_behind 49 = .ok (.goto 8, 3) := dk_167 0 8 (dk_at dksX3_behind_2 3 rfl rfl)
theorem dX3_behind_52 : decode cX3_behind 52 = .ok (.aload_n 0, 1) := dk_42 (dk_at dksX3_behind_2 6 rfl rfl)
theorem dX3_behind_53 : decode cX3_behind 53 = .ok (.iload_n 1, 1) := dk_27 (dk_at dksX3_behind_2 7 rfl rfl)
theorem dX3_behind_54 : decode cX3_behind 54 = .ok (.invokevirtual 204, 3) := dk_182 0 204 (dk_at dksX3_behind_2 8 rfl rfl)
theorem dX3_behind_57 : decode cX3_behind 57 = .ok (.istore 4, 2) := dk_54 4 (dk_at dksX3_behind_2 11 rfl rfl)
theorem dX3_behind_59 : decode cX3_behind 59 = .ok (.aload_n 0, 1) := dk_42 (dk_at dksX3_behind_2 13 rfl rfl)
theorem dX3_behind_60 : decode cX3_behind 60 = .ok (.invokevirtual 251, 3) := dk_182 0 251 (dk_at dksX3_behind_2 14 rfl rfl)
theorem dX3_behind_63 : decode cX3_behind 63 = .ok (.iload 4, 2) := dk_21 4 (dk_at dksX3_behind_2 17 rfl rfl)
theorem dX3_behind_65 : decode cX3_behind 65 = .ok (.ireturn, 1) := dk_172 (dk_at dksX3_behind_2 19 rfl rfl)
abbrev cX3_leads : ByteArray := prog_24_method_64_code
def yX3_leads : MethodName := ⟨RX3, "leads", "(I)I"⟩
def dkwX3_leads_2 : List UInt8 := [61, 132, 3, 1, 167, 255, 226, 42, 182, 0, 251, 28, 172]
abbrev dktX3_leads_2 : List UInt8 := dkwX3_leads_2 ++ []
def dkwX3_leads_1 : List UInt8 := [180, 0, 72, 162, 0, 28, 28, 42, 29, 182, 0, 204, 4, 160, 0, 9, 4, 29, 120, 167, 0, 4, 3, 128]
abbrev dktX3_leads_1 : List UInt8 := dkwX3_leads_1 ++ dktX3_leads_2
def dkwX3_leads_0 : List UInt8 := [27, 184, 0, 242, 154, 0, 5, 2, 172, 42, 182, 0, 245, 42, 27, 182, 0, 248, 3, 61, 3, 62, 29, 42]
abbrev dktX3_leads_0 : List UInt8 := dkwX3_leads_0 ++ dktX3_leads_1
theorem dksX3_leads_0 : cX3_leads.data.toList.drop 0 = dktX3_leads_0 := by decide +kernel
theorem dksX3_leads_1 : cX3_leads.data.toList.drop 24 = dktX3_leads_1 := dk_seg dksX3_leads_0 24 rfl rfl
theorem dksX3_leads_2 : cX3_leads.data.toList.drop 48 = dktX3_leads_2 := dk_seg dksX3_leads_1 24 rfl rfl
theorem dX3_leads_0 : decode cX3_leads 0 = .ok (.iload_n 1, 1) := dk_27 (dk_at dksX3_leads_0 0 rfl rfl)
theorem dX3_leads_1 : decode cX3_leads 1 = .ok (.invokestatic 242, 3) := dk_184 0 242 (dk_at dksX3_leads_0 1 rfl rfl)
theorem dX3_leads_4 : decode cX3_leads 4 = .ok (.ifCond .ne 5, 3) := dk_154 0 5 (dk_at dksX3_leads_0 4 rfl rfl)
theorem dX3_leads_7 : decode cX3_leads 7 = .ok (.iconst (-1), 1) := dk_2 (dk_at dksX3_leads_0 7 rfl rfl)
theorem dX3_leads_8 : decode cX3_leads 8 = .ok (.ireturn, 1) := dk_172 (dk_at dksX3_leads_0 8 rfl rfl)
theorem dX3_leads_9 : decode cX3_leads 9 = .ok (.aload_n 0, 1) := dk_42 (dk_at dksX3_leads_0 9 rfl rfl)
theorem dX3_leads_10 : decode cX3_leads 10 = .ok (.invokevirtual 245, 3) := dk_182 0 245 (dk_at dksX3_leads_0 10 rfl rfl)
theorem dX3_leads_13 : decode cX3_leads 13 = .ok (.aload_n 0, 1) := dk_42 (dk_at dksX3_leads_0 13 rfl rfl)
theorem dX3_leads_14 : decode cX3_leads 14 = .ok (.iload_n 1, 1) := dk_27 (dk_at dksX3_leads_0 14 rfl rfl)
theorem dX3_leads_15 : decode cX3_leads 15 = .ok (.invokevirtual 248, 3) := dk_182 0 248 (dk_at dksX3_leads_0 15 rfl rfl)
theorem dX3_leads_18 : decode cX3_leads 18 = .ok (.iconst 0, 1) := dk_3 (dk_at dksX3_leads_0 18 rfl rfl)
theorem dX3_leads_19 : decode cX3_leads 19 = .ok (.istore_n 2, 1) := dk_61 (dk_at dksX3_leads_0 19 rfl rfl)
theorem dX3_leads_20 : decode cX3_leads 20 = .ok (.iconst 0, 1) := dk_3 (dk_at dksX3_leads_0 20 rfl rfl)
theorem dX3_leads_21 : decode cX3_leads 21 = .ok (.istore_n 3, 1) := dk_62 (dk_at dksX3_leads_0 21 rfl rfl)
theorem dX3_leads_22 : decode cX3_leads 22 = .ok (.iload_n 3, 1) := dk_29 (dk_at dksX3_leads_0 22 rfl rfl)
theorem dX3_leads_23 : decode cX3_leads 23 = .ok (.aload_n 0, 1) := dk_42 (dk_at dksX3_leads_0 23 rfl rfl)
theorem dX3_leads_24 : decode cX3_leads 24 = .ok (.getfield 72, 3) := dk_180 0 72 (dk_at dksX3_leads_1 0 rfl rfl)
theorem dX3_leads_27 : decode cX3_leads 27 = .ok (.if_icmp .ge 28, 3) := dk_162 0 28 (dk_at dksX3_leads_1 3 rfl rfl)
theorem dX3_leads_30 : decode cX3_leads 30 = .ok (.iload_n 2, 1) := dk_28 (dk_at dksX3_leads_1 6 rfl rfl)
theorem dX3_leads_31 : decode cX3_leads 31 = .ok (.aload_n 0, 1) := dk_42 (dk_at dksX3_leads_1 7 rfl rfl)
theorem dX3_leads_32 : decode cX3_leads 32 = .ok (.iload_n 3, 1) := dk_29 (dk_at dksX3_leads_1 8 rfl rfl)
theorem dX3_leads_33 : decode cX3_leads 33 = .ok (.invokevirtual 204, 3) := dk_182 0 204 (dk_at dksX3_leads_1 9 rfl rfl)
theorem dX3_leads_36 : decode cX3_leads 36 = .ok (.iconst 1, 1) := dk_4 (dk_at dksX3_leads_1 12 rfl rfl)
theorem dX3_leads_37 : decode cX3_leads 37 = .ok (.if_icmp .ne 9, 3) := dk_160 0 9 (dk_at dksX3_leads_1 13 rfl rfl)
theorem dX3_leads_40 : decode cX3_leads 40 = .ok (.iconst 1, 1) := dk_4 (dk_at dksX3_leads_1 16 rfl rfl)
theorem dX3_leads_41 : decode cX3_leads 41 = .ok (.iload_n 3, 1) := dk_29 (dk_at dksX3_leads_1 17 rfl rfl)
theorem dX3_leads_42 : decode cX3_leads 42 = .ok (.ishl, 1) := dk_120 (dk_at dksX3_leads_1 18 rfl rfl)
theorem dX3_leads_43 : decode cX3_leads 43 = .ok (.goto 4, 3) := dk_167 0 4 (dk_at dksX3_leads_1 19 rfl rfl)
theorem dX3_leads_46 : decode cX3_leads 46 = .ok (.iconst 0, 1) := dk_3 (dk_at dksX3_leads_1 22 rfl rfl)
theorem dX3_leads_47 : decode cX3_leads 47 = .ok (.ior, 1) := dk_128 (dk_at dksX3_leads_1 23 rfl rfl)
theorem dX3_leads_48 : decode cX3_leads 48 = .ok (.istore_n 2, 1) := dk_61 (dk_at dksX3_leads_2 0 rfl rfl)
theorem dX3_leads_49 : decode cX3_leads 49 = .ok (.iinc 3 1, 3) := dk_132 3 1 (dk_at dksX3_leads_2 1 rfl rfl)
theorem dX3_leads_52 : decode cX3_leads 52 = .ok (.goto (-30), 3) := dk_167 255 226 (dk_at dksX3_leads_2 4 rfl rfl)
theorem dX3_leads_55 : decode cX3_leads 55 = .ok (.aload_n 0, 1) := dk_42 (dk_at dksX3_leads_2 7 rfl rfl)
theorem dX3_leads_56 : decode cX3_leads 56 = .ok (.invokevirtual 251, 3) := dk_182 0 251 (dk_at dksX3_leads_2 8 rfl rfl)
theorem dX3_leads_59 : decode cX3_leads 59 = .ok (.iload_n 2, 1) := dk_28 (dk_at dksX3_leads_2 11 rfl rfl)
theorem dX3_leads_60 : decode cX3_leads 60 = .ok (.ireturn, 1) := dk_172 (dk_at dksX3_leads_2 12 rfl rfl)
abbrev cX3_finish : ByteArray := prog_24_method_65_code
def yX3_finish : MethodName := ⟨RX3, "finish", "(I)I"⟩
def dkwX3_finish_1 : List UInt8 := [180, 0, 7, 16, 51, 27, 96, 46, 61, 42, 182, 0, 251, 28, 172]
abbrev dktX3_finish_1 : List UInt8 := dkwX3_finish_1 ++ []
def dkwX3_finish_0 : List UInt8 := [42, 27, 182, 0, 107, 154, 0, 5, 2, 172, 42, 182, 0, 245, 42, 17, 0, 200, 182, 0, 248, 42]
abbrev dktX3_finish_0 : List UInt8 := dkwX3_finish_0 ++ dktX3_finish_1
theorem dksX3_finish_0 : cX3_finish.data.toList.drop 0 = dktX3_finish_0 := by decide +kernel
theorem dksX3_finish_1 : cX3_finish.data.toList.drop 22 = dktX3_finish_1 := dk_seg dksX3_finish_0 22 rfl rfl
theorem dX3_finish_0 : decode cX3_finish 0 = .ok (.aload_n 0, 1) := dk_42 (dk_at dksX3_finish_0 0 rfl rfl)
theorem dX3_finish_1 : decode cX3_finish 1 = .ok (.iload_n 1, 1) := dk_27 (dk_at dksX3_finish_0 1 rfl rfl)
theorem dX3_finish_2 : decode cX3_finish 2 = .ok (.invokevirtual 107, 3) := dk_182 0 107 (dk_at dksX3_finish_0 2 rfl rfl)
theorem dX3_finish_5 : decode cX3_finish 5 = .ok (.ifCond .ne 5, 3) := dk_154 0 5 (dk_at dksX3_finish_0 5 rfl rfl)
theorem dX3_finish_8 : decode cX3_finish 8 = .ok (.iconst (-1), 1) := dk_2 (dk_at dksX3_finish_0 8 rfl rfl)
theorem dX3_finish_9 : decode cX3_finish 9 = .ok (.ireturn, 1) := dk_172 (dk_at dksX3_finish_0 9 rfl rfl)
theorem dX3_finish_10 : decode cX3_finish 10 = .ok (.aload_n 0, 1) := dk_42 (dk_at dksX3_finish_0 10 rfl rfl)
theorem dX3_finish_11 : decode cX3_finish 11 = .ok (.invokevirtual 245, 3) := dk_182 0 245 (dk_at dksX3_finish_0 11 rfl rfl)
theorem dX3_finish_14 : decode cX3_finish 14 = .ok (.aload_n 0, 1) := dk_42 (dk_at dksX3_finish_0 14 rfl rfl)
theorem dX3_finish_15 : decode cX3_finish 15 = .ok (.sipush 200, 3) := dk_17 0 200 (dk_at dksX3_finish_0 15 rfl rfl)
theorem dX3_finish_18 : decode cX3_finish 18 = .ok (.invokevirtual 248, 3) := dk_182 0 248 (dk_at dksX3_finish_0 18 rfl rfl)
theorem dX3_finish_21 : decode cX3_finish 21 = .ok (.aload_n 0, 1) := dk_42 (dk_at dksX3_finish_0 21 rfl rfl)
theorem dX3_finish_22 : decode cX3_finish 22 = .ok (.getfield 7, 3) := dk_180 0 7 (dk_at dksX3_finish_1 0 rfl rfl)
theorem dX3_finish_25 : decode cX3_finish 25 = .ok (.bipush 51, 2) := dk_16 51 (dk_at dksX3_finish_1 3 rfl rfl)
theorem dX3_finish_27 : decode cX3_finish 27 = .ok (.iload_n 1, 1) := dk_27 (dk_at dksX3_finish_1 5 rfl rfl)
theorem dX3_finish_28 : decode cX3_finish 28 = .ok (.iadd, 1) := dk_96 (dk_at dksX3_finish_1 6 rfl rfl)
theorem dX3_finish_29 : decode cX3_finish 29 = .ok (.iaload, 1) := dk_46 (dk_at dksX3_finish_1 7 rfl rfl)
theorem dX3_finish_30 : decode cX3_finish 30 = .ok (.istore_n 2, 1) := dk_61 (dk_at dksX3_finish_1 8 rfl rfl)
theorem dX3_finish_31 : decode cX3_finish 31 = .ok (.aload_n 0, 1) := dk_42 (dk_at dksX3_finish_1 9 rfl rfl)
theorem dX3_finish_32 : decode cX3_finish 32 = .ok (.invokevirtual 251, 3) := dk_182 0 251 (dk_at dksX3_finish_1 10 rfl rfl)
theorem dX3_finish_35 : decode cX3_finish 35 = .ok (.iload_n 2, 1) := dk_28 (dk_at dksX3_finish_1 13 rfl rfl)
theorem dX3_finish_36 : decode cX3_finish 36 = .ok (.ireturn, 1) := dk_172 (dk_at dksX3_finish_1 14 rfl rfl)
abbrev cX3_over : ByteArray := prog_24_method_66_code
def yX3_over : MethodName := ⟨RX3, "over", "()I"⟩
def dkwX3_over_2 : List UInt8 := [162, 0, 8, 16, 252, 167, 0, 4, 27, 61, 42, 182, 0, 251, 28, 172]
abbrev dktX3_over_2 : List UInt8 := dkwX3_over_2 ++ []
def dkwX3_over_1 : List UInt8 := [42, 42, 182, 0, 223, 182, 0, 226, 87, 132, 1, 1, 167, 255, 226, 42, 182, 0, 207, 42, 180, 0, 72]
abbrev dktX3_over_1 : List UInt8 := dkwX3_over_1 ++ dktX3_over_2
def dkwX3_over_0 : List UInt8 := [42, 182, 0, 245, 3, 60, 27, 17, 0, 200, 162, 0, 29, 42, 182, 0, 207, 42, 180, 0, 72, 162, 0, 18]
abbrev dktX3_over_0 : List UInt8 := dkwX3_over_0 ++ dktX3_over_1
theorem dksX3_over_0 : cX3_over.data.toList.drop 0 = dktX3_over_0 := by decide +kernel
theorem dksX3_over_1 : cX3_over.data.toList.drop 24 = dktX3_over_1 := dk_seg dksX3_over_0 24 rfl rfl
theorem dksX3_over_2 : cX3_over.data.toList.drop 47 = dktX3_over_2 := dk_seg dksX3_over_1 23 rfl rfl
theorem dX3_over_0 : decode cX3_over 0 = .ok (.aload_n 0, 1) := dk_42 (dk_at dksX3_over_0 0 rfl rfl)
theorem dX3_over_1 : decode cX3_over 1 = .ok (.invokevirtual 245, 3) := dk_182 0 245 (dk_at dksX3_over_0 1 rfl rfl)
theorem dX3_over_4 : decode cX3_over 4 = .ok (.iconst 0, 1) := dk_3 (dk_at dksX3_over_0 4 rfl rfl)
theorem dX3_over_5 : decode cX3_over 5 = .ok (.istore_n 1, 1) := dk_60 (dk_at dksX3_over_0 5 rfl rfl)
theorem dX3_over_6 : decode cX3_over 6 = .ok (.iload_n 1, 1) := dk_27 (dk_at dksX3_over_0 6 rfl rfl)
theorem dX3_over_7 : decode cX3_over 7 = .ok (.sipush 200, 3) := dk_17 0 200 (dk_at dksX3_over_0 7 rfl rfl)
theorem dX3_over_10 : decode cX3_over 10 = .ok (.if_icmp .ge 29, 3) := dk_162 0 29 (dk_at dksX3_over_0 10 rfl rfl)
theorem dX3_over_13 : decode cX3_over 13 = .ok (.aload_n 0, 1) := dk_42 (dk_at dksX3_over_0 13 rfl rfl)
theorem dX3_over_14 : decode cX3_over 14 = .ok (.invokevirtual 207, 3) := dk_182 0 207 (dk_at dksX3_over_0 14 rfl rfl)
theorem dX3_over_17 : decode cX3_over 17 = .ok (.aload_n 0, 1) := dk_42 (dk_at dksX3_over_0 17 rfl rfl)
theorem dX3_over_18 : decode cX3_over 18 = .ok (.getfield 72, 3) := dk_180 0 72 (dk_at dksX3_over_0 18 rfl rfl)
theorem dX3_over_21 : decode cX3_over 21 = .ok (.if_icmp .ge 18, 3) := dk_162 0 18 (dk_at dksX3_over_0 21 rfl rfl)
theorem dX3_over_24 : decode cX3_over 24 = .ok (.aload_n 0, 1) := dk_42 (dk_at dksX3_over_1 0 rfl rfl)
theorem dX3_over_25 : decode cX3_over 25 = .ok (.aload_n 0, 1) := dk_42 (dk_at dksX3_over_1 1 rfl rfl)
theorem dX3_over_26 : decode cX3_over 26 = .ok (.invokevirtual 223, 3) := dk_182 0 223 (dk_at dksX3_over_1 2 rfl rfl)
theorem dX3_over_29 : decode cX3_over 29 = .ok (.invokevirtual 226, 3) := dk_182 0 226 (dk_at dksX3_over_1 5 rfl rfl)
theorem dX3_over_32 : decode cX3_over 32 = .ok (.pop, 1) := dk_87 (dk_at dksX3_over_1 8 rfl rfl)
theorem dX3_over_33 : decode cX3_over 33 = .ok (.iinc 1 1, 3) := dk_132 1 1 (dk_at dksX3_over_1 9 rfl rfl)
theorem dX3_over_36 : decode cX3_over 36 = .ok (.goto (-30), 3) := dk_167 255 226 (dk_at dksX3_over_1 12 rfl rfl)
theorem dX3_over_39 : decode cX3_over 39 = .ok (.aload_n 0, 1) := dk_42 (dk_at dksX3_over_1 15 rfl rfl)
theorem dX3_over_40 : decode cX3_over 40 = .ok (.invokevirtual 207, 3) := dk_182 0 207 (dk_at dksX3_over_1 16 rfl rfl)
theorem dX3_over_43 : decode cX3_over 43 = .ok (.aload_n 0, 1) := dk_42 (dk_at dksX3_over_1 19 rfl rfl)
theorem dX3_over_44 : decode cX3_over 44 = .ok (.getfield 72, 3) := dk_180 0 72 (dk_at dksX3_over_1 20 rfl rfl)
theorem dX3_over_47 : decode cX3_over 47 = .ok (.if_icmp .ge 8, 3) := dk_162 0 8 (dk_at dksX3_over_2 0 rfl rfl)
theorem dX3_over_50 : decode cX3_over 50 = .ok (.bipush (-4), 2) := dk_16 252 (dk_at dksX3_over_2 3 rfl rfl)
theorem dX3_over_52 : decode cX3_over 52 = .ok (.goto 4, 3) := dk_167 0 4 (dk_at dksX3_over_2 5 rfl rfl)
theorem dX3_over_55 : decode cX3_over 55 = .ok (.iload_n 1, 1) := dk_27 (dk_at dksX3_over_2 8 rfl rfl)
theorem dX3_over_56 : decode cX3_over 56 = .ok (.istore_n 2, 1) := dk_61 (dk_at dksX3_over_2 9 rfl rfl)
theorem dX3_over_57 : decode cX3_over 57 = .ok (.aload_n 0, 1) := dk_42 (dk_at dksX3_over_2 10 rfl rfl)
theorem dX3_over_58 : decode cX3_over 58 = .ok (.invokevirtual 251, 3) := dk_182 0 251 (dk_at dksX3_over_2 11 rfl rfl)
theorem dX3_over_61 : decode cX3_over 61 = .ok (.iload_n 2, 1) := dk_28 (dk_at dksX3_over_2 14 rfl rfl)
theorem dX3_over_62 : decode cX3_over 62 = .ok (.ireturn, 1) := dk_172 (dk_at dksX3_over_2 15 rfl rfl)
abbrev cX3_isAsked : ByteArray := prog_24_method_68_code
def yX3_isAsked : MethodName := ⟨RX3, "isAsked", "(III)Z"⟩
def dkwX3_isAsked_1 : List UInt8 := [153, 0, 7, 4, 167, 0, 4, 3, 172]
abbrev dktX3_isAsked_1 : List UInt8 := dkwX3_isAsked_1 ++ []
def dkwX3_isAsked_0 : List UInt8 := [42, 27, 182, 0, 107, 153, 0, 26, 28, 133, 10, 20, 0, 254, 184, 0, 75, 153, 0, 14, 29, 184, 0, 242]
abbrev dktX3_isAsked_0 : List UInt8 := dkwX3_isAsked_0 ++ dktX3_isAsked_1
theorem dksX3_isAsked_0 : cX3_isAsked.data.toList.drop 0 = dktX3_isAsked_0 := by decide +kernel
theorem dksX3_isAsked_1 : cX3_isAsked.data.toList.drop 24 = dktX3_isAsked_1 := dk_seg dksX3_isAsked_0 24 rfl rfl
theorem dX3_isAsked_0 : decode cX3_isAsked 0 = .ok (.aload_n 0, 1) := dk_42 (dk_at dksX3_isAsked_0 0 rfl rfl)
theorem dX3_isAsked_1 : decode cX3_isAsked 1 = .ok (.iload_n 1, 1) := dk_27 (dk_at dksX3_isAsked_0 1 rfl rfl)
theorem dX3_isAsked_2 : decode cX3_isAsked 2 = .ok (.invokevirtual 107, 3) := dk_182 0 107 (dk_at dksX3_isAsked_0 2 rfl rfl)
theorem dX3_isAsked_5 : decode cX3_isAsked 5 = .ok (.ifCond .eq 26, 3) := dk_153 0 26 (dk_at dksX3_isAsked_0 5 rfl rfl)
theorem dX3_isAsked_8 : decode cX3_isAsked 8 = .ok (.iload_n 2, 1) := dk_28 (dk_at dksX3_isAsked_0 8 rfl rfl)
theorem dX3_isAsked_9 : decode cX3_isAsked 9 = .ok (.i2l, 1) := dk_133 (dk_at dksX3_isAsked_0 9 rfl rfl)
theorem dX3_isAsked_10 : decode cX3_isAsked 10 = .ok (.lconst 1, 1) := dk_10 (dk_at dksX3_isAsked_0 10 rfl rfl)
theorem dX3_isAsked_11 : decode cX3_isAsked 11 = .ok (.ldc2_w 254, 3) := dk_20 0 254 (dk_at dksX3_isAsked_0 11 rfl rfl)
theorem dX3_isAsked_14 : decode cX3_isAsked 14 = .ok (.invokestatic 75, 3) := dk_184 0 75 (dk_at dksX3_isAsked_0 14 rfl rfl)
theorem dX3_isAsked_17 : decode cX3_isAsked 17 = .ok (.ifCond .eq 14, 3) := dk_153 0 14 (dk_at dksX3_isAsked_0 17 rfl rfl)
theorem dX3_isAsked_20 : decode cX3_isAsked 20 = .ok (.iload_n 3, 1) := dk_29 (dk_at dksX3_isAsked_0 20 rfl rfl)
theorem dX3_isAsked_21 : decode cX3_isAsked 21 = .ok (.invokestatic 242, 3) := dk_184 0 242 (dk_at dksX3_isAsked_0 21 rfl rfl)
theorem dX3_isAsked_24 : decode cX3_isAsked 24 = .ok (.ifCond .eq 7, 3) := dk_153 0 7 (dk_at dksX3_isAsked_1 0 rfl rfl)
theorem dX3_isAsked_27 : decode cX3_isAsked 27 = .ok (.iconst 1, 1) := dk_4 (dk_at dksX3_isAsked_1 3 rfl rfl)
theorem dX3_isAsked_28 : decode cX3_isAsked 28 = .ok (.goto 4, 3) := dk_167 0 4 (dk_at dksX3_isAsked_1 4 rfl rfl)
theorem dX3_isAsked_31 : decode cX3_isAsked 31 = .ok (.iconst 0, 1) := dk_3 (dk_at dksX3_isAsked_1 7 rfl rfl)
theorem dX3_isAsked_32 : decode cX3_isAsked 32 = .ok (.ireturn, 1) := dk_172 (dk_at dksX3_isAsked_1 8 rfl rfl)
abbrev cX3_placeWith : ByteArray := prog_24_method_67_code
def yX3_placeWith : MethodName := ⟨RX3, "placeWith", "(IIII)I"⟩
def dkwX3_placeWith_1 : List UInt8 := [182, 0, 248, 42, 27, 182, 0, 204, 54, 5, 42, 182, 0, 251, 21, 5, 172]
abbrev dktX3_placeWith_1 : List UInt8 := dkwX3_placeWith_1 ++ []
def dkwX3_placeWith_0 : List UInt8 := [42, 182, 0, 245, 42, 27, 28, 182, 0, 233, 42, 27, 16, 60, 29, 104, 182, 0, 237, 42, 21, 4]
abbrev dktX3_placeWith_0 : List UInt8 := dkwX3_placeWith_0 ++ dktX3_placeWith_1
theorem dksX3_placeWith_0 : cX3_placeWith.data.toList.drop 0 = dktX3_placeWith_0 := by decide +kernel
theorem dksX3_placeWith_1 : cX3_placeWith.data.toList.drop 22 = dktX3_placeWith_1 := dk_seg dksX3_placeWith_0 22 rfl rfl
theorem dX3_placeWith_0 : decode cX3_placeWith 0 = .ok (.aload_n 0, 1) := dk_42 (dk_at dksX3_placeWith_0 0 rfl rfl)
theorem dX3_placeWith_1 : decode cX3_placeWith 1 = .ok (.invokevirtual 245, 3) := dk_182 0 245 (dk_at dksX3_placeWith_0 1 rfl rfl)
theorem dX3_placeWith_4 : decode cX3_placeWith 4 = .ok (.aload_n 0, 1) := dk_42 (dk_at dksX3_placeWith_0 4 rfl rfl)
theorem dX3_placeWith_5 : decode cX3_placeWith 5 = .ok (.iload_n 1, 1) := dk_27 (dk_at dksX3_placeWith_0 5 rfl rfl)
theorem dX3_placeWith_6 : decode cX3_placeWith 6 = .ok (.iload_n 2, 1) := dk_28 (dk_at dksX3_placeWith_0 6 rfl rfl)
theorem dX3_placeWith_7 : decode cX3_placeWith 7 = .ok (.invokevirtual 233, 3) := dk_182 0 233 (dk_at dksX3_placeWith_0 7 rfl rfl)
theorem dX3_placeWith_10 : decode cX3_placeWith 10 = .ok (.aload_n 0, 1) := dk_42 (dk_at dksX3_placeWith_0 10 rfl rfl)
theorem dX3_placeWith_11 : decode cX3_placeWith 11 = .ok (.iload_n 1, 1) := dk_27 (dk_at dksX3_placeWith_0 11 rfl rfl)
theorem dX3_placeWith_12 : decode cX3_placeWith 12 = .ok (.bipush 60, 2) := dk_16 60 (dk_at dksX3_placeWith_0 12 rfl rfl)
theorem dX3_placeWith_14 : decode cX3_placeWith 14 = .ok (.iload_n 3, 1) := dk_29 (dk_at dksX3_placeWith_0 14 rfl rfl)
theorem dX3_placeWith_15 : decode cX3_placeWith 15 = .ok (.imul, 1) := dk_104 (dk_at dksX3_placeWith_0 15 rfl rfl)
theorem dX3_placeWith_16 : decode cX3_placeWith 16 = .ok (.invokevirtual 237, 3) := dk_182 0 237 (dk_at dksX3_placeWith_0 16 rfl rfl)
theorem dX3_placeWith_19 : decode cX3_placeWith 19 = .ok (.aload_n 0, 1) := dk_42 (dk_at dksX3_placeWith_0 19 rfl rfl)
theorem dX3_placeWith_20 : decode cX3_placeWith 20 = .ok (.iload 4, 2) := dk_21 4 (dk_at dksX3_placeWith_0 20 rfl rfl)
theorem dX3_placeWith_22 : decode cX3_placeWith 22 = .ok (.invokevirtual 248, 3) := dk_182 0 248 (dk_at dksX3_placeWith_1 0 rfl rfl)
theorem dX3_placeWith_25 : decode cX3_placeWith 25 = .ok (.aload_n 0, 1) := dk_42 (dk_at dksX3_placeWith_1 3 rfl rfl)
theorem dX3_placeWith_26 : decode cX3_placeWith 26 = .ok (.iload_n 1, 1) := dk_27 (dk_at dksX3_placeWith_1 4 rfl rfl)
theorem dX3_placeWith_27 : decode cX3_placeWith 27 = .ok (.invokevirtual 204, 3) := dk_182 0 204 (dk_at dksX3_placeWith_1 5 rfl rfl)
theorem dX3_placeWith_30 : decode cX3_placeWith 30 = .ok (.istore 5, 2) := dk_54 5 (dk_at dksX3_placeWith_1 8 rfl rfl)
theorem dX3_placeWith_32 : decode cX3_placeWith 32 = .ok (.aload_n 0, 1) := dk_42 (dk_at dksX3_placeWith_1 10 rfl rfl)
theorem dX3_placeWith_33 : decode cX3_placeWith 33 = .ok (.invokevirtual 251, 3) := dk_182 0 251 (dk_at dksX3_placeWith_1 11 rfl rfl)
theorem dX3_placeWith_36 : decode cX3_placeWith 36 = .ok (.iload 5, 2) := dk_21 5 (dk_at dksX3_placeWith_1 14 rfl rfl)
theorem dX3_placeWith_38 : decode cX3_placeWith 38 = .ok (.ireturn, 1) := dk_172 (dk_at dksX3_placeWith_1 16 rfl rfl)
abbrev cX3_turns : ByteArray := prog_24_method_69_code
def yX3_turns : MethodName := ⟨RX3, "turns", "(III)I"⟩
def dkwX3_turns_1 : List UInt8 := [21, 4, 3, 29, 182, 1, 4, 28, 163, 0, 6, 21, 4, 172, 132, 4, 1, 167, 255, 230, 16, 252, 172]
abbrev dktX3_turns_1 : List UInt8 := dkwX3_turns_1 ++ []
def dkwX3_turns_0 : List UInt8 := [42, 27, 28, 29, 182, 1, 0, 154, 0, 5, 2, 172, 3, 54, 4, 21, 4, 16, 40, 163, 0, 25, 42, 27]
abbrev dktX3_turns_0 : List UInt8 := dkwX3_turns_0 ++ dktX3_turns_1
theorem dksX3_turns_0 : cX3_turns.data.toList.drop 0 = dktX3_turns_0 := by decide +kernel
theorem dksX3_turns_1 : cX3_turns.data.toList.drop 24 = dktX3_turns_1 := dk_seg dksX3_turns_0 24 rfl rfl
theorem dX3_turns_0 : decode cX3_turns 0 = .ok (.aload_n 0, 1) := dk_42 (dk_at dksX3_turns_0 0 rfl rfl)
theorem dX3_turns_1 : decode cX3_turns 1 = .ok (.iload_n 1, 1) := dk_27 (dk_at dksX3_turns_0 1 rfl rfl)
theorem dX3_turns_2 : decode cX3_turns 2 = .ok (.iload_n 2, 1) := dk_28 (dk_at dksX3_turns_0 2 rfl rfl)
theorem dX3_turns_3 : decode cX3_turns 3 = .ok (.iload_n 3, 1) := dk_29 (dk_at dksX3_turns_0 3 rfl rfl)
theorem dX3_turns_4 : decode cX3_turns 4 = .ok (.invokevirtual 256, 3) := dk_182 1 0 (dk_at dksX3_turns_0 4 rfl rfl)
theorem dX3_turns_7 : decode cX3_turns 7 = .ok (.ifCond .ne 5, 3) := dk_154 0 5 (dk_at dksX3_turns_0 7 rfl rfl)
theorem dX3_turns_10 : decode cX3_turns 10 = .ok (.iconst (-1), 1) := dk_2 (dk_at dksX3_turns_0 10 rfl rfl)
theorem dX3_turns_11 : decode cX3_turns 11 = .ok (.ireturn, 1) := dk_172 (dk_at dksX3_turns_0 11 rfl rfl)
theorem dX3_turns_12 : decode cX3_turns 12 = .ok (.iconst 0, 1) := dk_3 (dk_at dksX3_turns_0 12 rfl rfl)
theorem dX3_turns_13 : decode cX3_turns 13 = .ok (.istore 4, 2) := dk_54 4 (dk_at dksX3_turns_0 13 rfl rfl)
theorem dX3_turns_15 : decode cX3_turns 15 = .ok (.iload 4, 2) := dk_21 4 (dk_at dksX3_turns_0 15 rfl rfl)
theorem dX3_turns_17 : decode cX3_turns 17 = .ok (.bipush 40, 2) := dk_16 40 (dk_at dksX3_turns_0 17 rfl rfl)
theorem dX3_turns_19 : decode cX3_turns 19 = .ok (.if_icmp .gt 25, 3) := dk_163 0 25 (dk_at dksX3_turns_0 19 rfl rfl)
theorem dX3_turns_22 : decode cX3_turns 22 = .ok (.aload_n 0, 1) := dk_42 (dk_at dksX3_turns_0 22 rfl rfl)
theorem dX3_turns_23 : decode cX3_turns 23 = .ok (.iload_n 1, 1) := dk_27 (dk_at dksX3_turns_0 23 rfl rfl)
theorem dX3_turns_24 : decode cX3_turns 24 = .ok (.iload 4, 2) := dk_21 4 (dk_at dksX3_turns_1 0 rfl rfl)
theorem dX3_turns_26 : decode cX3_turns 26 = .ok (.iconst 0, 1) := dk_3 (dk_at dksX3_turns_1 2 rfl rfl)
theorem dX3_turns_27 : decode cX3_turns 27 = .ok (.iload_n 3, 1) := dk_29 (dk_at dksX3_turns_1 3 rfl rfl)
theorem dX3_turns_28 : decode cX3_turns 28 = .ok (.invokevirtual 260, 3) := dk_182 1 4 (dk_at dksX3_turns_1 4 rfl rfl)
theorem dX3_turns_31 : decode cX3_turns 31 = .ok (.iload_n 2, 1) := dk_28 (dk_at dksX3_turns_1 7 rfl rfl)
theorem dX3_turns_32 : decode cX3_turns 32 = .ok (.if_icmp .gt 6, 3) := dk_163 0 6 (dk_at dksX3_turns_1 8 rfl rfl)
theorem dX3_turns_35 : decode cX3_turns 35 = .ok (.iload 4, 2) := dk_21 4 (dk_at dksX3_turns_1 11 rfl rfl)
theorem dX3_turns_37 : decode cX3_turns 37 = .ok (.ireturn, 1) := dk_172 (dk_at dksX3_turns_1 13 rfl rfl)
theorem dX3_turns_38 : decode cX3_turns 38 = .ok (.iinc 4 1, 3) := dk_132 4 1 (dk_at dksX3_turns_1 14 rfl rfl)
theorem dX3_turns_41 : decode cX3_turns 41 = .ok (.goto (-26), 3) := dk_167 255 230 (dk_at dksX3_turns_1 17 rfl rfl)
theorem dX3_turns_44 : decode cX3_turns 44 = .ok (.bipush (-4), 2) := dk_16 252 (dk_at dksX3_turns_1 20 rfl rfl)
theorem dX3_turns_46 : decode cX3_turns 46 = .ok (.ireturn, 1) := dk_172 (dk_at dksX3_turns_1 22 rfl rfl)
abbrev cX3_hands : ByteArray := prog_24_method_70_code
def yX3_hands : MethodName := ⟨RX3, "hands", "(III)I"⟩
def dkwX3_hands_1 : List UInt8 := [3, 21, 4, 29, 182, 1, 4, 28, 163, 0, 6, 21, 4, 172, 132, 4, 1, 167, 255, 230, 16, 252, 172]
abbrev dktX3_hands_1 : List UInt8 := dkwX3_hands_1 ++ []
def dkwX3_hands_0 : List UInt8 := [42, 27, 28, 29, 182, 1, 0, 154, 0, 5, 2, 172, 3, 54, 4, 21, 4, 16, 12, 162, 0, 25, 42, 27]
abbrev dktX3_hands_0 : List UInt8 := dkwX3_hands_0 ++ dktX3_hands_1
theorem dksX3_hands_0 : cX3_hands.data.toList.drop 0 = dktX3_hands_0 := by decide +kernel
theorem dksX3_hands_1 : cX3_hands.data.toList.drop 24 = dktX3_hands_1 := dk_seg dksX3_hands_0 24 rfl rfl
theorem dX3_hands_0 : decode cX3_hands 0 = .ok (.aload_n 0, 1) := dk_42 (dk_at dksX3_hands_0 0 rfl rfl)
theorem dX3_hands_1 : decode cX3_hands 1 = .ok (.iload_n 1, 1) := dk_27 (dk_at dksX3_hands_0 1 rfl rfl)
theorem dX3_hands_2 : decode cX3_hands 2 = .ok (.iload_n 2, 1) := dk_28 (dk_at dksX3_hands_0 2 rfl rfl)
theorem dX3_hands_3 : decode cX3_hands 3 = .ok (.iload_n 3, 1) := dk_29 (dk_at dksX3_hands_0 3 rfl rfl)
theorem dX3_hands_4 : decode cX3_hands 4 = .ok (.invokevirtual 256, 3) := dk_182 1 0 (dk_at dksX3_hands_0 4 rfl rfl)
theorem dX3_hands_7 : decode cX3_hands 7 = .ok (.ifCond .ne 5, 3) := dk_154 0 5 (dk_at dksX3_hands_0 7 rfl rfl)
theorem dX3_hands_10 : decode cX3_hands 10 = .ok (.iconst (-1), 1) := dk_2 (dk_at dksX3_hands_0 10 rfl rfl)
theorem dX3_hands_11 : decode cX3_hands 11 = .ok (.ireturn, 1) := dk_172 (dk_at dksX3_hands_0 11 rfl rfl)
theorem dX3_hands_12 : decode cX3_hands 12 = .ok (.iconst 0, 1) := dk_3 (dk_at dksX3_hands_0 12 rfl rfl)
theorem dX3_hands_13 : decode cX3_hands 13 = .ok (.istore 4, 2) := dk_54 4 (dk_at dksX3_hands_0 13 rfl rfl)
theorem dX3_hands_15 : decode cX3_hands 15 = .ok (.iload 4, 2) := dk_21 4 (dk_at dksX3_hands_0 15 rfl rfl)
theorem dX3_hands_17 : decode cX3_hands 17 = .ok (.bipush 12, 2) := dk_16 12 (dk_at dksX3_hands_0 17 rfl rfl)
theorem dX3_hands_19 : decode cX3_hands 19 = .ok (.if_icmp .ge 25, 3) := dk_162 0 25 (dk_at dksX3_hands_0 19 rfl rfl)
theorem dX3_hands_22 : decode cX3_hands 22 = .ok (.aload_n 0, 1) := dk_42 (dk_at dksX3_hands_0 22 rfl rfl)
theorem dX3_hands_23 : decode cX3_hands 23 = .ok (.iload_n 1, 1) := dk_27 (dk_at dksX3_hands_0 23 rfl rfl)
theorem dX3_hands_24 : decode cX3_hands 24 = .ok (.iconst 0, 1) := dk_3 (dk_at dksX3_hands_1 0 rfl rfl)
theorem dX3_hands_25 : decode cX3_hands 25 = .ok (.iload 4, 2) := dk_21 4 (dk_at dksX3_hands_1 1 rfl rfl)
theorem dX3_hands_27 : decode cX3_hands 27 = .ok (.iload_n 3, 1) := dk_29 (dk_at dksX3_hands_1 3 rfl rfl)
theorem dX3_hands_28 : decode cX3_hands 28 = .ok (.invokevirtual 260, 3) := dk_182 1 4 (dk_at dksX3_hands_1 4 rfl rfl)
theorem dX3_hands_31 : decode cX3_hands 31 = .ok (.iload_n 2, 1) := dk_28 (dk_at dksX3_hands_1 7 rfl rfl)
theorem dX3_hands_32 : decode cX3_hands 32 = .ok (.if_icmp .gt 6, 3) := dk_163 0 6 (dk_at dksX3_hands_1 8 rfl rfl)
theorem dX3_hands_35 : decode cX3_hands 35 = .ok (.iload 4, 2) := dk_21 4 (dk_at dksX3_hands_1 11 rfl rfl)
theorem dX3_hands_37 : decode cX3_hands 37 = .ok (.ireturn, 1) := dk_172 (dk_at dksX3_hands_1 13 rfl rfl)
theorem dX3_hands_38 : decode cX3_hands 38 = .ok (.iinc 4 1, 3) := dk_132 4 1 (dk_at dksX3_hands_1 14 rfl rfl)
theorem dX3_hands_41 : decode cX3_hands 41 = .ok (.goto (-26), 3) := dk_167 255 230 (dk_at dksX3_hands_1 17 rfl rfl)
theorem dX3_hands_44 : decode cX3_hands 44 = .ok (.bipush (-4), 2) := dk_16 252 (dk_at dksX3_hands_1 20 rfl rfl)
theorem dX3_hands_46 : decode cX3_hands 46 = .ok (.ireturn, 1) := dk_172 (dk_at dksX3_hands_1 22 rfl rfl)
abbrev cX3_both : ByteArray := prog_24_method_71_code
def yX3_both : MethodName := ⟨RX3, "both", "(IIII)I"⟩
def dkwX3_both_4 : List UInt8 := [167, 255, 199, 132, 5, 1, 167, 255, 183, 16, 252, 172]
abbrev dktX3_both_4 : List UInt8 := dkwX3_both_4 ++ []
def dkwX3_both_3 : List UInt8 := [182, 1, 4, 28, 163, 0, 16, 21, 4, 154, 0, 8, 21, 5, 167, 0, 5, 21, 6, 172, 132, 6, 1]
abbrev dktX3_both_3 : List UInt8 := dkwX3_both_3 ++ dktX3_both_4
def dkwX3_both_2 : List UInt8 := [163, 0, 49, 21, 5, 21, 6, 100, 16, 40, 163, 0, 33, 42, 27, 21, 5, 21, 6, 100, 21, 6, 29]
abbrev dktX3_both_2 : List UInt8 := dkwX3_both_2 ++ dktX3_both_3
def dkwX3_both_1 : List UInt8 := [54, 5, 21, 5, 16, 51, 163, 0, 72, 3, 54, 6, 21, 6, 16, 12, 162, 0, 56, 21, 6, 21, 5]
abbrev dktX3_both_1 : List UInt8 := dkwX3_both_1 ++ dktX3_both_2
def dkwX3_both_0 : List UInt8 := [42, 27, 28, 29, 182, 1, 0, 153, 0, 14, 21, 4, 133, 9, 10, 184, 0, 75, 154, 0, 5, 2, 172, 3]
abbrev dktX3_both_0 : List UInt8 := dkwX3_both_0 ++ dktX3_both_1
theorem dksX3_both_0 : cX3_both.data.toList.drop 0 = dktX3_both_0 := by decide +kernel
theorem dksX3_both_1 : cX3_both.data.toList.drop 24 = dktX3_both_1 := dk_seg dksX3_both_0 24 rfl rfl
theorem dksX3_both_2 : cX3_both.data.toList.drop 47 = dktX3_both_2 := dk_seg dksX3_both_1 23 rfl rfl
theorem dksX3_both_3 : cX3_both.data.toList.drop 70 = dktX3_both_3 := dk_seg dksX3_both_2 23 rfl rfl
theorem dksX3_both_4 : cX3_both.data.toList.drop 93 = dktX3_both_4 := dk_seg dksX3_both_3 23 rfl rfl
theorem dX3_both_0 : decode cX3_both 0 = .ok (.aload_n 0, 1) := dk_42 (dk_at dksX3_both_0 0 rfl rfl)
theorem dX3_both_1 : decode cX3_both 1 = .ok (.iload_n 1, 1) := dk_27 (dk_at dksX3_both_0 1 rfl rfl)
theorem dX3_both_2 : decode cX3_both 2 = .ok (.iload_n 2, 1) := dk_28 (dk_at dksX3_both_0 2 rfl rfl)
theorem dX3_both_3 : decode cX3_both 3 = .ok (.iload_n 3, 1) := dk_29 (dk_at dksX3_both_0 3 rfl rfl)
theorem dX3_both_4 : decode cX3_both 4 = .ok (.invokevirtual 256, 3) := dk_182 1 0 (dk_at dksX3_both_0 4 rfl rfl)
theorem dX3_both_7 : decode cX3_both 7 = .ok (.ifCond .eq 14, 3) := dk_153 0 14 (dk_at dksX3_both_0 7 rfl rfl)
theorem dX3_both_10 : decode cX3_both 10 = .ok (.iload 4, 2) := dk_21 4 (dk_at dksX3_both_0 10 rfl rfl)
theorem dX3_both_12 : decode cX3_both 12 = .ok (.i2l, 1) := dk_133 (dk_at dksX3_both_0 12 rfl rfl)
theorem dX3_both_13 : decode cX3_both 13 = .ok (.lconst 0, 1) := dk_9 (dk_at dksX3_both_0 13 rfl rfl)
theorem dX3_both_14 : decode cX3_both 14 = .ok (.lconst 1, 1) := dk_10 (dk_at dksX3_both_0 14 rfl rfl)
theorem dX3_both_15 : decode cX3_both 15 = .ok (.invokestatic 75, 3) := dk_184 0 75 (dk_at dksX3_both_0 15 rfl rfl)
theorem dX3_both_18 : decode cX3_both 18 = .ok (.ifCond .ne 5, 3) := dk_154 0 5 (dk_at dksX3_both_0 18 rfl rfl)
theorem dX3_both_21 : decode cX3_both 21 = .ok (.iconst (-1), 1) := dk_2 (dk_at dksX3_both_0 21 rfl rfl)
theorem dX3_both_22 : decode cX3_both 22 = .ok (.ireturn, 1) := dk_172 (dk_at dksX3_both_0 22 rfl rfl)
theorem dX3_both_23 : decode cX3_both 23 = .ok (.iconst 0, 1) := dk_3 (dk_at dksX3_both_0 23 rfl rfl)
theorem dX3_both_24 : decode cX3_both 24 = .ok (.istore 5, 2) := dk_54 5 (dk_at dksX3_both_1 0 rfl rfl)
theorem dX3_both_26 : decode cX3_both 26 = .ok (.iload 5, 2) := dk_21 5 (dk_at dksX3_both_1 2 rfl rfl)
theorem dX3_both_28 : decode cX3_both 28 = .ok (.bipush 51, 2) := dk_16 51 (dk_at dksX3_both_1 4 rfl rfl)
theorem dX3_both_30 : decode cX3_both 30 = .ok (.if_icmp .gt 72, 3) := dk_163 0 72 (dk_at dksX3_both_1 6 rfl rfl)
theorem dX3_both_33 : decode cX3_both 33 = .ok (.iconst 0, 1) := dk_3 (dk_at dksX3_both_1 9 rfl rfl)
theorem dX3_both_34 : decode cX3_both 34 = .ok (.istore 6, 2) := dk_54 6 (dk_at dksX3_both_1 10 rfl rfl)
theorem dX3_both_36 : decode cX3_both 36 = .ok (.iload 6, 2) := dk_21 6 (dk_at dksX3_both_1 12 rfl rfl)
theorem dX3_both_38 : decode cX3_both 38 = .ok (.bipush 12, 2) := dk_16 12 (dk_at dksX3_both_1 14 rfl rfl)
theorem dX3_both_40 : decode cX3_both 40 = .ok (.if_icmp .ge 56, 3) := dk_162 0 56 (dk_at dksX3_both_1 16 rfl rfl)
theorem dX3_both_43 : decode cX3_both 43 = .ok (.iload 6, 2) := dk_21 6 (dk_at dksX3_both_1 19 rfl rfl)
theorem dX3_both_45 : decode cX3_both 45 = .ok (.iload 5, 2) := dk_21 5 (dk_at dksX3_both_1 21 rfl rfl)
theorem dX3_both_47 : decode cX3_both 47 = .ok (.if_icmp .gt 49, 3) := dk_163 0 49 (dk_at dksX3_both_2 0 rfl rfl)
theorem dX3_both_50 : decode cX3_both 50 = .ok (.iload 5, 2) := dk_21 5 (dk_at dksX3_both_2 3 rfl rfl)
theorem dX3_both_52 : decode cX3_both 52 = .ok (.iload 6, 2) := dk_21 6 (dk_at dksX3_both_2 5 rfl rfl)
theorem dX3_both_54 : decode cX3_both 54 = .ok (.isub, 1) := dk_100 (dk_at dksX3_both_2 7 rfl rfl)
theorem dX3_both_55 : decode cX3_both 55 = .ok (.bipush 40, 2) := dk_16 40 (dk_at dksX3_both_2 8 rfl rfl)
theorem dX3_both_57 : decode cX3_both 57 = .ok (.if_icmp .gt 33, 3) := dk_163 0 33 (dk_at dksX3_both_2 10 rfl rfl)
theorem dX3_both_60 : decode cX3_both 60 = .ok (.aload_n 0, 1) := dk_42 (dk_at dksX3_both_2 13 rfl rfl)
theorem dX3_both_61 : decode cX3_both 61 = .ok (.iload_n 1, 1) := dk_27 (dk_at dksX3_both_2 14 rfl rfl)
theorem dX3_both_62 : decode cX3_both 62 = .ok (.iload 5, 2) := dk_21 5 (dk_at dksX3_both_2 15 rfl rfl)
theorem dX3_both_64 : decode cX3_both 64 = .ok (.iload 6, 2) := dk_21 6 (dk_at dksX3_both_2 17 rfl rfl)
theorem dX3_both_66 : decode cX3_both 66 = .ok (.isub, 1) := dk_100 (dk_at dksX3_both_2 19 rfl rfl)
theorem dX3_both_67 : decode cX3_both 67 = .ok (.iload 6, 2) := dk_21 6 (dk_at dksX3_both_2 20 rfl rfl)
theorem dX3_both_69 : decode cX3_both 69 = .ok (.iload_n 3, 1) := dk_29 (dk_at dksX3_both_2 22 rfl rfl)
theorem dX3_both_70 : decode cX3_both 70 = .ok (.invokevirtual 260, 3) := dk_182 1 4 (dk_at dksX3_both_3 0 rfl rfl)
theorem dX3_both_73 : decode cX3_both 73 = .ok (.iload_n 2, 1) := dk_28 (dk_at dksX3_both_3 3 rfl rfl)
theorem dX3_both_74 : decode cX3_both 74 = .ok (.if_icmp .gt 16, 3) := dk_163 0 16 (dk_at dksX3_both_3 4 rfl rfl)
theorem dX3_both_77 : decode cX3_both 77 = .ok (.iload 4, 2) := dk_21 4 (dk_at dksX3_both_3 7 rfl rfl)
theorem dX3_both_79 : decode cX3_both 79 = .ok (.ifCond .ne 8, 3) := dk_154 0 8 (dk_at dksX3_both_3 9 rfl rfl)
theorem dX3_both_82 : decode cX3_both 82 = .ok (.iload 5, 2) := dk_21 5 (dk_at dksX3_both_3 12 rfl rfl)
theorem dX3_both_84 : decode cX3_both 84 = .ok (.goto 5, 3) := dk_167 0 5 (dk_at dksX3_both_3 14 rfl rfl)
theorem dX3_both_87 : decode cX3_both 87 = .ok (.iload 6, 2) := dk_21 6 (dk_at dksX3_both_3 17 rfl rfl)
theorem dX3_both_89 : decode cX3_both 89 = .ok (.ireturn, 1) := dk_172 (dk_at dksX3_both_3 19 rfl rfl)
theorem dX3_both_90 : decode cX3_both 90 = .ok (.iinc 6 1, 3) := dk_132 6 1 (dk_at dksX3_both_3 20 rfl rfl)
theorem dX3_both_93 : decode cX3_both 93 = .ok (.goto (-57), 3) := dk_167 255 199 (dk_at dksX3_both_4 0 rfl rfl)
theorem dX3_both_96 : decode cX3_both 96 = .ok (.iinc 5 1, 3) := dk_132 5 1 (dk_at dksX3_both_4 3 rfl rfl)
theorem dX3_both_99 : decode cX3_both 99 = .ok (.goto (-73), 3) := dk_167 255 183 (dk_at dksX3_both_4 6 rfl rfl)
theorem dX3_both_102 : decode cX3_both 102 = .ok (.bipush (-4), 2) := dk_16 252 (dk_at dksX3_both_4 9 rfl rfl)
theorem dX3_both_104 : decode cX3_both 104 = .ok (.ireturn, 1) := dk_172 (dk_at dksX3_both_4 11 rfl rfl)
abbrev cX3_doesRest : ByteArray := prog_24_method_72_code
def yX3_doesRest : MethodName := ⟨RX3, "doesRest", "(I)Z"⟩
def dkwX3_doesRest_3 : List UInt8 := [167, 255, 191, 28, 172]
abbrev dktX3_doesRest_3 : List UInt8 := dkwX3_doesRest_3 ++ []
def dkwX3_doesRest_2 : List UInt8 := [104, 29, 96, 46, 42, 180, 0, 53, 27, 46, 161, 0, 7, 4, 167, 0, 4, 3, 61, 132, 3, 1]
abbrev dktX3_doesRest_2 : List UInt8 := dkwX3_doesRest_2 ++ dktX3_doesRest_3
def dkwX3_doesRest_1 : List UInt8 := [16, 12, 112, 96, 46, 42, 180, 0, 53, 27, 46, 163, 0, 30, 42, 180, 0, 53, 27, 16, 12, 108, 16, 12]
abbrev dktX3_doesRest_1 : List UInt8 := dkwX3_doesRest_1 ++ dktX3_doesRest_2
def dkwX3_doesRest_0 : List UInt8 := [4, 61, 3, 62, 29, 16, 12, 162, 0, 65, 28, 153, 0, 53, 42, 180, 0, 53, 16, 12, 29, 104, 27]
abbrev dktX3_doesRest_0 : List UInt8 := dkwX3_doesRest_0 ++ dktX3_doesRest_1
theorem dksX3_doesRest_0 : cX3_doesRest.data.toList.drop 0 = dktX3_doesRest_0 := by decide +kernel
theorem dksX3_doesRest_1 : cX3_doesRest.data.toList.drop 23 = dktX3_doesRest_1 := dk_seg dksX3_doesRest_0 23 rfl rfl
theorem dksX3_doesRest_2 : cX3_doesRest.data.toList.drop 47 = dktX3_doesRest_2 := dk_seg dksX3_doesRest_1 24 rfl rfl
theorem dksX3_doesRest_3 : cX3_doesRest.data.toList.drop 69 = dktX3_doesRest_3 := dk_seg dksX3_doesRest_2 22 rfl rfl
theorem dX3_doesRest_0 : decode cX3_doesRest 0 = .ok (.iconst 1, 1) := dk_4 (dk_at dksX3_doesRest_0 0 rfl rfl)
theorem dX3_doesRest_1 : decode cX3_doesRest 1 = .ok (.istore_n 2, 1) := dk_61 (dk_at dksX3_doesRest_0 1 rfl rfl)
theorem dX3_doesRest_2 : decode cX3_doesRest 2 = .ok (.iconst 0, 1) := dk_3 (dk_at dksX3_doesRest_0 2 rfl rfl)
theorem dX3_doesRest_3 : decode cX3_doesRest 3 = .ok (.istore_n 3, 1) := dk_62 (dk_at dksX3_doesRest_0 3 rfl rfl)
theorem dX3_doesRest_4 : decode cX3_doesRest 4 = .ok (.iload_n 3, 1) := dk_29 (dk_at dksX3_doesRest_0 4 rfl rfl)
theorem dX3_doesRest_5 : decode cX3_doesRest 5 = .ok (.bipush 12, 2) := dk_16 12 (dk_at dksX3_doesRest_0 5 rfl rfl)
theorem dX3_doesRest_7 : decode cX3_doesRest 7 = .ok (.if_icmp .ge 65, 3) := dk_162 0 65 (dk_at dksX3_doesRest_0 7 rfl rfl)
theorem dX3_doesRest_10 : decode cX3_doesRest 10 = .ok (.iload_n 2, 1) := dk_28 (dk_at dksX3_doesRest_0 10 rfl rfl)
theorem dX3_doesRest_11 : decode cX3_doesRest 11 = .ok (.ifCond .eq 53, 3) := dk_153 0 53 (dk_at dksX3_doesRest_0 11 rfl rfl)
theorem dX3_doesRest_14 : decode cX3_doesRest 14 = .ok (.aload_n 0, 1) := dk_42 (dk_at dksX3_doesRest_0 14 rfl rfl)
theorem dX3_doesRest_15 : decode cX3_doesRest 15 = .ok (.getfield 53, 3) := dk_180 0 53 (dk_at dksX3_doesRest_0 15 rfl rfl)
theorem dX3_doesRest_18 : decode cX3_doesRest 18 = .ok (.bipush 12, 2) := dk_16 12 (dk_at dksX3_doesRest_0 18 rfl rfl)
theorem dX3_doesRest_20 : decode cX3_doesRest 20 = .ok (.iload_n 3, 1) := dk_29 (dk_at dksX3_doesRest_0 20 rfl rfl)
theorem dX3_doesRest_21 : decode cX3_doesRest 21 = .ok (.imul, 1) := dk_104 (dk_at dksX3_doesRest_0 21 rfl rfl)
theorem dX3_doesRest_22 : decode cX3_doesRest 22 = .ok (.iload_n 1, 1) := dk_27 (dk_at dksX3_doesRest_0 22 rfl rfl)
theorem dX3_doesRest_23 : decode cX3_doesRest 23 = .ok (.bipush 12, 2) := dk_16 12 (dk_at dksX3_doesRest_1 0 rfl rfl)
theorem dX3_doesRest_25 : decode cX3_doesRest 25 = .ok (.irem, 1) := dk_112 (dk_at dksX3_doesRest_1 2 rfl rfl)
theorem dX3_doesRest_26 : decode cX3_doesRest 26 = .ok (.iadd, 1) := dk_96 (dk_at dksX3_doesRest_1 3 rfl rfl)
theorem dX3_doesRest_27 : decode cX3_doesRest 27 = .ok (.iaload, 1) := dk_46 (dk_at dksX3_doesRest_1 4 rfl rfl)
theorem dX3_doesRest_28 : decode cX3_doesRest 28 = .ok (.aload_n 0, 1) := dk_42 (dk_at dksX3_doesRest_1 5 rfl rfl)
theorem dX3_doesRest_29 : decode cX3_doesRest 29 = .ok (.getfield 53, 3) := dk_180 0 53 (dk_at dksX3_doesRest_1 6 rfl rfl)
theorem dX3_doesRest_32 : decode cX3_doesRest 32 = .ok (.iload_n 1, 1) := dk_27 (dk_at dksX3_doesRest_1 9 rfl rfl)
theorem dX3_doesRest_33 : decode cX3_doesRest 33 = .ok (.iaload, 1) := dk_46 (dk_at dksX3_doesRest_1 10 rfl rfl)
theorem dX3_doesRest_34 : decode cX3_doesRest 34 = .ok (.if_icmp .gt 30, 3) := dk_163 0 30 (dk_at dksX3_doesRest_1 11 rfl rfl)
theorem dX3_doesRest_37 : decode cX3_doesRest 37 = .ok (.aload_n 0, 1) := dk_42 (dk_at dksX3_doesRest_1 14 rfl rfl)
theorem dX3_doesRest_38 : decode cX3_doesRest 38 = .ok (.getfield 53, 3) := dk_180 0 53 (dk_at dksX3_doesRest_1 15 rfl rfl)
theorem dX3_doesRest_41 : decode cX3_doesRest 41 = .ok (.iload_n 1, 1) := dk_27 (dk_at dksX3_doesRest_1 18 rfl rfl)
theorem dX3_doesRest_42 : decode cX3_doesRest 42 = .ok (.bipush 12, 2) := dk_16 12 (dk_at dksX3_doesRest_1 19 rfl rfl)
theorem dX3_doesRest_44 : decode cX3_doesRest 44 = .ok (.idiv, 1) := dk_108 (dk_at dksX3_doesRest_1 21 rfl rfl)
theorem dX3_doesRest_45 : decode cX3_doesRest 45 = .ok (.bipush 12, 2) := dk_16 12 (dk_at dksX3_doesRest_1 22 rfl rfl)
theorem dX3_doesRest_47 : decode cX3_doesRest 47 = .ok (.imul, 1) := dk_104 (dk_at dksX3_doesRest_2 0 rfl rfl)
theorem dX3_doesRest_48 : decode cX3_doesRest 48 = .ok (.iload_n 3, 1) := dk_29 (dk_at dksX3_doesRest_2 1 rfl rfl)
theorem dX3_doesRest_49 : decode cX3_doesRest 49 = .ok (.iadd, 1) := dk_96 (dk_at dksX3_doesRest_2 2 rfl rfl)
theorem dX3_doesRest_50 : decode cX3_doesRest 50 = .ok (.iaload, 1) := dk_46 (dk_at dksX3_doesRest_2 3 rfl rfl)
theorem dX3_doesRest_51 : decode cX3_doesRest 51 = .ok (.aload_n 0, 1) := dk_42 (dk_at dksX3_doesRest_2 4 rfl rfl)
theorem dX3_doesRest_52 : decode cX3_doesRest 52 = .ok (.getfield 53, 3) := dk_180 0 53 (dk_at dksX3_doesRest_2 5 rfl rfl)
theorem dX3_doesRest_55 : decode cX3_doesRest 55 = .ok (.iload_n 1, 1) := dk_27 (dk_at dksX3_doesRest_2 8 rfl rfl)
theorem dX3_doesRest_56 : decode cX3_doesRest 56 = .ok (.iaload, 1) := dk_46 (dk_at dksX3_doesRest_2 9 rfl rfl)
theorem dX3_doesRest_57 : decode cX3_doesRest 57 = .ok (.if_icmp .lt 7, 3) := dk_161 0 7 (dk_at dksX3_doesRest_2 10 rfl rfl)
theorem dX3_doesRest_60 : decode cX3_doesRest 60 = .ok (.iconst 1, 1) := dk_4 (dk_at dksX3_doesRest_2 13 rfl rfl)
theorem dX3_doesRest_61 : decode cX3_doesRest 61 = .ok (.goto 4, 3) := dk_167 0 4 (dk_at dksX3_doesRest_2 14 rfl rfl)
theorem dX3_doesRest_64 : decode cX3_doesRest 64 = .ok (.iconst 0, 1) := dk_3 (dk_at dksX3_doesRest_2 17 rfl rfl)
theorem dX3_doesRest_65 : decode cX3_doesRest 65 = .ok (.istore_n 2, 1) := dk_61 (dk_at dksX3_doesRest_2 18 rfl rfl)
theorem dX3_doesRest_66 : decode cX3_doesRest 66 = .ok (.iinc 3 1, 3) := dk_132 3 1 (dk_at dksX3_doesRest_2 19 rfl rfl)
theorem dX3_doesRest_69 : decode cX3_doesRest 69 = .ok (.goto (-65), 3) := dk_167 255 191 (dk_at dksX3_doesRest_3 0 rfl rfl)
theorem dX3_doesRest_72 : decode cX3_doesRest 72 = .ok (.iload_n 2, 1) := dk_28 (dk_at dksX3_doesRest_3 3 rfl rfl)
theorem dX3_doesRest_73 : decode cX3_doesRest 73 = .ok (.ireturn, 1) := dk_172 (dk_at dksX3_doesRest_3 4 rfl rfl)
theorem q1699 : (Jvm.Cond.fieldLink "LameClocksModel" (50 : Nat) "LameClocksModel" "aside" "[I") ∈ lw_all := lw_g (lw_at lw_m7 190 rfl) rfl
theorem q1700 : (Jvm.Cond.fieldLink "LameClocksModel" (53 : Nat) "LameClocksModel" "duels" "[I") ∈ lw_all := lw_g (lw_at lw_m7 191 rfl) rfl
theorem q1968 : (Jvm.Cond.code ({ cls := "LameClocksModel", name := "count", desc := "(I)I" } : Jvm.MethodName) prog_24_method_43_code (2 : Nat) (Option.some Jvm.ClassFile.FieldType.int)) ∈ lw_all := lw_g (lw_at lw_m8 219 rfl) rfl
theorem q1969 : (Jvm.Cond.methodLink "LameClocksModel" (207 : Nat) ({ cls := "LameClocksModel", name := "homes", desc := "()I" } : Jvm.MethodName)) ∈ lw_all := lw_g (lw_at lw_m8 220 rfl) rfl
theorem q1971 : (Jvm.Cond.instanceMethod ({ cls := "LameClocksModel", name := "homes", desc := "()I" } : Jvm.MethodName)) ∈ lw_all := lw_g (lw_at lw_m8 222 rfl) rfl
theorem q1972 : (Jvm.Cond.code ({ cls := "LameClocksModel", name := "homes", desc := "()I" } : Jvm.MethodName) prog_24_method_41_code (3 : Nat) (Option.some Jvm.ClassFile.FieldType.int)) ∈ lw_all := lw_g (lw_at lw_m8 223 rfl) rfl
theorem q1973 : (Jvm.Cond.methodLink "LameClocksModel" (210 : Nat) ({ cls := "LameClocksModel", name := "tied", desc := "()I" } : Jvm.MethodName)) ∈ lw_all := lw_g (lw_at lw_m8 224 rfl) rfl
theorem q1975 : (Jvm.Cond.instanceMethod ({ cls := "LameClocksModel", name := "tied", desc := "()I" } : Jvm.MethodName)) ∈ lw_all := lw_g (lw_at lw_m8 226 rfl) rfl
theorem q1976 : (Jvm.Cond.code ({ cls := "LameClocksModel", name := "tied", desc := "()I" } : Jvm.MethodName) prog_24_method_42_code (4 : Nat) (Option.some Jvm.ClassFile.FieldType.int)) ∈ lw_all := lw_g (lw_at lw_m8 227 rfl) rfl
theorem q1980 : (Jvm.Cond.code ({ cls := "LameClocksModel", name := "heard", desc := "()I" } : Jvm.MethodName) prog_24_method_44_code (1 : Nat) (Option.some Jvm.ClassFile.FieldType.int)) ∈ lw_all := lw_g (lw_at lw_m8 231 rfl) rfl
theorem q1987 : (Jvm.Cond.code ({ cls := "LameClocksModel", name := "tune", desc := "(II)I" } : Jvm.MethodName) prog_24_method_55_code (4 : Nat) (Option.some Jvm.ClassFile.FieldType.int)) ∈ lw_all := lw_g (lw_at lw_m8 238 rfl) rfl
theorem q1992 : (Jvm.Cond.code ({ cls := "LameClocksModel", name := "undo", desc := "()I" } : Jvm.MethodName) prog_24_method_57_code (4 : Nat) (Option.some Jvm.ClassFile.FieldType.int)) ∈ lw_all := lw_g (lw_at lw_m9 3 rfl) rfl
theorem q1996 : (Jvm.Cond.code ({ cls := "LameClocksModel", name := "restart", desc := "()I" } : Jvm.MethodName) prog_24_method_58_code (2 : Nat) (Option.some Jvm.ClassFile.FieldType.int)) ∈ lw_all := lw_g (lw_at lw_m9 7 rfl) rfl
theorem q2000 : (Jvm.Cond.code ({ cls := "LameClocksModel", name := "behind", desc := "(III)I" } : Jvm.MethodName) prog_24_method_63_code (5 : Nat) (Option.some Jvm.ClassFile.FieldType.int)) ∈ lw_all := lw_g (lw_at lw_m9 11 rfl) rfl
theorem q2001 : (Jvm.Cond.methodLink "LameClocksModel" (242 : Nat) ({ cls := "LameClocksModel", name := "isLong", desc := "(I)Z" } : Jvm.MethodName)) ∈ lw_all := lw_g (lw_at lw_m9 12 rfl) rfl
theorem q2002 : (Jvm.Cond.static ({ cls := "LameClocksModel", name := "isLong", desc := "(I)Z" } : Jvm.MethodName)) ∈ lw_all := lw_g (lw_at lw_m9 13 rfl) rfl
theorem q2003 : (Jvm.Cond.code ({ cls := "LameClocksModel", name := "isLong", desc := "(I)Z" } : Jvm.MethodName) prog_24_method_62_code (1 : Nat) (Option.some Jvm.ClassFile.FieldType.boolean)) ∈ lw_all := lw_g (lw_at lw_m9 14 rfl) rfl
theorem q2004 : (Jvm.Cond.constantLong "LameClocksModel" (240 : Nat) (200 : Int64)) ∈ lw_all := lw_g (lw_at lw_m9 15 rfl) rfl
theorem q2005 : (Jvm.Cond.methodLink "LameClocksModel" (245 : Nat) ({ cls := "LameClocksModel", name := "keepAside", desc := "()V" } : Jvm.MethodName)) ∈ lw_all := lw_g (lw_at lw_m9 16 rfl) rfl
theorem q2007 : (Jvm.Cond.instanceMethod ({ cls := "LameClocksModel", name := "keepAside", desc := "()V" } : Jvm.MethodName)) ∈ lw_all := lw_g (lw_at lw_m9 18 rfl) rfl
theorem q2008 : (Jvm.Cond.code ({ cls := "LameClocksModel", name := "keepAside", desc := "()V" } : Jvm.MethodName) prog_24_method_59_code (2 : Nat) (Option.none : Option Jvm.ClassFile.FieldType)) ∈ lw_all := lw_g (lw_at lw_m9 19 rfl) rfl
theorem q2009 : (Jvm.Cond.methodLink "LameClocksModel" (248 : Nat) ({ cls := "LameClocksModel", name := "goHours", desc := "(I)V" } : Jvm.MethodName)) ∈ lw_all := lw_g (lw_at lw_m9 20 rfl) rfl
theorem q2011 : (Jvm.Cond.instanceMethod ({ cls := "LameClocksModel", name := "goHours", desc := "(I)V" } : Jvm.MethodName)) ∈ lw_all := lw_g (lw_at lw_m9 22 rfl) rfl
theorem q2012 : (Jvm.Cond.code ({ cls := "LameClocksModel", name := "goHours", desc := "(I)V" } : Jvm.MethodName) prog_24_method_61_code (3 : Nat) (Option.none : Option Jvm.ClassFile.FieldType)) ∈ lw_all := lw_g (lw_at lw_m9 23 rfl) rfl
theorem q2013 : (Jvm.Cond.methodLink "LameClocksModel" (251 : Nat) ({ cls := "LameClocksModel", name := "bringBack", desc := "()V" } : Jvm.MethodName)) ∈ lw_all := lw_g (lw_at lw_m9 24 rfl) rfl
theorem q2015 : (Jvm.Cond.instanceMethod ({ cls := "LameClocksModel", name := "bringBack", desc := "()V" } : Jvm.MethodName)) ∈ lw_all := lw_g (lw_at lw_m9 26 rfl) rfl
theorem q2016 : (Jvm.Cond.code ({ cls := "LameClocksModel", name := "bringBack", desc := "()V" } : Jvm.MethodName) prog_24_method_60_code (2 : Nat) (Option.none : Option Jvm.ClassFile.FieldType)) ∈ lw_all := lw_g (lw_at lw_m9 27 rfl) rfl
theorem q2020 : (Jvm.Cond.code ({ cls := "LameClocksModel", name := "leads", desc := "(I)I" } : Jvm.MethodName) prog_24_method_64_code (4 : Nat) (Option.some Jvm.ClassFile.FieldType.int)) ∈ lw_all := lw_g (lw_at lw_m9 31 rfl) rfl
theorem q2024 : (Jvm.Cond.code ({ cls := "LameClocksModel", name := "finish", desc := "(I)I" } : Jvm.MethodName) prog_24_method_65_code (3 : Nat) (Option.some Jvm.ClassFile.FieldType.int)) ∈ lw_all := lw_g (lw_at lw_m9 35 rfl) rfl
theorem q2028 : (Jvm.Cond.code ({ cls := "LameClocksModel", name := "over", desc := "()I" } : Jvm.MethodName) prog_24_method_66_code (3 : Nat) (Option.some Jvm.ClassFile.FieldType.int)) ∈ lw_all := lw_g (lw_at lw_m9 39 rfl) rfl
theorem q2032 : (Jvm.Cond.code ({ cls := "LameClocksModel", name := "turns", desc := "(III)I" } : Jvm.MethodName) prog_24_method_69_code (5 : Nat) (Option.some Jvm.ClassFile.FieldType.int)) ∈ lw_all := lw_g (lw_at lw_m9 43 rfl) rfl
theorem q2033 : (Jvm.Cond.methodLink "LameClocksModel" (256 : Nat) ({ cls := "LameClocksModel", name := "isAsked", desc := "(III)Z" } : Jvm.MethodName)) ∈ lw_all := lw_g (lw_at lw_m9 44 rfl) rfl
theorem q2035 : (Jvm.Cond.instanceMethod ({ cls := "LameClocksModel", name := "isAsked", desc := "(III)Z" } : Jvm.MethodName)) ∈ lw_all := lw_g (lw_at lw_m9 46 rfl) rfl
theorem q2036 : (Jvm.Cond.code ({ cls := "LameClocksModel", name := "isAsked", desc := "(III)Z" } : Jvm.MethodName) prog_24_method_68_code (4 : Nat) (Option.some Jvm.ClassFile.FieldType.boolean)) ∈ lw_all := lw_g (lw_at lw_m9 47 rfl) rfl
theorem q2037 : (Jvm.Cond.constantLong "LameClocksModel" (254 : Nat) (9 : Int64)) ∈ lw_all := lw_g (lw_at lw_m9 48 rfl) rfl
theorem q2038 : (Jvm.Cond.methodLink "LameClocksModel" (260 : Nat) ({ cls := "LameClocksModel", name := "placeWith", desc := "(IIII)I" } : Jvm.MethodName)) ∈ lw_all := lw_g (lw_at lw_m9 49 rfl) rfl
theorem q2040 : (Jvm.Cond.instanceMethod ({ cls := "LameClocksModel", name := "placeWith", desc := "(IIII)I" } : Jvm.MethodName)) ∈ lw_all := lw_g (lw_at lw_m9 51 rfl) rfl
theorem q2041 : (Jvm.Cond.code ({ cls := "LameClocksModel", name := "placeWith", desc := "(IIII)I" } : Jvm.MethodName) prog_24_method_67_code (6 : Nat) (Option.some Jvm.ClassFile.FieldType.int)) ∈ lw_all := lw_g (lw_at lw_m9 52 rfl) rfl
theorem q2045 : (Jvm.Cond.code ({ cls := "LameClocksModel", name := "hands", desc := "(III)I" } : Jvm.MethodName) prog_24_method_70_code (5 : Nat) (Option.some Jvm.ClassFile.FieldType.int)) ∈ lw_all := lw_g (lw_at lw_m9 56 rfl) rfl
theorem q2049 : (Jvm.Cond.code ({ cls := "LameClocksModel", name := "both", desc := "(IIII)I" } : Jvm.MethodName) prog_24_method_71_code (7 : Nat) (Option.some Jvm.ClassFile.FieldType.int)) ∈ lw_all := lw_g (lw_at lw_m9 60 rfl) rfl
theorem q2057 : (Jvm.Cond.code ({ cls := "LameClocksModel", name := "doesRest", desc := "(I)Z" } : Jvm.MethodName) prog_24_method_72_code (4 : Nat) (Option.some Jvm.ClassFile.FieldType.boolean)) ∈ lw_all := lw_g (lw_at lw_m9 68 rfl) rfl
theorem dmV_X3_homes : yX3_homes.cls = RX3 ∧ yX3_homes.cls ≠ "java/lang/invoke/MethodHandle" ∧ yX3_homes.cls ≠ "java/lang/invoke/VarHandle" ∧ (parseMethodDescriptor yX3_homes.desc).map (fun d => d.parameters.length) = some 0 := by decide +kernel
theorem dmV_X3_tied : yX3_tied.cls = RX3 ∧ yX3_tied.cls ≠ "java/lang/invoke/MethodHandle" ∧ yX3_tied.cls ≠ "java/lang/invoke/VarHandle" ∧ (parseMethodDescriptor yX3_tied.desc).map (fun d => d.parameters.length) = some 0 := by decide +kernel
theorem fo_X3_50 : g_fo RX3 50 [3] 19 := ⟨_, _, _, Or.inl q1699, fun ci h => by rcases List.mem_singleton.mp h with rfl; exact ⟨_, _, _, rfl, by decide, rfl, rfl, Or.inl rfl, in_X3⟩⟩
theorem dmS_X3_isLong : yX3_isLong.cls ≠ "java/lang/invoke/MethodHandle" ∧ yX3_isLong.cls ≠ "java/lang/invoke/VarHandle" ∧ (parseMethodDescriptor yX3_isLong.desc).map (fun d => d.parameters.length) = some 1 := by decide +kernel
theorem dmV_X3_keepAside : yX3_keepAside.cls = RX3 ∧ yX3_keepAside.cls ≠ "java/lang/invoke/MethodHandle" ∧ yX3_keepAside.cls ≠ "java/lang/invoke/VarHandle" ∧ (parseMethodDescriptor yX3_keepAside.desc).map (fun d => d.parameters.length) = some 0 := by decide +kernel
theorem dmV_X3_goHours : yX3_goHours.cls = RX3 ∧ yX3_goHours.cls ≠ "java/lang/invoke/MethodHandle" ∧ yX3_goHours.cls ≠ "java/lang/invoke/VarHandle" ∧ (parseMethodDescriptor yX3_goHours.desc).map (fun d => d.parameters.length) = some 1 := by decide +kernel
theorem dmV_X3_bringBack : yX3_bringBack.cls = RX3 ∧ yX3_bringBack.cls ≠ "java/lang/invoke/MethodHandle" ∧ yX3_bringBack.cls ≠ "java/lang/invoke/VarHandle" ∧ (parseMethodDescriptor yX3_bringBack.desc).map (fun d => d.parameters.length) = some 0 := by decide +kernel
theorem dmV_X3_placeWith : yX3_placeWith.cls = RX3 ∧ yX3_placeWith.cls ≠ "java/lang/invoke/MethodHandle" ∧ yX3_placeWith.cls ≠ "java/lang/invoke/VarHandle" ∧ (parseMethodDescriptor yX3_placeWith.desc).map (fun d => d.parameters.length) = some 4 := by decide +kernel
theorem dmV_X3_isAsked : yX3_isAsked.cls = RX3 ∧ yX3_isAsked.cls ≠ "java/lang/invoke/MethodHandle" ∧ yX3_isAsked.cls ≠ "java/lang/invoke/VarHandle" ∧ (parseMethodDescriptor yX3_isAsked.desc).map (fun d => d.parameters.length) = some 3 := by decide +kernel
theorem fo_X3_53 : g_fo RX3 53 [3] 20 := ⟨_, _, _, Or.inl q1700, fun ci h => by rcases List.mem_singleton.mp h with rfl; exact ⟨_, _, _, rfl, by decide, rfl, rfl, Or.inl rfl, in_X3⟩⟩
section MP
variable {Γ : Gc} {p : Program} {l : Launch} {e : Env} {s : State} {m : MethodId} {args : Array Value} {below : List Frame} {meth : Method} {c : Code} {mo : Nat} {ρ : Sg} {sz : Nat} {tF : MS}
def fX3_homes_26 (kc4 : Int32 → Int32 → MS → Option (Int32 × MS)) (x2 : Int32) (s0 : Int32) (s1 : Int32) (t : MS) : Option (Int32 × MS) := lt (s1 + s0) fun y1 => kc4 y1 (x2 + 1) t
set_option maxHeartbeats 4000000 in
theorem wX3_homes_26 {rF : Int32} (X : g_X Γ p s m args meth c cX3_homes 3 RX3) (hr : meth.sig.returnType = (Option.some Jvm.ClassFile.FieldType.int)) {kc4 : Int32 → Int32 → MS → Option (Int32 × MS)} (hk4 : ∀ (x1 : Int32) (x2 : Int32) (t : MS), Wf Γ p l e 1 21 s m args below meth c 3 (m_ι mo ρ sz) v_i rF tF 4 [(0, .ref mo), (1, .int x1), (2, .int x2)] [] t (kc4 x1 x2 t)) (x2 : Int32) (s0 : Int32) (s1 : Int32) (t : MS) : Wf Γ p l e 1 21 s m args below meth c 3 (m_ι mo ρ sz) v_i rF tF 26 [(0, .ref mo), (2, .int x2)] [.int s0, .int s1] t (fX3_homes_26 kc4 x2 s0 s1 t) := by
  unfold fX3_homes_26
  refine g_iadd (pc := 26) X dX3_homes_26 ?_
  refine g_lti (pc := 27) (fun y1 => ?_)
  refine g_istore_n (pc := 27) X (lv' := [(1, .int y1), (0, .ref mo), (2, .int x2)]) dX3_homes_27 rfl (by decide) rfl ?_
  refine g_iinc (pc := 28) X 1 2 (lv' := [(2, .int (x2 + 1)), (1, .int y1), (0, .ref mo)]) dX3_homes_28 rfl rfl (by decide) rfl ?_
  refine g_goto (pc := 31) X 4 dX3_homes_31 (by decide) ?_
  exact g_lv (pc := 4) (lv' := [(0, .ref mo), (1, .int y1), (2, .int (x2 + 1))]) [2, 1, 0] rfl (hk4 y1 (x2 + 1) t)
def fX3_homes_4 : Nat → Int32 → Int32 → MS → Option (Int32 × MS)
  | 0, _, _, _ => none
  | n + 1, x1, x2, t => if t.1 3 ≤ x2 then some (x1, t) else gm (fX3_isHome x2 t) fun r1 t2 => if r1 = 0 then fX3_homes_26 (fun a0 a1 a2 => fX3_homes_4 n a0 a1 a2) x2 0 x1 t2 else fX3_homes_26 (fun a0 a1 a2 => fX3_homes_4 n a0 a1 a2) x2 1 x1 t2
set_option maxHeartbeats 4000000 in
theorem wX3_homes_4 {rF : Int32} (X : g_X Γ p s m args meth c cX3_homes 3 RX3) (hr : meth.sig.returnType = (Option.some Jvm.ClassFile.FieldType.int)) (n : Nat) : ∀ (x1 : Int32) (x2 : Int32) (t : MS), Wf Γ p l e 1 21 s m args below meth c 3 (m_ι mo ρ sz) v_i rF tF 4 [(0, .ref mo), (1, .int x1), (2, .int x2)] [] t (fX3_homes_4 n x1 x2 t) := by
  induction n with
  | zero => intro x1 x2 t; exact g_none
  | succ n ih =>
    intro x1 x2 t
    rw [fX3_homes_4]
    refine g_iload_n (pc := 4) X 2 dX3_homes_4 rfl rfl ?_
    refine g_aload_n (pc := 5) X 0 dX3_homes_5 rfl rfl ?_
    refine mg_get (pc := 6) X fo_X3_72 dX3_homes_6 rfl ?_
    refine g_icmp_ge (pc := 9) X 34 dX3_homes_9 (by decide) ?_ ?_
    · refine g_iload_n (pc := 34) X 1 dX3_homes_34 rfl rfl ?_
      exact g_iret (pc := 35) X hr dX3_homes_35
    · refine g_iload_n (pc := 12) X 1 dX3_homes_12 rfl rfl ?_
      refine g_aload_n (pc := 13) X 0 dX3_homes_13 rfl rfl ?_
      refine g_iload_n (pc := 14) X 2 dX3_homes_14 rfl rfl ?_
      refine g_mV_i (pc := 15) X (C := RX3) (y := yX3_isHome) (As := [.int x2]) (rest := [.int x1]) (fr' := 0) (lo' := 0) (fun _ => cwV 1 X.2.2.2.2.1 (lw_V q1938 q1940 qs52 q76 q1941) rfl rfl rfl dmV_X3_isHome ⟨Nat.le_of_ble_eq_true rfl, Nat.le_of_ble_eq_true rfl⟩) dX3_homes_15 MC_o ⟨_, _, rfl⟩ rfl rfl (Nat.le_of_ble_eq_true rfl) (fun _ => rfl) (fun r u h => kX3_isHome h) (fun r1 t2 => ?_)
      refine g_if_eq (pc := 18) X 25 dX3_homes_18 (by decide) ?_ ?_
      · refine g_iconst (pc := 25) X 0 dX3_homes_25 rfl ?_
        exact g_lv (pc := 26) (lv' := [(0, .ref mo), (2, .int x2)]) [0, 2] rfl (wX3_homes_26 X hr (fun a0 a1 a2 => ih a0 a1 a2) x2 0 x1 t2)
      · refine g_iconst (pc := 21) X 1 dX3_homes_21 rfl ?_
        refine g_goto (pc := 22) X 26 dX3_homes_22 (by decide) ?_
        exact g_lv (pc := 26) (lv' := [(0, .ref mo), (2, .int x2)]) [0, 2] rfl (wX3_homes_26 X hr (fun a0 a1 a2 => ih a0 a1 a2) x2 1 x1 t2)
def fX3_homes (t : MS) : Option (Int32 × MS) := fX3_homes_4 1000 0 0 t
set_option maxHeartbeats 4000000 in
theorem wX3_homes {rF : Int32} (X : g_X Γ p s m args meth c cX3_homes 3 RX3) (hr : meth.sig.returnType = (Option.some Jvm.ClassFile.FieldType.int)) (t : MS) : Wf Γ p l e 1 21 s m args below meth c 3 (m_ι mo ρ sz) v_i rF tF 0 [(0, .ref mo)] [] t (fX3_homes  t) := by
  unfold fX3_homes
  refine g_iconst (pc := 0) X 0 dX3_homes_0 rfl ?_
  refine g_istore_n (pc := 1) X (lv' := [(1, .int 0), (0, .ref mo)]) dX3_homes_1 rfl (by decide) rfl ?_
  refine g_iconst (pc := 2) X 0 dX3_homes_2 rfl ?_
  refine g_istore_n (pc := 3) X (lv' := [(2, .int 0), (1, .int 0), (0, .ref mo)]) dX3_homes_3 rfl (by decide) rfl ?_
  exact g_lv (pc := 4) (lv' := [(0, .ref mo), (1, .int 0), (2, .int 0)]) [2, 1, 0] rfl (wX3_homes_4 X hr 1000 0 0 t)
theorem kX3_homes {mo : Nat} {ρ : Sg} {sz : Nat} {t : MS} {r : Int32} {u : MS} (h : fX3_homes  t = some (r, u)) : g_C Γ l yX3_homes cX3_homes 3 (Option.some Jvm.ClassFile.FieldType.int) 1 21 [.ref mo] (MC mo t ρ) sz v_i r (m_ι mo ρ sz u) :=
  g_met [.ref mo] (by decide) (Nat.le_of_ble_eq_true rfl) h rfl (fun p e s m args below meth c X hr hn => wX3_homes X hr  t)
def fX3_tied_43 (kc4 : Int32 → Int32 → MS → Option (Int32 × MS)) (kc14 : Int32 → Int32 → Int32 → MS → Option (Int32 × MS)) (x2 : Int32) (x3 : Int32) (s0 : Int32) (s1 : Int32) (t : MS) : Option (Int32 × MS) := lt (s1 + s0) fun y1 => kc14 y1 x2 (x3 + 1) t
set_option maxHeartbeats 4000000 in
theorem wX3_tied_43 {rF : Int32} (X : g_X Γ p s m args meth c cX3_tied 4 RX3) (hr : meth.sig.returnType = (Option.some Jvm.ClassFile.FieldType.int)) {kc4 : Int32 → Int32 → MS → Option (Int32 × MS)} (hk4 : ∀ (x1 : Int32) (x2 : Int32) (t : MS), Wf Γ p l e 2 43 s m args below meth c 4 (m_ι mo ρ sz) v_i rF tF 4 [(0, .ref mo), (1, .int x1), (2, .int x2)] [] t (kc4 x1 x2 t)) {kc14 : Int32 → Int32 → Int32 → MS → Option (Int32 × MS)} (hk14 : ∀ (x1 : Int32) (x2 : Int32) (x3 : Int32) (t : MS), Wf Γ p l e 2 43 s m args below meth c 4 (m_ι mo ρ sz) v_i rF tF 14 [(0, .ref mo), (1, .int x1), (2, .int x2), (3, .int x3)] [] t (kc14 x1 x2 x3 t)) (x2 : Int32) (x3 : Int32) (s0 : Int32) (s1 : Int32) (t : MS) : Wf Γ p l e 2 43 s m args below meth c 4 (m_ι mo ρ sz) v_i rF tF 43 [(0, .ref mo), (2, .int x2), (3, .int x3)] [.int s0, .int s1] t (fX3_tied_43 kc4 kc14 x2 x3 s0 s1 t) := by
  unfold fX3_tied_43
  refine g_iadd (pc := 43) X dX3_tied_43 ?_
  refine g_lti (pc := 44) (fun y1 => ?_)
  refine g_istore_n (pc := 44) X (lv' := [(1, .int y1), (0, .ref mo), (2, .int x2), (3, .int x3)]) dX3_tied_44 rfl (by decide) rfl ?_
  refine g_iinc (pc := 45) X 1 3 (lv' := [(3, .int (x3 + 1)), (1, .int y1), (0, .ref mo), (2, .int x2)]) dX3_tied_45 rfl rfl (by decide) rfl ?_
  refine g_goto (pc := 48) X 14 dX3_tied_48 (by decide) ?_
  exact g_lv (pc := 14) (lv' := [(0, .ref mo), (1, .int y1), (2, .int x2), (3, .int (x3 + 1))]) [2, 1, 3, 0] rfl (hk14 y1 x2 (x3 + 1) t)
def fX3_tied_42 (kc4 : Int32 → Int32 → MS → Option (Int32 × MS)) (kc14 : Int32 → Int32 → Int32 → MS → Option (Int32 × MS)) (x2 : Int32) (x3 : Int32) (s0 : Int32) (t : MS) : Option (Int32 × MS) := fX3_tied_43 kc4 kc14 x2 x3 0 s0 t
set_option maxHeartbeats 4000000 in
theorem wX3_tied_42 {rF : Int32} (X : g_X Γ p s m args meth c cX3_tied 4 RX3) (hr : meth.sig.returnType = (Option.some Jvm.ClassFile.FieldType.int)) {kc4 : Int32 → Int32 → MS → Option (Int32 × MS)} (hk4 : ∀ (x1 : Int32) (x2 : Int32) (t : MS), Wf Γ p l e 2 43 s m args below meth c 4 (m_ι mo ρ sz) v_i rF tF 4 [(0, .ref mo), (1, .int x1), (2, .int x2)] [] t (kc4 x1 x2 t)) {kc14 : Int32 → Int32 → Int32 → MS → Option (Int32 × MS)} (hk14 : ∀ (x1 : Int32) (x2 : Int32) (x3 : Int32) (t : MS), Wf Γ p l e 2 43 s m args below meth c 4 (m_ι mo ρ sz) v_i rF tF 14 [(0, .ref mo), (1, .int x1), (2, .int x2), (3, .int x3)] [] t (kc14 x1 x2 x3 t)) (x2 : Int32) (x3 : Int32) (s0 : Int32) (t : MS) : Wf Γ p l e 2 43 s m args below meth c 4 (m_ι mo ρ sz) v_i rF tF 42 [(0, .ref mo), (2, .int x2), (3, .int x3)] [.int s0] t (fX3_tied_42 kc4 kc14 x2 x3 s0 t) := by
  unfold fX3_tied_42
  refine g_iconst (pc := 42) X 0 dX3_tied_42 rfl ?_
  exact g_lv (pc := 43) (lv' := [(0, .ref mo), (2, .int x2), (3, .int x3)]) [0, 1, 2] rfl (wX3_tied_43 X hr hk4 hk14 x2 x3 0 s0 t)
def fX3_tied_14 (kc4 : Int32 → Int32 → MS → Option (Int32 × MS)) : Nat → Int32 → Int32 → Int32 → MS → Option (Int32 × MS)
  | 0, _, _, _, _ => none
  | n + 1, x1, x2, x3, t => if x2 ≤ x3 then kc4 x1 (x2 + 1) t else gm (fX3_isAhead x2 x3 t) fun r1 t2 => if r1 = 0 then gm (fX3_isAhead x3 x2 t2) fun r3 t4 => if r3 = 0 then fX3_tied_43 kc4 (fun a0 a1 a2 a3 => fX3_tied_14 kc4 n a0 a1 a2 a3) x2 x3 1 x1 t4 else fX3_tied_42 kc4 (fun a0 a1 a2 a3 => fX3_tied_14 kc4 n a0 a1 a2 a3) x2 x3 x1 t4 else fX3_tied_42 kc4 (fun a0 a1 a2 a3 => fX3_tied_14 kc4 n a0 a1 a2 a3) x2 x3 x1 t2
set_option maxHeartbeats 4000000 in
theorem wX3_tied_14 {rF : Int32} (X : g_X Γ p s m args meth c cX3_tied 4 RX3) (hr : meth.sig.returnType = (Option.some Jvm.ClassFile.FieldType.int)) {kc4 : Int32 → Int32 → MS → Option (Int32 × MS)} (hk4 : ∀ (x1 : Int32) (x2 : Int32) (t : MS), Wf Γ p l e 2 43 s m args below meth c 4 (m_ι mo ρ sz) v_i rF tF 4 [(0, .ref mo), (1, .int x1), (2, .int x2)] [] t (kc4 x1 x2 t)) (n : Nat) : ∀ (x1 : Int32) (x2 : Int32) (x3 : Int32) (t : MS), Wf Γ p l e 2 43 s m args below meth c 4 (m_ι mo ρ sz) v_i rF tF 14 [(0, .ref mo), (1, .int x1), (2, .int x2), (3, .int x3)] [] t (fX3_tied_14 kc4 n x1 x2 x3 t) := by
  induction n with
  | zero => intro x1 x2 x3 t; exact g_none
  | succ n ih =>
    intro x1 x2 x3 t
    rw [fX3_tied_14]
    refine g_iload_n (pc := 14) X 3 dX3_tied_14 rfl rfl ?_
    refine g_iload_n (pc := 15) X 2 dX3_tied_15 rfl rfl ?_
    refine g_icmp_ge (pc := 16) X 51 dX3_tied_16 (by decide) ?_ ?_
    · refine g_iinc (pc := 51) X 1 2 (lv' := [(2, .int (x2 + 1)), (0, .ref mo), (1, .int x1), (3, .int x3)]) dX3_tied_51 rfl rfl (by decide) rfl ?_
      refine g_goto (pc := 54) X 4 dX3_tied_54 (by decide) ?_
      exact g_lv (pc := 4) (lv' := [(0, .ref mo), (1, .int x1), (2, .int (x2 + 1))]) [1, 2, 0] rfl (hk4 x1 (x2 + 1) t)
    · refine g_iload_n (pc := 19) X 1 dX3_tied_19 rfl rfl ?_
      refine g_aload_n (pc := 20) X 0 dX3_tied_20 rfl rfl ?_
      refine g_iload_n (pc := 21) X 2 dX3_tied_21 rfl rfl ?_
      refine g_iload_n (pc := 22) X 3 dX3_tied_22 rfl rfl ?_
      refine g_mV_i (pc := 23) X (C := RX3) (y := yX3_isAhead) (As := [.int x2, .int x3]) (rest := [.int x1]) (fr' := 1) (lo' := 21) (fun _ => cwV 2 X.2.2.2.2.1 (lw_V q1961 q1963 qs56 q76 q1964) rfl rfl rfl dmV_X3_isAhead ⟨Nat.le_of_ble_eq_true rfl, Nat.le_of_ble_eq_true rfl⟩) dX3_tied_23 MC_o ⟨_, _, rfl⟩ rfl rfl (Nat.le_of_ble_eq_true rfl) (fun _ => rfl) (fun r u h => kX3_isAhead h) (fun r1 t2 => ?_)
      refine g_if_ne (pc := 26) X 42 dX3_tied_26 (by decide) ?_ ?_
      · exact g_lv (pc := 42) (lv' := [(0, .ref mo), (2, .int x2), (3, .int x3)]) [0, 2, 3] rfl (wX3_tied_42 X hr hk4 (fun a0 a1 a2 a3 => ih a0 a1 a2 a3) x2 x3 x1 t2)
      · refine g_aload_n (pc := 29) X 0 dX3_tied_29 rfl rfl ?_
        refine g_iload_n (pc := 30) X 3 dX3_tied_30 rfl rfl ?_
        refine g_iload_n (pc := 31) X 2 dX3_tied_31 rfl rfl ?_
        refine g_mV_i (pc := 32) X (C := RX3) (y := yX3_isAhead) (As := [.int x3, .int x2]) (rest := [.int x1]) (fr' := 1) (lo' := 21) (fun _ => cwV 2 X.2.2.2.2.1 (lw_V q1961 q1963 qs56 q76 q1964) rfl rfl rfl dmV_X3_isAhead ⟨Nat.le_of_ble_eq_true rfl, Nat.le_of_ble_eq_true rfl⟩) dX3_tied_32 MC_o ⟨_, _, rfl⟩ rfl rfl (Nat.le_of_ble_eq_true rfl) (fun _ => rfl) (fun r u h => kX3_isAhead h) (fun r3 t4 => ?_)
        refine g_if_ne (pc := 35) X 42 dX3_tied_35 (by decide) ?_ ?_
        · exact g_lv (pc := 42) (lv' := [(0, .ref mo), (2, .int x2), (3, .int x3)]) [0, 2, 3] rfl (wX3_tied_42 X hr hk4 (fun a0 a1 a2 a3 => ih a0 a1 a2 a3) x2 x3 x1 t4)
        · refine g_iconst (pc := 38) X 1 dX3_tied_38 rfl ?_
          refine g_goto (pc := 39) X 43 dX3_tied_39 (by decide) ?_
          exact g_lv (pc := 43) (lv' := [(0, .ref mo), (2, .int x2), (3, .int x3)]) [0, 2, 3] rfl (wX3_tied_43 X hr hk4 (fun a0 a1 a2 a3 => ih a0 a1 a2 a3) x2 x3 1 x1 t4)
def fX3_tied_4 : Nat → Int32 → Int32 → MS → Option (Int32 × MS)
  | 0, _, _, _ => none
  | n + 1, x1, x2, t => if t.1 3 ≤ x2 then some (x1, t) else fX3_tied_14 (fun a0 a1 a2 => fX3_tied_4 n a0 a1 a2) 1000 x1 x2 0 t
set_option maxHeartbeats 4000000 in
theorem wX3_tied_4 {rF : Int32} (X : g_X Γ p s m args meth c cX3_tied 4 RX3) (hr : meth.sig.returnType = (Option.some Jvm.ClassFile.FieldType.int)) (n : Nat) : ∀ (x1 : Int32) (x2 : Int32) (t : MS), Wf Γ p l e 2 43 s m args below meth c 4 (m_ι mo ρ sz) v_i rF tF 4 [(0, .ref mo), (1, .int x1), (2, .int x2)] [] t (fX3_tied_4 n x1 x2 t) := by
  induction n with
  | zero => intro x1 x2 t; exact g_none
  | succ n ih =>
    intro x1 x2 t
    rw [fX3_tied_4]
    refine g_iload_n (pc := 4) X 2 dX3_tied_4 rfl rfl ?_
    refine g_aload_n (pc := 5) X 0 dX3_tied_5 rfl rfl ?_
    refine mg_get (pc := 6) X fo_X3_72 dX3_tied_6 rfl ?_
    refine g_icmp_ge (pc := 9) X 57 dX3_tied_9 (by decide) ?_ ?_
    · refine g_iload_n (pc := 57) X 1 dX3_tied_57 rfl rfl ?_
      exact g_iret (pc := 58) X hr dX3_tied_58
    · refine g_iconst (pc := 12) X 0 dX3_tied_12 rfl ?_
      refine g_istore_n (pc := 13) X (lv' := [(3, .int 0), (0, .ref mo), (1, .int x1), (2, .int x2)]) dX3_tied_13 rfl (by decide) rfl ?_
      exact g_lv (pc := 14) (lv' := [(0, .ref mo), (1, .int x1), (2, .int x2), (3, .int 0)]) [1, 2, 3, 0] rfl (wX3_tied_14 X hr (fun a0 a1 a2 => ih a0 a1 a2) 1000 x1 x2 0 t)
def fX3_tied (t : MS) : Option (Int32 × MS) := fX3_tied_4 1000 0 0 t
set_option maxHeartbeats 4000000 in
theorem wX3_tied {rF : Int32} (X : g_X Γ p s m args meth c cX3_tied 4 RX3) (hr : meth.sig.returnType = (Option.some Jvm.ClassFile.FieldType.int)) (t : MS) : Wf Γ p l e 2 43 s m args below meth c 4 (m_ι mo ρ sz) v_i rF tF 0 [(0, .ref mo)] [] t (fX3_tied  t) := by
  unfold fX3_tied
  refine g_iconst (pc := 0) X 0 dX3_tied_0 rfl ?_
  refine g_istore_n (pc := 1) X (lv' := [(1, .int 0), (0, .ref mo)]) dX3_tied_1 rfl (by decide) rfl ?_
  refine g_iconst (pc := 2) X 0 dX3_tied_2 rfl ?_
  refine g_istore_n (pc := 3) X (lv' := [(2, .int 0), (1, .int 0), (0, .ref mo)]) dX3_tied_3 rfl (by decide) rfl ?_
  exact g_lv (pc := 4) (lv' := [(0, .ref mo), (1, .int 0), (2, .int 0)]) [2, 1, 0] rfl (wX3_tied_4 X hr 1000 0 0 t)
theorem kX3_tied {mo : Nat} {ρ : Sg} {sz : Nat} {t : MS} {r : Int32} {u : MS} (h : fX3_tied  t = some (r, u)) : g_C Γ l yX3_tied cX3_tied 4 (Option.some Jvm.ClassFile.FieldType.int) 2 43 [.ref mo] (MC mo t ρ) sz v_i r (m_ι mo ρ sz u) :=
  g_met [.ref mo] (by decide) (Nat.le_of_ble_eq_true rfl) h rfl (fun p e s m args below meth c X hr hn => wX3_tied X hr  t)
def fX3_count (x1 : Int32) (t : MS) : Option (Int32 × MS) := if x1 = 0 then some (t.1 4, t) else if x1 = 1 then some (t.1 3, t) else if x1 = 2 then mald t 0 63 60 fun v4 => some (v4, t) else if x1 = 3 then gm (fX3_homes t) fun r6 t7 => some (r6, t7) else if x1 = 4 then mald t 0 63 62 fun v9 => some (v9, t) else if x1 = 5 then some (t.1 10, t) else if x1 = 6 then some (t.1 12, t) else if x1 = 7 then gm (fX3_tied t) fun r13 t14 => some (r13, t14) else some ((-1), t)
set_option maxHeartbeats 4000000 in
theorem wX3_count {rF : Int32} (X : g_X Γ p s m args meth c cX3_count 2 RX3) (hr : meth.sig.returnType = (Option.some Jvm.ClassFile.FieldType.int)) (x1 : Int32) (t : MS) : Wf Γ p l e 3 66 s m args below meth c 2 (m_ι mo ρ sz) v_i rF tF 0 [(0, .ref mo), (1, .int x1)] [] t (fX3_count x1 t) := by
  unfold fX3_count
  refine g_iload_n (pc := 0) X 1 dX3_count_0 rfl rfl ?_
  refine g_by (pc := 1) (fun hc1 => ?_) (fun hc1 => ?_)
  · refine g_tswI (pc := 1) X 0 48 dX3_count_1 hc1 (by decide) (by decide) rfl (by decide) ?_
    refine g_aload_n (pc := 48) X 0 dX3_count_48 rfl rfl ?_
    refine mg_get (pc := 49) X fo_X3_19 dX3_count_49 rfl ?_
    exact g_iret (pc := 52) X hr dX3_count_52
  refine g_by (pc := 1) (fun hc2 => ?_) (fun hc2 => ?_)
  · refine g_tswI (pc := 1) X 1 53 dX3_count_1 hc2 (by decide) (by decide) rfl (by decide) ?_
    refine g_aload_n (pc := 53) X 0 dX3_count_53 rfl rfl ?_
    refine mg_get (pc := 54) X fo_X3_72 dX3_count_54 rfl ?_
    exact g_iret (pc := 57) X hr dX3_count_57
  refine g_by (pc := 1) (fun hc3 => ?_) (fun hc3 => ?_)
  · refine g_tswI (pc := 1) X 2 58 dX3_count_1 hc3 (by decide) (by decide) rfl (by decide) ?_
    refine g_aload_n (pc := 58) X 0 dX3_count_58 rfl rfl ?_
    refine mg_get (pc := 59) X fo_X3_7 dX3_count_59 rfl ?_
    refine g_bipush (pc := 62) X 60 dX3_count_62 rfl ?_
    refine mg_ald (pc := 64) X (j := 0) dX3_count_64 (by decide) rfl (fun v4 => ?_)
    exact g_iret (pc := 65) X hr dX3_count_65
  refine g_by (pc := 1) (fun hc5 => ?_) (fun hc5 => ?_)
  · refine g_tswI (pc := 1) X 3 66 dX3_count_1 hc5 (by decide) (by decide) rfl (by decide) ?_
    refine g_aload_n (pc := 66) X 0 dX3_count_66 rfl rfl ?_
    refine g_mV_i (pc := 67) X (C := RX3) (y := yX3_homes) (As := []) (rest := []) (fr' := 1) (lo' := 21) (fun _ => cwV 0 X.2.2.2.2.1 (lw_V q1969 q1971 qs57 q76 q1972) rfl rfl rfl dmV_X3_homes ⟨Nat.le_of_ble_eq_true rfl, Nat.le_of_ble_eq_true rfl⟩) dX3_count_67 MC_o ⟨_, _, rfl⟩ rfl rfl (Nat.le_of_ble_eq_true rfl) (fun _ => rfl) (fun r u h => kX3_homes h) (fun r6 t7 => ?_)
    exact g_iret (pc := 70) X hr dX3_count_70
  refine g_by (pc := 1) (fun hc8 => ?_) (fun hc8 => ?_)
  · refine g_tswI (pc := 1) X 4 71 dX3_count_1 hc8 (by decide) (by decide) rfl (by decide) ?_
    refine g_aload_n (pc := 71) X 0 dX3_count_71 rfl rfl ?_
    refine mg_get (pc := 72) X fo_X3_7 dX3_count_72 rfl ?_
    refine g_bipush (pc := 75) X 62 dX3_count_75 rfl ?_
    refine mg_ald (pc := 77) X (j := 0) dX3_count_77 (by decide) rfl (fun v9 => ?_)
    exact g_iret (pc := 78) X hr dX3_count_78
  refine g_by (pc := 1) (fun hc10 => ?_) (fun hc10 => ?_)
  · refine g_tswI (pc := 1) X 5 79 dX3_count_1 hc10 (by decide) (by decide) rfl (by decide) ?_
    refine g_aload_n (pc := 79) X 0 dX3_count_79 rfl rfl ?_
    refine mg_get (pc := 80) X fo_X3_93 dX3_count_80 rfl ?_
    exact g_iret (pc := 83) X hr dX3_count_83
  refine g_by (pc := 1) (fun hc11 => ?_) (fun hc11 => ?_)
  · refine g_tswI (pc := 1) X 6 84 dX3_count_1 hc11 (by decide) (by decide) rfl (by decide) ?_
    refine g_aload_n (pc := 84) X 0 dX3_count_84 rfl rfl ?_
    refine mg_get (pc := 85) X fo_X3_96 dX3_count_85 rfl ?_
    exact g_iret (pc := 88) X hr dX3_count_88
  refine g_by (pc := 1) (fun hc12 => ?_) (fun hc12 => ?_)
  · refine g_tswI (pc := 1) X 7 89 dX3_count_1 hc12 (by decide) (by decide) rfl (by decide) ?_
    refine g_aload_n (pc := 89) X 0 dX3_count_89 rfl rfl ?_
    refine g_mV_i (pc := 90) X (C := RX3) (y := yX3_tied) (As := []) (rest := []) (fr' := 2) (lo' := 43) (fun _ => cwV 0 X.2.2.2.2.1 (lw_V q1973 q1975 qs58 q76 q1976) rfl rfl rfl dmV_X3_tied ⟨Nat.le_of_ble_eq_true rfl, Nat.le_of_ble_eq_true rfl⟩) dX3_count_90 MC_o ⟨_, _, rfl⟩ rfl rfl (Nat.le_of_ble_eq_true rfl) (fun _ => rfl) (fun r u h => kX3_tied h) (fun r13 t14 => ?_)
    exact g_iret (pc := 93) X hr dX3_count_93
  refine g_tswO (pc := 1) X 8 94 dX3_count_1 (fun j hj => by match j, hj with | 0, _ => exact hc1 | 1, _ => exact hc2 | 2, _ => exact hc3 | 3, _ => exact hc5 | 4, _ => exact hc8 | 5, _ => exact hc10 | 6, _ => exact hc11 | 7, _ => exact hc12) (by decide) (by decide) (by decide) ?_
  refine g_iconst (pc := 94) X (-1) dX3_count_94 rfl ?_
  exact g_iret (pc := 95) X hr dX3_count_95
theorem kX3_count {mo : Nat} {ρ : Sg} {sz : Nat} {x1 : Int32} {t : MS} {r : Int32} {u : MS} (h : fX3_count x1 t = some (r, u)) : g_C Γ l yX3_count cX3_count 2 (Option.some Jvm.ClassFile.FieldType.int) 3 66 [.ref mo, .int x1] (MC mo t ρ) sz v_i r (m_ι mo ρ sz u) :=
  g_met [.ref mo, .int x1] (by decide) (Nat.le_of_ble_eq_true rfl) h rfl (fun p e s m args below meth c X hr hn => wX3_count X hr x1 t)
def fX3_heard (t : MS) : Option (Int32 × MS) := mald t 0 63 61 fun v1 => some (v1, t)
set_option maxHeartbeats 4000000 in
theorem wX3_heard {rF : Int32} (X : g_X Γ p s m args meth c cX3_heard 1 RX3) (hr : meth.sig.returnType = (Option.some Jvm.ClassFile.FieldType.int)) (t : MS) : Wf Γ p l e 0 0 s m args below meth c 1 (m_ι mo ρ sz) v_i rF tF 0 [(0, .ref mo)] [] t (fX3_heard  t) := by
  unfold fX3_heard
  refine g_aload_n (pc := 0) X 0 dX3_heard_0 rfl rfl ?_
  refine mg_get (pc := 1) X fo_X3_7 dX3_heard_1 rfl ?_
  refine g_bipush (pc := 4) X 61 dX3_heard_4 rfl ?_
  refine mg_ald (pc := 6) X (j := 0) dX3_heard_6 (by decide) rfl (fun v1 => ?_)
  exact g_iret (pc := 7) X hr dX3_heard_7
theorem kX3_heard {mo : Nat} {ρ : Sg} {sz : Nat} {t : MS} {r : Int32} {u : MS} (h : fX3_heard  t = some (r, u)) : g_C Γ l yX3_heard cX3_heard 1 (Option.some Jvm.ClassFile.FieldType.int) 0 0 [.ref mo] (MC mo t ρ) sz v_i r (m_ι mo ρ sz u) :=
  g_met [.ref mo] (by decide) (Nat.le_of_ble_eq_true rfl) h rfl (fun p e s m args below meth c X hr hn => wX3_heard X hr  t)
def fX3_tune (x1 : Int32) (x2 : Int32) (t : MS) : Option (Int32 × MS) := gm (fX3_isClock x1 t) fun r1 t2 => if r1 = 0 then some ((-1001), t2) else gm (fX3_in x2.toInt64 (-30) 30 t2) fun r3 t4 => if r3 = 0 then some ((-1001), t4) else mald t4 2 9 x1 fun v5 => gm (fX3_note 2 x1 v5 t4) fun _ t7 => mast t7 2 9 x1 x2 fun t8 => some (v5, t8)
set_option maxHeartbeats 4000000 in
theorem wX3_tune {rF : Int32} (X : g_X Γ p s m args meth c cX3_tune 4 RX3) (hr : meth.sig.returnType = (Option.some Jvm.ClassFile.FieldType.int)) (x1 : Int32) (x2 : Int32) (t : MS) : Wf Γ p l e 2 46 s m args below meth c 4 (m_ι mo ρ sz) v_i rF tF 0 [(0, .ref mo), (1, .int x1), (2, .int x2)] [] t (fX3_tune x1 x2 t) := by
  unfold fX3_tune
  refine g_aload_n (pc := 0) X 0 dX3_tune_0 rfl rfl ?_
  refine g_iload_n (pc := 1) X 1 dX3_tune_1 rfl rfl ?_
  refine g_mV_i (pc := 2) X (C := RX3) (y := yX3_isClock) (As := [.int x1]) (rest := []) (fr' := 1) (lo' := 25) (fun _ => cwV 1 X.2.2.2.2.1 (lw_V q1786 q1788 qs31 q76 q1789) rfl rfl rfl dmV_X3_isClock ⟨Nat.le_of_ble_eq_true rfl, Nat.le_of_ble_eq_true rfl⟩) dX3_tune_2 MC_o ⟨_, _, rfl⟩ rfl rfl (Nat.le_of_ble_eq_true rfl) (fun _ => rfl) (fun r u h => kX3_isClock h) (fun r1 t2 => ?_)
  refine g_if_eq (pc := 5) X 22 dX3_tune_5 (by decide) ?_ ?_
  · refine g_sipush (pc := 22) X (-1001) dX3_tune_22 rfl ?_
    exact g_iret (pc := 25) X hr dX3_tune_25
  · refine g_iload_n (pc := 8) X 2 dX3_tune_8 rfl rfl ?_
    refine g_i2l (pc := 9) X dX3_tune_9 ?_
    refine g_ldc2 (pc := 10) X (-30) dX3_tune_10 q1771 ?_
    refine g_ldc2 (pc := 13) X 30 dX3_tune_13 q1772 ?_
    refine g_mS_i (pc := 16) X (y := yX3_in) (As := [.long x2.toInt64, .long (-30), .long 30]) (rest := []) (fr' := 0) (lo' := 0) (fun _ => va_cwS 3 X.2.2.2.2.1 (lw_S q1767 q1768 q76 q1769) rfl rfl rfl dmS_X3_in ⟨Nat.le_of_ble_eq_true rfl, Nat.le_of_ble_eq_true rfl⟩) dX3_tune_16 rfl rfl (Nat.le_of_ble_eq_true rfl) (fun _ => rfl) (fun r u h => kX3_in h) (fun r3 t4 => ?_)
    refine g_if_ne (pc := 19) X 26 dX3_tune_19 (by decide) ?_ ?_
    · refine g_aload_n (pc := 26) X 0 dX3_tune_26 rfl rfl ?_
      refine mg_get (pc := 27) X fo_X3_16 dX3_tune_27 rfl ?_
      refine g_iload_n (pc := 30) X 1 dX3_tune_30 rfl rfl ?_
      refine mg_ald (pc := 31) X (j := 2) dX3_tune_31 (by decide) rfl (fun v5 => ?_)
      refine g_istore_n (pc := 32) X (lv' := [(3, .int v5), (0, .ref mo), (1, .int x1), (2, .int x2)]) dX3_tune_32 rfl (by decide) rfl ?_
      refine g_aload_n (pc := 33) X 1 dX3_tune_33 rfl rfl ?_
      refine g_iconst (pc := 34) X 2 dX3_tune_34 rfl ?_
      refine g_iload_n (pc := 35) X 2 dX3_tune_35 rfl rfl ?_
      refine g_iload_n (pc := 36) X 0 dX3_tune_36 rfl rfl ?_
      refine g_mV_v (pc := 37) X (C := RX3) (y := yX3_note) (As := [.int 2, .int x1, .int v5]) (rest := []) (fr' := 0) (lo' := 0) (fun _ => cwV 3 X.2.2.2.2.1 (lw_V q1906 q1908 qs47 q76 q1909) rfl rfl rfl dmV_X3_note ⟨Nat.le_of_ble_eq_true rfl, Nat.le_of_ble_eq_true rfl⟩) dX3_tune_37 MC_o ⟨_, _, rfl⟩ rfl rfl (Nat.le_of_ble_eq_true rfl) (fun _ => rfl) (fun r u h => kX3_note h) (fun r6 t7 => ?_)
      refine g_aload_n (pc := 40) X 1 dX3_tune_40 rfl rfl ?_
      refine mg_get (pc := 41) X fo_X3_16 dX3_tune_41 rfl ?_
      refine g_iload_n (pc := 44) X 2 dX3_tune_44 rfl rfl ?_
      refine g_iload_n (pc := 45) X 3 dX3_tune_45 rfl rfl ?_
      refine mg_ast (pc := 46) X (j := 2) dX3_tune_46 (by decide) rfl (fun t8 => ?_)
      refine g_iload_n (pc := 47) X 0 dX3_tune_47 rfl rfl ?_
      exact g_iret (pc := 48) X hr dX3_tune_48
    · refine g_sipush (pc := 22) X (-1001) dX3_tune_22 rfl ?_
      exact g_iret (pc := 25) X hr dX3_tune_25
theorem kX3_tune {mo : Nat} {ρ : Sg} {sz : Nat} {x1 : Int32} {x2 : Int32} {t : MS} {r : Int32} {u : MS} (h : fX3_tune x1 x2 t = some (r, u)) : g_C Γ l yX3_tune cX3_tune 4 (Option.some Jvm.ClassFile.FieldType.int) 2 46 [.ref mo, .int x1, .int x2] (MC mo t ρ) sz v_i r (m_ι mo ρ sz u) :=
  g_met [.ref mo, .int x1, .int x2] (by decide) (Nat.le_of_ble_eq_true rfl) h rfl (fun p e s m args below meth c X hr hn => wX3_tune X hr x1 x2 t)
def fX3_undo_99 (x2 : Int32) (x3 : Int32) (s0 : Int32) (t : MS) : Option (Int32 × MS) := mast t 0 63 (s0 + x2) x3 fun t1 => some (t1.1 12, t1)
set_option maxHeartbeats 4000000 in
theorem wX3_undo_99 {rF : Int32} (X : g_X Γ p s m args meth c cX3_undo 4 RX3) (hr : meth.sig.returnType = (Option.some Jvm.ClassFile.FieldType.int)) (x2 : Int32) (x3 : Int32) (s0 : Int32) (t : MS) : Wf Γ p l e 0 0 s m args below meth c 4 (m_ι mo ρ sz) v_i rF tF 99 [(0, .ref mo), (2, .int x2), (3, .int x3)] [.int s0, .ref (mo + 1)] t (fX3_undo_99 x2 x3 s0 t) := by
  unfold fX3_undo_99
  refine g_iload_n (pc := 99) X 1 dX3_undo_99 rfl rfl ?_
  refine g_iadd (pc := 100) X dX3_undo_100 ?_
  refine g_iload_n (pc := 101) X 2 dX3_undo_101 rfl rfl ?_
  refine mg_ast (pc := 102) X (j := 0) dX3_undo_102 (by decide) rfl (fun t1 => ?_)
  refine g_aload_n (pc := 103) X 0 dX3_undo_103 rfl rfl ?_
  refine mg_get (pc := 104) X fo_X3_96 dX3_undo_104 rfl ?_
  exact g_iret (pc := 107) X hr dX3_undo_107
def fX3_undo (t : MS) : Option (Int32 × MS) := if t.1 12 = 0 then some ((-4), t) else lt (setI t 12 ((t.1 12) - 1)) fun t1 => mald t1 6 30 (3 * (t1.1 12)) fun v2 => mald t1 6 30 ((3 * (t1.1 12)) + 1) fun v3 => mald t1 6 30 ((3 * (t1.1 12)) + 2) fun v4 => if v2 = 2 then mast t1 2 9 v3 v4 fun t5 => some (t5.1 12, t5) else if v2 = 0 then fX3_undo_99 v3 v4 33 t1 else if v2 = 1 then fX3_undo_99 v3 v4 24 t1 else fX3_undo_99 v3 v4 0 t1
set_option maxHeartbeats 4000000 in
theorem wX3_undo {rF : Int32} (X : g_X Γ p s m args meth c cX3_undo 4 RX3) (hr : meth.sig.returnType = (Option.some Jvm.ClassFile.FieldType.int)) (t : MS) : Wf Γ p l e 0 0 s m args below meth c 4 (m_ι mo ρ sz) v_i rF tF 0 [(0, .ref mo)] [] t (fX3_undo  t) := by
  unfold fX3_undo
  refine g_aload_n (pc := 0) X 0 dX3_undo_0 rfl rfl ?_
  refine mg_get (pc := 1) X fo_X3_96 dX3_undo_1 rfl ?_
  refine g_if_ne (pc := 4) X 10 dX3_undo_4 (by decide) ?_ ?_
  · refine g_aload_n (pc := 10) X 0 dX3_undo_10 rfl rfl ?_
    refine g_dup (pc := 11) X dX3_undo_11 rfl ?_
    refine mg_get (pc := 12) X fo_X3_96 dX3_undo_12 rfl ?_
    refine g_iconst (pc := 15) X 1 dX3_undo_15 rfl ?_
    refine g_isub (pc := 16) X dX3_undo_16 ?_
    refine mg_put (pc := 17) X fp_X3_96 dX3_undo_17 rfl rfl (by decide) rfl (fun t1 => ?_)
    refine g_aload_n (pc := 20) X 0 dX3_undo_20 rfl rfl ?_
    refine mg_get (pc := 21) X fo_X3_38 dX3_undo_21 rfl ?_
    refine g_iconst (pc := 24) X 3 dX3_undo_24 rfl ?_
    refine g_aload_n (pc := 25) X 0 dX3_undo_25 rfl rfl ?_
    refine mg_get (pc := 26) X fo_X3_96 dX3_undo_26 rfl ?_
    refine g_imul (pc := 29) X dX3_undo_29 ?_
    refine mg_ald (pc := 30) X (j := 6) dX3_undo_30 (by decide) rfl (fun v2 => ?_)
    refine g_istore_n (pc := 31) X (lv' := [(1, .int v2), (0, .ref mo)]) dX3_undo_31 rfl (by decide) rfl ?_
    refine g_aload_n (pc := 32) X 1 dX3_undo_32 rfl rfl ?_
    refine mg_get (pc := 33) X fo_X3_38 dX3_undo_33 rfl ?_
    refine g_iconst (pc := 36) X 3 dX3_undo_36 rfl ?_
    refine g_aload_n (pc := 37) X 1 dX3_undo_37 rfl rfl ?_
    refine mg_get (pc := 38) X fo_X3_96 dX3_undo_38 rfl ?_
    refine g_imul (pc := 41) X dX3_undo_41 ?_
    refine g_iconst (pc := 42) X 1 dX3_undo_42 rfl ?_
    refine g_iadd (pc := 43) X dX3_undo_43 ?_
    refine mg_ald (pc := 44) X (j := 6) dX3_undo_44 (by decide) rfl (fun v3 => ?_)
    refine g_istore_n (pc := 45) X (lv' := [(2, .int v3), (1, .int v2), (0, .ref mo)]) dX3_undo_45 rfl (by decide) rfl ?_
    refine g_aload_n (pc := 46) X 2 dX3_undo_46 rfl rfl ?_
    refine mg_get (pc := 47) X fo_X3_38 dX3_undo_47 rfl ?_
    refine g_iconst (pc := 50) X 3 dX3_undo_50 rfl ?_
    refine g_aload_n (pc := 51) X 2 dX3_undo_51 rfl rfl ?_
    refine mg_get (pc := 52) X fo_X3_96 dX3_undo_52 rfl ?_
    refine g_imul (pc := 55) X dX3_undo_55 ?_
    refine g_iconst (pc := 56) X 2 dX3_undo_56 rfl ?_
    refine g_iadd (pc := 57) X dX3_undo_57 ?_
    refine mg_ald (pc := 58) X (j := 6) dX3_undo_58 (by decide) rfl (fun v4 => ?_)
    refine g_istore_n (pc := 59) X (lv' := [(3, .int v4), (2, .int v3), (1, .int v2), (0, .ref mo)]) dX3_undo_59 rfl (by decide) rfl ?_
    refine g_iload_n (pc := 60) X 2 dX3_undo_60 rfl rfl ?_
    refine g_iconst (pc := 61) X 2 dX3_undo_61 rfl ?_
    refine g_icmp_ne (pc := 62) X 75 dX3_undo_62 (by decide) ?_ ?_
    · refine g_aload_n (pc := 75) X 3 dX3_undo_75 rfl rfl ?_
      refine mg_get (pc := 76) X fo_X3_7 dX3_undo_76 rfl ?_
      refine g_iload_n (pc := 79) X 2 dX3_undo_79 rfl rfl ?_
      refine g_if_ne (pc := 80) X 88 dX3_undo_80 (by decide) ?_ ?_
      · refine g_iload_n (pc := 88) X 2 dX3_undo_88 rfl rfl ?_
        refine g_iconst (pc := 89) X 1 dX3_undo_89 rfl ?_
        refine g_icmp_ne (pc := 90) X 98 dX3_undo_90 (by decide) ?_ ?_
        · refine g_iconst (pc := 98) X 0 dX3_undo_98 rfl ?_
          exact g_lv (pc := 99) (lv' := [(0, .ref mo), (2, .int v3), (3, .int v4)]) [3, 1, 0] rfl (wX3_undo_99 X hr v3 v4 0 t1)
        · refine g_bipush (pc := 93) X 24 dX3_undo_93 rfl ?_
          refine g_goto (pc := 95) X 99 dX3_undo_95 (by decide) ?_
          exact g_lv (pc := 99) (lv' := [(0, .ref mo), (2, .int v3), (3, .int v4)]) [3, 1, 0] rfl (wX3_undo_99 X hr v3 v4 24 t1)
      · refine g_bipush (pc := 83) X 33 dX3_undo_83 rfl ?_
        refine g_goto (pc := 85) X 99 dX3_undo_85 (by decide) ?_
        exact g_lv (pc := 99) (lv' := [(0, .ref mo), (2, .int v3), (3, .int v4)]) [3, 1, 0] rfl (wX3_undo_99 X hr v3 v4 33 t1)
    · refine g_aload_n (pc := 65) X 3 dX3_undo_65 rfl rfl ?_
      refine mg_get (pc := 66) X fo_X3_16 dX3_undo_66 rfl ?_
      refine g_iload_n (pc := 69) X 1 dX3_undo_69 rfl rfl ?_
      refine g_iload_n (pc := 70) X 0 dX3_undo_70 rfl rfl ?_
      refine mg_ast (pc := 71) X (j := 2) dX3_undo_71 (by decide) rfl (fun t5 => ?_)
      refine g_goto (pc := 72) X 103 dX3_undo_72 (by decide) ?_
      refine g_aload_n (pc := 103) X 3 dX3_undo_103 rfl rfl ?_
      refine mg_get (pc := 104) X fo_X3_96 dX3_undo_104 rfl ?_
      exact g_iret (pc := 107) X hr dX3_undo_107
  · refine g_bipush (pc := 7) X (-4) dX3_undo_7 rfl ?_
    exact g_iret (pc := 9) X hr dX3_undo_9
theorem kX3_undo {mo : Nat} {ρ : Sg} {sz : Nat} {t : MS} {r : Int32} {u : MS} (h : fX3_undo  t = some (r, u)) : g_C Γ l yX3_undo cX3_undo 4 (Option.some Jvm.ClassFile.FieldType.int) 0 0 [.ref mo] (MC mo t ρ) sz v_i r (m_ι mo ρ sz u) :=
  g_met [.ref mo] (by decide) (Nat.le_of_ble_eq_true rfl) h rfl (fun p e s m args below meth c X hr hn => wX3_undo X hr  t)
def fX3_restart (t : MS) : Option (Int32 × MS) := gm (fX3_homes t) fun r1 t2 => gm (fX3_allBack t2) fun _ t4 => mast t4 0 63 60 0 fun t5 => mast t5 0 63 61 0 fun t6 => mast t6 0 63 62 0 fun t7 => some (r1, t7)
set_option maxHeartbeats 4000000 in
theorem wX3_restart {rF : Int32} (X : g_X Γ p s m args meth c cX3_restart 2 RX3) (hr : meth.sig.returnType = (Option.some Jvm.ClassFile.FieldType.int)) (t : MS) : Wf Γ p l e 2 43 s m args below meth c 2 (m_ι mo ρ sz) v_i rF tF 0 [(0, .ref mo)] [] t (fX3_restart  t) := by
  unfold fX3_restart
  refine g_aload_n (pc := 0) X 0 dX3_restart_0 rfl rfl ?_
  refine g_mV_i (pc := 1) X (C := RX3) (y := yX3_homes) (As := []) (rest := []) (fr' := 1) (lo' := 21) (fun _ => cwV 0 X.2.2.2.2.1 (lw_V q1969 q1971 qs57 q76 q1972) rfl rfl rfl dmV_X3_homes ⟨Nat.le_of_ble_eq_true rfl, Nat.le_of_ble_eq_true rfl⟩) dX3_restart_1 MC_o ⟨_, _, rfl⟩ rfl rfl (Nat.le_of_ble_eq_true rfl) (fun _ => rfl) (fun r u h => kX3_homes h) (fun r1 t2 => ?_)
  refine g_istore_n (pc := 4) X (lv' := [(1, .int r1), (0, .ref mo)]) dX3_restart_4 rfl (by decide) rfl ?_
  refine g_aload_n (pc := 5) X 1 dX3_restart_5 rfl rfl ?_
  refine g_mV_v (pc := 6) X (C := RX3) (y := yX3_allBack) (As := []) (rest := []) (fr' := 0) (lo' := 0) (fun _ => cwV 0 X.2.2.2.2.1 (lw_V q1854 q1856 qs39 q76 q1857) rfl rfl rfl dmV_X3_allBack ⟨Nat.le_of_ble_eq_true rfl, Nat.le_of_ble_eq_true rfl⟩) dX3_restart_6 MC_o ⟨_, _, rfl⟩ rfl rfl (Nat.le_of_ble_eq_true rfl) (fun _ => rfl) (fun r u h => kX3_allBack h) (fun r3 t4 => ?_)
  refine g_aload_n (pc := 9) X 1 dX3_restart_9 rfl rfl ?_
  refine mg_get (pc := 10) X fo_X3_7 dX3_restart_10 rfl ?_
  refine g_bipush (pc := 13) X 60 dX3_restart_13 rfl ?_
  refine g_iconst (pc := 15) X 0 dX3_restart_15 rfl ?_
  refine mg_ast (pc := 16) X (j := 0) dX3_restart_16 (by decide) rfl (fun t5 => ?_)
  refine g_aload_n (pc := 17) X 1 dX3_restart_17 rfl rfl ?_
  refine mg_get (pc := 18) X fo_X3_7 dX3_restart_18 rfl ?_
  refine g_bipush (pc := 21) X 61 dX3_restart_21 rfl ?_
  refine g_iconst (pc := 23) X 0 dX3_restart_23 rfl ?_
  refine mg_ast (pc := 24) X (j := 0) dX3_restart_24 (by decide) rfl (fun t6 => ?_)
  refine g_aload_n (pc := 25) X 1 dX3_restart_25 rfl rfl ?_
  refine mg_get (pc := 26) X fo_X3_7 dX3_restart_26 rfl ?_
  refine g_bipush (pc := 29) X 62 dX3_restart_29 rfl ?_
  refine g_iconst (pc := 31) X 0 dX3_restart_31 rfl ?_
  refine mg_ast (pc := 32) X (j := 0) dX3_restart_32 (by decide) rfl (fun t7 => ?_)
  refine g_iload_n (pc := 33) X 0 dX3_restart_33 rfl rfl ?_
  exact g_iret (pc := 34) X hr dX3_restart_34
theorem kX3_restart {mo : Nat} {ρ : Sg} {sz : Nat} {t : MS} {r : Int32} {u : MS} (h : fX3_restart  t = some (r, u)) : g_C Γ l yX3_restart cX3_restart 2 (Option.some Jvm.ClassFile.FieldType.int) 2 43 [.ref mo] (MC mo t ρ) sz v_i r (m_ι mo ρ sz u) :=
  g_met [.ref mo] (by decide) (Nat.le_of_ble_eq_true rfl) h rfl (fun p e s m args below meth c X hr hn => wX3_restart X hr  t)
def fX3_bringBack_2 : Nat → Int32 → MS → Option (Unit × MS)
  | 0, _, _ => none
  | n + 1, x1, t => if 63 ≤ x1 then some ((), t) else mald t 9 63 x1 fun v1 => mast t 0 63 x1 v1 fun t2 => fX3_bringBack_2 n (x1 + 1) t2
set_option maxHeartbeats 4000000 in
theorem wX3_bringBack_2 {rF : Unit} (X : g_X Γ p s m args meth c cX3_bringBack 2 RX3) (hr : meth.sig.returnType = (Option.none : Option Jvm.ClassFile.FieldType)) (n : Nat) : ∀ (x1 : Int32) (t : MS), Wf Γ p l e 0 0 s m args below meth c 2 (m_ι mo ρ sz) v_v rF tF 2 [(0, .ref mo), (1, .int x1)] [] t (fX3_bringBack_2 n x1 t) := by
  induction n with
  | zero => intro x1 t; exact g_none
  | succ n ih =>
    intro x1 t
    rw [fX3_bringBack_2]
    refine g_iload_n (pc := 2) X 1 dX3_bringBack_2 rfl rfl ?_
    refine g_bipush (pc := 3) X 63 dX3_bringBack_3 rfl ?_
    refine g_icmp_ge (pc := 5) X 26 dX3_bringBack_5 (by decide) ?_ ?_
    · exact g_vret (pc := 26) X hr dX3_bringBack_26
    · refine g_aload_n (pc := 8) X 0 dX3_bringBack_8 rfl rfl ?_
      refine mg_get (pc := 9) X fo_X3_7 dX3_bringBack_9 rfl ?_
      refine g_iload_n (pc := 12) X 1 dX3_bringBack_12 rfl rfl ?_
      refine g_aload_n (pc := 13) X 0 dX3_bringBack_13 rfl rfl ?_
      refine mg_get (pc := 14) X fo_X3_50 dX3_bringBack_14 rfl ?_
      refine g_iload_n (pc := 17) X 1 dX3_bringBack_17 rfl rfl ?_
      refine mg_ald (pc := 18) X (j := 9) dX3_bringBack_18 (by decide) rfl (fun v1 => ?_)
      refine mg_ast (pc := 19) X (j := 0) dX3_bringBack_19 (by decide) rfl (fun t2 => ?_)
      refine g_iinc (pc := 20) X 1 1 (lv' := [(1, .int (x1 + 1)), (0, .ref mo)]) dX3_bringBack_20 rfl rfl (by decide) rfl ?_
      refine g_goto (pc := 23) X 2 dX3_bringBack_23 (by decide) ?_
      exact g_lv (pc := 2) (lv' := [(0, .ref mo), (1, .int (x1 + 1))]) [1, 0] rfl (ih (x1 + 1) t2)
def fX3_bringBack (t : MS) : Option (Unit × MS) := fX3_bringBack_2 1000 0 t
set_option maxHeartbeats 4000000 in
theorem wX3_bringBack {rF : Unit} (X : g_X Γ p s m args meth c cX3_bringBack 2 RX3) (hr : meth.sig.returnType = (Option.none : Option Jvm.ClassFile.FieldType)) (t : MS) : Wf Γ p l e 0 0 s m args below meth c 2 (m_ι mo ρ sz) v_v rF tF 0 [(0, .ref mo)] [] t (fX3_bringBack  t) := by
  unfold fX3_bringBack
  refine g_iconst (pc := 0) X 0 dX3_bringBack_0 rfl ?_
  refine g_istore_n (pc := 1) X (lv' := [(1, .int 0), (0, .ref mo)]) dX3_bringBack_1 rfl (by decide) rfl ?_
  exact g_lv (pc := 2) (lv' := [(0, .ref mo), (1, .int 0)]) [1, 0] rfl (wX3_bringBack_2 X hr 1000 0 t)
theorem kX3_bringBack {mo : Nat} {ρ : Sg} {sz : Nat} {t : MS} {r : Unit} {u : MS} (h : fX3_bringBack  t = some (r, u)) : g_C Γ l yX3_bringBack cX3_bringBack 2 (Option.none : Option Jvm.ClassFile.FieldType) 0 0 [.ref mo] (MC mo t ρ) sz v_v r (m_ι mo ρ sz u) :=
  g_met [.ref mo] (by decide) (Nat.le_of_ble_eq_true rfl) h rfl (fun p e s m args below meth c X hr hn => wX3_bringBack X hr  t)
def fX3_goHours_2 : Nat → Int32 → Int32 → MS → Option (Unit × MS)
  | 0, _, _, _ => none
  | n + 1, x1, x2, t => if x1 ≤ x2 then some ((), t) else gm (fX3_skyNow t) fun r1 t2 => gm (fX3_goOn r1 t2) fun r3 t4 => fX3_goHours_2 n x1 (x2 + 1) t4
set_option maxHeartbeats 4000000 in
theorem wX3_goHours_2 {rF : Unit} (X : g_X Γ p s m args meth c cX3_goHours 3 RX3) (hr : meth.sig.returnType = (Option.none : Option Jvm.ClassFile.FieldType)) (n : Nat) : ∀ (x1 : Int32) (x2 : Int32) (t : MS), Wf Γ p l e 5 112 s m args below meth c 3 (m_ι mo ρ sz) v_v rF tF 2 [(0, .ref mo), (1, .int x1), (2, .int x2)] [] t (fX3_goHours_2 n x1 x2 t) := by
  induction n with
  | zero => intro x1 x2 t; exact g_none
  | succ n ih =>
    intro x1 x2 t
    rw [fX3_goHours_2]
    refine g_iload_n (pc := 2) X 2 dX3_goHours_2 rfl rfl ?_
    refine g_iload_n (pc := 3) X 1 dX3_goHours_3 rfl rfl ?_
    refine g_icmp_ge (pc := 4) X 22 dX3_goHours_4 (by decide) ?_ ?_
    · exact g_vret (pc := 22) X hr dX3_goHours_22
    · refine g_aload_n (pc := 7) X 0 dX3_goHours_7 rfl rfl ?_
      refine g_aload_n (pc := 8) X 0 dX3_goHours_8 rfl rfl ?_
      refine g_mV_i (pc := 9) X (C := RX3) (y := yX3_skyNow) (As := []) (rest := [.ref mo]) (fr' := 0) (lo' := 0) (fun _ => cwV 0 X.2.2.2.2.1 (lw_V q1930 q1932 qs50 q76 q1933) rfl rfl rfl dmV_X3_skyNow ⟨Nat.le_of_ble_eq_true rfl, Nat.le_of_ble_eq_true rfl⟩) dX3_goHours_9 MC_o ⟨_, _, rfl⟩ rfl rfl (Nat.le_of_ble_eq_true rfl) (fun _ => rfl) (fun r u h => kX3_skyNow h) (fun r1 t2 => ?_)
      refine g_mV_i (pc := 12) X (C := RX3) (y := yX3_goOn) (As := [.int r1]) (rest := []) (fr' := 4) (lo' := 86) (fun _ => cwV 1 X.2.2.2.2.1 (lw_V q1934 q1936 qs51 q76 q1937) rfl rfl rfl dmV_X3_goOn ⟨Nat.le_of_ble_eq_true rfl, Nat.le_of_ble_eq_true rfl⟩) dX3_goHours_12 MC_o ⟨_, _, rfl⟩ rfl rfl (Nat.le_of_ble_eq_true rfl) (fun _ => rfl) (fun r u h => kX3_goOn h) (fun r3 t4 => ?_)
      refine g_pop (pc := 15) X dX3_goHours_15 rfl ?_
      refine g_iinc (pc := 16) X 1 2 (lv' := [(2, .int (x2 + 1)), (0, .ref mo), (1, .int x1)]) dX3_goHours_16 rfl rfl (by decide) rfl ?_
      refine g_goto (pc := 19) X 2 dX3_goHours_19 (by decide) ?_
      exact g_lv (pc := 2) (lv' := [(0, .ref mo), (1, .int x1), (2, .int (x2 + 1))]) [1, 2, 0] rfl (ih x1 (x2 + 1) t4)
def fX3_goHours (x1 : Int32) (t : MS) : Option (Unit × MS) := fX3_goHours_2 1000 x1 0 t
set_option maxHeartbeats 4000000 in
theorem wX3_goHours {rF : Unit} (X : g_X Γ p s m args meth c cX3_goHours 3 RX3) (hr : meth.sig.returnType = (Option.none : Option Jvm.ClassFile.FieldType)) (x1 : Int32) (t : MS) : Wf Γ p l e 5 112 s m args below meth c 3 (m_ι mo ρ sz) v_v rF tF 0 [(0, .ref mo), (1, .int x1)] [] t (fX3_goHours x1 t) := by
  unfold fX3_goHours
  refine g_iconst (pc := 0) X 0 dX3_goHours_0 rfl ?_
  refine g_istore_n (pc := 1) X (lv' := [(2, .int 0), (0, .ref mo), (1, .int x1)]) dX3_goHours_1 rfl (by decide) rfl ?_
  exact g_lv (pc := 2) (lv' := [(0, .ref mo), (1, .int x1), (2, .int 0)]) [1, 2, 0] rfl (wX3_goHours_2 X hr 1000 x1 0 t)
theorem kX3_goHours {mo : Nat} {ρ : Sg} {sz : Nat} {x1 : Int32} {t : MS} {r : Unit} {u : MS} (h : fX3_goHours x1 t = some (r, u)) : g_C Γ l yX3_goHours cX3_goHours 3 (Option.none : Option Jvm.ClassFile.FieldType) 5 112 [.ref mo, .int x1] (MC mo t ρ) sz v_v r (m_ι mo ρ sz u) :=
  g_met [.ref mo, .int x1] (by decide) (Nat.le_of_ble_eq_true rfl) h rfl (fun p e s m args below meth c X hr hn => wX3_goHours X hr x1 t)
def fX3_isLong (x0 : Int32) (t : MS) : Option (Int32 × MS) := gm (fX3_in x0.toInt64 0 200 t) fun r1 t2 => if r1 = 0 ∨ r1 = 1 then some (r1, t2) else none
set_option maxHeartbeats 4000000 in
theorem wX3_isLong {rF : Int32} (X : g_X Γ p s m args meth c cX3_isLong 1 RX3) (hr : meth.sig.returnType = (Option.some Jvm.ClassFile.FieldType.boolean)) (x0 : Int32) (t : MS) : Wf Γ p l e 1 25 s m args below meth c 1 (m_ι mo ρ sz) v_i rF tF 0 [(0, .int x0)] [] t (fX3_isLong x0 t) := by
  unfold fX3_isLong
  refine g_iload_n (pc := 0) X 0 dX3_isLong_0 rfl rfl ?_
  refine g_i2l (pc := 1) X dX3_isLong_1 ?_
  refine g_lconst (pc := 2) X 0 dX3_isLong_2 rfl ?_
  refine g_ldc2 (pc := 3) X 200 dX3_isLong_3 q2004 ?_
  refine g_mS_i (pc := 6) X (y := yX3_in) (As := [.long x0.toInt64, .long 0, .long 200]) (rest := []) (fr' := 0) (lo' := 0) (fun _ => va_cwS 3 X.2.2.2.2.1 (lw_S q1767 q1768 q76 q1769) rfl rfl rfl dmS_X3_in ⟨Nat.le_of_ble_eq_true rfl, Nat.le_of_ble_eq_true rfl⟩) dX3_isLong_6 rfl rfl (Nat.le_of_ble_eq_true rfl) (fun _ => rfl) (fun r u h => kX3_in h) (fun r1 t2 => ?_)
  exact g_bret (pc := 9) X hr dX3_isLong_9
theorem kX3_isLong {mo : Nat} {ρ : Sg} {sz : Nat} {x0 : Int32} {t : MS} {r : Int32} {u : MS} (h : fX3_isLong x0 t = some (r, u)) : g_C Γ l yX3_isLong cX3_isLong 1 (Option.some Jvm.ClassFile.FieldType.boolean) 1 25 [.int x0] (MC mo t ρ) sz v_i r (m_ι mo ρ sz u) :=
  g_met [.int x0] (by decide) (Nat.le_of_ble_eq_true rfl) h rfl (fun p e s m args below meth c X hr hn => wX3_isLong X hr x0 t)
def fX3_keepAside_2 : Nat → Int32 → MS → Option (Unit × MS)
  | 0, _, _ => none
  | n + 1, x1, t => if 63 ≤ x1 then some ((), t) else mald t 0 63 x1 fun v1 => mast t 9 63 x1 v1 fun t2 => fX3_keepAside_2 n (x1 + 1) t2
set_option maxHeartbeats 4000000 in
theorem wX3_keepAside_2 {rF : Unit} (X : g_X Γ p s m args meth c cX3_keepAside 2 RX3) (hr : meth.sig.returnType = (Option.none : Option Jvm.ClassFile.FieldType)) (n : Nat) : ∀ (x1 : Int32) (t : MS), Wf Γ p l e 0 0 s m args below meth c 2 (m_ι mo ρ sz) v_v rF tF 2 [(0, .ref mo), (1, .int x1)] [] t (fX3_keepAside_2 n x1 t) := by
  induction n with
  | zero => intro x1 t; exact g_none
  | succ n ih =>
    intro x1 t
    rw [fX3_keepAside_2]
    refine g_iload_n (pc := 2) X 1 dX3_keepAside_2 rfl rfl ?_
    refine g_bipush (pc := 3) X 63 dX3_keepAside_3 rfl ?_
    refine g_icmp_ge (pc := 5) X 26 dX3_keepAside_5 (by decide) ?_ ?_
    · exact g_vret (pc := 26) X hr dX3_keepAside_26
    · refine g_aload_n (pc := 8) X 0 dX3_keepAside_8 rfl rfl ?_
      refine mg_get (pc := 9) X fo_X3_50 dX3_keepAside_9 rfl ?_
      refine g_iload_n (pc := 12) X 1 dX3_keepAside_12 rfl rfl ?_
      refine g_aload_n (pc := 13) X 0 dX3_keepAside_13 rfl rfl ?_
      refine mg_get (pc := 14) X fo_X3_7 dX3_keepAside_14 rfl ?_
      refine g_iload_n (pc := 17) X 1 dX3_keepAside_17 rfl rfl ?_
      refine mg_ald (pc := 18) X (j := 0) dX3_keepAside_18 (by decide) rfl (fun v1 => ?_)
      refine mg_ast (pc := 19) X (j := 9) dX3_keepAside_19 (by decide) rfl (fun t2 => ?_)
      refine g_iinc (pc := 20) X 1 1 (lv' := [(1, .int (x1 + 1)), (0, .ref mo)]) dX3_keepAside_20 rfl rfl (by decide) rfl ?_
      refine g_goto (pc := 23) X 2 dX3_keepAside_23 (by decide) ?_
      exact g_lv (pc := 2) (lv' := [(0, .ref mo), (1, .int (x1 + 1))]) [1, 0] rfl (ih (x1 + 1) t2)
def fX3_keepAside (t : MS) : Option (Unit × MS) := fX3_keepAside_2 1000 0 t
set_option maxHeartbeats 4000000 in
theorem wX3_keepAside {rF : Unit} (X : g_X Γ p s m args meth c cX3_keepAside 2 RX3) (hr : meth.sig.returnType = (Option.none : Option Jvm.ClassFile.FieldType)) (t : MS) : Wf Γ p l e 0 0 s m args below meth c 2 (m_ι mo ρ sz) v_v rF tF 0 [(0, .ref mo)] [] t (fX3_keepAside  t) := by
  unfold fX3_keepAside
  refine g_iconst (pc := 0) X 0 dX3_keepAside_0 rfl ?_
  refine g_istore_n (pc := 1) X (lv' := [(1, .int 0), (0, .ref mo)]) dX3_keepAside_1 rfl (by decide) rfl ?_
  exact g_lv (pc := 2) (lv' := [(0, .ref mo), (1, .int 0)]) [1, 0] rfl (wX3_keepAside_2 X hr 1000 0 t)
theorem kX3_keepAside {mo : Nat} {ρ : Sg} {sz : Nat} {t : MS} {r : Unit} {u : MS} (h : fX3_keepAside  t = some (r, u)) : g_C Γ l yX3_keepAside cX3_keepAside 2 (Option.none : Option Jvm.ClassFile.FieldType) 0 0 [.ref mo] (MC mo t ρ) sz v_v r (m_ι mo ρ sz u) :=
  g_met [.ref mo] (by decide) (Nat.le_of_ble_eq_true rfl) h rfl (fun p e s m args below meth c X hr hn => wX3_keepAside X hr  t)
def fX3_behind (x1 : Int32) (x2 : Int32) (x3 : Int32) (t : MS) : Option (Int32 × MS) := gm (fX3_isClock x1 t) fun r1 t2 => if r1 = 0 then some ((-1), t2) else gm (fX3_isLong x2 t2) fun r3 t4 => if r3 = 0 then some ((-1), t4) else gm (fX3_in x3.toInt64 0 1 t4) fun r5 t6 => if r5 = 0 then some ((-1), t6) else gm (fX3_keepAside t6) fun _ t8 => gm (fX3_goHours x2 t8) fun _ t10 => if x3 = 0 then mald t10 0 63 (42 + x1) fun v15 => gm (fX3_bringBack t10) fun _ t17 => some (v15, t17) else gm (fX3_placeOf x1 t10) fun r11 t12 => gm (fX3_bringBack t12) fun _ t14 => some (r11, t14)
set_option maxHeartbeats 4000000 in
theorem wX3_behind {rF : Int32} (X : g_X Γ p s m args meth c cX3_behind 5 RX3) (hr : meth.sig.returnType = (Option.some Jvm.ClassFile.FieldType.int)) (x1 : Int32) (x2 : Int32) (x3 : Int32) (t : MS) : Wf Γ p l e 6 134 s m args below meth c 5 (m_ι mo ρ sz) v_i rF tF 0 [(0, .ref mo), (1, .int x1), (2, .int x2), (3, .int x3)] [] t (fX3_behind x1 x2 x3 t) := by
  unfold fX3_behind
  refine g_aload_n (pc := 0) X 0 dX3_behind_0 rfl rfl ?_
  refine g_iload_n (pc := 1) X 1 dX3_behind_1 rfl rfl ?_
  refine g_mV_i (pc := 2) X (C := RX3) (y := yX3_isClock) (As := [.int x1]) (rest := []) (fr' := 1) (lo' := 25) (fun _ => cwV 1 X.2.2.2.2.1 (lw_V q1786 q1788 qs31 q76 q1789) rfl rfl rfl dmV_X3_isClock ⟨Nat.le_of_ble_eq_true rfl, Nat.le_of_ble_eq_true rfl⟩) dX3_behind_2 MC_o ⟨_, _, rfl⟩ rfl rfl (Nat.le_of_ble_eq_true rfl) (fun _ => rfl) (fun r u h => kX3_isClock h) (fun r1 t2 => ?_)
  refine g_if_eq (pc := 5) X 25 dX3_behind_5 (by decide) ?_ ?_
  · refine g_iconst (pc := 25) X (-1) dX3_behind_25 rfl ?_
    exact g_iret (pc := 26) X hr dX3_behind_26
  · refine g_iload_n (pc := 8) X 2 dX3_behind_8 rfl rfl ?_
    refine g_mS_i (pc := 9) X (y := yX3_isLong) (As := [.int x2]) (rest := []) (fr' := 1) (lo' := 25) (fun _ => va_cwS 1 X.2.2.2.2.1 (lw_S q2001 q2002 q76 q2003) rfl rfl rfl dmS_X3_isLong ⟨Nat.le_of_ble_eq_true rfl, Nat.le_of_ble_eq_true rfl⟩) dX3_behind_9 rfl rfl (Nat.le_of_ble_eq_true rfl) (fun _ => rfl) (fun r u h => kX3_isLong h) (fun r3 t4 => ?_)
    refine g_if_eq (pc := 12) X 25 dX3_behind_12 (by decide) ?_ ?_
    · refine g_iconst (pc := 25) X (-1) dX3_behind_25 rfl ?_
      exact g_iret (pc := 26) X hr dX3_behind_26
    · refine g_iload_n (pc := 15) X 3 dX3_behind_15 rfl rfl ?_
      refine g_i2l (pc := 16) X dX3_behind_16 ?_
      refine g_lconst (pc := 17) X 0 dX3_behind_17 rfl ?_
      refine g_lconst (pc := 18) X 1 dX3_behind_18 rfl ?_
      refine g_mS_i (pc := 19) X (y := yX3_in) (As := [.long x3.toInt64, .long 0, .long 1]) (rest := []) (fr' := 0) (lo' := 0) (fun _ => va_cwS 3 X.2.2.2.2.1 (lw_S q1767 q1768 q76 q1769) rfl rfl rfl dmS_X3_in ⟨Nat.le_of_ble_eq_true rfl, Nat.le_of_ble_eq_true rfl⟩) dX3_behind_19 rfl rfl (Nat.le_of_ble_eq_true rfl) (fun _ => rfl) (fun r u h => kX3_in h) (fun r5 t6 => ?_)
      refine g_if_ne (pc := 22) X 27 dX3_behind_22 (by decide) ?_ ?_
      · refine g_aload_n (pc := 27) X 0 dX3_behind_27 rfl rfl ?_
        refine g_mV_v (pc := 28) X (C := RX3) (y := yX3_keepAside) (As := []) (rest := []) (fr' := 0) (lo' := 0) (fun _ => cwV 0 X.2.2.2.2.1 (lw_V q2005 q2007 qs59 q76 q2008) rfl rfl rfl dmV_X3_keepAside ⟨Nat.le_of_ble_eq_true rfl, Nat.le_of_ble_eq_true rfl⟩) dX3_behind_28 MC_o ⟨_, _, rfl⟩ rfl rfl (Nat.le_of_ble_eq_true rfl) (fun _ => rfl) (fun r u h => kX3_keepAside h) (fun r7 t8 => ?_)
        refine g_aload_n (pc := 31) X 0 dX3_behind_31 rfl rfl ?_
        refine g_iload_n (pc := 32) X 2 dX3_behind_32 rfl rfl ?_
        refine g_mV_v (pc := 33) X (C := RX3) (y := yX3_goHours) (As := [.int x2]) (rest := []) (fr' := 5) (lo' := 112) (fun _ => cwV 1 X.2.2.2.2.1 (lw_V q2009 q2011 qs60 q76 q2012) rfl rfl rfl dmV_X3_goHours ⟨Nat.le_of_ble_eq_true rfl, Nat.le_of_ble_eq_true rfl⟩) dX3_behind_33 MC_o ⟨_, _, rfl⟩ rfl rfl (Nat.le_of_ble_eq_true rfl) (fun _ => rfl) (fun r u h => kX3_goHours h) (fun r9 t10 => ?_)
        refine g_iload_n (pc := 36) X 3 dX3_behind_36 rfl rfl ?_
        refine g_if_ne (pc := 37) X 52 dX3_behind_37 (by decide) ?_ ?_
        · refine g_aload_n (pc := 52) X 0 dX3_behind_52 rfl rfl ?_
          refine g_iload_n (pc := 53) X 1 dX3_behind_53 rfl rfl ?_
          refine g_mV_i (pc := 54) X (C := RX3) (y := yX3_placeOf) (As := [.int x1]) (rest := []) (fr' := 2) (lo' := 43) (fun _ => cwV 1 X.2.2.2.2.1 (lw_V q1957 q1959 qs55 q76 q1960) rfl rfl rfl dmV_X3_placeOf ⟨Nat.le_of_ble_eq_true rfl, Nat.le_of_ble_eq_true rfl⟩) dX3_behind_54 MC_o ⟨_, _, rfl⟩ rfl rfl (Nat.le_of_ble_eq_true rfl) (fun _ => rfl) (fun r u h => kX3_placeOf h) (fun r11 t12 => ?_)
          refine g_istore (pc := 57) X (lv' := [(4, .int r11), (0, .ref mo), (1, .int x1), (2, .int x2), (3, .int x3)]) dX3_behind_57 (by decide) rfl ?_
          refine g_aload_n (pc := 59) X 1 dX3_behind_59 rfl rfl ?_
          refine g_mV_v (pc := 60) X (C := RX3) (y := yX3_bringBack) (As := []) (rest := []) (fr' := 0) (lo' := 0) (fun _ => cwV 0 X.2.2.2.2.1 (lw_V q2013 q2015 qs61 q76 q2016) rfl rfl rfl dmV_X3_bringBack ⟨Nat.le_of_ble_eq_true rfl, Nat.le_of_ble_eq_true rfl⟩) dX3_behind_60 MC_o ⟨_, _, rfl⟩ rfl rfl (Nat.le_of_ble_eq_true rfl) (fun _ => rfl) (fun r u h => kX3_bringBack h) (fun r13 t14 => ?_)
          refine g_iload (pc := 63) X 0 dX3_behind_63 rfl ?_
          exact g_iret (pc := 65) X hr dX3_behind_65
        · refine g_aload_n (pc := 40) X 0 dX3_behind_40 rfl rfl ?_
          refine mg_get (pc := 41) X fo_X3_7 dX3_behind_41 rfl ?_
          refine g_bipush (pc := 44) X 42 dX3_behind_44 rfl ?_
          refine g_iload_n (pc := 46) X 1 dX3_behind_46 rfl rfl ?_
          refine g_iadd (pc := 47) X dX3_behind_47 ?_
          refine mg_ald (pc := 48) X (j := 0) dX3_behind_48 (by decide) rfl (fun v15 => ?_)
          refine g_goto (pc := 49) X 57 dX3_behind_49 (by decide) ?_
          refine g_istore (pc := 57) X (lv' := [(4, .int v15), (0, .ref mo), (1, .int x1), (2, .int x2), (3, .int x3)]) dX3_behind_57 (by decide) rfl ?_
          refine g_aload_n (pc := 59) X 1 dX3_behind_59 rfl rfl ?_
          refine g_mV_v (pc := 60) X (C := RX3) (y := yX3_bringBack) (As := []) (rest := []) (fr' := 0) (lo' := 0) (fun _ => cwV 0 X.2.2.2.2.1 (lw_V q2013 q2015 qs61 q76 q2016) rfl rfl rfl dmV_X3_bringBack ⟨Nat.le_of_ble_eq_true rfl, Nat.le_of_ble_eq_true rfl⟩) dX3_behind_60 MC_o ⟨_, _, rfl⟩ rfl rfl (Nat.le_of_ble_eq_true rfl) (fun _ => rfl) (fun r u h => kX3_bringBack h) (fun r16 t17 => ?_)
          refine g_iload (pc := 63) X 0 dX3_behind_63 rfl ?_
          exact g_iret (pc := 65) X hr dX3_behind_65
      · refine g_iconst (pc := 25) X (-1) dX3_behind_25 rfl ?_
        exact g_iret (pc := 26) X hr dX3_behind_26
theorem kX3_behind {mo : Nat} {ρ : Sg} {sz : Nat} {x1 : Int32} {x2 : Int32} {x3 : Int32} {t : MS} {r : Int32} {u : MS} (h : fX3_behind x1 x2 x3 t = some (r, u)) : g_C Γ l yX3_behind cX3_behind 5 (Option.some Jvm.ClassFile.FieldType.int) 6 134 [.ref mo, .int x1, .int x2, .int x3] (MC mo t ρ) sz v_i r (m_ι mo ρ sz u) :=
  g_met [.ref mo, .int x1, .int x2, .int x3] (by decide) (Nat.le_of_ble_eq_true rfl) h rfl (fun p e s m args below meth c X hr hn => wX3_behind X hr x1 x2 x3 t)
def fX3_leads_47 (kc22 : Int32 → Int32 → MS → Option (Int32 × MS)) (x3 : Int32) (s0 : Int32) (s1 : Int32) (t : MS) : Option (Int32 × MS) := lt (s1 ||| s0) fun y1 => kc22 y1 (x3 + 1) t
set_option maxHeartbeats 4000000 in
theorem wX3_leads_47 {rF : Int32} (X : g_X Γ p s m args meth c cX3_leads 4 RX3) (hr : meth.sig.returnType = (Option.some Jvm.ClassFile.FieldType.int)) {kc22 : Int32 → Int32 → MS → Option (Int32 × MS)} (hk22 : ∀ (x2 : Int32) (x3 : Int32) (t : MS), Wf Γ p l e 6 134 s m args below meth c 4 (m_ι mo ρ sz) v_i rF tF 22 [(0, .ref mo), (2, .int x2), (3, .int x3)] [] t (kc22 x2 x3 t)) (x3 : Int32) (s0 : Int32) (s1 : Int32) (t : MS) : Wf Γ p l e 6 134 s m args below meth c 4 (m_ι mo ρ sz) v_i rF tF 47 [(0, .ref mo), (3, .int x3)] [.int s0, .int s1] t (fX3_leads_47 kc22 x3 s0 s1 t) := by
  unfold fX3_leads_47
  refine g_ior (pc := 47) X dX3_leads_47 ?_
  refine g_lti (pc := 48) (fun y1 => ?_)
  refine g_istore_n (pc := 48) X (lv' := [(2, .int y1), (0, .ref mo), (3, .int x3)]) dX3_leads_48 rfl (by decide) rfl ?_
  refine g_iinc (pc := 49) X 1 2 (lv' := [(3, .int (x3 + 1)), (2, .int y1), (0, .ref mo)]) dX3_leads_49 rfl rfl (by decide) rfl ?_
  refine g_goto (pc := 52) X 22 dX3_leads_52 (by decide) ?_
  exact g_lv (pc := 22) (lv' := [(0, .ref mo), (2, .int y1), (3, .int (x3 + 1))]) [2, 1, 0] rfl (hk22 y1 (x3 + 1) t)
def fX3_leads_22 : Nat → Int32 → Int32 → MS → Option (Int32 × MS)
  | 0, _, _, _ => none
  | n + 1, x2, x3, t => if t.1 3 ≤ x3 then gm (fX3_bringBack t) fun _ t2 => some (x2, t2) else gm (fX3_placeOf x3 t) fun r3 t4 => if r3 = 1 then fX3_leads_47 (fun a0 a1 a2 => fX3_leads_22 n a0 a1 a2) x3 (1 <<< (x3 &&& 31)) x2 t4 else fX3_leads_47 (fun a0 a1 a2 => fX3_leads_22 n a0 a1 a2) x3 0 x2 t4
set_option maxHeartbeats 4000000 in
theorem wX3_leads_22 {rF : Int32} (X : g_X Γ p s m args meth c cX3_leads 4 RX3) (hr : meth.sig.returnType = (Option.some Jvm.ClassFile.FieldType.int)) (n : Nat) : ∀ (x2 : Int32) (x3 : Int32) (t : MS), Wf Γ p l e 6 134 s m args below meth c 4 (m_ι mo ρ sz) v_i rF tF 22 [(0, .ref mo), (2, .int x2), (3, .int x3)] [] t (fX3_leads_22 n x2 x3 t) := by
  induction n with
  | zero => intro x2 x3 t; exact g_none
  | succ n ih =>
    intro x2 x3 t
    rw [fX3_leads_22]
    refine g_iload_n (pc := 22) X 2 dX3_leads_22 rfl rfl ?_
    refine g_aload_n (pc := 23) X 0 dX3_leads_23 rfl rfl ?_
    refine mg_get (pc := 24) X fo_X3_72 dX3_leads_24 rfl ?_
    refine g_icmp_ge (pc := 27) X 55 dX3_leads_27 (by decide) ?_ ?_
    · refine g_aload_n (pc := 55) X 0 dX3_leads_55 rfl rfl ?_
      refine g_mV_v (pc := 56) X (C := RX3) (y := yX3_bringBack) (As := []) (rest := []) (fr' := 0) (lo' := 0) (fun _ => cwV 0 X.2.2.2.2.1 (lw_V q2013 q2015 qs61 q76 q2016) rfl rfl rfl dmV_X3_bringBack ⟨Nat.le_of_ble_eq_true rfl, Nat.le_of_ble_eq_true rfl⟩) dX3_leads_56 MC_o ⟨_, _, rfl⟩ rfl rfl (Nat.le_of_ble_eq_true rfl) (fun _ => rfl) (fun r u h => kX3_bringBack h) (fun r1 t2 => ?_)
      refine g_iload_n (pc := 59) X 1 dX3_leads_59 rfl rfl ?_
      exact g_iret (pc := 60) X hr dX3_leads_60
    · refine g_iload_n (pc := 30) X 1 dX3_leads_30 rfl rfl ?_
      refine g_aload_n (pc := 31) X 0 dX3_leads_31 rfl rfl ?_
      refine g_iload_n (pc := 32) X 2 dX3_leads_32 rfl rfl ?_
      refine g_mV_i (pc := 33) X (C := RX3) (y := yX3_placeOf) (As := [.int x3]) (rest := [.int x2]) (fr' := 2) (lo' := 43) (fun _ => cwV 1 X.2.2.2.2.1 (lw_V q1957 q1959 qs55 q76 q1960) rfl rfl rfl dmV_X3_placeOf ⟨Nat.le_of_ble_eq_true rfl, Nat.le_of_ble_eq_true rfl⟩) dX3_leads_33 MC_o ⟨_, _, rfl⟩ rfl rfl (Nat.le_of_ble_eq_true rfl) (fun _ => rfl) (fun r u h => kX3_placeOf h) (fun r3 t4 => ?_)
      refine g_iconst (pc := 36) X 1 dX3_leads_36 rfl ?_
      refine g_icmp_ne (pc := 37) X 46 dX3_leads_37 (by decide) ?_ ?_
      · refine g_iconst (pc := 46) X 0 dX3_leads_46 rfl ?_
        exact g_lv (pc := 47) (lv' := [(0, .ref mo), (3, .int x3)]) [0, 2] rfl (wX3_leads_47 X hr (fun a0 a1 a2 => ih a0 a1 a2) x3 0 x2 t4)
      · refine g_iconst (pc := 40) X 1 dX3_leads_40 rfl ?_
        refine g_iload_n (pc := 41) X 2 dX3_leads_41 rfl rfl ?_
        refine g_ishl (pc := 42) X dX3_leads_42 ?_
        refine g_goto (pc := 43) X 47 dX3_leads_43 (by decide) ?_
        exact g_lv (pc := 47) (lv' := [(0, .ref mo), (3, .int x3)]) [0, 2] rfl (wX3_leads_47 X hr (fun a0 a1 a2 => ih a0 a1 a2) x3 (1 <<< (x3 &&& 31)) x2 t4)
def fX3_leads (x1 : Int32) (t : MS) : Option (Int32 × MS) := gm (fX3_isLong x1 t) fun r1 t2 => if r1 = 0 then some ((-1), t2) else gm (fX3_keepAside t2) fun _ t4 => gm (fX3_goHours x1 t4) fun _ t6 => fX3_leads_22 1000 0 0 t6
set_option maxHeartbeats 4000000 in
theorem wX3_leads {rF : Int32} (X : g_X Γ p s m args meth c cX3_leads 4 RX3) (hr : meth.sig.returnType = (Option.some Jvm.ClassFile.FieldType.int)) (x1 : Int32) (t : MS) : Wf Γ p l e 6 134 s m args below meth c 4 (m_ι mo ρ sz) v_i rF tF 0 [(0, .ref mo), (1, .int x1)] [] t (fX3_leads x1 t) := by
  unfold fX3_leads
  refine g_iload_n (pc := 0) X 1 dX3_leads_0 rfl rfl ?_
  refine g_mS_i (pc := 1) X (y := yX3_isLong) (As := [.int x1]) (rest := []) (fr' := 1) (lo' := 25) (fun _ => va_cwS 1 X.2.2.2.2.1 (lw_S q2001 q2002 q76 q2003) rfl rfl rfl dmS_X3_isLong ⟨Nat.le_of_ble_eq_true rfl, Nat.le_of_ble_eq_true rfl⟩) dX3_leads_1 rfl rfl (Nat.le_of_ble_eq_true rfl) (fun _ => rfl) (fun r u h => kX3_isLong h) (fun r1 t2 => ?_)
  refine g_if_ne (pc := 4) X 9 dX3_leads_4 (by decide) ?_ ?_
  · refine g_aload_n (pc := 9) X 0 dX3_leads_9 rfl rfl ?_
    refine g_mV_v (pc := 10) X (C := RX3) (y := yX3_keepAside) (As := []) (rest := []) (fr' := 0) (lo' := 0) (fun _ => cwV 0 X.2.2.2.2.1 (lw_V q2005 q2007 qs59 q76 q2008) rfl rfl rfl dmV_X3_keepAside ⟨Nat.le_of_ble_eq_true rfl, Nat.le_of_ble_eq_true rfl⟩) dX3_leads_10 MC_o ⟨_, _, rfl⟩ rfl rfl (Nat.le_of_ble_eq_true rfl) (fun _ => rfl) (fun r u h => kX3_keepAside h) (fun r3 t4 => ?_)
    refine g_aload_n (pc := 13) X 0 dX3_leads_13 rfl rfl ?_
    refine g_iload_n (pc := 14) X 1 dX3_leads_14 rfl rfl ?_
    refine g_mV_v (pc := 15) X (C := RX3) (y := yX3_goHours) (As := [.int x1]) (rest := []) (fr' := 5) (lo' := 112) (fun _ => cwV 1 X.2.2.2.2.1 (lw_V q2009 q2011 qs60 q76 q2012) rfl rfl rfl dmV_X3_goHours ⟨Nat.le_of_ble_eq_true rfl, Nat.le_of_ble_eq_true rfl⟩) dX3_leads_15 MC_o ⟨_, _, rfl⟩ rfl rfl (Nat.le_of_ble_eq_true rfl) (fun _ => rfl) (fun r u h => kX3_goHours h) (fun r5 t6 => ?_)
    refine g_iconst (pc := 18) X 0 dX3_leads_18 rfl ?_
    refine g_istore_n (pc := 19) X (lv' := [(2, .int 0), (0, .ref mo), (1, .int x1)]) dX3_leads_19 rfl (by decide) rfl ?_
    refine g_iconst (pc := 20) X 0 dX3_leads_20 rfl ?_
    refine g_istore_n (pc := 21) X (lv' := [(3, .int 0), (2, .int 0), (0, .ref mo), (1, .int x1)]) dX3_leads_21 rfl (by decide) rfl ?_
    exact g_lv (pc := 22) (lv' := [(0, .ref mo), (2, .int 0), (3, .int 0)]) [2, 1, 0] rfl (wX3_leads_22 X hr 1000 0 0 t6)
  · refine g_iconst (pc := 7) X (-1) dX3_leads_7 rfl ?_
    exact g_iret (pc := 8) X hr dX3_leads_8
theorem kX3_leads {mo : Nat} {ρ : Sg} {sz : Nat} {x1 : Int32} {t : MS} {r : Int32} {u : MS} (h : fX3_leads x1 t = some (r, u)) : g_C Γ l yX3_leads cX3_leads 4 (Option.some Jvm.ClassFile.FieldType.int) 6 134 [.ref mo, .int x1] (MC mo t ρ) sz v_i r (m_ι mo ρ sz u) :=
  g_met [.ref mo, .int x1] (by decide) (Nat.le_of_ble_eq_true rfl) h rfl (fun p e s m args below meth c X hr hn => wX3_leads X hr x1 t)
def fX3_finish (x1 : Int32) (t : MS) : Option (Int32 × MS) := gm (fX3_isClock x1 t) fun r1 t2 => if r1 = 0 then some ((-1), t2) else gm (fX3_keepAside t2) fun _ t4 => gm (fX3_goHours 200 t4) fun _ t6 => mald t6 0 63 (51 + x1) fun v7 => gm (fX3_bringBack t6) fun _ t9 => some (v7, t9)
set_option maxHeartbeats 4000000 in
theorem wX3_finish {rF : Int32} (X : g_X Γ p s m args meth c cX3_finish 3 RX3) (hr : meth.sig.returnType = (Option.some Jvm.ClassFile.FieldType.int)) (x1 : Int32) (t : MS) : Wf Γ p l e 6 134 s m args below meth c 3 (m_ι mo ρ sz) v_i rF tF 0 [(0, .ref mo), (1, .int x1)] [] t (fX3_finish x1 t) := by
  unfold fX3_finish
  refine g_aload_n (pc := 0) X 0 dX3_finish_0 rfl rfl ?_
  refine g_iload_n (pc := 1) X 1 dX3_finish_1 rfl rfl ?_
  refine g_mV_i (pc := 2) X (C := RX3) (y := yX3_isClock) (As := [.int x1]) (rest := []) (fr' := 1) (lo' := 25) (fun _ => cwV 1 X.2.2.2.2.1 (lw_V q1786 q1788 qs31 q76 q1789) rfl rfl rfl dmV_X3_isClock ⟨Nat.le_of_ble_eq_true rfl, Nat.le_of_ble_eq_true rfl⟩) dX3_finish_2 MC_o ⟨_, _, rfl⟩ rfl rfl (Nat.le_of_ble_eq_true rfl) (fun _ => rfl) (fun r u h => kX3_isClock h) (fun r1 t2 => ?_)
  refine g_if_ne (pc := 5) X 10 dX3_finish_5 (by decide) ?_ ?_
  · refine g_aload_n (pc := 10) X 0 dX3_finish_10 rfl rfl ?_
    refine g_mV_v (pc := 11) X (C := RX3) (y := yX3_keepAside) (As := []) (rest := []) (fr' := 0) (lo' := 0) (fun _ => cwV 0 X.2.2.2.2.1 (lw_V q2005 q2007 qs59 q76 q2008) rfl rfl rfl dmV_X3_keepAside ⟨Nat.le_of_ble_eq_true rfl, Nat.le_of_ble_eq_true rfl⟩) dX3_finish_11 MC_o ⟨_, _, rfl⟩ rfl rfl (Nat.le_of_ble_eq_true rfl) (fun _ => rfl) (fun r u h => kX3_keepAside h) (fun r3 t4 => ?_)
    refine g_aload_n (pc := 14) X 0 dX3_finish_14 rfl rfl ?_
    refine g_sipush (pc := 15) X 200 dX3_finish_15 rfl ?_
    refine g_mV_v (pc := 18) X (C := RX3) (y := yX3_goHours) (As := [.int 200]) (rest := []) (fr' := 5) (lo' := 112) (fun _ => cwV 1 X.2.2.2.2.1 (lw_V q2009 q2011 qs60 q76 q2012) rfl rfl rfl dmV_X3_goHours ⟨Nat.le_of_ble_eq_true rfl, Nat.le_of_ble_eq_true rfl⟩) dX3_finish_18 MC_o ⟨_, _, rfl⟩ rfl rfl (Nat.le_of_ble_eq_true rfl) (fun _ => rfl) (fun r u h => kX3_goHours h) (fun r5 t6 => ?_)
    refine g_aload_n (pc := 21) X 0 dX3_finish_21 rfl rfl ?_
    refine mg_get (pc := 22) X fo_X3_7 dX3_finish_22 rfl ?_
    refine g_bipush (pc := 25) X 51 dX3_finish_25 rfl ?_
    refine g_iload_n (pc := 27) X 1 dX3_finish_27 rfl rfl ?_
    refine g_iadd (pc := 28) X dX3_finish_28 ?_
    refine mg_ald (pc := 29) X (j := 0) dX3_finish_29 (by decide) rfl (fun v7 => ?_)
    refine g_istore_n (pc := 30) X (lv' := [(2, .int v7), (0, .ref mo), (1, .int x1)]) dX3_finish_30 rfl (by decide) rfl ?_
    refine g_aload_n (pc := 31) X 1 dX3_finish_31 rfl rfl ?_
    refine g_mV_v (pc := 32) X (C := RX3) (y := yX3_bringBack) (As := []) (rest := []) (fr' := 0) (lo' := 0) (fun _ => cwV 0 X.2.2.2.2.1 (lw_V q2013 q2015 qs61 q76 q2016) rfl rfl rfl dmV_X3_bringBack ⟨Nat.le_of_ble_eq_true rfl, Nat.le_of_ble_eq_true rfl⟩) dX3_finish_32 MC_o ⟨_, _, rfl⟩ rfl rfl (Nat.le_of_ble_eq_true rfl) (fun _ => rfl) (fun r u h => kX3_bringBack h) (fun r8 t9 => ?_)
    refine g_iload_n (pc := 35) X 0 dX3_finish_35 rfl rfl ?_
    exact g_iret (pc := 36) X hr dX3_finish_36
  · refine g_iconst (pc := 8) X (-1) dX3_finish_8 rfl ?_
    exact g_iret (pc := 9) X hr dX3_finish_9
theorem kX3_finish {mo : Nat} {ρ : Sg} {sz : Nat} {x1 : Int32} {t : MS} {r : Int32} {u : MS} (h : fX3_finish x1 t = some (r, u)) : g_C Γ l yX3_finish cX3_finish 3 (Option.some Jvm.ClassFile.FieldType.int) 6 134 [.ref mo, .int x1] (MC mo t ρ) sz v_i r (m_ι mo ρ sz u) :=
  g_met [.ref mo, .int x1] (by decide) (Nat.le_of_ble_eq_true rfl) h rfl (fun p e s m args below meth c X hr hn => wX3_finish X hr x1 t)
def fX3_over_39 (x1 : Int32) (t : MS) : Option (Int32 × MS) := gm (fX3_homes t) fun r1 t2 => if t2.1 3 ≤ r1 then gm (fX3_bringBack t2) fun _ t4 => some (x1, t4) else gm (fX3_bringBack t2) fun _ t6 => some ((-4), t6)
set_option maxHeartbeats 4000000 in
theorem wX3_over_39 {rF : Int32} (X : g_X Γ p s m args meth c cX3_over 3 RX3) (hr : meth.sig.returnType = (Option.some Jvm.ClassFile.FieldType.int)) (x1 : Int32) (t : MS) : Wf Γ p l e 5 112 s m args below meth c 3 (m_ι mo ρ sz) v_i rF tF 39 [(0, .ref mo), (1, .int x1)] [] t (fX3_over_39 x1 t) := by
  unfold fX3_over_39
  refine g_aload_n (pc := 39) X 0 dX3_over_39 rfl rfl ?_
  refine g_mV_i (pc := 40) X (C := RX3) (y := yX3_homes) (As := []) (rest := []) (fr' := 1) (lo' := 21) (fun _ => cwV 0 X.2.2.2.2.1 (lw_V q1969 q1971 qs57 q76 q1972) rfl rfl rfl dmV_X3_homes ⟨Nat.le_of_ble_eq_true rfl, Nat.le_of_ble_eq_true rfl⟩) dX3_over_40 MC_o ⟨_, _, rfl⟩ rfl rfl (Nat.le_of_ble_eq_true rfl) (fun _ => rfl) (fun r u h => kX3_homes h) (fun r1 t2 => ?_)
  refine g_aload_n (pc := 43) X 0 dX3_over_43 rfl rfl ?_
  refine mg_get (pc := 44) X fo_X3_72 dX3_over_44 rfl ?_
  refine g_icmp_ge (pc := 47) X 55 dX3_over_47 (by decide) ?_ ?_
  · refine g_iload_n (pc := 55) X 1 dX3_over_55 rfl rfl ?_
    refine g_istore_n (pc := 56) X (lv' := [(2, .int x1), (0, .ref mo), (1, .int x1)]) dX3_over_56 rfl (by decide) rfl ?_
    refine g_aload_n (pc := 57) X 1 dX3_over_57 rfl rfl ?_
    refine g_mV_v (pc := 58) X (C := RX3) (y := yX3_bringBack) (As := []) (rest := []) (fr' := 0) (lo' := 0) (fun _ => cwV 0 X.2.2.2.2.1 (lw_V q2013 q2015 qs61 q76 q2016) rfl rfl rfl dmV_X3_bringBack ⟨Nat.le_of_ble_eq_true rfl, Nat.le_of_ble_eq_true rfl⟩) dX3_over_58 MC_o ⟨_, _, rfl⟩ rfl rfl (Nat.le_of_ble_eq_true rfl) (fun _ => rfl) (fun r u h => kX3_bringBack h) (fun r3 t4 => ?_)
    refine g_iload_n (pc := 61) X 0 dX3_over_61 rfl rfl ?_
    exact g_iret (pc := 62) X hr dX3_over_62
  · refine g_bipush (pc := 50) X (-4) dX3_over_50 rfl ?_
    refine g_goto (pc := 52) X 56 dX3_over_52 (by decide) ?_
    refine g_istore_n (pc := 56) X (lv' := [(2, .int (-4)), (0, .ref mo), (1, .int x1)]) dX3_over_56 rfl (by decide) rfl ?_
    refine g_aload_n (pc := 57) X 1 dX3_over_57 rfl rfl ?_
    refine g_mV_v (pc := 58) X (C := RX3) (y := yX3_bringBack) (As := []) (rest := []) (fr' := 0) (lo' := 0) (fun _ => cwV 0 X.2.2.2.2.1 (lw_V q2013 q2015 qs61 q76 q2016) rfl rfl rfl dmV_X3_bringBack ⟨Nat.le_of_ble_eq_true rfl, Nat.le_of_ble_eq_true rfl⟩) dX3_over_58 MC_o ⟨_, _, rfl⟩ rfl rfl (Nat.le_of_ble_eq_true rfl) (fun _ => rfl) (fun r u h => kX3_bringBack h) (fun r5 t6 => ?_)
    refine g_iload_n (pc := 61) X 0 dX3_over_61 rfl rfl ?_
    exact g_iret (pc := 62) X hr dX3_over_62
def fX3_over_6 : Nat → Int32 → MS → Option (Int32 × MS)
  | 0, _, _ => none
  | n + 1, x1, t => if 200 ≤ x1 then fX3_over_39 x1 t else gm (fX3_homes t) fun r1 t2 => if t2.1 3 ≤ r1 then fX3_over_39 x1 t2 else gm (fX3_skyNow t2) fun r3 t4 => gm (fX3_goOn r3 t4) fun r5 t6 => fX3_over_6 n (x1 + 1) t6
set_option maxHeartbeats 4000000 in
theorem wX3_over_6 {rF : Int32} (X : g_X Γ p s m args meth c cX3_over 3 RX3) (hr : meth.sig.returnType = (Option.some Jvm.ClassFile.FieldType.int)) (n : Nat) : ∀ (x1 : Int32) (t : MS), Wf Γ p l e 5 112 s m args below meth c 3 (m_ι mo ρ sz) v_i rF tF 6 [(0, .ref mo), (1, .int x1)] [] t (fX3_over_6 n x1 t) := by
  induction n with
  | zero => intro x1 t; exact g_none
  | succ n ih =>
    intro x1 t
    rw [fX3_over_6]
    refine g_iload_n (pc := 6) X 1 dX3_over_6 rfl rfl ?_
    refine g_sipush (pc := 7) X 200 dX3_over_7 rfl ?_
    refine g_icmp_ge (pc := 10) X 39 dX3_over_10 (by decide) ?_ ?_
    · exact g_lv (pc := 39) (lv' := [(0, .ref mo), (1, .int x1)]) [0, 1] rfl (wX3_over_39 X hr x1 t)
    · refine g_aload_n (pc := 13) X 0 dX3_over_13 rfl rfl ?_
      refine g_mV_i (pc := 14) X (C := RX3) (y := yX3_homes) (As := []) (rest := []) (fr' := 1) (lo' := 21) (fun _ => cwV 0 X.2.2.2.2.1 (lw_V q1969 q1971 qs57 q76 q1972) rfl rfl rfl dmV_X3_homes ⟨Nat.le_of_ble_eq_true rfl, Nat.le_of_ble_eq_true rfl⟩) dX3_over_14 MC_o ⟨_, _, rfl⟩ rfl rfl (Nat.le_of_ble_eq_true rfl) (fun _ => rfl) (fun r u h => kX3_homes h) (fun r1 t2 => ?_)
      refine g_aload_n (pc := 17) X 0 dX3_over_17 rfl rfl ?_
      refine mg_get (pc := 18) X fo_X3_72 dX3_over_18 rfl ?_
      refine g_icmp_ge (pc := 21) X 39 dX3_over_21 (by decide) ?_ ?_
      · exact g_lv (pc := 39) (lv' := [(0, .ref mo), (1, .int x1)]) [0, 1] rfl (wX3_over_39 X hr x1 t2)
      · refine g_aload_n (pc := 24) X 0 dX3_over_24 rfl rfl ?_
        refine g_aload_n (pc := 25) X 0 dX3_over_25 rfl rfl ?_
        refine g_mV_i (pc := 26) X (C := RX3) (y := yX3_skyNow) (As := []) (rest := [.ref mo]) (fr' := 0) (lo' := 0) (fun _ => cwV 0 X.2.2.2.2.1 (lw_V q1930 q1932 qs50 q76 q1933) rfl rfl rfl dmV_X3_skyNow ⟨Nat.le_of_ble_eq_true rfl, Nat.le_of_ble_eq_true rfl⟩) dX3_over_26 MC_o ⟨_, _, rfl⟩ rfl rfl (Nat.le_of_ble_eq_true rfl) (fun _ => rfl) (fun r u h => kX3_skyNow h) (fun r3 t4 => ?_)
        refine g_mV_i (pc := 29) X (C := RX3) (y := yX3_goOn) (As := [.int r3]) (rest := []) (fr' := 4) (lo' := 86) (fun _ => cwV 1 X.2.2.2.2.1 (lw_V q1934 q1936 qs51 q76 q1937) rfl rfl rfl dmV_X3_goOn ⟨Nat.le_of_ble_eq_true rfl, Nat.le_of_ble_eq_true rfl⟩) dX3_over_29 MC_o ⟨_, _, rfl⟩ rfl rfl (Nat.le_of_ble_eq_true rfl) (fun _ => rfl) (fun r u h => kX3_goOn h) (fun r5 t6 => ?_)
        refine g_pop (pc := 32) X dX3_over_32 rfl ?_
        refine g_iinc (pc := 33) X 1 1 (lv' := [(1, .int (x1 + 1)), (0, .ref mo)]) dX3_over_33 rfl rfl (by decide) rfl ?_
        refine g_goto (pc := 36) X 6 dX3_over_36 (by decide) ?_
        exact g_lv (pc := 6) (lv' := [(0, .ref mo), (1, .int (x1 + 1))]) [1, 0] rfl (ih (x1 + 1) t6)
def fX3_over (t : MS) : Option (Int32 × MS) := gm (fX3_keepAside t) fun _ t2 => fX3_over_6 1000 0 t2
set_option maxHeartbeats 4000000 in
theorem wX3_over {rF : Int32} (X : g_X Γ p s m args meth c cX3_over 3 RX3) (hr : meth.sig.returnType = (Option.some Jvm.ClassFile.FieldType.int)) (t : MS) : Wf Γ p l e 5 112 s m args below meth c 3 (m_ι mo ρ sz) v_i rF tF 0 [(0, .ref mo)] [] t (fX3_over  t) := by
  unfold fX3_over
  refine g_aload_n (pc := 0) X 0 dX3_over_0 rfl rfl ?_
  refine g_mV_v (pc := 1) X (C := RX3) (y := yX3_keepAside) (As := []) (rest := []) (fr' := 0) (lo' := 0) (fun _ => cwV 0 X.2.2.2.2.1 (lw_V q2005 q2007 qs59 q76 q2008) rfl rfl rfl dmV_X3_keepAside ⟨Nat.le_of_ble_eq_true rfl, Nat.le_of_ble_eq_true rfl⟩) dX3_over_1 MC_o ⟨_, _, rfl⟩ rfl rfl (Nat.le_of_ble_eq_true rfl) (fun _ => rfl) (fun r u h => kX3_keepAside h) (fun r1 t2 => ?_)
  refine g_iconst (pc := 4) X 0 dX3_over_4 rfl ?_
  refine g_istore_n (pc := 5) X (lv' := [(1, .int 0), (0, .ref mo)]) dX3_over_5 rfl (by decide) rfl ?_
  exact g_lv (pc := 6) (lv' := [(0, .ref mo), (1, .int 0)]) [1, 0] rfl (wX3_over_6 X hr 1000 0 t2)
theorem kX3_over {mo : Nat} {ρ : Sg} {sz : Nat} {t : MS} {r : Int32} {u : MS} (h : fX3_over  t = some (r, u)) : g_C Γ l yX3_over cX3_over 3 (Option.some Jvm.ClassFile.FieldType.int) 5 112 [.ref mo] (MC mo t ρ) sz v_i r (m_ι mo ρ sz u) :=
  g_met [.ref mo] (by decide) (Nat.le_of_ble_eq_true rfl) h rfl (fun p e s m args below meth c X hr hn => wX3_over X hr  t)
def fX3_isAsked (x1 : Int32) (x2 : Int32) (x3 : Int32) (t : MS) : Option (Int32 × MS) := gm (fX3_isClock x1 t) fun r1 t2 => if r1 = 0 then some (0, t2) else gm (fX3_in x2.toInt64 1 9 t2) fun r3 t4 => if r3 = 0 then some (0, t4) else gm (fX3_isLong x3 t4) fun r5 t6 => if r5 = 0 then some (0, t6) else some (1, t6)
set_option maxHeartbeats 4000000 in
theorem wX3_isAsked {rF : Int32} (X : g_X Γ p s m args meth c cX3_isAsked 4 RX3) (hr : meth.sig.returnType = (Option.some Jvm.ClassFile.FieldType.boolean)) (x1 : Int32) (x2 : Int32) (x3 : Int32) (t : MS) : Wf Γ p l e 2 46 s m args below meth c 4 (m_ι mo ρ sz) v_i rF tF 0 [(0, .ref mo), (1, .int x1), (2, .int x2), (3, .int x3)] [] t (fX3_isAsked x1 x2 x3 t) := by
  unfold fX3_isAsked
  refine g_aload_n (pc := 0) X 0 dX3_isAsked_0 rfl rfl ?_
  refine g_iload_n (pc := 1) X 1 dX3_isAsked_1 rfl rfl ?_
  refine g_mV_i (pc := 2) X (C := RX3) (y := yX3_isClock) (As := [.int x1]) (rest := []) (fr' := 1) (lo' := 25) (fun _ => cwV 1 X.2.2.2.2.1 (lw_V q1786 q1788 qs31 q76 q1789) rfl rfl rfl dmV_X3_isClock ⟨Nat.le_of_ble_eq_true rfl, Nat.le_of_ble_eq_true rfl⟩) dX3_isAsked_2 MC_o ⟨_, _, rfl⟩ rfl rfl (Nat.le_of_ble_eq_true rfl) (fun _ => rfl) (fun r u h => kX3_isClock h) (fun r1 t2 => ?_)
  refine g_if_eq (pc := 5) X 31 dX3_isAsked_5 (by decide) ?_ ?_
  · refine g_iconst (pc := 31) X 0 dX3_isAsked_31 rfl ?_
    exact g_zret (pc := 32) X hr rfl dX3_isAsked_32
  · refine g_iload_n (pc := 8) X 2 dX3_isAsked_8 rfl rfl ?_
    refine g_i2l (pc := 9) X dX3_isAsked_9 ?_
    refine g_lconst (pc := 10) X 1 dX3_isAsked_10 rfl ?_
    refine g_ldc2 (pc := 11) X 9 dX3_isAsked_11 q2037 ?_
    refine g_mS_i (pc := 14) X (y := yX3_in) (As := [.long x2.toInt64, .long 1, .long 9]) (rest := []) (fr' := 0) (lo' := 0) (fun _ => va_cwS 3 X.2.2.2.2.1 (lw_S q1767 q1768 q76 q1769) rfl rfl rfl dmS_X3_in ⟨Nat.le_of_ble_eq_true rfl, Nat.le_of_ble_eq_true rfl⟩) dX3_isAsked_14 rfl rfl (Nat.le_of_ble_eq_true rfl) (fun _ => rfl) (fun r u h => kX3_in h) (fun r3 t4 => ?_)
    refine g_if_eq (pc := 17) X 31 dX3_isAsked_17 (by decide) ?_ ?_
    · refine g_iconst (pc := 31) X 0 dX3_isAsked_31 rfl ?_
      exact g_zret (pc := 32) X hr rfl dX3_isAsked_32
    · refine g_iload_n (pc := 20) X 3 dX3_isAsked_20 rfl rfl ?_
      refine g_mS_i (pc := 21) X (y := yX3_isLong) (As := [.int x3]) (rest := []) (fr' := 1) (lo' := 25) (fun _ => va_cwS 1 X.2.2.2.2.1 (lw_S q2001 q2002 q76 q2003) rfl rfl rfl dmS_X3_isLong ⟨Nat.le_of_ble_eq_true rfl, Nat.le_of_ble_eq_true rfl⟩) dX3_isAsked_21 rfl rfl (Nat.le_of_ble_eq_true rfl) (fun _ => rfl) (fun r u h => kX3_isLong h) (fun r5 t6 => ?_)
      refine g_if_eq (pc := 24) X 31 dX3_isAsked_24 (by decide) ?_ ?_
      · refine g_iconst (pc := 31) X 0 dX3_isAsked_31 rfl ?_
        exact g_zret (pc := 32) X hr rfl dX3_isAsked_32
      · refine g_iconst (pc := 27) X 1 dX3_isAsked_27 rfl ?_
        refine g_goto (pc := 28) X 32 dX3_isAsked_28 (by decide) ?_
        exact g_zret (pc := 32) X hr rfl dX3_isAsked_32
theorem kX3_isAsked {mo : Nat} {ρ : Sg} {sz : Nat} {x1 : Int32} {x2 : Int32} {x3 : Int32} {t : MS} {r : Int32} {u : MS} (h : fX3_isAsked x1 x2 x3 t = some (r, u)) : g_C Γ l yX3_isAsked cX3_isAsked 4 (Option.some Jvm.ClassFile.FieldType.boolean) 2 46 [.ref mo, .int x1, .int x2, .int x3] (MC mo t ρ) sz v_i r (m_ι mo ρ sz u) :=
  g_met [.ref mo, .int x1, .int x2, .int x3] (by decide) (Nat.le_of_ble_eq_true rfl) h rfl (fun p e s m args below meth c X hr hn => wX3_isAsked X hr x1 x2 x3 t)
def fX3_placeWith (x1 : Int32) (x2 : Int32) (x3 : Int32) (x4 : Int32) (t : MS) : Option (Int32 × MS) := gm (fX3_keepAside t) fun _ t2 => gm (fX3_addSpring x1 x2 t2) fun _ t4 => gm (fX3_addHands x1 (60 * x3) t4) fun _ t6 => gm (fX3_goHours x4 t6) fun _ t8 => gm (fX3_placeOf x1 t8) fun r9 t10 => gm (fX3_bringBack t10) fun _ t12 => some (r9, t12)
set_option maxHeartbeats 4000000 in
theorem wX3_placeWith {rF : Int32} (X : g_X Γ p s m args meth c cX3_placeWith 6 RX3) (hr : meth.sig.returnType = (Option.some Jvm.ClassFile.FieldType.int)) (x1 : Int32) (x2 : Int32) (x3 : Int32) (x4 : Int32) (t : MS) : Wf Γ p l e 6 134 s m args below meth c 6 (m_ι mo ρ sz) v_i rF tF 0 [(0, .ref mo), (1, .int x1), (2, .int x2), (3, .int x3), (4, .int x4)] [] t (fX3_placeWith x1 x2 x3 x4 t) := by
  unfold fX3_placeWith
  refine g_aload_n (pc := 0) X 0 dX3_placeWith_0 rfl rfl ?_
  refine g_mV_v (pc := 1) X (C := RX3) (y := yX3_keepAside) (As := []) (rest := []) (fr' := 0) (lo' := 0) (fun _ => cwV 0 X.2.2.2.2.1 (lw_V q2005 q2007 qs59 q76 q2008) rfl rfl rfl dmV_X3_keepAside ⟨Nat.le_of_ble_eq_true rfl, Nat.le_of_ble_eq_true rfl⟩) dX3_placeWith_1 MC_o ⟨_, _, rfl⟩ rfl rfl (Nat.le_of_ble_eq_true rfl) (fun _ => rfl) (fun r u h => kX3_keepAside h) (fun r1 t2 => ?_)
  refine g_aload_n (pc := 4) X 0 dX3_placeWith_4 rfl rfl ?_
  refine g_iload_n (pc := 5) X 1 dX3_placeWith_5 rfl rfl ?_
  refine g_iload_n (pc := 6) X 2 dX3_placeWith_6 rfl rfl ?_
  refine g_mV_v (pc := 7) X (C := RX3) (y := yX3_addSpring) (As := [.int x1, .int x2]) (rest := []) (fr' := 0) (lo' := 0) (fun _ => cwV 2 X.2.2.2.2.1 (lw_V q1910 q1912 qs48 q76 q1913) rfl rfl rfl dmV_X3_addSpring ⟨Nat.le_of_ble_eq_true rfl, Nat.le_of_ble_eq_true rfl⟩) dX3_placeWith_7 MC_o ⟨_, _, rfl⟩ rfl rfl (Nat.le_of_ble_eq_true rfl) (fun _ => rfl) (fun r u h => kX3_addSpring h) (fun r3 t4 => ?_)
  refine g_aload_n (pc := 10) X 0 dX3_placeWith_10 rfl rfl ?_
  refine g_iload_n (pc := 11) X 1 dX3_placeWith_11 rfl rfl ?_
  refine g_bipush (pc := 12) X 60 dX3_placeWith_12 rfl ?_
  refine g_iload_n (pc := 14) X 3 dX3_placeWith_14 rfl rfl ?_
  refine g_imul (pc := 15) X dX3_placeWith_15 ?_
  refine g_mV_v (pc := 16) X (C := RX3) (y := yX3_addHands) (As := [.int x1, .int (60 * x3)]) (rest := []) (fr' := 0) (lo' := 0) (fun _ => cwV 2 X.2.2.2.2.1 (lw_V q1918 q1920 qs49 q76 q1921) rfl rfl rfl dmV_X3_addHands ⟨Nat.le_of_ble_eq_true rfl, Nat.le_of_ble_eq_true rfl⟩) dX3_placeWith_16 MC_o ⟨_, _, rfl⟩ rfl rfl (Nat.le_of_ble_eq_true rfl) (fun _ => rfl) (fun r u h => kX3_addHands h) (fun r5 t6 => ?_)
  refine g_aload_n (pc := 19) X 0 dX3_placeWith_19 rfl rfl ?_
  refine g_iload (pc := 20) X 4 dX3_placeWith_20 rfl ?_
  refine g_mV_v (pc := 22) X (C := RX3) (y := yX3_goHours) (As := [.int x4]) (rest := []) (fr' := 5) (lo' := 112) (fun _ => cwV 1 X.2.2.2.2.1 (lw_V q2009 q2011 qs60 q76 q2012) rfl rfl rfl dmV_X3_goHours ⟨Nat.le_of_ble_eq_true rfl, Nat.le_of_ble_eq_true rfl⟩) dX3_placeWith_22 MC_o ⟨_, _, rfl⟩ rfl rfl (Nat.le_of_ble_eq_true rfl) (fun _ => rfl) (fun r u h => kX3_goHours h) (fun r7 t8 => ?_)
  refine g_aload_n (pc := 25) X 0 dX3_placeWith_25 rfl rfl ?_
  refine g_iload_n (pc := 26) X 1 dX3_placeWith_26 rfl rfl ?_
  refine g_mV_i (pc := 27) X (C := RX3) (y := yX3_placeOf) (As := [.int x1]) (rest := []) (fr' := 2) (lo' := 43) (fun _ => cwV 1 X.2.2.2.2.1 (lw_V q1957 q1959 qs55 q76 q1960) rfl rfl rfl dmV_X3_placeOf ⟨Nat.le_of_ble_eq_true rfl, Nat.le_of_ble_eq_true rfl⟩) dX3_placeWith_27 MC_o ⟨_, _, rfl⟩ rfl rfl (Nat.le_of_ble_eq_true rfl) (fun _ => rfl) (fun r u h => kX3_placeOf h) (fun r9 t10 => ?_)
  refine g_istore (pc := 30) X (lv' := [(5, .int r9), (0, .ref mo), (1, .int x1), (2, .int x2), (3, .int x3), (4, .int x4)]) dX3_placeWith_30 (by decide) rfl ?_
  refine g_aload_n (pc := 32) X 1 dX3_placeWith_32 rfl rfl ?_
  refine g_mV_v (pc := 33) X (C := RX3) (y := yX3_bringBack) (As := []) (rest := []) (fr' := 0) (lo' := 0) (fun _ => cwV 0 X.2.2.2.2.1 (lw_V q2013 q2015 qs61 q76 q2016) rfl rfl rfl dmV_X3_bringBack ⟨Nat.le_of_ble_eq_true rfl, Nat.le_of_ble_eq_true rfl⟩) dX3_placeWith_33 MC_o ⟨_, _, rfl⟩ rfl rfl (Nat.le_of_ble_eq_true rfl) (fun _ => rfl) (fun r u h => kX3_bringBack h) (fun r11 t12 => ?_)
  refine g_iload (pc := 36) X 0 dX3_placeWith_36 rfl ?_
  exact g_iret (pc := 38) X hr dX3_placeWith_38
theorem kX3_placeWith {mo : Nat} {ρ : Sg} {sz : Nat} {x1 : Int32} {x2 : Int32} {x3 : Int32} {x4 : Int32} {t : MS} {r : Int32} {u : MS} (h : fX3_placeWith x1 x2 x3 x4 t = some (r, u)) : g_C Γ l yX3_placeWith cX3_placeWith 6 (Option.some Jvm.ClassFile.FieldType.int) 6 134 [.ref mo, .int x1, .int x2, .int x3, .int x4] (MC mo t ρ) sz v_i r (m_ι mo ρ sz u) :=
  g_met [.ref mo, .int x1, .int x2, .int x3, .int x4] (by decide) (Nat.le_of_ble_eq_true rfl) h rfl (fun p e s m args below meth c X hr hn => wX3_placeWith X hr x1 x2 x3 x4 t)
def fX3_turns_15 : Nat → Int32 → Int32 → Int32 → Int32 → MS → Option (Int32 × MS)
  | 0, _, _, _, _, _ => none
  | n + 1, x1, x2, x3, x4, t => if 40 < x4 then some ((-4), t) else gm (fX3_placeWith x1 x4 0 x3 t) fun r1 t2 => if x2 < r1 then fX3_turns_15 n x1 x2 x3 (x4 + 1) t2 else some (x4, t2)
set_option maxHeartbeats 4000000 in
theorem wX3_turns_15 {rF : Int32} (X : g_X Γ p s m args meth c cX3_turns 5 RX3) (hr : meth.sig.returnType = (Option.some Jvm.ClassFile.FieldType.int)) (n : Nat) : ∀ (x1 : Int32) (x2 : Int32) (x3 : Int32) (x4 : Int32) (t : MS), Wf Γ p l e 7 159 s m args below meth c 5 (m_ι mo ρ sz) v_i rF tF 15 [(0, .ref mo), (1, .int x1), (2, .int x2), (3, .int x3), (4, .int x4)] [] t (fX3_turns_15 n x1 x2 x3 x4 t) := by
  induction n with
  | zero => intro x1 x2 x3 x4 t; exact g_none
  | succ n ih =>
    intro x1 x2 x3 x4 t
    rw [fX3_turns_15]
    refine g_iload (pc := 15) X 4 dX3_turns_15 rfl ?_
    refine g_bipush (pc := 17) X 40 dX3_turns_17 rfl ?_
    refine g_icmp_gt (pc := 19) X 44 dX3_turns_19 (by decide) ?_ ?_
    · refine g_bipush (pc := 44) X (-4) dX3_turns_44 rfl ?_
      exact g_iret (pc := 46) X hr dX3_turns_46
    · refine g_aload_n (pc := 22) X 0 dX3_turns_22 rfl rfl ?_
      refine g_iload_n (pc := 23) X 1 dX3_turns_23 rfl rfl ?_
      refine g_iload (pc := 24) X 4 dX3_turns_24 rfl ?_
      refine g_iconst (pc := 26) X 0 dX3_turns_26 rfl ?_
      refine g_iload_n (pc := 27) X 3 dX3_turns_27 rfl rfl ?_
      refine g_mV_i (pc := 28) X (C := RX3) (y := yX3_placeWith) (As := [.int x1, .int x4, .int 0, .int x3]) (rest := []) (fr' := 6) (lo' := 134) (fun _ => cwV 4 X.2.2.2.2.1 (lw_V q2038 q2040 qs63 q76 q2041) rfl rfl rfl dmV_X3_placeWith ⟨Nat.le_of_ble_eq_true rfl, Nat.le_of_ble_eq_true rfl⟩) dX3_turns_28 MC_o ⟨_, _, rfl⟩ rfl rfl (Nat.le_of_ble_eq_true rfl) (fun _ => rfl) (fun r u h => kX3_placeWith h) (fun r1 t2 => ?_)
      refine g_iload_n (pc := 31) X 2 dX3_turns_31 rfl rfl ?_
      refine g_icmp_gt (pc := 32) X 38 dX3_turns_32 (by decide) ?_ ?_
      · refine g_iinc (pc := 38) X 1 4 (lv' := [(4, .int (x4 + 1)), (0, .ref mo), (1, .int x1), (2, .int x2), (3, .int x3)]) dX3_turns_38 rfl rfl (by decide) rfl ?_
        refine g_goto (pc := 41) X 15 dX3_turns_41 (by decide) ?_
        exact g_lv (pc := 15) (lv' := [(0, .ref mo), (1, .int x1), (2, .int x2), (3, .int x3), (4, .int (x4 + 1))]) [1, 2, 3, 4, 0] rfl (ih x1 x2 x3 (x4 + 1) t2)
      · refine g_iload (pc := 35) X 4 dX3_turns_35 rfl ?_
        exact g_iret (pc := 37) X hr dX3_turns_37
def fX3_turns (x1 : Int32) (x2 : Int32) (x3 : Int32) (t : MS) : Option (Int32 × MS) := gm (fX3_isAsked x1 x2 x3 t) fun r1 t2 => if r1 = 0 then some ((-1), t2) else fX3_turns_15 1000 x1 x2 x3 0 t2
set_option maxHeartbeats 4000000 in
theorem wX3_turns {rF : Int32} (X : g_X Γ p s m args meth c cX3_turns 5 RX3) (hr : meth.sig.returnType = (Option.some Jvm.ClassFile.FieldType.int)) (x1 : Int32) (x2 : Int32) (x3 : Int32) (t : MS) : Wf Γ p l e 7 159 s m args below meth c 5 (m_ι mo ρ sz) v_i rF tF 0 [(0, .ref mo), (1, .int x1), (2, .int x2), (3, .int x3)] [] t (fX3_turns x1 x2 x3 t) := by
  unfold fX3_turns
  refine g_aload_n (pc := 0) X 0 dX3_turns_0 rfl rfl ?_
  refine g_iload_n (pc := 1) X 1 dX3_turns_1 rfl rfl ?_
  refine g_iload_n (pc := 2) X 2 dX3_turns_2 rfl rfl ?_
  refine g_iload_n (pc := 3) X 3 dX3_turns_3 rfl rfl ?_
  refine g_mV_i (pc := 4) X (C := RX3) (y := yX3_isAsked) (As := [.int x1, .int x2, .int x3]) (rest := []) (fr' := 2) (lo' := 46) (fun _ => cwV 3 X.2.2.2.2.1 (lw_V q2033 q2035 qs62 q76 q2036) rfl rfl rfl dmV_X3_isAsked ⟨Nat.le_of_ble_eq_true rfl, Nat.le_of_ble_eq_true rfl⟩) dX3_turns_4 MC_o ⟨_, _, rfl⟩ rfl rfl (Nat.le_of_ble_eq_true rfl) (fun _ => rfl) (fun r u h => kX3_isAsked h) (fun r1 t2 => ?_)
  refine g_if_ne (pc := 7) X 12 dX3_turns_7 (by decide) ?_ ?_
  · refine g_iconst (pc := 12) X 0 dX3_turns_12 rfl ?_
    refine g_istore (pc := 13) X (lv' := [(4, .int 0), (0, .ref mo), (1, .int x1), (2, .int x2), (3, .int x3)]) dX3_turns_13 (by decide) rfl ?_
    exact g_lv (pc := 15) (lv' := [(0, .ref mo), (1, .int x1), (2, .int x2), (3, .int x3), (4, .int 0)]) [1, 2, 3, 4, 0] rfl (wX3_turns_15 X hr 1000 x1 x2 x3 0 t2)
  · refine g_iconst (pc := 10) X (-1) dX3_turns_10 rfl ?_
    exact g_iret (pc := 11) X hr dX3_turns_11
theorem kX3_turns {mo : Nat} {ρ : Sg} {sz : Nat} {x1 : Int32} {x2 : Int32} {x3 : Int32} {t : MS} {r : Int32} {u : MS} (h : fX3_turns x1 x2 x3 t = some (r, u)) : g_C Γ l yX3_turns cX3_turns 5 (Option.some Jvm.ClassFile.FieldType.int) 7 159 [.ref mo, .int x1, .int x2, .int x3] (MC mo t ρ) sz v_i r (m_ι mo ρ sz u) :=
  g_met [.ref mo, .int x1, .int x2, .int x3] (by decide) (Nat.le_of_ble_eq_true rfl) h rfl (fun p e s m args below meth c X hr hn => wX3_turns X hr x1 x2 x3 t)
def fX3_hands_15 : Nat → Int32 → Int32 → Int32 → Int32 → MS → Option (Int32 × MS)
  | 0, _, _, _, _, _ => none
  | n + 1, x1, x2, x3, x4, t => if 12 ≤ x4 then some ((-4), t) else gm (fX3_placeWith x1 0 x4 x3 t) fun r1 t2 => if x2 < r1 then fX3_hands_15 n x1 x2 x3 (x4 + 1) t2 else some (x4, t2)
set_option maxHeartbeats 4000000 in
theorem wX3_hands_15 {rF : Int32} (X : g_X Γ p s m args meth c cX3_hands 5 RX3) (hr : meth.sig.returnType = (Option.some Jvm.ClassFile.FieldType.int)) (n : Nat) : ∀ (x1 : Int32) (x2 : Int32) (x3 : Int32) (x4 : Int32) (t : MS), Wf Γ p l e 7 159 s m args below meth c 5 (m_ι mo ρ sz) v_i rF tF 15 [(0, .ref mo), (1, .int x1), (2, .int x2), (3, .int x3), (4, .int x4)] [] t (fX3_hands_15 n x1 x2 x3 x4 t) := by
  induction n with
  | zero => intro x1 x2 x3 x4 t; exact g_none
  | succ n ih =>
    intro x1 x2 x3 x4 t
    rw [fX3_hands_15]
    refine g_iload (pc := 15) X 4 dX3_hands_15 rfl ?_
    refine g_bipush (pc := 17) X 12 dX3_hands_17 rfl ?_
    refine g_icmp_ge (pc := 19) X 44 dX3_hands_19 (by decide) ?_ ?_
    · refine g_bipush (pc := 44) X (-4) dX3_hands_44 rfl ?_
      exact g_iret (pc := 46) X hr dX3_hands_46
    · refine g_aload_n (pc := 22) X 0 dX3_hands_22 rfl rfl ?_
      refine g_iload_n (pc := 23) X 1 dX3_hands_23 rfl rfl ?_
      refine g_iconst (pc := 24) X 0 dX3_hands_24 rfl ?_
      refine g_iload (pc := 25) X 4 dX3_hands_25 rfl ?_
      refine g_iload_n (pc := 27) X 3 dX3_hands_27 rfl rfl ?_
      refine g_mV_i (pc := 28) X (C := RX3) (y := yX3_placeWith) (As := [.int x1, .int 0, .int x4, .int x3]) (rest := []) (fr' := 6) (lo' := 134) (fun _ => cwV 4 X.2.2.2.2.1 (lw_V q2038 q2040 qs63 q76 q2041) rfl rfl rfl dmV_X3_placeWith ⟨Nat.le_of_ble_eq_true rfl, Nat.le_of_ble_eq_true rfl⟩) dX3_hands_28 MC_o ⟨_, _, rfl⟩ rfl rfl (Nat.le_of_ble_eq_true rfl) (fun _ => rfl) (fun r u h => kX3_placeWith h) (fun r1 t2 => ?_)
      refine g_iload_n (pc := 31) X 2 dX3_hands_31 rfl rfl ?_
      refine g_icmp_gt (pc := 32) X 38 dX3_hands_32 (by decide) ?_ ?_
      · refine g_iinc (pc := 38) X 1 4 (lv' := [(4, .int (x4 + 1)), (0, .ref mo), (1, .int x1), (2, .int x2), (3, .int x3)]) dX3_hands_38 rfl rfl (by decide) rfl ?_
        refine g_goto (pc := 41) X 15 dX3_hands_41 (by decide) ?_
        exact g_lv (pc := 15) (lv' := [(0, .ref mo), (1, .int x1), (2, .int x2), (3, .int x3), (4, .int (x4 + 1))]) [1, 2, 3, 4, 0] rfl (ih x1 x2 x3 (x4 + 1) t2)
      · refine g_iload (pc := 35) X 4 dX3_hands_35 rfl ?_
        exact g_iret (pc := 37) X hr dX3_hands_37
def fX3_hands (x1 : Int32) (x2 : Int32) (x3 : Int32) (t : MS) : Option (Int32 × MS) := gm (fX3_isAsked x1 x2 x3 t) fun r1 t2 => if r1 = 0 then some ((-1), t2) else fX3_hands_15 1000 x1 x2 x3 0 t2
set_option maxHeartbeats 4000000 in
theorem wX3_hands {rF : Int32} (X : g_X Γ p s m args meth c cX3_hands 5 RX3) (hr : meth.sig.returnType = (Option.some Jvm.ClassFile.FieldType.int)) (x1 : Int32) (x2 : Int32) (x3 : Int32) (t : MS) : Wf Γ p l e 7 159 s m args below meth c 5 (m_ι mo ρ sz) v_i rF tF 0 [(0, .ref mo), (1, .int x1), (2, .int x2), (3, .int x3)] [] t (fX3_hands x1 x2 x3 t) := by
  unfold fX3_hands
  refine g_aload_n (pc := 0) X 0 dX3_hands_0 rfl rfl ?_
  refine g_iload_n (pc := 1) X 1 dX3_hands_1 rfl rfl ?_
  refine g_iload_n (pc := 2) X 2 dX3_hands_2 rfl rfl ?_
  refine g_iload_n (pc := 3) X 3 dX3_hands_3 rfl rfl ?_
  refine g_mV_i (pc := 4) X (C := RX3) (y := yX3_isAsked) (As := [.int x1, .int x2, .int x3]) (rest := []) (fr' := 2) (lo' := 46) (fun _ => cwV 3 X.2.2.2.2.1 (lw_V q2033 q2035 qs62 q76 q2036) rfl rfl rfl dmV_X3_isAsked ⟨Nat.le_of_ble_eq_true rfl, Nat.le_of_ble_eq_true rfl⟩) dX3_hands_4 MC_o ⟨_, _, rfl⟩ rfl rfl (Nat.le_of_ble_eq_true rfl) (fun _ => rfl) (fun r u h => kX3_isAsked h) (fun r1 t2 => ?_)
  refine g_if_ne (pc := 7) X 12 dX3_hands_7 (by decide) ?_ ?_
  · refine g_iconst (pc := 12) X 0 dX3_hands_12 rfl ?_
    refine g_istore (pc := 13) X (lv' := [(4, .int 0), (0, .ref mo), (1, .int x1), (2, .int x2), (3, .int x3)]) dX3_hands_13 (by decide) rfl ?_
    exact g_lv (pc := 15) (lv' := [(0, .ref mo), (1, .int x1), (2, .int x2), (3, .int x3), (4, .int 0)]) [1, 2, 3, 4, 0] rfl (wX3_hands_15 X hr 1000 x1 x2 x3 0 t2)
  · refine g_iconst (pc := 10) X (-1) dX3_hands_10 rfl ?_
    exact g_iret (pc := 11) X hr dX3_hands_11
theorem kX3_hands {mo : Nat} {ρ : Sg} {sz : Nat} {x1 : Int32} {x2 : Int32} {x3 : Int32} {t : MS} {r : Int32} {u : MS} (h : fX3_hands x1 x2 x3 t = some (r, u)) : g_C Γ l yX3_hands cX3_hands 5 (Option.some Jvm.ClassFile.FieldType.int) 7 159 [.ref mo, .int x1, .int x2, .int x3] (MC mo t ρ) sz v_i r (m_ι mo ρ sz u) :=
  g_met [.ref mo, .int x1, .int x2, .int x3] (by decide) (Nat.le_of_ble_eq_true rfl) h rfl (fun p e s m args below meth c X hr hn => wX3_hands X hr x1 x2 x3 t)
def fX3_both_90 (kc26 : Int32 → Int32 → Int32 → Int32 → Int32 → MS → Option (Int32 × MS)) (kc36 : Int32 → Int32 → Int32 → Int32 → Int32 → Int32 → MS → Option (Int32 × MS)) (x1 : Int32) (x2 : Int32) (x3 : Int32) (x4 : Int32) (x5 : Int32) (x6 : Int32) (t : MS) : Option (Int32 × MS) := kc36 x1 x2 x3 x4 x5 (x6 + 1) t
set_option maxHeartbeats 4000000 in
theorem wX3_both_90 {rF : Int32} (X : g_X Γ p s m args meth c cX3_both 7 RX3) (hr : meth.sig.returnType = (Option.some Jvm.ClassFile.FieldType.int)) {kc26 : Int32 → Int32 → Int32 → Int32 → Int32 → MS → Option (Int32 × MS)} (hk26 : ∀ (x1 : Int32) (x2 : Int32) (x3 : Int32) (x4 : Int32) (x5 : Int32) (t : MS), Wf Γ p l e 7 159 s m args below meth c 7 (m_ι mo ρ sz) v_i rF tF 26 [(0, .ref mo), (1, .int x1), (2, .int x2), (3, .int x3), (4, .int x4), (5, .int x5)] [] t (kc26 x1 x2 x3 x4 x5 t)) {kc36 : Int32 → Int32 → Int32 → Int32 → Int32 → Int32 → MS → Option (Int32 × MS)} (hk36 : ∀ (x1 : Int32) (x2 : Int32) (x3 : Int32) (x4 : Int32) (x5 : Int32) (x6 : Int32) (t : MS), Wf Γ p l e 7 159 s m args below meth c 7 (m_ι mo ρ sz) v_i rF tF 36 [(0, .ref mo), (1, .int x1), (2, .int x2), (3, .int x3), (4, .int x4), (5, .int x5), (6, .int x6)] [] t (kc36 x1 x2 x3 x4 x5 x6 t)) (x1 : Int32) (x2 : Int32) (x3 : Int32) (x4 : Int32) (x5 : Int32) (x6 : Int32) (t : MS) : Wf Γ p l e 7 159 s m args below meth c 7 (m_ι mo ρ sz) v_i rF tF 90 [(0, .ref mo), (1, .int x1), (2, .int x2), (3, .int x3), (4, .int x4), (5, .int x5), (6, .int x6)] [] t (fX3_both_90 kc26 kc36 x1 x2 x3 x4 x5 x6 t) := by
  unfold fX3_both_90
  refine g_iinc (pc := 90) X 1 6 (lv' := [(6, .int (x6 + 1)), (0, .ref mo), (1, .int x1), (2, .int x2), (3, .int x3), (4, .int x4), (5, .int x5)]) dX3_both_90 rfl rfl (by decide) rfl ?_
  refine g_goto (pc := 93) X 36 dX3_both_93 (by decide) ?_
  exact g_lv (pc := 36) (lv' := [(0, .ref mo), (1, .int x1), (2, .int x2), (3, .int x3), (4, .int x4), (5, .int x5), (6, .int (x6 + 1))]) [1, 2, 3, 4, 5, 6, 0] rfl (hk36 x1 x2 x3 x4 x5 (x6 + 1) t)
def fX3_both_96 (kc26 : Int32 → Int32 → Int32 → Int32 → Int32 → MS → Option (Int32 × MS)) (x1 : Int32) (x2 : Int32) (x3 : Int32) (x4 : Int32) (x5 : Int32) (t : MS) : Option (Int32 × MS) := kc26 x1 x2 x3 x4 (x5 + 1) t
set_option maxHeartbeats 4000000 in
theorem wX3_both_96 {rF : Int32} (X : g_X Γ p s m args meth c cX3_both 7 RX3) (hr : meth.sig.returnType = (Option.some Jvm.ClassFile.FieldType.int)) {kc26 : Int32 → Int32 → Int32 → Int32 → Int32 → MS → Option (Int32 × MS)} (hk26 : ∀ (x1 : Int32) (x2 : Int32) (x3 : Int32) (x4 : Int32) (x5 : Int32) (t : MS), Wf Γ p l e 7 159 s m args below meth c 7 (m_ι mo ρ sz) v_i rF tF 26 [(0, .ref mo), (1, .int x1), (2, .int x2), (3, .int x3), (4, .int x4), (5, .int x5)] [] t (kc26 x1 x2 x3 x4 x5 t)) (x1 : Int32) (x2 : Int32) (x3 : Int32) (x4 : Int32) (x5 : Int32) (t : MS) : Wf Γ p l e 7 159 s m args below meth c 7 (m_ι mo ρ sz) v_i rF tF 96 [(0, .ref mo), (1, .int x1), (2, .int x2), (3, .int x3), (4, .int x4), (5, .int x5)] [] t (fX3_both_96 kc26 x1 x2 x3 x4 x5 t) := by
  unfold fX3_both_96
  refine g_iinc (pc := 96) X 1 5 (lv' := [(5, .int (x5 + 1)), (0, .ref mo), (1, .int x1), (2, .int x2), (3, .int x3), (4, .int x4)]) dX3_both_96 rfl rfl (by decide) rfl ?_
  refine g_goto (pc := 99) X 26 dX3_both_99 (by decide) ?_
  exact g_lv (pc := 26) (lv' := [(0, .ref mo), (1, .int x1), (2, .int x2), (3, .int x3), (4, .int x4), (5, .int (x5 + 1))]) [1, 2, 3, 4, 5, 0] rfl (hk26 x1 x2 x3 x4 (x5 + 1) t)
def fX3_both_36 (kc26 : Int32 → Int32 → Int32 → Int32 → Int32 → MS → Option (Int32 × MS)) : Nat → Int32 → Int32 → Int32 → Int32 → Int32 → Int32 → MS → Option (Int32 × MS)
  | 0, _, _, _, _, _, _, _ => none
  | n + 1, x1, x2, x3, x4, x5, x6, t => if 12 ≤ x6 then fX3_both_96 kc26 x1 x2 x3 x4 x5 t else if x5 < x6 then fX3_both_96 kc26 x1 x2 x3 x4 x5 t else if 40 < x5 - x6 then fX3_both_90 kc26 (fun a0 a1 a2 a3 a4 a5 a6 => fX3_both_36 kc26 n a0 a1 a2 a3 a4 a5 a6) x1 x2 x3 x4 x5 x6 t else gm (fX3_placeWith x1 (x5 - x6) x6 x3 t) fun r1 t2 => if x2 < r1 then fX3_both_90 kc26 (fun a0 a1 a2 a3 a4 a5 a6 => fX3_both_36 kc26 n a0 a1 a2 a3 a4 a5 a6) x1 x2 x3 x4 x5 x6 t2 else if x4 = 0 then some (x5, t2) else some (x6, t2)
set_option maxHeartbeats 4000000 in
theorem wX3_both_36 {rF : Int32} (X : g_X Γ p s m args meth c cX3_both 7 RX3) (hr : meth.sig.returnType = (Option.some Jvm.ClassFile.FieldType.int)) {kc26 : Int32 → Int32 → Int32 → Int32 → Int32 → MS → Option (Int32 × MS)} (hk26 : ∀ (x1 : Int32) (x2 : Int32) (x3 : Int32) (x4 : Int32) (x5 : Int32) (t : MS), Wf Γ p l e 7 159 s m args below meth c 7 (m_ι mo ρ sz) v_i rF tF 26 [(0, .ref mo), (1, .int x1), (2, .int x2), (3, .int x3), (4, .int x4), (5, .int x5)] [] t (kc26 x1 x2 x3 x4 x5 t)) (n : Nat) : ∀ (x1 : Int32) (x2 : Int32) (x3 : Int32) (x4 : Int32) (x5 : Int32) (x6 : Int32) (t : MS), Wf Γ p l e 7 159 s m args below meth c 7 (m_ι mo ρ sz) v_i rF tF 36 [(0, .ref mo), (1, .int x1), (2, .int x2), (3, .int x3), (4, .int x4), (5, .int x5), (6, .int x6)] [] t (fX3_both_36 kc26 n x1 x2 x3 x4 x5 x6 t) := by
  induction n with
  | zero => intro x1 x2 x3 x4 x5 x6 t; exact g_none
  | succ n ih =>
    intro x1 x2 x3 x4 x5 x6 t
    rw [fX3_both_36]
    refine g_iload (pc := 36) X 6 dX3_both_36 rfl ?_
    refine g_bipush (pc := 38) X 12 dX3_both_38 rfl ?_
    refine g_icmp_ge (pc := 40) X 96 dX3_both_40 (by decide) ?_ ?_
    · exact g_lv (pc := 96) (lv' := [(0, .ref mo), (1, .int x1), (2, .int x2), (3, .int x3), (4, .int x4), (5, .int x5)]) [0, 1, 2, 3, 4, 5] rfl (wX3_both_96 X hr hk26 x1 x2 x3 x4 x5 t)
    · refine g_iload (pc := 43) X 6 dX3_both_43 rfl ?_
      refine g_iload (pc := 45) X 5 dX3_both_45 rfl ?_
      refine g_icmp_gt (pc := 47) X 96 dX3_both_47 (by decide) ?_ ?_
      · exact g_lv (pc := 96) (lv' := [(0, .ref mo), (1, .int x1), (2, .int x2), (3, .int x3), (4, .int x4), (5, .int x5)]) [0, 1, 2, 3, 4, 5] rfl (wX3_both_96 X hr hk26 x1 x2 x3 x4 x5 t)
      · refine g_iload (pc := 50) X 5 dX3_both_50 rfl ?_
        refine g_iload (pc := 52) X 6 dX3_both_52 rfl ?_
        refine g_isub (pc := 54) X dX3_both_54 ?_
        refine g_bipush (pc := 55) X 40 dX3_both_55 rfl ?_
        refine g_icmp_gt (pc := 57) X 90 dX3_both_57 (by decide) ?_ ?_
        · exact g_lv (pc := 90) (lv' := [(0, .ref mo), (1, .int x1), (2, .int x2), (3, .int x3), (4, .int x4), (5, .int x5), (6, .int x6)]) [0, 1, 2, 3, 4, 5, 6] rfl (wX3_both_90 X hr hk26 (fun a0 a1 a2 a3 a4 a5 a6 => ih a0 a1 a2 a3 a4 a5 a6) x1 x2 x3 x4 x5 x6 t)
        · refine g_aload_n (pc := 60) X 0 dX3_both_60 rfl rfl ?_
          refine g_iload_n (pc := 61) X 1 dX3_both_61 rfl rfl ?_
          refine g_iload (pc := 62) X 5 dX3_both_62 rfl ?_
          refine g_iload (pc := 64) X 6 dX3_both_64 rfl ?_
          refine g_isub (pc := 66) X dX3_both_66 ?_
          refine g_iload (pc := 67) X 6 dX3_both_67 rfl ?_
          refine g_iload_n (pc := 69) X 3 dX3_both_69 rfl rfl ?_
          refine g_mV_i (pc := 70) X (C := RX3) (y := yX3_placeWith) (As := [.int x1, .int (x5 - x6), .int x6, .int x3]) (rest := []) (fr' := 6) (lo' := 134) (fun _ => cwV 4 X.2.2.2.2.1 (lw_V q2038 q2040 qs63 q76 q2041) rfl rfl rfl dmV_X3_placeWith ⟨Nat.le_of_ble_eq_true rfl, Nat.le_of_ble_eq_true rfl⟩) dX3_both_70 MC_o ⟨_, _, rfl⟩ rfl rfl (Nat.le_of_ble_eq_true rfl) (fun _ => rfl) (fun r u h => kX3_placeWith h) (fun r1 t2 => ?_)
          refine g_iload_n (pc := 73) X 2 dX3_both_73 rfl rfl ?_
          refine g_icmp_gt (pc := 74) X 90 dX3_both_74 (by decide) ?_ ?_
          · exact g_lv (pc := 90) (lv' := [(0, .ref mo), (1, .int x1), (2, .int x2), (3, .int x3), (4, .int x4), (5, .int x5), (6, .int x6)]) [0, 1, 2, 3, 4, 5, 6] rfl (wX3_both_90 X hr hk26 (fun a0 a1 a2 a3 a4 a5 a6 => ih a0 a1 a2 a3 a4 a5 a6) x1 x2 x3 x4 x5 x6 t2)
          · refine g_iload (pc := 77) X 4 dX3_both_77 rfl ?_
            refine g_if_ne (pc := 79) X 87 dX3_both_79 (by decide) ?_ ?_
            · refine g_iload (pc := 87) X 6 dX3_both_87 rfl ?_
              exact g_iret (pc := 89) X hr dX3_both_89
            · refine g_iload (pc := 82) X 5 dX3_both_82 rfl ?_
              refine g_goto (pc := 84) X 89 dX3_both_84 (by decide) ?_
              exact g_iret (pc := 89) X hr dX3_both_89
def fX3_both_26 : Nat → Int32 → Int32 → Int32 → Int32 → Int32 → MS → Option (Int32 × MS)
  | 0, _, _, _, _, _, _ => none
  | n + 1, x1, x2, x3, x4, x5, t => if 51 < x5 then some ((-4), t) else fX3_both_36 (fun a0 a1 a2 a3 a4 a5 => fX3_both_26 n a0 a1 a2 a3 a4 a5) 1000 x1 x2 x3 x4 x5 0 t
set_option maxHeartbeats 4000000 in
theorem wX3_both_26 {rF : Int32} (X : g_X Γ p s m args meth c cX3_both 7 RX3) (hr : meth.sig.returnType = (Option.some Jvm.ClassFile.FieldType.int)) (n : Nat) : ∀ (x1 : Int32) (x2 : Int32) (x3 : Int32) (x4 : Int32) (x5 : Int32) (t : MS), Wf Γ p l e 7 159 s m args below meth c 7 (m_ι mo ρ sz) v_i rF tF 26 [(0, .ref mo), (1, .int x1), (2, .int x2), (3, .int x3), (4, .int x4), (5, .int x5)] [] t (fX3_both_26 n x1 x2 x3 x4 x5 t) := by
  induction n with
  | zero => intro x1 x2 x3 x4 x5 t; exact g_none
  | succ n ih =>
    intro x1 x2 x3 x4 x5 t
    rw [fX3_both_26]
    refine g_iload (pc := 26) X 5 dX3_both_26 rfl ?_
    refine g_bipush (pc := 28) X 51 dX3_both_28 rfl ?_
    refine g_icmp_gt (pc := 30) X 102 dX3_both_30 (by decide) ?_ ?_
    · refine g_bipush (pc := 102) X (-4) dX3_both_102 rfl ?_
      exact g_iret (pc := 104) X hr dX3_both_104
    · refine g_iconst (pc := 33) X 0 dX3_both_33 rfl ?_
      refine g_istore (pc := 34) X (lv' := [(6, .int 0), (0, .ref mo), (1, .int x1), (2, .int x2), (3, .int x3), (4, .int x4), (5, .int x5)]) dX3_both_34 (by decide) rfl ?_
      exact g_lv (pc := 36) (lv' := [(0, .ref mo), (1, .int x1), (2, .int x2), (3, .int x3), (4, .int x4), (5, .int x5), (6, .int 0)]) [1, 2, 3, 4, 5, 6, 0] rfl (wX3_both_36 X hr (fun a0 a1 a2 a3 a4 a5 => ih a0 a1 a2 a3 a4 a5) 1000 x1 x2 x3 x4 x5 0 t)
def fX3_both (x1 : Int32) (x2 : Int32) (x3 : Int32) (x4 : Int32) (t : MS) : Option (Int32 × MS) := gm (fX3_isAsked x1 x2 x3 t) fun r1 t2 => if r1 = 0 then some ((-1), t2) else gm (fX3_in x4.toInt64 0 1 t2) fun r3 t4 => if r3 = 0 then some ((-1), t4) else fX3_both_26 1000 x1 x2 x3 x4 0 t4
set_option maxHeartbeats 4000000 in
theorem wX3_both {rF : Int32} (X : g_X Γ p s m args meth c cX3_both 7 RX3) (hr : meth.sig.returnType = (Option.some Jvm.ClassFile.FieldType.int)) (x1 : Int32) (x2 : Int32) (x3 : Int32) (x4 : Int32) (t : MS) : Wf Γ p l e 7 159 s m args below meth c 7 (m_ι mo ρ sz) v_i rF tF 0 [(0, .ref mo), (1, .int x1), (2, .int x2), (3, .int x3), (4, .int x4)] [] t (fX3_both x1 x2 x3 x4 t) := by
  unfold fX3_both
  refine g_aload_n (pc := 0) X 0 dX3_both_0 rfl rfl ?_
  refine g_iload_n (pc := 1) X 1 dX3_both_1 rfl rfl ?_
  refine g_iload_n (pc := 2) X 2 dX3_both_2 rfl rfl ?_
  refine g_iload_n (pc := 3) X 3 dX3_both_3 rfl rfl ?_
  refine g_mV_i (pc := 4) X (C := RX3) (y := yX3_isAsked) (As := [.int x1, .int x2, .int x3]) (rest := []) (fr' := 2) (lo' := 46) (fun _ => cwV 3 X.2.2.2.2.1 (lw_V q2033 q2035 qs62 q76 q2036) rfl rfl rfl dmV_X3_isAsked ⟨Nat.le_of_ble_eq_true rfl, Nat.le_of_ble_eq_true rfl⟩) dX3_both_4 MC_o ⟨_, _, rfl⟩ rfl rfl (Nat.le_of_ble_eq_true rfl) (fun _ => rfl) (fun r u h => kX3_isAsked h) (fun r1 t2 => ?_)
  refine g_if_eq (pc := 7) X 21 dX3_both_7 (by decide) ?_ ?_
  · refine g_iconst (pc := 21) X (-1) dX3_both_21 rfl ?_
    exact g_iret (pc := 22) X hr dX3_both_22
  · refine g_iload (pc := 10) X 4 dX3_both_10 rfl ?_
    refine g_i2l (pc := 12) X dX3_both_12 ?_
    refine g_lconst (pc := 13) X 0 dX3_both_13 rfl ?_
    refine g_lconst (pc := 14) X 1 dX3_both_14 rfl ?_
    refine g_mS_i (pc := 15) X (y := yX3_in) (As := [.long x4.toInt64, .long 0, .long 1]) (rest := []) (fr' := 0) (lo' := 0) (fun _ => va_cwS 3 X.2.2.2.2.1 (lw_S q1767 q1768 q76 q1769) rfl rfl rfl dmS_X3_in ⟨Nat.le_of_ble_eq_true rfl, Nat.le_of_ble_eq_true rfl⟩) dX3_both_15 rfl rfl (Nat.le_of_ble_eq_true rfl) (fun _ => rfl) (fun r u h => kX3_in h) (fun r3 t4 => ?_)
    refine g_if_ne (pc := 18) X 23 dX3_both_18 (by decide) ?_ ?_
    · refine g_iconst (pc := 23) X 0 dX3_both_23 rfl ?_
      refine g_istore (pc := 24) X (lv' := [(5, .int 0), (0, .ref mo), (1, .int x1), (2, .int x2), (3, .int x3), (4, .int x4)]) dX3_both_24 (by decide) rfl ?_
      exact g_lv (pc := 26) (lv' := [(0, .ref mo), (1, .int x1), (2, .int x2), (3, .int x3), (4, .int x4), (5, .int 0)]) [1, 2, 3, 4, 5, 0] rfl (wX3_both_26 X hr 1000 x1 x2 x3 x4 0 t4)
    · refine g_iconst (pc := 21) X (-1) dX3_both_21 rfl ?_
      exact g_iret (pc := 22) X hr dX3_both_22
theorem kX3_both {mo : Nat} {ρ : Sg} {sz : Nat} {x1 : Int32} {x2 : Int32} {x3 : Int32} {x4 : Int32} {t : MS} {r : Int32} {u : MS} (h : fX3_both x1 x2 x3 x4 t = some (r, u)) : g_C Γ l yX3_both cX3_both 7 (Option.some Jvm.ClassFile.FieldType.int) 7 159 [.ref mo, .int x1, .int x2, .int x3, .int x4] (MC mo t ρ) sz v_i r (m_ι mo ρ sz u) :=
  g_met [.ref mo, .int x1, .int x2, .int x3, .int x4] (by decide) (Nat.le_of_ble_eq_true rfl) h rfl (fun p e s m args below meth c X hr hn => wX3_both X hr x1 x2 x3 x4 t)
def fX3_doesRest_65 (kc4 : Int32 → Int32 → Int32 → MS → Option (Int32 × MS)) (x1 : Int32) (x3 : Int32) (s0 : Int32) (t : MS) : Option (Int32 × MS) := kc4 x1 s0 (x3 + 1) t
set_option maxHeartbeats 4000000 in
theorem wX3_doesRest_65 {rF : Int32} (X : g_X Γ p s m args meth c cX3_doesRest 4 RX3) (hr : meth.sig.returnType = (Option.some Jvm.ClassFile.FieldType.boolean)) {kc4 : Int32 → Int32 → Int32 → MS → Option (Int32 × MS)} (hk4 : ∀ (x1 : Int32) (x2 : Int32) (x3 : Int32) (t : MS), Wf Γ p l e 0 0 s m args below meth c 4 (m_ι mo ρ sz) v_i rF tF 4 [(0, .ref mo), (1, .int x1), (2, .int x2), (3, .int x3)] [] t (kc4 x1 x2 x3 t)) (x1 : Int32) (x3 : Int32) (s0 : Int32) (t : MS) : Wf Γ p l e 0 0 s m args below meth c 4 (m_ι mo ρ sz) v_i rF tF 65 [(0, .ref mo), (1, .int x1), (3, .int x3)] [.int s0] t (fX3_doesRest_65 kc4 x1 x3 s0 t) := by
  unfold fX3_doesRest_65
  refine g_istore_n (pc := 65) X (lv' := [(2, .int s0), (0, .ref mo), (1, .int x1), (3, .int x3)]) dX3_doesRest_65 rfl (by decide) rfl ?_
  refine g_iinc (pc := 66) X 1 3 (lv' := [(3, .int (x3 + 1)), (2, .int s0), (0, .ref mo), (1, .int x1)]) dX3_doesRest_66 rfl rfl (by decide) rfl ?_
  refine g_goto (pc := 69) X 4 dX3_doesRest_69 (by decide) ?_
  exact g_lv (pc := 4) (lv' := [(0, .ref mo), (1, .int x1), (2, .int s0), (3, .int (x3 + 1))]) [2, 3, 1, 0] rfl (hk4 x1 s0 (x3 + 1) t)
def fX3_doesRest_64 (kc4 : Int32 → Int32 → Int32 → MS → Option (Int32 × MS)) (x1 : Int32) (x3 : Int32) (t : MS) : Option (Int32 × MS) := fX3_doesRest_65 kc4 x1 x3 0 t
set_option maxHeartbeats 4000000 in
theorem wX3_doesRest_64 {rF : Int32} (X : g_X Γ p s m args meth c cX3_doesRest 4 RX3) (hr : meth.sig.returnType = (Option.some Jvm.ClassFile.FieldType.boolean)) {kc4 : Int32 → Int32 → Int32 → MS → Option (Int32 × MS)} (hk4 : ∀ (x1 : Int32) (x2 : Int32) (x3 : Int32) (t : MS), Wf Γ p l e 0 0 s m args below meth c 4 (m_ι mo ρ sz) v_i rF tF 4 [(0, .ref mo), (1, .int x1), (2, .int x2), (3, .int x3)] [] t (kc4 x1 x2 x3 t)) (x1 : Int32) (x3 : Int32) (t : MS) : Wf Γ p l e 0 0 s m args below meth c 4 (m_ι mo ρ sz) v_i rF tF 64 [(0, .ref mo), (1, .int x1), (3, .int x3)] [] t (fX3_doesRest_64 kc4 x1 x3 t) := by
  unfold fX3_doesRest_64
  refine g_iconst (pc := 64) X 0 dX3_doesRest_64 rfl ?_
  exact g_lv (pc := 65) (lv' := [(0, .ref mo), (1, .int x1), (3, .int x3)]) [0, 1, 2] rfl (wX3_doesRest_65 X hr hk4 x1 x3 0 t)
def fX3_doesRest_4 : Nat → Int32 → Int32 → Int32 → MS → Option (Int32 × MS)
  | 0, _, _, _, _ => none
  | n + 1, x1, x2, x3, t => if 12 ≤ x3 then if x2 = 0 ∨ x2 = 1 then some (x2, t) else none else if x2 = 0 then fX3_doesRest_64 (fun a0 a1 a2 a3 => fX3_doesRest_4 n a0 a1 a2 a3) x1 x3 t else mald t 10 144 ((12 * x3) + (x1 - x1 / 12 * 12)) fun v1 => mald t 10 144 x1 fun v2 => if v2 < v1 then fX3_doesRest_64 (fun a0 a1 a2 a3 => fX3_doesRest_4 n a0 a1 a2 a3) x1 x3 t else mald t 10 144 (((x1 / 12) * 12) + x3) fun v3 => mald t 10 144 x1 fun v4 => if v3 < v4 then fX3_doesRest_64 (fun a0 a1 a2 a3 => fX3_doesRest_4 n a0 a1 a2 a3) x1 x3 t else fX3_doesRest_65 (fun a0 a1 a2 a3 => fX3_doesRest_4 n a0 a1 a2 a3) x1 x3 1 t
set_option maxHeartbeats 4000000 in
theorem wX3_doesRest_4 {rF : Int32} (X : g_X Γ p s m args meth c cX3_doesRest 4 RX3) (hr : meth.sig.returnType = (Option.some Jvm.ClassFile.FieldType.boolean)) (n : Nat) : ∀ (x1 : Int32) (x2 : Int32) (x3 : Int32) (t : MS), Wf Γ p l e 0 0 s m args below meth c 4 (m_ι mo ρ sz) v_i rF tF 4 [(0, .ref mo), (1, .int x1), (2, .int x2), (3, .int x3)] [] t (fX3_doesRest_4 n x1 x2 x3 t) := by
  induction n with
  | zero => intro x1 x2 x3 t; exact g_none
  | succ n ih =>
    intro x1 x2 x3 t
    rw [fX3_doesRest_4]
    refine g_iload_n (pc := 4) X 3 dX3_doesRest_4 rfl rfl ?_
    refine g_bipush (pc := 5) X 12 dX3_doesRest_5 rfl ?_
    refine g_icmp_ge (pc := 7) X 72 dX3_doesRest_7 (by decide) ?_ ?_
    · refine g_iload_n (pc := 72) X 2 dX3_doesRest_72 rfl rfl ?_
      exact g_bret (pc := 73) X hr dX3_doesRest_73
    · refine g_iload_n (pc := 10) X 2 dX3_doesRest_10 rfl rfl ?_
      refine g_if_eq (pc := 11) X 64 dX3_doesRest_11 (by decide) ?_ ?_
      · exact g_lv (pc := 64) (lv' := [(0, .ref mo), (1, .int x1), (3, .int x3)]) [0, 1, 3] rfl (wX3_doesRest_64 X hr (fun a0 a1 a2 a3 => ih a0 a1 a2 a3) x1 x3 t)
      · refine g_aload_n (pc := 14) X 0 dX3_doesRest_14 rfl rfl ?_
        refine mg_get (pc := 15) X fo_X3_53 dX3_doesRest_15 rfl ?_
        refine g_bipush (pc := 18) X 12 dX3_doesRest_18 rfl ?_
        refine g_iload_n (pc := 20) X 3 dX3_doesRest_20 rfl rfl ?_
        refine g_imul (pc := 21) X dX3_doesRest_21 ?_
        refine g_iload_n (pc := 22) X 1 dX3_doesRest_22 rfl rfl ?_
        refine g_bipush (pc := 23) X 12 dX3_doesRest_23 rfl ?_
        refine g_irem (pc := 25) X dX3_doesRest_25 (by decide) ?_
        refine g_iadd (pc := 26) X dX3_doesRest_26 ?_
        refine mg_ald (pc := 27) X (j := 10) dX3_doesRest_27 (by decide) rfl (fun v1 => ?_)
        refine g_aload_n (pc := 28) X 0 dX3_doesRest_28 rfl rfl ?_
        refine mg_get (pc := 29) X fo_X3_53 dX3_doesRest_29 rfl ?_
        refine g_iload_n (pc := 32) X 1 dX3_doesRest_32 rfl rfl ?_
        refine mg_ald (pc := 33) X (j := 10) dX3_doesRest_33 (by decide) rfl (fun v2 => ?_)
        refine g_icmp_gt (pc := 34) X 64 dX3_doesRest_34 (by decide) ?_ ?_
        · exact g_lv (pc := 64) (lv' := [(0, .ref mo), (1, .int x1), (3, .int x3)]) [0, 1, 3] rfl (wX3_doesRest_64 X hr (fun a0 a1 a2 a3 => ih a0 a1 a2 a3) x1 x3 t)
        · refine g_aload_n (pc := 37) X 0 dX3_doesRest_37 rfl rfl ?_
          refine mg_get (pc := 38) X fo_X3_53 dX3_doesRest_38 rfl ?_
          refine g_iload_n (pc := 41) X 1 dX3_doesRest_41 rfl rfl ?_
          refine g_bipush (pc := 42) X 12 dX3_doesRest_42 rfl ?_
          refine g_idiv (pc := 44) X dX3_doesRest_44 (by decide) ?_
          refine g_bipush (pc := 45) X 12 dX3_doesRest_45 rfl ?_
          refine g_imul (pc := 47) X dX3_doesRest_47 ?_
          refine g_iload_n (pc := 48) X 3 dX3_doesRest_48 rfl rfl ?_
          refine g_iadd (pc := 49) X dX3_doesRest_49 ?_
          refine mg_ald (pc := 50) X (j := 10) dX3_doesRest_50 (by decide) rfl (fun v3 => ?_)
          refine g_aload_n (pc := 51) X 0 dX3_doesRest_51 rfl rfl ?_
          refine mg_get (pc := 52) X fo_X3_53 dX3_doesRest_52 rfl ?_
          refine g_iload_n (pc := 55) X 1 dX3_doesRest_55 rfl rfl ?_
          refine mg_ald (pc := 56) X (j := 10) dX3_doesRest_56 (by decide) rfl (fun v4 => ?_)
          refine g_icmp_lt (pc := 57) X 64 dX3_doesRest_57 (by decide) ?_ ?_
          · exact g_lv (pc := 64) (lv' := [(0, .ref mo), (1, .int x1), (3, .int x3)]) [0, 1, 3] rfl (wX3_doesRest_64 X hr (fun a0 a1 a2 a3 => ih a0 a1 a2 a3) x1 x3 t)
          · refine g_iconst (pc := 60) X 1 dX3_doesRest_60 rfl ?_
            refine g_goto (pc := 61) X 65 dX3_doesRest_61 (by decide) ?_
            exact g_lv (pc := 65) (lv' := [(0, .ref mo), (1, .int x1), (3, .int x3)]) [0, 1, 3] rfl (wX3_doesRest_65 X hr (fun a0 a1 a2 a3 => ih a0 a1 a2 a3) x1 x3 1 t)
def fX3_doesRest (x1 : Int32) (t : MS) : Option (Int32 × MS) := fX3_doesRest_4 1000 x1 1 0 t
set_option maxHeartbeats 4000000 in
theorem wX3_doesRest {rF : Int32} (X : g_X Γ p s m args meth c cX3_doesRest 4 RX3) (hr : meth.sig.returnType = (Option.some Jvm.ClassFile.FieldType.boolean)) (x1 : Int32) (t : MS) : Wf Γ p l e 0 0 s m args below meth c 4 (m_ι mo ρ sz) v_i rF tF 0 [(0, .ref mo), (1, .int x1)] [] t (fX3_doesRest x1 t) := by
  unfold fX3_doesRest
  refine g_iconst (pc := 0) X 1 dX3_doesRest_0 rfl ?_
  refine g_istore_n (pc := 1) X (lv' := [(2, .int 1), (0, .ref mo), (1, .int x1)]) dX3_doesRest_1 rfl (by decide) rfl ?_
  refine g_iconst (pc := 2) X 0 dX3_doesRest_2 rfl ?_
  refine g_istore_n (pc := 3) X (lv' := [(3, .int 0), (2, .int 1), (0, .ref mo), (1, .int x1)]) dX3_doesRest_3 rfl (by decide) rfl ?_
  exact g_lv (pc := 4) (lv' := [(0, .ref mo), (1, .int x1), (2, .int 1), (3, .int 0)]) [2, 3, 1, 0] rfl (wX3_doesRest_4 X hr 1000 x1 1 0 t)
theorem kX3_doesRest {mo : Nat} {ρ : Sg} {sz : Nat} {x1 : Int32} {t : MS} {r : Int32} {u : MS} (h : fX3_doesRest x1 t = some (r, u)) : g_C Γ l yX3_doesRest cX3_doesRest 4 (Option.some Jvm.ClassFile.FieldType.boolean) 0 0 [.ref mo, .int x1] (MC mo t ρ) sz v_i r (m_ι mo ρ sz u) :=
  g_met [.ref mo, .int x1] (by decide) (Nat.le_of_ble_eq_true rfl) h rfl (fun p e s m args below meth c X hr hn => wX3_doesRest X hr x1 t)
end MP
