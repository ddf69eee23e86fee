/-! the reference, its methods: carried, image, restore, isSheet, sheet, drop, asLane, lacksRow, item, dress, film, areSo (printed by gen/model.py) -/
set_option maxRecDepth 100000
abbrev cX3_carried : ByteArray := prog_24_method_85_code
def yX3_carried : MethodName := ⟨RX3, "carried", "(IIZ)I"⟩
def dkwX3_carried_22 : List UInt8 := [180, 0, 41, 172]
abbrev dktX3_carried_22 : List UInt8 := dkwX3_carried_22 ++ []
def dkwX3_carried_21 : List UInt8 := [42, 180, 0, 93, 167, 0, 21, 27, 17, 0, 139, 160, 0, 10, 42, 180, 0, 96, 167, 0, 7, 42]
abbrev dktX3_carried_21 : List UInt8 := dkwX3_carried_21 ++ dktX3_carried_22
def dkwX3_carried_20 : List UInt8 := [167, 0, 49, 27, 17, 0, 137, 160, 0, 10, 42, 180, 0, 26, 167, 0, 35, 27, 17, 0, 138, 160, 0, 10]
abbrev dktX3_carried_20 : List UInt8 := dkwX3_carried_20 ++ dktX3_carried_21
def dkwX3_carried_19 : List UInt8 := [17, 0, 135, 160, 0, 10, 42, 180, 0, 72, 167, 0, 63, 27, 17, 0, 136, 160, 0, 10, 42, 180, 0, 19]
abbrev dktX3_carried_19 : List UInt8 := dkwX3_carried_19 ++ dktX3_carried_20
def dkwX3_carried_18 : List UInt8 := [153, 0, 14, 27, 17, 0, 140, 160, 0, 7, 28, 167, 0, 7, 42, 180, 0, 41, 181, 0, 41, 27]
abbrev dktX3_carried_18 : List UInt8 := dkwX3_carried_18 ++ dktX3_carried_19
def dkwX3_carried_17 : List UInt8 := [153, 0, 14, 27, 17, 0, 139, 160, 0, 7, 28, 167, 0, 7, 42, 180, 0, 96, 181, 0, 96, 42, 29]
abbrev dktX3_carried_17 : List UInt8 := dkwX3_carried_17 ++ dktX3_carried_18
def dkwX3_carried_16 : List UInt8 := [153, 0, 14, 27, 17, 0, 138, 160, 0, 7, 28, 167, 0, 7, 42, 180, 0, 93, 181, 0, 93, 42, 29]
abbrev dktX3_carried_16 : List UInt8 := dkwX3_carried_16 ++ dktX3_carried_17
def dkwX3_carried_15 : List UInt8 := [153, 0, 14, 27, 17, 0, 137, 160, 0, 7, 28, 167, 0, 7, 42, 180, 0, 26, 181, 0, 26, 42, 29]
abbrev dktX3_carried_15 : List UInt8 := dkwX3_carried_15 ++ dktX3_carried_16
def dkwX3_carried_14 : List UInt8 := [153, 0, 14, 27, 17, 0, 136, 160, 0, 7, 28, 167, 0, 7, 42, 180, 0, 19, 181, 0, 19, 42, 29]
abbrev dktX3_carried_14 : List UInt8 := dkwX3_carried_14 ++ dktX3_carried_15
def dkwX3_carried_13 : List UInt8 := [29, 153, 0, 14, 27, 17, 0, 135, 160, 0, 7, 28, 167, 0, 7, 42, 180, 0, 72, 181, 0, 72, 42, 29]
abbrev dktX3_carried_13 : List UInt8 := dkwX3_carried_13 ++ dktX3_carried_14
def dkwX3_carried_12 : List UInt8 := [167, 0, 12, 42, 180, 0, 38, 27, 16, 105, 100, 46, 79, 42, 180, 0, 38, 27, 16, 105, 100, 46, 172, 42]
abbrev dktX3_carried_12 : List UInt8 := dkwX3_carried_12 ++ dktX3_carried_13
def dkwX3_carried_11 : List UInt8 := [21, 4, 46, 172, 27, 17, 0, 135, 162, 0, 39, 42, 180, 0, 38, 27, 16, 105, 100, 29, 153, 0, 7, 28]
abbrev dktX3_carried_11 : List UInt8 := dkwX3_carried_11 ++ dktX3_carried_12
def dkwX3_carried_10 : List UInt8 := [21, 4, 46, 79, 27, 16, 99, 162, 0, 13, 42, 180, 0, 32, 21, 4, 46, 167, 0, 10, 42, 180, 0, 35]
abbrev dktX3_carried_10 : List UInt8 := dkwX3_carried_10 ++ dktX3_carried_11
def dkwX3_carried_9 : List UInt8 := [180, 0, 35, 21, 4, 29, 153, 0, 13, 27, 16, 99, 161, 0, 7, 28, 167, 0, 10, 42, 180, 0, 35]
abbrev dktX3_carried_9 : List UInt8 := dkwX3_carried_9 ++ dktX3_carried_10
def dkwX3_carried_8 : List UInt8 := [29, 153, 0, 13, 27, 16, 99, 162, 0, 7, 28, 167, 0, 10, 42, 180, 0, 32, 21, 4, 46, 79, 42]
abbrev dktX3_carried_8 : List UInt8 := dkwX3_carried_8 ++ dktX3_carried_9
def dkwX3_carried_7 : List UInt8 := [100, 46, 172, 27, 16, 105, 162, 0, 92, 27, 16, 93, 100, 16, 6, 112, 54, 4, 42, 180, 0, 32, 21, 4]
abbrev dktX3_carried_7 : List UInt8 := dkwX3_carried_7 ++ dktX3_carried_8
def dkwX3_carried_6 : List UInt8 := [153, 0, 7, 28, 167, 0, 12, 42, 180, 0, 23, 27, 16, 81, 100, 46, 79, 42, 180, 0, 23, 27, 16, 81]
abbrev dktX3_carried_6 : List UInt8 := dkwX3_carried_6 ++ dktX3_carried_7
def dkwX3_carried_5 : List UInt8 := [42, 180, 0, 16, 21, 4, 46, 172, 27, 16, 93, 162, 0, 39, 42, 180, 0, 23, 27, 16, 81, 100, 29]
abbrev dktX3_carried_5 : List UInt8 := dkwX3_carried_5 ++ dktX3_carried_6
def dkwX3_carried_4 : List UInt8 := [42, 180, 0, 16, 21, 4, 46, 79, 27, 16, 72, 162, 0, 13, 42, 180, 0, 13, 21, 4, 46, 167, 0, 10]
abbrev dktX3_carried_4 : List UInt8 := dkwX3_carried_4 ++ dktX3_carried_5
def dkwX3_carried_3 : List UInt8 := [21, 4, 46, 79, 42, 180, 0, 16, 21, 4, 29, 153, 0, 13, 27, 16, 72, 161, 0, 7, 28, 167, 0, 10]
abbrev dktX3_carried_3 : List UInt8 := dkwX3_carried_3 ++ dktX3_carried_4
def dkwX3_carried_2 : List UInt8 := [42, 180, 0, 13, 21, 4, 29, 153, 0, 13, 27, 16, 72, 162, 0, 7, 28, 167, 0, 10, 42, 180, 0, 13]
abbrev dktX3_carried_2 : List UInt8 := dkwX3_carried_2 ++ dktX3_carried_3
def dkwX3_carried_1 : List UInt8 := [46, 79, 42, 180, 0, 7, 27, 46, 172, 27, 16, 81, 162, 0, 92, 27, 16, 63, 100, 16, 9, 112, 54, 4]
abbrev dktX3_carried_1 : List UInt8 := dkwX3_carried_1 ++ dktX3_carried_2
def dkwX3_carried_0 : List UInt8 := [27, 16, 63, 162, 0, 30, 42, 180, 0, 7, 27, 29, 153, 0, 7, 28, 167, 0, 9, 42, 180, 0, 7, 27]
abbrev dktX3_carried_0 : List UInt8 := dkwX3_carried_0 ++ dktX3_carried_1
theorem dksX3_carried_0 : cX3_carried.data.toList.drop 0 = dktX3_carried_0 := by decide +kernel
theorem dksX3_carried_1 : cX3_carried.data.toList.drop 24 = dktX3_carried_1 := dk_seg dksX3_carried_0 24 rfl rfl
theorem dksX3_carried_2 : cX3_carried.data.toList.drop 48 = dktX3_carried_2 := dk_seg dksX3_carried_1 24 rfl rfl
theorem dksX3_carried_3 : cX3_carried.data.toList.drop 72 = dktX3_carried_3 := dk_seg dksX3_carried_2 24 rfl rfl
theorem dksX3_carried_4 : cX3_carried.data.toList.drop 96 = dktX3_carried_4 := dk_seg dksX3_carried_3 24 rfl rfl
theorem dksX3_carried_5 : cX3_carried.data.toList.drop 120 = dktX3_carried_5 := dk_seg dksX3_carried_4 24 rfl rfl
theorem dksX3_carried_6 : cX3_carried.data.toList.drop 143 = dktX3_carried_6 := dk_seg dksX3_carried_5 23 rfl rfl
theorem dksX3_carried_7 : cX3_carried.data.toList.drop 167 = dktX3_carried_7 := dk_seg dksX3_carried_6 24 rfl rfl
theorem dksX3_carried_8 : cX3_carried.data.toList.drop 191 = dktX3_carried_8 := dk_seg dksX3_carried_7 24 rfl rfl
theorem dksX3_carried_9 : cX3_carried.data.toList.drop 214 = dktX3_carried_9 := dk_seg dksX3_carried_8 23 rfl rfl
theorem dksX3_carried_10 : cX3_carried.data.toList.drop 237 = dktX3_carried_10 := dk_seg dksX3_carried_9 23 rfl rfl
theorem dksX3_carried_11 : cX3_carried.data.toList.drop 261 = dktX3_carried_11 := dk_seg dksX3_carried_10 24 rfl rfl
theorem dksX3_carried_12 : cX3_carried.data.toList.drop 285 = dktX3_carried_12 := dk_seg dksX3_carried_11 24 rfl rfl
theorem dksX3_carried_13 : cX3_carried.data.toList.drop 309 = dktX3_carried_13 := dk_seg dksX3_carried_12 24 rfl rfl
theorem dksX3_carried_14 : cX3_carried.data.toList.drop 333 = dktX3_carried_14 := dk_seg dksX3_carried_13 24 rfl rfl
theorem dksX3_carried_15 : cX3_carried.data.toList.drop 356 = dktX3_carried_15 := dk_seg dksX3_carried_14 23 rfl rfl
theorem dksX3_carried_16 : cX3_carried.data.toList.drop 379 = dktX3_carried_16 := dk_seg dksX3_carried_15 23 rfl rfl
theorem dksX3_carried_17 : cX3_carried.data.toList.drop 402 = dktX3_carried_17 := dk_seg dksX3_carried_16 23 rfl rfl
theorem dksX3_carried_18 : cX3_carried.data.toList.drop 425 = dktX3_carried_18 := dk_seg dksX3_carried_17 23 rfl rfl
theorem dksX3_carried_19 : cX3_carried.data.toList.drop 447 = dktX3_carried_19 := dk_seg dksX3_carried_18 22 rfl rfl
theorem dksX3_carried_20 : cX3_carried.data.toList.drop 471 = dktX3_carried_20 := dk_seg dksX3_carried_19 24 rfl rfl
theorem dksX3_carried_21 : cX3_carried.data.toList.drop 495 = dktX3_carried_21 := dk_seg dksX3_carried_20 24 rfl rfl
theorem dksX3_carried_22 : cX3_carried.data.toList.drop 517 = dktX3_carried_22 := dk_seg dksX3_carried_21 22 rfl rfl
theorem dX3_carried_0 : decode cX3_carried 0 = .ok (.iload_n 1, 1) := dk_27 (dk_at dksX3_carried_0 0 rfl rfl)
theorem dX3_carried_1 : decode cX3_carried 1 = .ok (.bipush 63, 2) := dk_16 63 (dk_at dksX3_carried_0 1 rfl rfl)
theorem dX3_carried_3 : decode cX3_carried 3 = .ok (.if_icmp .ge 30, 3) := dk_162 0 30 (dk_at dksX3_carried_0 3 rfl rfl)
theorem dX3_carried_6 : decode cX3_carried 6 = .ok (.aload_n 0, 1) := dk_42 (dk_at dksX3_carried_0 6 rfl rfl)
theorem dX3_carried_7 : decode cX3_carried 7 = .ok (.getfield 7, 3) := dk_180 0 7 (dk_at dksX3_carried_0 7 rfl rfl)
theorem dX3_carried_10 : decode cX3_carried 10 = .ok (.iload_n 1, 1) := dk_27 (dk_at dksX3_carried_0 10 rfl rfl)
theorem dX3_carried_11 : decode cX3_carried 11 = .ok (.iload_n 3, 1) := dk_29 (dk_at dksX3_carried_0 11 rfl rfl)
theorem dX3_carried_12 : decode cX3_carried 12 = .ok (.ifCond .eq 7, 3) := dk_153 0 7 (dk_at dksX3_carried_0 12 rfl rfl)
theorem dX3_carried_15 : decode cX3_carried 15 = .ok (.iload_n 2, 1) := dk_28 (dk_at dksX3_carried_0 15 rfl rfl)
theorem dX3_carried_16 : decode cX3_carried 16 = .ok (.goto 9, 3) := dk_167 0 9 (dk_at dksX3_carried_0 16 rfl rfl)
theorem dX3_carried_19 : decode cX3_carried 19 = .ok (.aload_n 0, 1) := dk_42 (dk_at dksX3_carried_0 19 rfl rfl)
theorem dX3_carried_20 : decode cX3_carried 20 = .ok (.getfield 7, 3) := dk_180 0 7 (dk_at dksX3_carried_0 20 rfl rfl)
theorem dX3_carried_23 : decode cX3_carried 23 = .ok (.iload_n 1, 1) := dk_27 (dk_at dksX3_carried_0 23 rfl rfl)
theorem dX3_carried_24 : decode cX3_carried 24 = .ok (.iaload, 1) := dk_46 (dk_at dksX3_carried_1 0 rfl rfl)
theorem dX3_carried_25 : decode cX3_carried 25 = .ok (.iastore, 1) := dk_79 (dk_at dksX3_carried_1 1 rfl rfl)
theorem dX3_carried_26 : decode cX3_carried 26 = .ok (.aload_n 0, 1) := dk_42 (dk_at dksX3_carried_1 2 rfl rfl)
theorem dX3_carried_27 : decode cX3_carried 27 = .ok (.getfield 7, 3) := dk_180 0 7 (dk_at dksX3_carried_1 3 rfl rfl)
theorem dX3_carried_30 : decode cX3_carried 30 = .ok (.iload_n 1, 1) := dk_27 (dk_at dksX3_carried_1 6 rfl rfl)
theorem dX3_carried_31 : decode cX3_carried 31 = .ok (.iaload, 1) := dk_46 (dk_at dksX3_carried_1 7 rfl rfl)
theorem dX3_carried_32 : decode cX3_carried 32 = .ok (.ireturn, 1) := dk_172 (dk_at dksX3_carried_1 8 rfl rfl)
theorem dX3_carried_33 : decode cX3_carried 33 = .ok (.iload_n 1, 1) := dk_27 (dk_at dksX3_carried_1 9 rfl rfl)
theorem dX3_carried_34 : decode cX3_carried 34 = .ok (.bipush 81, 2) := dk_16 81 (dk_at dksX3_carried_1 10 rfl rfl)
theorem dX3_carried_36 : decode cX3_carried 36 = .ok (.if_icmp .ge 92, 3) := dk_162 0 92 (dk_at dksX3_carried_1 12 rfl rfl)
theorem dX3_carried_39 : decode cX3_carried 39 = .ok (.iload_n 1, 1) := dk_27 (dk_at dksX3_carried_1 15 rfl rfl)
theorem dX3_carried_40 : decode cX3_carried 40 = .ok (.bipush 63, 2) := dk_16 63 (dk_at dksX3_carried_1 16 rfl rfl)
theorem dX3_carried_42 : decode cX3_carried 42 = .ok (.isub, 1) := dk_100 (dk_at dksX3_carried_1 18 rfl rfl)
theorem dX3_carried_43 : decode cX3_carried 43 = .ok (.bipush 9, 2) := dk_16 9 (dk_at dksX3_carried_1 19 rfl rfl)
theorem dX3_carried_45 : decode cX3_carried 45 = .ok (.irem, 1) := dk_112 (dk_at dksX3_carried_1 21 rfl rfl)
theorem dX3_carried_46 : decode cX3_carried 46 = .ok (.istore 4, 2) := dk_54 4 (dk_at dksX3_carried_1 22 rfl rfl)
theorem dX3_carried_48 : decode cX3_carried 48 = .ok (.aload_n 0, 1) := dk_42 (dk_at dksX3_carried_2 0 rfl rfl)
theorem dX3_carried_49 : decode cX3_carried 49 = .ok (.getfield 13, 3) := dk_180 0 13 (dk_at dksX3_carried_2 1 rfl rfl)
theorem dX3_carried_52 : decode cX3_carried 52 = .ok (.iload 4, 2) := dk_21 4 (dk_at dksX3_carried_2 4 rfl rfl)
theorem dX3_carried_54 : decode cX3_carried 54 = .ok (.iload_n 3, 1) := dk_29 (dk_at dksX3_carried_2 6 rfl rfl)
theorem dX3_carried_55 : decode cX3_carried 55 = .ok (.ifCond .eq 13, 3) := dk_153 0 13 (dk_at dksX3_carried_2 7 rfl rfl)
theorem dX3_carried_58 : decode cX3_carried 58 = .ok (.iload_n 1, 1) := dk_27 (dk_at dksX3_carried_2 10 rfl rfl)
theorem dX3_carried_59 : decode cX3_carried 59 = .ok (.bipush 72, 2) := dk_16 72 (dk_at dksX3_carried_2 11 rfl rfl)
theorem dX3_carried_61 : decode cX3_carried 61 = .ok (.if_icmp .ge 7, 3) := dk_162 0 7 (dk_at dksX3_carried_2 13 rfl rfl)
theorem dX3_carried_64 : decode cX3_carried 64 = .ok (.iload_n 2, 1) := dk_28 (dk_at dksX3_carried_2 16 rfl rfl)
theorem dX3_carried_65 : decode cX3_carried 65 = .ok (.goto 10, 3) := dk_167 0 10 (dk_at dksX3_carried_2 17 rfl rfl)
theorem dX3_carried_68 : decode cX3_carried 68 = .ok (.aload_n 0, 1) := dk_42 (dk_at dksX3_carried_2 20 rfl rfl)
theorem dX3_carried_69 : decode cX3_carried 69 = .ok (.getfield 13, 3) := dk_180 0 13 (dk_at dksX3_carried_2 21 rfl rfl)
theorem dX3_carried_72 : decode cX3_carried 72 = .ok (.iload 4, 2) := dk_21 4 (dk_at dksX3_carried_3 0 rfl rfl)
theorem dX3_carried_74 : decode cX3_carried 74 = .ok (.iaload, 1) := dk_46 (dk_at dksX3_carried_3 2 rfl rfl)
theorem dX3_carried_75 : decode cX3_carried 75 = .ok (.iastore, 1) := dk_79 (dk_at dksX3_carried_3 3 rfl rfl)
theorem dX3_carried_76 : decode cX3_carried 76 = .ok (.aload_n 0, 1) := dk_42 (dk_at dksX3_carried_3 4 rfl rfl)
theorem dX3_carried_77 : decode cX3_carried 77 = .ok (.getfield 16, 3) := dk_180 0 16 (dk_at dksX3_carried_3 5 rfl rfl)
theorem dX3_carried_80 : decode cX3_carried 80 = .ok (.iload 4, 2) := dk_21 4 (dk_at dksX3_carried_3 8 rfl rfl)
theorem dX3_carried_82 : decode cX3_carried 82 = .ok (.iload_n 3, 1) := dk_29 (dk_at dksX3_carried_3 10 rfl rfl)
theorem dX3_carried_83 : decode cX3_carried 83 = .ok (.ifCond .eq 13, 3) := dk_153 0 13 (dk_at dksX3_carried_3 11 rfl rfl)
theorem dX3_carried_86 : decode cX3_carried 86 = .ok (.iload_n 1, 1) := dk_27 (dk_at dksX3_carried_3 14 rfl rfl)
theorem dX3_carried_87 : decode cX3_carried 87 = .ok (.bipush 72, 2) := dk_16 72 (dk_at dksX3_carried_3 15 rfl rfl)
theorem dX3_carried_89 : decode cX3_carried 89 = .ok (.if_icmp .lt 7, 3) := dk_161 0 7 (dk_at dksX3_carried_3 17 rfl rfl)
theorem dX3_carried_92 : decode cX3_carried 92 = .ok (.iload_n 2, 1) := dk_28 (dk_at dksX3_carried_3 20 rfl rfl)
theorem dX3_carried_93 : decode cX3_carried 93 = .ok (.goto 10, 3) := dk_167 0 10 (dk_at dksX3_carried_3 21 rfl rfl)
theorem dX3_carried_96 : decode cX3_carried 96 = .ok (.aload_n 0, 1) := dk_42 (dk_at dksX3_carried_4 0 rfl rfl)
theorem dX3_carried_97 : decode cX3_carried 97 = .ok (.getfield 16, 3) := dk_180 0 16 (dk_at dksX3_carried_4 1 rfl rfl)
theorem dX3_carried_100 : decode cX3_carried 100 = .ok (.iload 4, 2) := dk_21 4 (dk_at dksX3_carried_4 4 rfl rfl)
theorem dX3_carried_102 : decode cX3_carried 102 = .ok (.iaload, 1) := dk_46 (dk_at dksX3_carried_4 6 rfl rfl)
theorem dX3_carried_103 : decode cX3_carried 103 = .ok (.iastore, 1) := dk_79 (dk_at dksX3_carried_4 7 rfl rfl)
theorem dX3_carried_104 : decode cX3_carried 104 = .ok (.iload_n 1, 1) := dk_27 (dk_at dksX3_carried_4 8 rfl rfl)
theorem dX3_carried_105 : decode cX3_carried 105 = .ok (.bipush 72, 2) := dk_16 72 (dk_at dksX3_carried_4 9 rfl rfl)
theorem dX3_carried_107 : decode cX3_carried 107 = .ok (.if_icmp .ge 13, 3) := dk_162 0 13 (dk_at dksX3_carried_4 11 rfl rfl)
theorem dX3_carried_110 : decode cX3_carried 110 = .ok (.aload_n 0, 1) := dk_42 (dk_at dksX3_carried_4 14 rfl rfl)
theorem dX3_carried_111 : decode cX3_carried 111 = .ok (.getfield 13, 3) := dk_180 0 13 (dk_at dksX3_carried_4 15 rfl rfl)
theorem dX3_carried_114 : decode cX3_carried 114 = .ok (.iload 4, 2) := dk_21 4 (dk_at dksX3_carried_4 18 rfl rfl)
theorem dX3_carried_116 : decode cX3_carried 116 = .ok (.iaload, 1) := dk_46 (dk_at dksX3_carried_4 20 rfl rfl)
theorem dX3_carried_117 : decode cX3_carried 117 = .ok (.goto 10, 3) := dk_167 0 10 (dk_at dksX3_carried_4 21 rfl rfl)
theorem dX3_carried_120 : decode cX3_carried 120 = .ok (.aload_n 0, 1) := dk_42 (dk_at dksX3_carried_5 0 rfl rfl)
theorem dX3_carried_121 : decode cX3_carried 121 = .ok (.getfield 16, 3) := dk_180 0 16 (dk_at dksX3_carried_5 1 rfl rfl)
theorem dX3_carried_124 : decode cX3_carried 124 = .ok (.iload 4, 2) := dk_21 4 (dk_at dksX3_carried_5 4 rfl rfl)
theorem dX3_carried_126 : decode cX3_carried 126 = .ok (.iaload, 1) := dk_46 (dk_at dksX3_carried_5 6 rfl rfl)
theorem dX3_carried_127 : decode cX3_carried 127 = .ok (.ireturn, 1) := dk_172 (dk_at dksX3_carried_5 7 rfl rfl)
theorem dX3_carried_128 : decode cX3_carried 128 = .ok (.iload_n 1, 1) := dk_27 (dk_at dksX3_carried_5 8 rfl rfl)
theorem dX3_carried_129 : decode cX3_carried 129 = .ok (.bipush 93, 2) := dk_16 93 (dk_at dksX3_carried_5 9 rfl rfl)
theorem dX3_carried_131 : decode cX3_carried 131 = .ok (.if_icmp .ge 39, 3) := dk_162 0 39 (dk_at dksX3_carried_5 11 rfl rfl)
theorem dX3_carried_134 : decode cX3_carried 134 = .ok (.aload_n 0, 1) := dk_42 (dk_at dksX3_carried_5 14 rfl rfl)
theorem dX3_carried_135 : decode cX3_carried 135 = .ok (.getfield 23, 3) := dk_180 0 23 (dk_at dksX3_carried_5 15 rfl rfl)
theorem dX3_carried_138 : decode cX3_carried 138 = .ok (.iload_n 1, 1) := dk_27 (dk_at dksX3_carried_5 18 rfl rfl)
theorem dX3_carried_139 : decode cX3_carried 139 = .ok (.bipush 81, 2) := dk_16 81 (dk_at dksX3_carried_5 19 rfl rfl)
theorem dX3_carried_141 : decode cX3_carried 141 = .ok (.isub, 1) := dk_100 (dk_at dksX3_carried_5 21 rfl rfl)
theorem dX3_carried_142 : decode cX3_carried 142 = .ok (.iload_n 3, 1) := dk_29 (dk_at dksX3_carried_5 22 rfl rfl)
theorem dX3_carried_143 : decode cX3_carried 143 = .ok (.ifCond .eq 7, 3) := dk_153 0 7 (dk_at dksX3_carried_6 0 rfl rfl)
theorem dX3_carried_146 : decode cX3_carried 146 = .ok (.iload_n 2, 1) := dk_28 (dk_at dksX3_carried_6 3 rfl rfl)
theorem dX3_carried_147 : decode cX3_carried 147 = .ok (.goto 12, 3) := dk_167 0 12 (dk_at dksX3_carried_6 4 rfl rfl)
theorem dX3_carried_150 : decode cX3_carried 150 = .ok (.aload_n 0, 1) := dk_42 (dk_at dksX3_carried_6 7 rfl rfl)
theorem dX3_carried_151 : decode cX3_carried 151 = .ok (.getfield 23, 3) := dk_180 0 23 (dk_at dksX3_carried_6 8 rfl rfl)
theorem dX3_carried_154 : decode cX3_carried 154 = .ok (.iload_n 1, 1) := dk_27 (dk_at dksX3_carried_6 11 rfl rfl)
theorem dX3_carried_155 : decode cX3_carried 155 = .ok (.bipush 81, 2) := dk_16 81 (dk_at dksX3_carried_6 12 rfl rfl)
theorem dX3_carried_157 : decode cX3_carried 157 = .ok (.isub, 1) := dk_100 (dk_at dksX3_carried_6 14 rfl rfl)
theorem dX3_carried_158 : decode cX3_carried 158 = .ok (.iaload, 1) := dk_46 (dk_at dksX3_carried_6 15 rfl rfl)
theorem dX3_carried_159 : decode cX3_carried 159 = .ok (.iastore, 1) := dk_79 (dk_at dksX3_carried_6 16 rfl rfl)
theorem dX3_carried_160 : decode cX3_carried 160 = .ok (.aload_n 0, 1) := dk_42 (dk_at dksX3_carried_6 17 rfl rfl)
theorem dX3_carried_161 : decode cX3_carried 161 = .ok (.getfield 23, 3) := dk_180 0 23 (dk_at dksX3_carried_6 18 rfl rfl)
theorem dX3_carried_164 : decode cX3_carried 164 = .ok (.iload_n 1, 1) := dk_27 (dk_at dksX3_carried_6 21 rfl rfl)
theorem dX3_carried_165 : decode cX3_carried 165 = .ok (.bipush 81, 2) := dk_16 81 (dk_at dksX3_carried_6 22 rfl rfl)
theorem dX3_carried_167 : decode cX3_carried 167 = .ok (.isub, 1) := dk_100 (dk_at dksX3_carried_7 0 rfl rfl)
theorem dX3_carried_168 : decode cX3_carried 168 = .ok (.iaload, 1) := dk_46 (dk_at dksX3_carried_7 1 rfl rfl)
theorem dX3_carried_169 : decode cX3_carried 169 = .ok (.ireturn, 1) := dk_172 (dk_at dksX3_carried_7 2 rfl rfl)
theorem dX3_carried_170 : decode cX3_carried 170 = .ok (.iload_n 1, 1) := dk_27 (dk_at dksX3_carried_7 3 rfl rfl)
theorem dX3_carried_171 : decode cX3_carried 171 = .ok (.bipush 105, 2) := dk_16 105 (dk_at dksX3_carried_7 4 rfl rfl)
theorem dX3_carried_173 : decode cX3_carried 173 = .ok (.if_icmp .ge 92, 3) := dk_162 0 92 (dk_at dksX3_carried_7 6 rfl rfl)
theorem dX3_carried_176 : decode cX3_carried 176 = .ok (.iload_n 1, 1) := dk_27 (dk_at dksX3_carried_7 9 rfl rfl)
theorem dX3_carried_177 : decode cX3_carried 177 = .ok (.bipush 93, 2) := dk_16 93 (dk_at dksX3_carried_7 10 rfl rfl)
theorem dX3_carried_179 : decode cX3_carried 179 = .ok (.isub, 1) := dk_100 (dk_at dksX3_carried_7 12 rfl rfl)
theorem dX3_carried_180 : decode cX3_carried 180 = .ok (.bipush 6, 2) := dk_16 6 (dk_at dksX3_carried_7 13 rfl rfl)
theorem dX3_carried_182 : decode cX3_carried 182 = .ok (.irem, 1) := dk_112 (dk_at dksX3_carried_7 15 rfl rfl)
theorem dX3_carried_183 : decode cX3_carried 183 = .ok (.istore 4, 2) := dk_54 4 (dk_at dksX3_carried_7 16 rfl rfl)
theorem dX3_carried_185 : decode cX3_carried 185 = .ok (.aload_n 0, 1) := dk_42 (dk_at dksX3_carried_7 18 rfl rfl)
theorem dX3_carried_186 : decode cX3_carried 186 = .ok (.getfield 32, 3) := dk_180 0 32 (dk_at dksX3_carried_7 19 rfl rfl)
theorem dX3_carried_189 : decode cX3_carried 189 = .ok (.iload 4, 2) := dk_21 4 (dk_at dksX3_carried_7 22 rfl rfl)
theorem dX3_carried_191 : decode cX3_carried 191 = .ok (.iload_n 3, 1) := dk_29 (dk_at dksX3_carried_8 0 rfl rfl)
theorem dX3_carried_192 : decode cX3_carried 192 = .ok (.ifCond .eq 13, 3) := dk_153 0 13 (dk_at dksX3_carried_8 1 rfl rfl)
theorem dX3_carried_195 : decode cX3_carried 195 = .ok (.iload_n 1, 1) := dk_27 (dk_at dksX3_carried_8 4 rfl rfl)
theorem dX3_carried_196 : decode cX3_carried 196 = .ok (.bipush 99, 2) := dk_16 99 (dk_at dksX3_carried_8 5 rfl rfl)
theorem dX3_carried_198 : decode cX3_carried 198 = .ok (.if_icmp .ge 7, 3) := dk_162 0 7 (dk_at dksX3_carried_8 7 rfl rfl)
theorem dX3_carried_201 : decode cX3_carried 201 = .ok (.iload_n 2, 1) := dk_28 (dk_at dksX3_carried_8 10 rfl rfl)
theorem dX3_carried_202 : decode cX3_carried 202 = .ok (.goto 10, 3) := dk_167 0 10 (dk_at dksX3_carried_8 11 rfl rfl)
theorem dX3_carried_205 : decode cX3_carried 205 = .ok (.aload_n 0, 1) := dk_42 (dk_at dksX3_carried_8 14 rfl rfl)
theorem dX3_carried_206 : decode cX3_carried 206 = .ok (.getfield 32, 3) := dk_180 0 32 (dk_at dksX3_carried_8 15 rfl rfl)
theorem dX3_carried_209 : decode cX3_carried 209 = .ok (.iload 4, 2) := dk_21 4 (dk_at dksX3_carried_8 18 rfl rfl)
theorem dX3_carried_211 : decode cX3_carried 211 = .ok (.iaload, 1) := dk_46 (dk_at dksX3_carried_8 20 rfl rfl)
theorem dX3_carried_212 : decode cX3_carried 212 = .ok (.iastore, 1) := dk_79 (dk_at dksX3_carried_8 21 rfl rfl)
theorem dX3_carried_213 : decode cX3_carried 213 = .ok (.aload_n 0, 1) := dk_42 (dk_at dksX3_carried_8 22 rfl rfl)
theorem dX3_carried_214 : decode cX3_carried 214 = .ok (.getfield 35, 3) := dk_180 0 35 (dk_at dksX3_carried_9 0 rfl rfl)
theorem dX3_carried_217 : decode cX3_carried 217 = .ok (.iload 4, 2) := dk_21 4 (dk_at dksX3_carried_9 3 rfl rfl)
theorem dX3_carried_219 : decode cX3_carried 219 = .ok (.iload_n 3, 1) := dk_29 (dk_at dksX3_carried_9 5 rfl rfl)
theorem dX3_carried_220 : decode cX3_carried 220 = .ok (.ifCond .eq 13, 3) := dk_153 0 13 (dk_at dksX3_carried_9 6 rfl rfl)
theorem dX3_carried_223 : decode cX3_carried 223 = .ok (.iload_n 1, 1) := dk_27 (dk_at dksX3_carried_9 9 rfl rfl)
theorem dX3_carried_224 : decode cX3_carried 224 = .ok (.bipush 99, 2) := dk_16 99 (dk_at dksX3_carried_9 10 rfl rfl)
theorem dX3_carried_226 : decode cX3_carried 226 = .ok (.if_icmp .lt 7, 3) := dk_161 0 7 (dk_at dksX3_carried_9 12 rfl rfl)
theorem dX3_carried_229 : decode cX3_carried 229 = .ok (.iload_n 2, 1) := dk_28 (dk_at dksX3_carried_9 15 rfl rfl)
theorem dX3_carried_230 : decode cX3_carried 230 = .ok (.goto 10, 3) := dk_167 0 10 (dk_at dksX3_carried_9 16 rfl rfl)
theorem dX3_carried_233 : decode cX3_carried 233 = .ok (.aload_n 0, 1) := dk_42 (dk_at dksX3_carried_9 19 rfl rfl)
theorem dX3_carried_234 : decode cX3_carried 234 = .ok (.getfield 35, 3) := dk_180 0 35 (dk_at dksX3_carried_9 20 rfl rfl)
theorem dX3_carried_237 : decode cX3_carried 237 = .ok (.iload 4, 2) := dk_21 4 (dk_at dksX3_carried_10 0 rfl rfl)
theorem dX3_carried_239 : decode cX3_carried 239 = .ok (.iaload, 1) := dk_46 (dk_at dksX3_carried_10 2 rfl rfl)
theorem dX3_carried_240 : decode cX3_carried 240 = .ok (.iastore, 1) := dk_79 (dk_at dksX3_carried_10 3 rfl rfl)
theorem dX3_carried_241 : decode cX3_carried 241 = .ok (.iload_n 1, 1) := dk_27 (dk_at dksX3_carried_10 4 rfl rfl)
theorem dX3_carried_242 : decode cX3_carried 242 = .ok (.bipush 99, 2) := dk_16 99 (dk_at dksX3_carried_10 5 rfl rfl)
theorem dX3_carried_244 : decode cX3_carried 244 = .ok (.if_icmp .ge 13, 3) := dk_162 0 13 (dk_at dksX3_carried_10 7 rfl rfl)
theorem dX3_carried_247 : decode cX3_carried 247 = .ok (.aload_n 0, 1) := dk_42 (dk_at dksX3_carried_10 10 rfl rfl)
theorem dX3_carried_248 : decode cX3_carried 248 = .ok (.getfield 32, 3) := dk_180 0 32 (dk_at dksX3_carried_10 11 rfl rfl)
theorem dX3_carried_251 : decode cX3_carried 251 = .ok (.iload 4, 2) := dk_21 4 (dk_at dksX3_carried_10 14 rfl rfl)
theorem dX3_carried_253 : decode cX3_carried 253 = .ok (.iaload, 1) := dk_46 (dk_at dksX3_carried_10 16 rfl rfl)
theorem dX3_carried_254 : decode cX3_carried 254 = .ok (.goto 10, 3) := dk_167 0 10 (dk_at dksX3_carried_10 17 rfl rfl)
theorem dX3_carried_257 : decode cX3_carried 257 = .ok (.aload_n 0, 1) := dk_42 (dk_at dksX3_carried_10 20 rfl rfl)
theorem dX3_carried_258 : decode cX3_carried 258 = .ok (.getfield 35, 3) := dk_180 0 35 (dk_at dksX3_carried_10 21 rfl rfl)
theorem dX3_carried_261 : decode cX3_carried 261 = .ok (.iload 4, 2) := dk_21 4 (dk_at dksX3_carried_11 0 rfl rfl)
theorem dX3_carried_263 : decode cX3_carried 263 = .ok (.iaload, 1) := dk_46 (dk_at dksX3_carried_11 2 rfl rfl)
theorem dX3_carried_264 : decode cX3_carried 264 = .ok (.ireturn, 1) := dk_172 (dk_at dksX3_carried_11 3 rfl rfl)
theorem dX3_carried_265 : decode cX3_carried 265 = .ok (.iload_n 1, 1) := dk_27 (dk_at dksX3_carried_11 4 rfl rfl)
theorem dX3_carried_266 : decode cX3_carried 266 = .ok (.sipush 135, 3) := dk_17 0 135 (dk_at dksX3_carried_11 5 rfl rfl)
theorem dX3_carried_269 : decode cX3_carried 269 = .ok (.if_icmp .ge 39, 3) := dk_162 0 39 (dk_at dksX3_carried_11 8 rfl rfl)
theorem dX3_carried_272 : decode cX3_carried 272 = .ok (.aload_n 0, 1) := dk_42 (dk_at dksX3_carried_11 11 rfl rfl)
theorem dX3_carried_273 : decode cX3_carried 273 = .ok (.getfield 38, 3) := dk_180 0 38 (dk_at dksX3_carried_11 12 rfl rfl)
theorem dX3_carried_276 : decode cX3_carried 276 = .ok (.iload_n 1, 1) := dk_27 (dk_at dksX3_carried_11 15 rfl rfl)
theorem dX3_carried_277 : decode cX3_carried 277 = .ok (.bipush 105, 2) := dk_16 105 (dk_at dksX3_carried_11 16 rfl rfl)
theorem dX3_carried_279 : decode cX3_carried 279 = .ok (.isub, 1) := dk_100 (dk_at dksX3_carried_11 18 rfl rfl)
theorem dX3_carried_280 : decode cX3_carried 280 = .ok (.iload_n 3, 1) := dk_29 (dk_at dksX3_carried_11 19 rfl rfl)
theorem dX3_carried_281 : decode cX3_carried 281 = .ok (.ifCond .eq 7, 3) := dk_153 0 7 (dk_at dksX3_carried_11 20 rfl rfl)
theorem dX3_carried_284 : decode cX3_carried 284 = .ok (.iload_n 2, 1) := dk_28 (dk_at dksX3_carried_11 23 rfl rfl)
theorem dX3_carried_285 : decode cX3_carried 285 = .ok (.goto 12, 3) := dk_167 0 12 (dk_at dksX3_carried_12 0 rfl rfl)
theorem dX3_carried_288 : decode cX3_carried 288 = .ok (.aload_n 0, 1) := dk_42 (dk_at dksX3_carried_12 3 rfl rfl)
theorem dX3_carried_289 : decode cX3_carried 289 = .ok (.getfield 38, 3) := dk_180 0 38 (dk_at dksX3_carried_12 4 rfl rfl)
theorem dX3_carried_292 : decode cX3_carried 292 = .ok (.iload_n 1, 1) := dk_27 (dk_at dksX3_carried_12 7 rfl rfl)
theorem dX3_carried_293 : decode cX3_carried 293 = .ok (.bipush 105, 2) := dk_16 105 (dk_at dksX3_carried_12 8 rfl rfl)
theorem dX3_carried_295 : decode cX3_carried 295 = .ok (.isub, 1) := dk_100 (dk_at dksX3_carried_12 10 rfl rfl)
theorem dX3_carried_296 : decode cX3_carried 296 = .ok (.iaload, 1) := dk_46 (dk_at dksX3_carried_12 11 rfl rfl)
theorem dX3_carried_297 : decode cX3_carried 297 = .ok (.iastore, 1) := dk_79 (dk_at dksX3_carried_12 12 rfl rfl)
theorem dX3_carried_298 : decode cX3_carried 298 = .ok (.aload_n 0, 1) := dk_42 (dk_at dksX3_carried_12 13 rfl rfl)
theorem dX3_carried_299 : decode cX3_carried 299 = .ok (.getfield 38, 3) := dk_180 0 38 (dk_at dksX3_carried_12 14 rfl rfl)
theorem dX3_carried_302 : decode cX3_carried 302 = .ok (.iload_n 1, 1) := dk_27 (dk_at dksX3_carried_12 17 rfl rfl)
theorem dX3_carried_303 : decode cX3_carried 303 = .ok (.bipush 105, 2) := dk_16 105 (dk_at dksX3_carried_12 18 rfl rfl)
theorem dX3_carried_305 : decode cX3_carried 305 = .ok (.isub, 1) := dk_100 (dk_at dksX3_carried_12 20 rfl rfl)
theorem dX3_carried_306 : decode cX3_carried 306 = .ok (.iaload, 1) := dk_46 (dk_at dksX3_carried_12 21 rfl rfl)
theorem dX3_carried_307 : decode cX3_carried 307 = .ok (.ireturn, 1) := dk_172 (dk_at dksX3_carried_12 22 rfl rfl)
theorem dX3_carried_308 : decode cX3_carried 308 = .ok (.aload_n 0, 1) := dk_42 (dk_at dksX3_carried_12 23 rfl rfl)
theorem dX3_carried_309 : decode cX3_carried 309 = .ok (.iload_n 3, 1) := dk_29 (dk_at dksX3_carried_13 0 rfl rfl)
theorem dX3_carried_310 : decode cX3_carried 310 = .ok (.ifCond .eq 14, 3) := dk_153 0 14 (dk_at dksX3_carried_13 1 rfl rfl)
theorem dX3_carried_313 : decode cX3_carried 313 = .ok (.iload_n 1, 1) := dk_27 (dk_at dksX3_carried_13 4 rfl rfl)
theorem dX3_carried_314 : decode cX3_carried 314 = .ok (.sipush 135, 3) := dk_17 0 135 (dk_at dksX3_carried_13 5 rfl rfl)
theorem dX3_carried_317 : decode cX3_carried 317 = .ok (.if_icmp .ne 7, 3) := dk_160 0 7 (dk_at dksX3_carried_13 8 rfl rfl)
theorem dX3_carried_320 : decode cX3_carried 320 = .ok (.iload_n 2, 1) := dk_28 (dk_at dksX3_carried_13 11 rfl rfl)
theorem dX3_carried_321 : decode cX3_carried 321 = .ok (.goto 7, 3) := dk_167 0 7 (dk_at dksX3_carried_13 12 rfl rfl)
theorem dX3_carried_324 : decode cX3_carried 324 = .ok (.aload_n 0, 1) := dk_42 (dk_at dksX3_carried_13 15 rfl rfl)
theorem dX3_carried_325 : decode cX3_carried 325 = .ok (.getfield 72, 3) := dk_180 0 72 (dk_at dksX3_carried_13 16 rfl rfl)
theorem dX3_carried_328 : decode cX3_carried 328 = .ok (.putfield 72, 3) := dk_181 0 72 (dk_at dksX3_carried_13 19 rfl rfl)
theorem dX3_carried_331 : decode cX3_carried 331 = .ok (.aload_n 0, 1) := dk_42 (dk_at dksX3_carried_13 22 rfl rfl)
theorem dX3_carried_332 : decode cX3_carried 332 = .ok (.iload_n 3, 1) := dk_29 (dk_at dksX3_carried_13 23 rfl rfl)
theorem dX3_carried_333 : decode cX3_carried 333 = .ok (.ifCond .eq 14, 3) := dk_153 0 14 (dk_at dksX3_carried_14 0 rfl rfl)
theorem dX3_carried_336 : decode cX3_carried 336 = .ok (.iload_n 1, 1) := dk_27 (dk_at dksX3_carried_14 3 rfl rfl)
theorem dX3_carried_337 : decode cX3_carried 337 = .ok (.sipush 136, 3) := dk_17 0 136 (dk_at dksX3_carried_14 4 rfl rfl)
theorem dX3_carried_340 : decode cX3_carried 340 = .ok (.if_icmp .ne 7, 3) := dk_160 0 7 (dk_at dksX3_carried_14 7 rfl rfl)
theorem dX3_carried_343 : decode cX3_carried 343 = .ok (.iload_n 2, 1) := dk_28 (dk_at dksX3_carried_14 10 rfl rfl)
theorem dX3_carried_344 : decode cX3_carried 344 = .ok (.goto 7, 3) := dk_167 0 7 (dk_at dksX3_carried_14 11 rfl rfl)
theorem dX3_carried_347 : decode cX3_carried 347 = .ok (.aload_n 0, 1) := dk_42 (dk_at dksX3_carried_14 14 rfl rfl)
theorem dX3_carried_348 : decode cX3_carried 348 = .ok (.getfield 19, 3) := dk_180 0 19 (dk_at dksX3_carried_14 15 rfl rfl)
theorem dX3_carried_351 : decode cX3_carried 351 = .ok (.putfield 19, 3) := dk_181 0 19 (dk_at dksX3_carried_14 18 rfl rfl)
theorem dX3_carried_354 : decode cX3_carried 354 = .ok (.aload_n 0, 1) := dk_42 (dk_at dksX3_carried_14 21 rfl rfl)
theorem dX3_carried_355 : decode cX3_carried 355 = .ok (.iload_n 3, 1) := dk_29 (dk_at dksX3_carried_14 22 rfl rfl)
theorem dX3_carried_356 : decode cX3_carried 356 = .ok (.ifCond .eq 14, 3) := dk_153 0 14 (dk_at dksX3_carried_15 0 rfl rfl)
theorem dX3_carried_359 : decode cX3_carried 359 = .ok (.iload_n 1, 1) := dk_27 (dk_at dksX3_carried_15 3 rfl rfl)
theorem dX3_carried_360 : decode cX3_carried 360 = .ok (.sipush 137, 3) := dk_17 0 137 (dk_at dksX3_carried_15 4 rfl rfl)
theorem dX3_carried_363 : decode cX3_carried 363 = .ok (.if_icmp .ne 7, 3) := dk_160 0 7 (dk_at dksX3_carried_15 7 rfl rfl)
theorem dX3_carried_366 : decode cX3_carried 366 = .ok (.iload_n 2, 1) := dk_28 (dk_at dksX3_carried_15 10 rfl rfl)
theorem dX3_carried_367 : decode cX3_carried 367 = .ok (.goto 7, 3) := dk_167 0 7 (dk_at dksX3_carried_15 11 rfl rfl)
theorem dX3_carried_370 : decode cX3_carried 370 = .ok (.aload_n 0, 1) := dk_42 (dk_at dksX3_carried_15 14 rfl rfl)
theorem dX3_carried_371 : decode cX3_carried 371 = .ok (.getfield 26, 3) := dk_180 0 26 (dk_at dksX3_carried_15 15 rfl rfl)
theorem dX3_carried_374 : decode cX3_carried 374 = .ok (.putfield 26, 3) := dk_181 0 26 (dk_at dksX3_carried_15 18 rfl rfl)
theorem dX3_carried_377 : decode cX3_carried 377 = .ok (.aload_n 0, 1) := dk_42 (dk_at dksX3_carried_15 21 rfl rfl)
theorem dX3_carried_378 : decode cX3_carried 378 = .ok (.iload_n 3, 1) := dk_29 (dk_at dksX3_carried_15 22 rfl rfl)
theorem dX3_carried_379 : decode cX3_carried 379 = .ok (.ifCond .eq 14, 3) := dk_153 0 14 (dk_at dksX3_carried_16 0 rfl rfl)
theorem dX3_carried_382 : decode cX3_carried 382 = .ok (.iload_n 1, 1) := dk_27 (dk_at dksX3_carried_16 3 rfl rfl)
theorem dX3_carried_383 : decode cX3_carried 383 = .ok (.sipush 138, 3) := dk_17 0 138 (dk_at dksX3_carried_16 4 rfl rfl)
theorem dX3_carried_386 : decode cX3_carried 386 = .ok (.if_icmp .ne 7, 3) := dk_160 0 7 (dk_at dksX3_carried_16 7 rfl rfl)
theorem dX3_carried_389 : decode cX3_carried 389 = .ok (.iload_n 2, 1) := dk_28 (dk_at dksX3_carried_16 10 rfl rfl)
theorem dX3_carried_390 : decode cX3_carried 390 = .ok (.goto 7, 3) := dk_167 0 7 (dk_at dksX3_carried_16 11 rfl rfl)
theorem dX3_carried_393 : decode cX3_carried 393 = .ok (.aload_n 0, 1) := dk_42 (dk_at dksX3_carried_16 14 rfl rfl)
theorem dX3_carried_394 : decode cX3_carried 394 = .ok (.getfield 93, 3) := dk_180 0 93 (dk_at dksX3_carried_16 15 rfl rfl)
theorem dX3_carried_397 : decode cX3_carried 397 = .ok (.putfield 93, 3) := dk_181 0 93 (dk_at dksX3_carried_16 18 rfl rfl)
theorem dX3_carried_400 : decode cX3_carried 400 = .ok (.aload_n 0, 1) := dk_42 (dk_at dksX3_carried_16 21 rfl rfl)
theorem dX3_carried_401 : decode cX3_carried 401 = .ok (.iload_n 3, 1) := dk_29 (dk_at dksX3_carried_16 22 rfl rfl)
theorem dX3_carried_402 : decode cX3_carried 402 = .ok (.ifCond .eq 14, 3) := dk_153 0 14 (dk_at dksX3_carried_17 0 rfl rfl)
theorem dX3_carried_405 : decode cX3_carried 405 = .ok (.iload_n 1, 1) := dk_27 (dk_at dksX3_carried_17 3 rfl rfl)
theorem dX3_carried_406 : decode cX3_carried 406 = .ok (.sipush 139, 3) := dk_17 0 139 (dk_at dksX3_carried_17 4 rfl rfl)
theorem dX3_carried_409 : decode cX3_carried 409 = .ok (.if_icmp .ne 7, 3) := dk_160 0 7 (dk_at dksX3_carried_17 7 rfl rfl)
theorem dX3_carried_412 : decode cX3_carried 412 = .ok (.iload_n 2, 1) := dk_28 (dk_at dksX3_carried_17 10 rfl rfl)
theorem dX3_carried_413 : decode cX3_carried 413 = .ok (.goto 7, 3) := dk_167 0 7 (dk_at dksX3_carried_17 11 rfl rfl)
theorem dX3_carried_416 : decode cX3_carried 416 = .ok (.aload_n 0, 1) := dk_42 (dk_at dksX3_carried_17 14 rfl rfl)
theorem dX3_carried_417 : decode cX3_carried 417 = .ok (.getfield 96, 3) := dk_180 0 96 (dk_at dksX3_carried_17 15 rfl rfl)
theorem dX3_carried_420 : decode cX3_carried 420 = .ok (.putfield 96, 3) := dk_181 0 96 (dk_at dksX3_carried_17 18 rfl rfl)
theorem dX3_carried_423 : decode cX3_carried 423 = .ok (.aload_n 0, 1) := dk_42 (dk_at dksX3_carried_17 21 rfl rfl)
theorem dX3_carried_424 : decode cX3_carried 424 = .ok (.iload_n 3, 1) := dk_29 (dk_at dksX3_carried_17 22 rfl rfl)
theorem dX3_carried_425 : decode cX3_carried 425 = .ok (.ifCond .eq 14, 3) := dk_153 0 14 (dk_at dksX3_carried_18 0 rfl rfl)
theorem dX3_carried_428 : decode cX3_carried 428 = .ok (.iload_n 1, 1) := dk_27 (dk_at dksX3_carried_18 3 rfl rfl)
theorem dX3_carried_429 : decode cX3_carried 429 = .ok (.sipush 140, 3) := dk_17 0 140 (dk_at dksX3_carried_18 4 rfl rfl)
theorem dX3_carried_432 : decode cX3_carried 432 = .ok (.if_icmp .ne 7, 3) := dk_160 0 7 (dk_at dksX3_carried_18 7 rfl rfl)
theorem dX3_carried_435 : decode cX3_carried 435 = .ok (.iload_n 2, 1) := dk_28 (dk_at dksX3_carried_18 10 rfl rfl)
theorem dX3_carried_436 : decode cX3_carried 436 = .ok (.goto 7, 3) := dk_167 0 7 (dk_at dksX3_carried_18 11 rfl rfl)
theorem dX3_carried_439 : decode cX3_carried 439 = .ok (.aload_n 0, 1) := dk_42 (dk_at dksX3_carried_18 14 rfl rfl)
theorem dX3_carried_440 : decode cX3_carried 440 = .ok (.getfield 41, 3) := dk_180 0 41 (dk_at dksX3_carried_18 15 rfl rfl)
theorem dX3_carried_443 : decode cX3_carried 443 = .ok (.putfield 41, 3) := dk_181 0 41 (dk_at dksX3_carried_18 18 rfl rfl)
theorem dX3_carried_446 : decode cX3_carried 446 = .ok (.iload_n 1, 1) := dk_27 (dk_at dksX3_carried_18 21 rfl rfl)
theorem dX3_carried_447 : decode cX3_carried 447 = .ok (.sipush 135, 3) := dk_17 0 135 (dk_at dksX3_carried_19 0 rfl rfl)
theorem dX3_carried_450 : decode cX3_carried 450 = .ok (.if_icmp .ne 10, 3) := dk_160 0 10 (dk_at dksX3_carried_19 3 rfl rfl)
theorem dX3_carried_453 : decode cX3_carried 453 = .ok (.aload_n 0, 1) := dk_42 (dk_at dksX3_carried_19 6 rfl rfl)
theorem dX3_carried_454 : decode cX3_carried 454 = .ok (.getfield 72, 3) := dk_180 0 72 (dk_at dksX3_carried_19 7 rfl rfl)
theorem dX3_carried_457 : decode cX3_carried 457 = .ok (.goto 63, 3) := dk_167 0 63 (dk_at dksX3_carried_19 10 rfl rfl)
theorem dX3_carried_460 : decode cX3_carried 460 = .ok (.iload_n 1, 1) := dk_27 (dk_at dksX3_carried_19 13 rfl rfl)
theorem dX3_carried_461 : decode cX3_carried 461 = .ok (.sipush 136, 3) := dk_17 0 136 (dk_at dksX3_carried_19 14 rfl rfl)
theorem dX3_carried_464 : decode cX3_carried 464 = .ok (.if_icmp .ne 10, 3) := dk_160 0 10 (dk_at dksX3_carried_19 17 rfl rfl)
theorem dX3_carried_467 : decode cX3_carried 467 = .ok (.aload_n 0, 1) := dk_42 (dk_at dksX3_carried_19 20 rfl rfl)
theorem dX3_carried_468 : decode cX3_carried 468 = .ok (.getfield 19, 3) := dk_180 0 19 (dk_at dksX3_carried_19 21 rfl rfl)
theorem dX3_carried_471 : decode cX3_carried 471 = .ok (.goto 49, 3) := dk_167 0 49 (dk_at dksX3_carried_20 0 rfl rfl)
theorem dX3_carried_474 : decode cX3_carried 474 = .ok (.iload_n 1, 1) := dk_27 (dk_at dksX3_carried_20 3 rfl rfl)
theorem dX3_carried_475 : decode cX3_carried 475 = .ok (.sipush 137, 3) := dk_17 0 137 (dk_at dksX3_carried_20 4 rfl rfl)
theorem dX3_carried_478 : decode cX3_carried 478 = .ok (.if_icmp .ne 10, 3) := dk_160 0 10 (dk_at dksX3_carried_20 7 rfl rfl)
theorem dX3_carried_481 : decode cX3_carried 481 = .ok (.aload_n 0, 1) := dk_42 (dk_at dksX3_carried_20 10 rfl rfl)
theorem dX3_carried_482 : decode cX3_carried 482 = .ok (.getfield 26, 3) := dk_180 0 26 (dk_at dksX3_carried_20 11 rfl rfl)
theorem dX3_carried_485 : decode cX3_carried 485 = .ok (.goto 35, 3) := dk_167 0 35 (dk_at dksX3_carried_20 14 rfl rfl)
theorem dX3_carried_488 : decode cX3_carried 488 = .ok (.iload_n 1, 1) := dk_27 (dk_at dksX3_carried_20 17 rfl rfl)
theorem dX3_carried_489 : decode cX3_carried 489 = .ok (.sipush 138, 3) := dk_17 0 138 (dk_at dksX3_carried_20 18 rfl rfl)
theorem dX3_carried_492 : decode cX3_carried 492 = .ok (.if_icmp .ne 10, 3) := dk_160 0 10 (dk_at dksX3_carried_20 21 rfl rfl)
theorem dX3_carried_495 : decode cX3_carried 495 = .ok (.aload_n 0, 1) := dk_42 (dk_at dksX3_carried_21 0 rfl rfl)
theorem dX3_carried_496 : decode cX3_carried 496 = .ok (.getfield 93, 3) := dk_180 0 93 (dk_at dksX3_carried_21 1 rfl rfl)
theorem dX3_carried_499 : decode cX3_carried 499 = .ok (.goto 21, 3) := dk_167 0 21 (dk_at dksX3_carried_21 4 rfl rfl)
theorem dX3_carried_502 : decode cX3_carried 502 = .ok (.iload_n 1, 1) := dk_27 (dk_at dksX3_carried_21 7 rfl rfl)
theorem dX3_carried_503 : decode cX3_carried 503 = .ok (.sipush 139, 3) := dk_17 0 139 (dk_at dksX3_carried_21 8 rfl rfl)
theorem dX3_carried_506 : decode cX3_carried 506 = .ok (.if_icmp .ne 10, 3) := dk_160 0 10 (dk_at dksX3_carried_21 11 rfl rfl)
theorem dX3_carried_509 : decode cX3_carried 509 = .ok (.aload_n 0, 1) := dk_42 (dk_at dksX3_carried_21 14 rfl rfl)
theorem dX3_carried_510 : decode cX3_carried 510 = .ok (.getfield 96, 3) := dk_180 0 96 (dk_at dksX3_carried_21 15 rfl rfl)
theorem dX3_carried_513 : decode cX3_carried 513 = .ok (.goto 7, 3) := dk_167 0 7 (dk_at dksX3_carried_21 18 rfl rfl)
theorem dX3_carried_516 : decode cX3_carried 516 = .ok (.aload_n 0, 1) := dk_42 (dk_at dksX3_carried_21 21 rfl rfl)
theorem dX3_carried_517 : decode cX3_carried 517 = .ok (.getfield 41, 3) := dk_180 0 41 (dk_at dksX3_carried_22 0 rfl rfl)
theorem dX3_carried_520 : decode cX3_carried 520 = .ok (.ireturn, 1) := dk_172 (dk_at dksX3_carried_22 3 rfl rfl)
abbrev cX3_image : ByteArray := prog_24_method_86_code
def yX3_image : MethodName := ⟨RX3, "image", "()I"⟩
def dkwX3_image_1 : List UInt8 := [132, 1, 1, 167, 255, 233, 42, 4, 181, 1, 40, 4, 172]
abbrev dktX3_image_1 : List UInt8 := dkwX3_image_1 ++ []
def dkwX3_image_0 : List UInt8 := [3, 60, 27, 17, 0, 141, 162, 0, 22, 42, 180, 0, 56, 27, 42, 27, 3, 3, 182, 1, 36, 79]
abbrev dktX3_image_0 : List UInt8 := dkwX3_image_0 ++ dktX3_image_1
theorem dksX3_image_0 : cX3_image.data.toList.drop 0 = dktX3_image_0 := by decide +kernel
theorem dksX3_image_1 : cX3_image.data.toList.drop 22 = dktX3_image_1 := dk_seg dksX3_image_0 22 rfl rfl
theorem dX3_image_0 : decode cX3_image 0 = .ok (.iconst 0, 1) := dk_3 (dk_at dksX3_image_0 0 rfl rfl)
theorem dX3_image_1 : decode cX3_image 1 = .ok (.istore_n 1, 1) := dk_60 (dk_at dksX3_image_0 1 rfl rfl)
theorem dX3_image_2 : decode cX3_image 2 = .ok (.iload_n 1, 1) := dk_27 (dk_at dksX3_image_0 2 rfl rfl)
theorem dX3_image_3 : decode cX3_image 3 = .ok (.sipush 141, 3) := dk_17 0 141 (dk_at dksX3_image_0 3 rfl rfl)
theorem dX3_image_6 : decode cX3_image 6 = .ok (.if_icmp .ge 22, 3) := dk_162 0 22 (dk_at dksX3_image_0 6 rfl rfl)
theorem dX3_image_9 : decode cX3_image 9 = .ok (.aload_n 0, 1) := dk_42 (dk_at dksX3_image_0 9 rfl rfl)
theorem dX3_image_10 : decode cX3_image 10 = .ok (.getfield 56, 3) := dk_180 0 56 (dk_at dksX3_image_0 10 rfl rfl)
theorem dX3_image_13 : decode cX3_image 13 = .ok (.iload_n 1, 1) := dk_27 (dk_at dksX3_image_0 13 rfl rfl)
theorem dX3_image_14 : decode cX3_image 14 = .ok (.aload_n 0, 1) := dk_42 (dk_at dksX3_image_0 14 rfl rfl)
theorem dX3_image_15 : decode cX3_image 15 = .ok (.iload_n 1, 1) := dk_27 (dk_at dksX3_image_0 15 rfl rfl)
theorem dX3_image_16 : decode cX3_image 16 = .ok (.iconst 0, 1) := dk_3 (dk_at dksX3_image_0 16 rfl rfl)
theorem dX3_image_17 : decode cX3_image 17 = .ok (.iconst 0, 1) := dk_3 (dk_at dksX3_image_0 17 rfl rfl)
theorem dX3_image_18 : decode cX3_image 18 = .ok (.invokevirtual 292, 3) := dk_182 1 36 (dk_at dksX3_image_0 18 rfl rfl)
theorem dX3_image_21 : decode cX3_image 21 = .ok (.iastore, 1) := dk_79 (dk_at dksX3_image_0 21 rfl rfl)
theorem dX3_image_22 : decode cX3_image 22 = .ok (.iinc 1 1, 3) := dk_132 1 1 (dk_at dksX3_image_1 0 rfl rfl)
theorem dX3_image_25 : decode cX3_image 25 = .ok (.goto (-23), 3) := dk_167 255 233 (dk_at dksX3_image_1 3 rfl rfl)
theorem dX3_image_28 : decode cX3_image 28 = .ok (.aload_n 0, 1) := dk_42 (dk_at dksX3_image_1 6 rfl rfl)
theorem dX3_image_29 : decode cX3_image 29 = .ok (.iconst 1, 1) := dk_4 (dk_at dksX3_image_1 7 rfl rfl)
theorem dX3_image_30 : decode cX3_image 30 = .ok (.putfield 296, 3) := dk_181 1 40 (dk_at dksX3_image_1 8 rfl rfl)
theorem dX3_image_33 : decode cX3_image 33 = .ok (.iconst 1, 1) := dk_4 (dk_at dksX3_image_1 11 rfl rfl)
theorem dX3_image_34 : decode cX3_image 34 = .ok (.ireturn, 1) := dk_172 (dk_at dksX3_image_1 12 rfl rfl)
abbrev cX3_restore : ByteArray := prog_24_method_87_code
def yX3_restore : MethodName := ⟨RX3, "restore", "()I"⟩
def dkwX3_restore_1 : List UInt8 := [180, 0, 56, 27, 46, 4, 182, 1, 36, 87, 132, 1, 1, 167, 255, 233, 4, 172]
abbrev dktX3_restore_1 : List UInt8 := dkwX3_restore_1 ++ []
def dkwX3_restore_0 : List UInt8 := [42, 180, 1, 40, 154, 0, 6, 16, 252, 172, 3, 60, 27, 17, 0, 141, 162, 0, 22, 42, 27, 42]
abbrev dktX3_restore_0 : List UInt8 := dkwX3_restore_0 ++ dktX3_restore_1
theorem dksX3_restore_0 : cX3_restore.data.toList.drop 0 = dktX3_restore_0 := by decide +kernel
theorem dksX3_restore_1 : cX3_restore.data.toList.drop 22 = dktX3_restore_1 := dk_seg dksX3_restore_0 22 rfl rfl
theorem dX3_restore_0 : decode cX3_restore 0 = .ok (.aload_n 0, 1) := dk_42 (dk_at dksX3_restore_0 0 rfl rfl)
theorem dX3_restore_1 : decode cX3_restore 1 = .ok (.getfield 296, 3) := dk_180 1 40 (dk_at dksX3_restore_0 1 rfl rfl)
theorem dX3_restore_4 : decode cX3_restore 4 = .ok (.ifCond .ne 6, 3) := dk_154 0 6 (dk_at dksX3_restore_0 4 rfl rfl)
theorem dX3_restore_7 : decode cX3_restore 7 = .ok (.bipush (-4), 2) := dk_16 252 (dk_at dksX3_restore_0 7 rfl rfl)
theorem dX3_restore_9 : decode cX3_restore 9 = .ok (.ireturn, 1) := dk_172 (dk_at dksX3_restore_0 9 rfl rfl)
theorem dX3_restore_10 : decode cX3_restore 10 = .ok (.iconst 0, 1) := dk_3 (dk_at dksX3_restore_0 10 rfl rfl)
theorem dX3_restore_11 : decode cX3_restore 11 = .ok (.istore_n 1, 1) := dk_60 (dk_at dksX3_restore_0 11 rfl rfl)
theorem dX3_restore_12 : decode cX3_restore 12 = .ok (.iload_n 1, 1) := dk_27 (dk_at dksX3_restore_0 12 rfl rfl)
theorem dX3_restore_13 : decode cX3_restore 13 = .ok (.sipush 141, 3) := dk_17 0 141 (dk_at dksX3_restore_0 13 rfl rfl)
theorem dX3_restore_16 : decode cX3_restore 16 = .ok (.if_icmp .ge 22, 3) := dk_162 0 22 (dk_at dksX3_restore_0 16 rfl rfl)
theorem dX3_restore_19 : decode cX3_restore 19 = .ok (.aload_n 0, 1) := dk_42 (dk_at dksX3_restore_0 19 rfl rfl)
theorem dX3_restore_20 : decode cX3_restore 20 = .ok (.iload_n 1, 1) := dk_27 (dk_at dksX3_restore_0 20 rfl rfl)
theorem dX3_restore_21 : decode cX3_restore 21 = .ok (.aload_n 0, 1) := dk_42 (dk_at dksX3_restore_0 21 rfl rfl)
theorem dX3_restore_22 : decode cX3_restore 22 = .ok (.getfield 56, 3) := dk_180 0 56 (dk_at dksX3_restore_1 0 rfl rfl)
theorem dX3_restore_25 : decode cX3_restore 25 = .ok (.iload_n 1, 1) := dk_27 (dk_at dksX3_restore_1 3 rfl rfl)
theorem dX3_restore_26 : decode cX3_restore 26 = .ok (.iaload, 1) := dk_46 (dk_at dksX3_restore_1 4 rfl rfl)
theorem dX3_restore_27 : decode cX3_restore 27 = .ok (.iconst 1, 1) := dk_4 (dk_at dksX3_restore_1 5 rfl rfl)
theorem dX3_restore_28 : decode cX3_restore 28 = .ok (.invokevirtual 292, 3) := dk_182 1 36 (dk_at dksX3_restore_1 6 rfl rfl)
theorem dX3_restore_31 : decode cX3_restore 31 = .ok (.pop, 1) := dk_87 (dk_at dksX3_restore_1 9 rfl rfl)
theorem dX3_restore_32 : decode cX3_restore 32 = .ok (.iinc 1 1, 3) := dk_132 1 1 (dk_at dksX3_restore_1 10 rfl rfl)
theorem dX3_restore_35 : decode cX3_restore 35 = .ok (.goto (-23), 3) := dk_167 255 233 (dk_at dksX3_restore_1 13 rfl rfl)
theorem dX3_restore_38 : decode cX3_restore 38 = .ok (.iconst 1, 1) := dk_4 (dk_at dksX3_restore_1 16 rfl rfl)
theorem dX3_restore_39 : decode cX3_restore 39 = .ok (.ireturn, 1) := dk_172 (dk_at dksX3_restore_1 17 rfl rfl)
abbrev cX3_isSheet : ByteArray := prog_24_method_88_code
def yX3_isSheet : MethodName := ⟨RX3, "isSheet", "(II)Z"⟩
def dkwX3_isSheet_1 : List UInt8 := [4, 167, 0, 4, 3, 172]
abbrev dktX3_isSheet_1 : List UInt8 := dkwX3_isSheet_1 ++ []
def dkwX3_isSheet_0 : List UInt8 := [26, 133, 9, 20, 1, 44, 184, 0, 75, 153, 0, 19, 27, 133, 9, 20, 1, 44, 184, 0, 75, 153, 0, 7]
abbrev dktX3_isSheet_0 : List UInt8 := dkwX3_isSheet_0 ++ dktX3_isSheet_1
theorem dksX3_isSheet_0 : cX3_isSheet.data.toList.drop 0 = dktX3_isSheet_0 := by decide +kernel
theorem dksX3_isSheet_1 : cX3_isSheet.data.toList.drop 24 = dktX3_isSheet_1 := dk_seg dksX3_isSheet_0 24 rfl rfl
theorem dX3_isSheet_0 : decode cX3_isSheet 0 = .ok (.iload_n 0, 1) := dk_26 (dk_at dksX3_isSheet_0 0 rfl rfl)
theorem dX3_isSheet_1 : decode cX3_isSheet 1 = .ok (.i2l, 1) := dk_133 (dk_at dksX3_isSheet_0 1 rfl rfl)
theorem dX3_isSheet_2 : decode cX3_isSheet 2 = .ok (.lconst 0, 1) := dk_9 (dk_at dksX3_isSheet_0 2 rfl rfl)
theorem dX3_isSheet_3 : decode cX3_isSheet 3 = .ok (.ldc2_w 300, 3) := dk_20 1 44 (dk_at dksX3_isSheet_0 3 rfl rfl)
theorem dX3_isSheet_6 : decode cX3_isSheet 6 = .ok (.invokestatic 75, 3) := dk_184 0 75 (dk_at dksX3_isSheet_0 6 rfl rfl)
theorem dX3_isSheet_9 : decode cX3_isSheet 9 = .ok (.ifCond .eq 19, 3) := dk_153 0 19 (dk_at dksX3_isSheet_0 9 rfl rfl)
theorem dX3_isSheet_12 : decode cX3_isSheet 12 = .ok (.iload_n 1, 1) := dk_27 (dk_at dksX3_isSheet_0 12 rfl rfl)
theorem dX3_isSheet_13 : decode cX3_isSheet 13 = .ok (.i2l, 1) := dk_133 (dk_at dksX3_isSheet_0 13 rfl rfl)
theorem dX3_isSheet_14 : decode cX3_isSheet 14 = .ok (.lconst 0, 1) := dk_9 (dk_at dksX3_isSheet_0 14 rfl rfl)
theorem dX3_isSheet_15 : decode cX3_isSheet 15 = .ok (.ldc2_w 300, 3) := dk_20 1 44 (dk_at dksX3_isSheet_0 15 rfl rfl)
theorem dX3_isSheet_18 : decode cX3_isSheet 18 = .ok (.invokestatic 75, 3) := dk_184 0 75 (dk_at dksX3_isSheet_0 18 rfl rfl)
theorem dX3_isSheet_21 : decode cX3_isSheet 21 = .ok (.ifCond .eq 7, 3) := dk_153 0 7 (dk_at dksX3_isSheet_0 21 rfl rfl)
theorem dX3_isSheet_24 : decode cX3_isSheet 24 = .ok (.iconst 1, 1) := dk_4 (dk_at dksX3_isSheet_1 0 rfl rfl)
theorem dX3_isSheet_25 : decode cX3_isSheet 25 = .ok (.goto 4, 3) := dk_167 0 4 (dk_at dksX3_isSheet_1 1 rfl rfl)
theorem dX3_isSheet_28 : decode cX3_isSheet 28 = .ok (.iconst 0, 1) := dk_3 (dk_at dksX3_isSheet_1 4 rfl rfl)
theorem dX3_isSheet_29 : decode cX3_isSheet 29 = .ok (.ireturn, 1) := dk_172 (dk_at dksX3_isSheet_1 5 rfl rfl)
abbrev cX3_sheet : ByteArray := prog_24_method_90_code
def yX3_sheet : MethodName := ⟨RX3, "sheet", "(III)I"⟩
def dkwX3_sheet_2 : List UInt8 := [180, 0, 65, 16, 24, 27, 104, 21, 4, 96, 9, 80, 132, 4, 1, 167, 255, 233, 29, 172]
abbrev dktX3_sheet_2 : List UInt8 := dkwX3_sheet_2 ++ []
def dkwX3_sheet_1 : List UInt8 := [180, 0, 59, 27, 28, 79, 42, 180, 0, 62, 27, 29, 79, 3, 54, 4, 21, 4, 16, 24, 162, 0, 22, 42]
abbrev dktX3_sheet_1 : List UInt8 := dkwX3_sheet_1 ++ dktX3_sheet_2
def dkwX3_sheet_0 : List UInt8 := [27, 28, 184, 1, 46, 153, 0, 9, 29, 16, 24, 164, 0, 5, 2, 172, 29, 156, 0, 6, 16, 242, 172, 42]
abbrev dktX3_sheet_0 : List UInt8 := dkwX3_sheet_0 ++ dktX3_sheet_1
theorem dksX3_sheet_0 : cX3_sheet.data.toList.drop 0 = dktX3_sheet_0 := by decide +kernel
theorem dksX3_sheet_1 : cX3_sheet.data.toList.drop 24 = dktX3_sheet_1 := dk_seg dksX3_sheet_0 24 rfl rfl
theorem dksX3_sheet_2 : cX3_sheet.data.toList.drop 48 = dktX3_sheet_2 := dk_seg dksX3_sheet_1 24 rfl rfl
theorem dX3_sheet_0 : decode cX3_sheet 0 = .ok (.iload_n 1, 1) := dk_27 (dk_at dksX3_sheet_0 0 rfl rfl)
theorem dX3_sheet_1 : decode cX3_sheet 1 = .ok (.iload_n 2, 1) := dk_28 (dk_at dksX3_sheet_0 1 rfl rfl)
theorem dX3_sheet_2 : decode cX3_sheet 2 = .ok (.invokestatic 302, 3) := dk_184 1 46 (dk_at dksX3_sheet_0 2 rfl rfl)
theorem dX3_sheet_5 : decode cX3_sheet 5 = .ok (.ifCond .eq 9, 3) := dk_153 0 9 (dk_at dksX3_sheet_0 5 rfl rfl)
theorem dX3_sheet_8 : decode cX3_sheet 8 = .ok (.iload_n 3, 1) := dk_29 (dk_at dksX3_sheet_0 8 rfl rfl)
theorem dX3_sheet_9 : decode cX3_sheet 9 = .ok (.bipush 24, 2) := dk_16 24 (dk_at dksX3_sheet_0 9 rfl rfl)
theorem dX3_sheet_11 : decode cX3_sheet 11 = .ok (.if_icmp .le 5, 3) := dk_164 0 5 (dk_at dksX3_sheet_0 11 rfl rfl)
theorem dX3_sheet_14 : decode cX3_sheet 14 = .ok (.iconst (-1), 1) := dk_2 (dk_at dksX3_sheet_0 14 rfl rfl)
theorem dX3_sheet_15 : decode cX3_sheet 15 = .ok (.ireturn, 1) := dk_172 (dk_at dksX3_sheet_0 15 rfl rfl)
theorem dX3_sheet_16 : decode cX3_sheet 16 = .ok (.iload_n 3, 1) := dk_29 (dk_at dksX3_sheet_0 16 rfl rfl)
theorem dX3_sheet_17 : decode cX3_sheet 17 = .ok (.ifCond .ge 6, 3) := dk_156 0 6 (dk_at dksX3_sheet_0 17 rfl rfl)
theorem dX3_sheet_20 : decode cX3_sheet 20 = .ok (.bipush (-14), 2) := dk_16 242 (dk_at dksX3_sheet_0 20 rfl rfl)
theorem dX3_sheet_22 : decode cX3_sheet 22 = .ok (.ireturn, 1) := dk_172 (dk_at dksX3_sheet_0 22 rfl rfl)
theorem dX3_sheet_23 : decode cX3_sheet 23 = .ok (.aload_n 0, 1) := dk_42 (dk_at dksX3_sheet_0 23 rfl rfl)
theorem dX3_sheet_24 : decode cX3_sheet 24 = .ok (.getfield 59, 3) := dk_180 0 59 (dk_at dksX3_sheet_1 0 rfl rfl)
theorem dX3_sheet_27 : decode cX3_sheet 27 = .ok (.iload_n 1, 1) := dk_27 (dk_at dksX3_sheet_1 3 rfl rfl)
theorem dX3_sheet_28 : decode cX3_sheet 28 = .ok (.iload_n 2, 1) := dk_28 (dk_at dksX3_sheet_1 4 rfl rfl)
theorem dX3_sheet_29 : decode cX3_sheet 29 = .ok (.iastore, 1) := dk_79 (dk_at dksX3_sheet_1 5 rfl rfl)
theorem dX3_sheet_30 : decode cX3_sheet 30 = .ok (.aload_n 0, 1) := dk_42 (dk_at dksX3_sheet_1 6 rfl rfl)
theorem dX3_sheet_31 : decode cX3_sheet 31 = .ok (.getfield 62, 3) := dk_180 0 62 (dk_at dksX3_sheet_1 7 rfl rfl)
theorem dX3_sheet_34 : decode cX3_sheet 34 = .ok (.iload_n 1, 1) := dk_27 (dk_at dksX3_sheet_1 10 rfl rfl)
theorem dX3_sheet_35 : decode cX3_sheet 35 = .ok (.iload_n 3, 1) := dk_29 (dk_at dksX3_sheet_1 11 rfl rfl)
theorem dX3_sheet_36 : decode cX3_sheet 36 = .ok (.iastore, 1) := dk_79 (dk_at dksX3_sheet_1 12 rfl rfl)
theorem dX3_sheet_37 : decode cX3_sheet 37 = .ok (.iconst 0, 1) := dk_3 (dk_at dksX3_sheet_1 13 rfl rfl)
theorem dX3_sheet_38 : decode cX3_sheet 38 = .ok (.istore 4, 2) := dk_54 4 (dk_at dksX3_sheet_1 14 rfl rfl)
theorem dX3_sheet_40 : decode cX3_sheet 40 = .ok (.iload 4, 2) := dk_21 4 (dk_at dksX3_sheet_1 16 rfl rfl)
theorem dX3_sheet_42 : decode cX3_sheet 42 = .ok (.bipush 24, 2) := dk_16 24 (dk_at dksX3_sheet_1 18 rfl rfl)
theorem dX3_sheet_44 : decode cX3_sheet 44 = .ok (.if_icmp .ge 22, 3) := dk_162 0 22 (dk_at dksX3_sheet_1 20 rfl rfl)
theorem dX3_sheet_47 : decode cX3_sheet 47 = .ok (.aload_n 0, 1) := dk_42 (dk_at dksX3_sheet_1 23 rfl rfl)
theorem dX3_sheet_48 : decode cX3_sheet 48 = .ok (.getfield 65, 3) := dk_180 0 65 (dk_at dksX3_sheet_2 0 rfl rfl)
theorem dX3_sheet_51 : decode cX3_sheet 51 = .ok (.bipush 24, 2) := dk_16 24 (dk_at dksX3_sheet_2 3 rfl rfl)
theorem dX3_sheet_53 : decode cX3_sheet 53 = .ok (.iload_n 1, 1) := dk_27 (dk_at dksX3_sheet_2 5 rfl rfl)
theorem dX3_sheet_54 : decode cX3_sheet 54 = .ok (.imul, 1) := dk_104 (dk_at dksX3_sheet_2 6 rfl rfl)
theorem dX3_sheet_55 : decode cX3_sheet 55 = .ok (.iload 4, 2) := dk_21 4 (dk_at dksX3_sheet_2 7 rfl rfl)
theorem dX3_sheet_57 : decode cX3_sheet 57 = .ok (.iadd, 1) := dk_96 (dk_at dksX3_sheet_2 9 rfl rfl)
theorem dX3_sheet_58 : decode cX3_sheet 58 = .ok (.lconst 0, 1) := dk_9 (dk_at dksX3_sheet_2 10 rfl rfl)
theorem dX3_sheet_59 : decode cX3_sheet 59 = .ok (.lastore, 1) := dk_80 (dk_at dksX3_sheet_2 11 rfl rfl)
theorem dX3_sheet_60 : decode cX3_sheet 60 = .ok (.iinc 4 1, 3) := dk_132 4 1 (dk_at dksX3_sheet_2 12 rfl rfl)
theorem dX3_sheet_63 : decode cX3_sheet 63 = .ok (.goto (-23), 3) := dk_167 255 233 (dk_at dksX3_sheet_2 15 rfl rfl)
theorem dX3_sheet_66 : decode cX3_sheet 66 = .ok (.iload_n 3, 1) := dk_29 (dk_at dksX3_sheet_2 18 rfl rfl)
theorem dX3_sheet_67 : decode cX3_sheet 67 = .ok (.ireturn, 1) := dk_172 (dk_at dksX3_sheet_2 19 rfl rfl)
abbrev cX3_drop : ByteArray := prog_24_method_91_code
def yX3_drop : MethodName := ⟨RX3, "drop", "(I)I"⟩
def dkwX3_drop_1 : List UInt8 := [16, 245, 172, 42, 180, 0, 59, 27, 2, 79, 42, 180, 0, 62, 27, 46, 172]
abbrev dktX3_drop_1 : List UInt8 := dkwX3_drop_1 ++ []
def dkwX3_drop_0 : List UInt8 := [27, 133, 9, 20, 1, 44, 184, 0, 75, 154, 0, 5, 2, 172, 42, 180, 0, 59, 27, 46, 156, 0, 6]
abbrev dktX3_drop_0 : List UInt8 := dkwX3_drop_0 ++ dktX3_drop_1
theorem dksX3_drop_0 : cX3_drop.data.toList.drop 0 = dktX3_drop_0 := by decide +kernel
theorem dksX3_drop_1 : cX3_drop.data.toList.drop 23 = dktX3_drop_1 := dk_seg dksX3_drop_0 23 rfl rfl
theorem dX3_drop_0 : decode cX3_drop 0 = .ok (.iload_n 1, 1) := dk_27 (dk_at dksX3_drop_0 0 rfl rfl)
theorem dX3_drop_1 : decode cX3_drop 1 = .ok (.i2l, 1) := dk_133 (dk_at dksX3_drop_0 1 rfl rfl)
theorem dX3_drop_2 : decode cX3_drop 2 = .ok (.lconst 0, 1) := dk_9 (dk_at dksX3_drop_0 2 rfl rfl)
theorem dX3_drop_3 : decode cX3_drop 3 = .ok (.ldc2_w 300, 3) := dk_20 1 44 (dk_at dksX3_drop_0 3 rfl rfl)
theorem dX3_drop_6 : decode cX3_drop 6 = .ok (.invokestatic 75, 3) := dk_184 0 75 (dk_at dksX3_drop_0 6 rfl rfl)
theorem dX3_drop_9 : decode cX3_drop 9 = .ok (.ifCond .ne 5, 3) := dk_154 0 5 (dk_at dksX3_drop_0 9 rfl rfl)
theorem dX3_drop_12 : decode cX3_drop 12 = .ok (.iconst (-1), 1) := dk_2 (dk_at dksX3_drop_0 12 rfl rfl)
theorem dX3_drop_13 : decode cX3_drop 13 = .ok (.ireturn, 1) := dk_172 (dk_at dksX3_drop_0 13 rfl rfl)
theorem dX3_drop_14 : decode cX3_drop 14 = .ok (.aload_n 0, 1) := dk_42 (dk_at dksX3_drop_0 14 rfl rfl)
theorem dX3_drop_15 : decode cX3_drop 15 = .ok (.getfield 59, 3) := dk_180 0 59 (dk_at dksX3_drop_0 15 rfl rfl)
theorem dX3_drop_18 : decode cX3_drop 18 = .ok (.iload_n 1, 1) := dk_27 (dk_at dksX3_drop_0 18 rfl rfl)
theorem dX3_drop_19 : decode cX3_drop 19 = .ok (.iaload, 1) := dk_46 (dk_at dksX3_drop_0 19 rfl rfl)
theorem dX3_drop_20 : decode cX3_drop 20 = .ok (.ifCond .ge 6, 3) := dk_156 0 6 (dk_at dksX3_drop_0 20 rfl rfl)
theorem dX3_drop_23 : decode cX3_drop 23 = .ok (.bipush (-11), 2) := dk_16 245 (dk_at dksX3_drop_1 0 rfl rfl)
theorem dX3_drop_25 : decode cX3_drop 25 = .ok (.ireturn, 1) := dk_172 (dk_at dksX3_drop_1 2 rfl rfl)
theorem dX3_drop_26 : decode cX3_drop 26 = .ok (.aload_n 0, 1) := dk_42 (dk_at dksX3_drop_1 3 rfl rfl)
theorem dX3_drop_27 : decode cX3_drop 27 = .ok (.getfield 59, 3) := dk_180 0 59 (dk_at dksX3_drop_1 4 rfl rfl)
theorem dX3_drop_30 : decode cX3_drop 30 = .ok (.iload_n 1, 1) := dk_27 (dk_at dksX3_drop_1 7 rfl rfl)
theorem dX3_drop_31 : decode cX3_drop 31 = .ok (.iconst (-1), 1) := dk_2 (dk_at dksX3_drop_1 8 rfl rfl)
theorem dX3_drop_32 : decode cX3_drop 32 = .ok (.iastore, 1) := dk_79 (dk_at dksX3_drop_1 9 rfl rfl)
theorem dX3_drop_33 : decode cX3_drop 33 = .ok (.aload_n 0, 1) := dk_42 (dk_at dksX3_drop_1 10 rfl rfl)
theorem dX3_drop_34 : decode cX3_drop 34 = .ok (.getfield 62, 3) := dk_180 0 62 (dk_at dksX3_drop_1 11 rfl rfl)
theorem dX3_drop_37 : decode cX3_drop 37 = .ok (.iload_n 1, 1) := dk_27 (dk_at dksX3_drop_1 14 rfl rfl)
theorem dX3_drop_38 : decode cX3_drop 38 = .ok (.iaload, 1) := dk_46 (dk_at dksX3_drop_1 15 rfl rfl)
theorem dX3_drop_39 : decode cX3_drop 39 = .ok (.ireturn, 1) := dk_172 (dk_at dksX3_drop_1 16 rfl rfl)
abbrev cX3_asLane : ByteArray := prog_24_method_89_code
def yX3_asLane : MethodName := ⟨RX3, "asLane", "(IJ)J"⟩
def dkwX3_asLane_1 : List UInt8 := [16, 48, 123, 167, 0, 19, 26, 5, 160, 0, 13, 31, 16, 32, 121, 16, 32, 123, 167, 0, 4, 31, 173]
abbrev dktX3_asLane_1 : List UInt8 := dkwX3_asLane_1 ++ []
def dkwX3_asLane_0 : List UInt8 := [26, 154, 0, 13, 31, 16, 56, 121, 16, 56, 123, 167, 0, 34, 26, 4, 160, 0, 13, 31, 16, 48, 121]
abbrev dktX3_asLane_0 : List UInt8 := dkwX3_asLane_0 ++ dktX3_asLane_1
theorem dksX3_asLane_0 : cX3_asLane.data.toList.drop 0 = dktX3_asLane_0 := by decide +kernel
theorem dksX3_asLane_1 : cX3_asLane.data.toList.drop 23 = dktX3_asLane_1 := dk_seg dksX3_asLane_0 23 rfl rfl
theorem dX3_asLane_0 : decode cX3_asLane 0 = .ok (.iload_n 0, 1) := dk_26 (dk_at dksX3_asLane_0 0 rfl rfl)
theorem dX3_asLane_1 : decode cX3_asLane 1 = .ok (.ifCond .ne 13, 3) := dk_154 0 13 (dk_at dksX3_asLane_0 1 rfl rfl)
theorem dX3_asLane_4 : decode cX3_asLane 4 = .ok (.lload_n 1, 1) := dk_31 (dk_at dksX3_asLane_0 4 rfl rfl)
theorem dX3_asLane_5 : decode cX3_asLane 5 = .ok (.bipush 56, 2) := dk_16 56 (dk_at dksX3_asLane_0 5 rfl rfl)
theorem dX3_asLane_7 : decode cX3_asLane 7 = .ok (.lshl, 1) := dk_121 (dk_at dksX3_asLane_0 7 rfl rfl)
theorem dX3_asLane_8 : decode cX3_asLane 8 = .ok (.bipush 56, 2) := dk_16 56 (dk_at dksX3_asLane_0 8 rfl rfl)
theorem dX3_asLane_10 : decode cX3_asLane 10 = .ok (.lshr, 1) := dk_123 (dk_at dksX3_asLane_0 10 rfl rfl)
theorem dX3_asLane_11 : decode cX3_asLane 11 = .ok (.goto 34, 3) := dk_167 0 34 (dk_at dksX3_asLane_0 11 rfl rfl)
theorem dX3_asLane_14 : decode cX3_asLane 14 = .ok (.iload_n 0, 1) := dk_26 (dk_at dksX3_asLane_0 14 rfl rfl)
theorem dX3_asLane_15 : decode cX3_asLane 15 = .ok (.iconst 1, 1) := dk_4 (dk_at dksX3_asLane_0 15 rfl rfl)
theorem dX3_asLane_16 : decode cX3_asLane 16 = .ok (.if_icmp .ne 13, 3) := dk_160 0 13 (dk_at dksX3_asLane_0 16 rfl rfl)
theorem dX3_asLane_19 : decode cX3_asLane 19 = .ok (.lload_n 1, 1) := dk_31 (dk_at dksX3_asLane_0 19 rfl rfl)
theorem dX3_asLane_20 : decode cX3_asLane 20 = .ok (.bipush 48, 2) := dk_16 48 (dk_at dksX3_asLane_0 20 rfl rfl)
theorem dX3_asLane_22 : decode cX3_asLane 22 = .ok (.lshl, 1) := dk_121 (dk_at dksX3_asLane_0 22 rfl rfl)
theorem dX3_asLane_23 : decode cX3_asLane 23 = .ok (.bipush 48, 2) := dk_16 48 (dk_at dksX3_asLane_1 0 rfl rfl)
theorem dX3_asLane_25 : decode cX3_asLane 25 = .ok (.lshr, 1) := dk_123 (dk_at dksX3_asLane_1 2 rfl rfl)
theorem dX3_asLane_26 : decode cX3_asLane 26 = .ok (.goto 19, 3) := dk_167 0 19 (dk_at dksX3_asLane_1 3 rfl rfl)
theorem dX3_asLane_29 : decode cX3_asLane 29 = .ok (.iload_n 0, 1) := dk_26 (dk_at dksX3_asLane_1 6 rfl rfl)
theorem dX3_asLane_30 : decode cX3_asLane 30 = .ok (.iconst 2, 1) := dk_5 (dk_at dksX3_asLane_1 7 rfl rfl)
theorem dX3_asLane_31 : decode cX3_asLane 31 = .ok (.if_icmp .ne 13, 3) := dk_160 0 13 (dk_at dksX3_asLane_1 8 rfl rfl)
theorem dX3_asLane_34 : decode cX3_asLane 34 = .ok (.lload_n 1, 1) := dk_31 (dk_at dksX3_asLane_1 11 rfl rfl)
theorem dX3_asLane_35 : decode cX3_asLane 35 = .ok (.bipush 32, 2) := dk_16 32 (dk_at dksX3_asLane_1 12 rfl rfl)
theorem dX3_asLane_37 : decode cX3_asLane 37 = .ok (.lshl, 1) := dk_121 (dk_at dksX3_asLane_1 14 rfl rfl)
theorem dX3_asLane_38 : decode cX3_asLane 38 = .ok (.bipush 32, 2) := dk_16 32 (dk_at dksX3_asLane_1 15 rfl rfl)
theorem dX3_asLane_40 : decode cX3_asLane 40 = .ok (.lshr, 1) := dk_123 (dk_at dksX3_asLane_1 17 rfl rfl)
theorem dX3_asLane_41 : decode cX3_asLane 41 = .ok (.goto 4, 3) := dk_167 0 4 (dk_at dksX3_asLane_1 18 rfl rfl)
theorem dX3_asLane_44 : decode cX3_asLane 44 = .ok (.lload_n 1, 1) := dk_31 (dk_at dksX3_asLane_1 21 rfl rfl)
theorem dX3_asLane_45 : decode cX3_asLane 45 = .ok (.lreturn, 1) := dk_173 (dk_at dksX3_asLane_1 22 rfl rfl)
abbrev cX3_lacksRow : ByteArray := prog_24_method_92_code
def yX3_lacksRow : MethodName := ⟨RX3, "lacksRow", "(IIII)I"⟩
def dkwX3_lacksRow_2 : List UInt8 := [167, 0, 5, 16, 243, 172]
abbrev dktX3_lacksRow_2 : List UInt8 := dkwX3_lacksRow_2 ++ []
def dkwX3_lacksRow_1 : List UInt8 := [16, 244, 172, 29, 133, 9, 42, 180, 0, 62, 27, 46, 21, 4, 100, 133, 184, 0, 75, 153, 0, 7, 3]
abbrev dktX3_lacksRow_1 : List UInt8 := dkwX3_lacksRow_1 ++ dktX3_lacksRow_2
def dkwX3_lacksRow_0 : List UInt8 := [42, 180, 0, 59, 27, 46, 28, 159, 0, 20, 42, 180, 0, 59, 27, 46, 156, 0, 8, 16, 245, 167, 0, 5]
abbrev dktX3_lacksRow_0 : List UInt8 := dkwX3_lacksRow_0 ++ dktX3_lacksRow_1
theorem dksX3_lacksRow_0 : cX3_lacksRow.data.toList.drop 0 = dktX3_lacksRow_0 := by decide +kernel
theorem dksX3_lacksRow_1 : cX3_lacksRow.data.toList.drop 24 = dktX3_lacksRow_1 := dk_seg dksX3_lacksRow_0 24 rfl rfl
theorem dksX3_lacksRow_2 : cX3_lacksRow.data.toList.drop 47 = dktX3_lacksRow_2 := dk_seg dksX3_lacksRow_1 23 rfl rfl
theorem dX3_lacksRow_0 : decode cX3_lacksRow 0 = .ok (.aload_n 0, 1) := dk_42 (dk_at dksX3_lacksRow_0 0 rfl rfl)
theorem dX3_lacksRow_1 : decode cX3_lacksRow 1 = .ok (.getfield 59, 3) := dk_180 0 59 (dk_at dksX3_lacksRow_0 1 rfl rfl)
theorem dX3_lacksRow_4 : decode cX3_lacksRow 4 = .ok (.iload_n 1, 1) := dk_27 (dk_at dksX3_lacksRow_0 4 rfl rfl)
theorem dX3_lacksRow_5 : decode cX3_lacksRow 5 = .ok (.iaload, 1) := dk_46 (dk_at dksX3_lacksRow_0 5 rfl rfl)
theorem dX3_lacksRow_6 : decode cX3_lacksRow 6 = .ok (.iload_n 2, 1) := dk_28 (dk_at dksX3_lacksRow_0 6 rfl rfl)
theorem dX3_lacksRow_7 : decode cX3_lacksRow 7 = .ok (.if_icmp .eq 20, 3) := dk_159 0 20 (dk_at dksX3_lacksRow_0 7 rfl rfl)
theorem dX3_lacksRow_10 : decode cX3_lacksRow 10 = .ok (.aload_n 0, 1) := dk_42 (dk_at dksX3_lacksRow_0 10 rfl rfl)
theorem dX3_lacksRow_11 : decode cX3_lacksRow 11 = .ok (.getfield 59, 3) := dk_180 0 59 (dk_at dksX3_lacksRow_0 11 rfl rfl)
theorem dX3_lacksRow_14 : decode cX3_lacksRow 14 = .ok (.iload_n 1, 1) := dk_27 (dk_at dksX3_lacksRow_0 14 rfl rfl)
theorem dX3_lacksRow_15 : decode cX3_lacksRow 15 = .ok (.iaload, 1) := dk_46 (dk_at dksX3_lacksRow_0 15 rfl rfl)
theorem dX3_lacksRow_16 : decode cX3_lacksRow 16 = .ok (.ifCond .ge 8, 3) := dk_156 0 8 (dk_at dksX3_lacksRow_0 16 rfl rfl)
theorem dX3_lacksRow_19 : decode cX3_lacksRow 19 = .ok (.bipush (-11), 2) := dk_16 245 (dk_at dksX3_lacksRow_0 19 rfl rfl)
theorem dX3_lacksRow_21 : decode cX3_lacksRow 21 = .ok (.goto 5, 3) := dk_167 0 5 (dk_at dksX3_lacksRow_0 21 rfl rfl)
theorem dX3_lacksRow_24 : decode cX3_lacksRow 24 = .ok (.bipush (-12), 2) := dk_16 244 (dk_at dksX3_lacksRow_1 0 rfl rfl)
theorem dX3_lacksRow_26 : decode cX3_lacksRow 26 = .ok (.ireturn, 1) := dk_172 (dk_at dksX3_lacksRow_1 2 rfl rfl)
theorem dX3_lacksRow_27 : decode cX3_lacksRow 27 = .ok (.iload_n 3, 1) := dk_29 (dk_at dksX3_lacksRow_1 3 rfl rfl)
theorem dX3_lacksRow_28 : decode cX3_lacksRow 28 = .ok (.i2l, 1) := dk_133 (dk_at dksX3_lacksRow_1 4 rfl rfl)
theorem dX3_lacksRow_29 : decode cX3_lacksRow 29 = .ok (.lconst 0, 1) := dk_9 (dk_at dksX3_lacksRow_1 5 rfl rfl)
theorem dX3_lacksRow_30 : decode cX3_lacksRow 30 = .ok (.aload_n 0, 1) := dk_42 (dk_at dksX3_lacksRow_1 6 rfl rfl)
theorem dX3_lacksRow_31 : decode cX3_lacksRow 31 = .ok (.getfield 62, 3) := dk_180 0 62 (dk_at dksX3_lacksRow_1 7 rfl rfl)
theorem dX3_lacksRow_34 : decode cX3_lacksRow 34 = .ok (.iload_n 1, 1) := dk_27 (dk_at dksX3_lacksRow_1 10 rfl rfl)
theorem dX3_lacksRow_35 : decode cX3_lacksRow 35 = .ok (.iaload, 1) := dk_46 (dk_at dksX3_lacksRow_1 11 rfl rfl)
theorem dX3_lacksRow_36 : decode cX3_lacksRow 36 = .ok (.iload 4, 2) := dk_21 4 (dk_at dksX3_lacksRow_1 12 rfl rfl)
theorem dX3_lacksRow_38 : decode cX3_lacksRow 38 = .ok (.isub, 1) := dk_100 (dk_at dksX3_lacksRow_1 14 rfl rfl)
theorem dX3_lacksRow_39 : decode cX3_lacksRow 39 = .ok (.i2l, 1) := dk_133 (dk_at dksX3_lacksRow_1 15 rfl rfl)
theorem dX3_lacksRow_40 : decode cX3_lacksRow 40 = .ok (.invokestatic 75, 3) := dk_184 0 75 (dk_at dksX3_lacksRow_1 16 rfl rfl)
theorem dX3_lacksRow_43 : decode cX3_lacksRow 43 = .ok (.ifCond .eq 7, 3) := dk_153 0 7 (dk_at dksX3_lacksRow_1 19 rfl rfl)
theorem dX3_lacksRow_46 : decode cX3_lacksRow 46 = .ok (.iconst 0, 1) := dk_3 (dk_at dksX3_lacksRow_1 22 rfl rfl)
theorem dX3_lacksRow_47 : decode cX3_lacksRow 47 = .ok (.goto 5, 3) := dk_167 0 5 (dk_at dksX3_lacksRow_2 0 rfl rfl)
theorem dX3_lacksRow_50 : decode cX3_lacksRow 50 = .ok (.bipush (-13), 2) := dk_16 243 (dk_at dksX3_lacksRow_2 3 rfl rfl)
theorem dX3_lacksRow_52 : decode cX3_lacksRow 52 = .ok (.ireturn, 1) := dk_172 (dk_at dksX3_lacksRow_2 5 rfl rfl)
abbrev cX3_item : ByteArray := prog_24_method_93_code
def yX3_item : MethodName := ⟨RX3, "item", "(IIIJ)I"⟩
def dkwX3_item_2 : List UInt8 := [172]
abbrev dktX3_item_2 : List UInt8 := dkwX3_item_2 ++ []
def dkwX3_item_1 : List UInt8 := [156, 0, 6, 21, 6, 172, 42, 180, 0, 65, 16, 24, 27, 104, 29, 96, 28, 22, 4, 184, 1, 52, 80, 4]
abbrev dktX3_item_1 : List UInt8 := dkwX3_item_1 ++ dktX3_item_2
def dkwX3_item_0 : List UInt8 := [27, 28, 184, 1, 46, 154, 0, 5, 2, 172, 42, 27, 28, 29, 4, 182, 1, 49, 54, 6, 21, 6]
abbrev dktX3_item_0 : List UInt8 := dkwX3_item_0 ++ dktX3_item_1
theorem dksX3_item_0 : cX3_item.data.toList.drop 0 = dktX3_item_0 := by decide +kernel
theorem dksX3_item_1 : cX3_item.data.toList.drop 22 = dktX3_item_1 := dk_seg dksX3_item_0 22 rfl rfl
theorem dksX3_item_2 : cX3_item.data.toList.drop 46 = dktX3_item_2 := dk_seg dksX3_item_1 24 rfl rfl
theorem dX3_item_0 : decode cX3_item 0 = .ok (.iload_n 1, 1) := dk_27 (dk_at dksX3_item_0 0 rfl rfl)
theorem dX3_item_1 : decode cX3_item 1 = .ok (.iload_n 2, 1) := dk_28 (dk_at dksX3_item_0 1 rfl rfl)
theorem dX3_item_2 : decode cX3_item 2 = .ok (.invokestatic 302, 3) := dk_184 1 46 (dk_at dksX3_item_0 2 rfl rfl)
theorem dX3_item_5 : decode cX3_item 5 = .ok (.ifCond .ne 5, 3) := dk_154 0 5 (dk_at dksX3_item_0 5 rfl rfl)
theorem dX3_item_8 : decode cX3_item 8 = .ok (.iconst (-1), 1) := dk_2 (dk_at dksX3_item_0 8 rfl rfl)
theorem dX3_item_9 : decode cX3_item 9 = .ok (.ireturn, 1) := dk_172 (dk_at dksX3_item_0 9 rfl rfl)
theorem dX3_item_10 : decode cX3_item 10 = .ok (.aload_n 0, 1) := dk_42 (dk_at dksX3_item_0 10 rfl rfl)
theorem dX3_item_11 : decode cX3_item 11 = .ok (.iload_n 1, 1) := dk_27 (dk_at dksX3_item_0 11 rfl rfl)
theorem dX3_item_12 : decode cX3_item 12 = .ok (.iload_n 2, 1) := dk_28 (dk_at dksX3_item_0 12 rfl rfl)
theorem dX3_item_13 : decode cX3_item 13 = .ok (.iload_n 3, 1) := dk_29 (dk_at dksX3_item_0 13 rfl rfl)
theorem dX3_item_14 : decode cX3_item 14 = .ok (.iconst 1, 1) := dk_4 (dk_at dksX3_item_0 14 rfl rfl)
theorem dX3_item_15 : decode cX3_item 15 = .ok (.invokevirtual 305, 3) := dk_182 1 49 (dk_at dksX3_item_0 15 rfl rfl)
theorem dX3_item_18 : decode cX3_item 18 = .ok (.istore 6, 2) := dk_54 6 (dk_at dksX3_item_0 18 rfl rfl)
theorem dX3_item_20 : decode cX3_item 20 = .ok (.iload 6, 2) := dk_21 6 (dk_at dksX3_item_0 20 rfl rfl)
theorem dX3_item_22 : decode cX3_item 22 = .ok (.ifCond .ge 6, 3) := dk_156 0 6 (dk_at dksX3_item_1 0 rfl rfl)
theorem dX3_item_25 : decode cX3_item 25 = .ok (.iload 6, 2) := dk_21 6 (dk_at dksX3_item_1 3 rfl rfl)
theorem dX3_item_27 : decode cX3_item 27 = .ok (.ireturn, 1) := dk_172 (dk_at dksX3_item_1 5 rfl rfl)
theorem dX3_item_28 : decode cX3_item 28 = .ok (.aload_n 0, 1) := dk_42 (dk_at dksX3_item_1 6 rfl rfl)
theorem dX3_item_29 : decode cX3_item 29 = .ok (.getfield 65, 3) := dk_180 0 65 (dk_at dksX3_item_1 7 rfl rfl)
theorem dX3_item_32 : decode cX3_item 32 = .ok (.bipush 24, 2) := dk_16 24 (dk_at dksX3_item_1 10 rfl rfl)
theorem dX3_item_34 : decode cX3_item 34 = .ok (.iload_n 1, 1) := dk_27 (dk_at dksX3_item_1 12 rfl rfl)
theorem dX3_item_35 : decode cX3_item 35 = .ok (.imul, 1) := dk_104 (dk_at dksX3_item_1 13 rfl rfl)
theorem dX3_item_36 : decode cX3_item 36 = .ok (.iload_n 3, 1) := dk_29 (dk_at dksX3_item_1 14 rfl rfl)
theorem dX3_item_37 : decode cX3_item 37 = .ok (.iadd, 1) := dk_96 (dk_at dksX3_item_1 15 rfl rfl)
theorem dX3_item_38 : decode cX3_item 38 = .ok (.iload_n 2, 1) := dk_28 (dk_at dksX3_item_1 16 rfl rfl)
theorem dX3_item_39 : decode cX3_item 39 = .ok (.lload 4, 2) := dk_22 4 (dk_at dksX3_item_1 17 rfl rfl)
theorem dX3_item_41 : decode cX3_item 41 = .ok (.invokestatic 308, 3) := dk_184 1 52 (dk_at dksX3_item_1 19 rfl rfl)
theorem dX3_item_44 : decode cX3_item 44 = .ok (.lastore, 1) := dk_80 (dk_at dksX3_item_1 22 rfl rfl)
theorem dX3_item_45 : decode cX3_item 45 = .ok (.iconst 1, 1) := dk_4 (dk_at dksX3_item_1 23 rfl rfl)
theorem dX3_item_46 : decode cX3_item 46 = .ok (.ireturn, 1) := dk_172 (dk_at dksX3_item_2 0 rfl rfl)
abbrev cX3_dress : ByteArray := prog_24_method_94_code
def yX3_dress : MethodName := ⟨RX3, "dress", "(IIII)I"⟩
def dkwX3_dress_5 : List UInt8 := [104, 29, 96, 21, 6, 96, 47, 136, 79, 132, 6, 1, 167, 255, 224, 21, 4, 172]
abbrev dktX3_dress_5 : List UInt8 := dkwX3_dress_5 ++ []
def dkwX3_dress_4 : List UInt8 := [172, 3, 54, 6, 21, 6, 21, 4, 162, 0, 31, 42, 180, 0, 7, 21, 6, 42, 180, 0, 65, 16, 24, 27]
abbrev dktX3_dress_4 : List UInt8 := dkwX3_dress_4 ++ dktX3_dress_5
def dkwX3_dress_3 : List UInt8 := [153, 0, 7, 3, 167, 0, 5, 16, 254, 54, 5, 132, 6, 1, 167, 255, 209, 21, 5, 156, 0, 6, 21, 5]
abbrev dktX3_dress_3 : List UInt8 := dkwX3_dress_3 ++ dktX3_dress_4
def dkwX3_dress_2 : List UInt8 := [154, 0, 41, 42, 180, 0, 65, 16, 24, 27, 104, 29, 96, 21, 6, 96, 47, 9, 20, 0, 117, 184, 0, 75]
abbrev dktX3_dress_2 : List UInt8 := dkwX3_dress_2 ++ dktX3_dress_3
def dkwX3_dress_1 : List UInt8 := [172, 42, 27, 28, 29, 21, 4, 182, 1, 49, 54, 5, 3, 54, 6, 21, 6, 21, 4, 162, 0, 46, 21, 5]
abbrev dktX3_dress_1 : List UInt8 := dkwX3_dress_1 ++ dktX3_dress_2
def dkwX3_dress_0 : List UInt8 := [27, 28, 184, 1, 46, 153, 0, 18, 21, 4, 133, 10, 42, 180, 0, 19, 133, 184, 0, 75, 154, 0, 5, 2]
abbrev dktX3_dress_0 : List UInt8 := dkwX3_dress_0 ++ dktX3_dress_1
theorem dksX3_dress_0 : cX3_dress.data.toList.drop 0 = dktX3_dress_0 := by decide +kernel
theorem dksX3_dress_1 : cX3_dress.data.toList.drop 24 = dktX3_dress_1 := dk_seg dksX3_dress_0 24 rfl rfl
theorem dksX3_dress_2 : cX3_dress.data.toList.drop 48 = dktX3_dress_2 := dk_seg dksX3_dress_1 24 rfl rfl
theorem dksX3_dress_3 : cX3_dress.data.toList.drop 72 = dktX3_dress_3 := dk_seg dksX3_dress_2 24 rfl rfl
theorem dksX3_dress_4 : cX3_dress.data.toList.drop 96 = dktX3_dress_4 := dk_seg dksX3_dress_3 24 rfl rfl
theorem dksX3_dress_5 : cX3_dress.data.toList.drop 120 = dktX3_dress_5 := dk_seg dksX3_dress_4 24 rfl rfl
theorem dX3_dress_0 : decode cX3_dress 0 = .ok (.iload_n 1, 1) := dk_27 (dk_at dksX3_dress_0 0 rfl rfl)
theorem dX3_dress_1 : decode cX3_dress 1 = .ok (.iload_n 2, 1) := dk_28 (dk_at dksX3_dress_0 1 rfl rfl)
theorem dX3_dress_2 : decode cX3_dress 2 = .ok (.invokestatic 302, 3) := dk_184 1 46 (dk_at dksX3_dress_0 2 rfl rfl)
theorem dX3_dress_5 : decode cX3_dress 5 = .ok (.ifCond .eq 18, 3) := dk_153 0 18 (dk_at dksX3_dress_0 5 rfl rfl)
theorem dX3_dress_8 : decode cX3_dress 8 = .ok (.iload 4, 2) := dk_21 4 (dk_at dksX3_dress_0 8 rfl rfl)
theorem dX3_dress_10 : decode cX3_dress 10 = .ok (.i2l, 1) := dk_133 (dk_at dksX3_dress_0 10 rfl rfl)
theorem dX3_dress_11 : decode cX3_dress 11 = .ok (.lconst 1, 1) := dk_10 (dk_at dksX3_dress_0 11 rfl rfl)
theorem dX3_dress_12 : decode cX3_dress 12 = .ok (.aload_n 0, 1) := dk_42 (dk_at dksX3_dress_0 12 rfl rfl)
theorem dX3_dress_13 : decode cX3_dress 13 = .ok (.getfield 19, 3) := dk_180 0 19 (dk_at dksX3_dress_0 13 rfl rfl)
theorem dX3_dress_16 : decode cX3_dress 16 = .ok (.i2l, 1) := dk_133 (dk_at dksX3_dress_0 16 rfl rfl)
theorem dX3_dress_17 : decode cX3_dress 17 = .ok (.invokestatic 75, 3) := dk_184 0 75 (dk_at dksX3_dress_0 17 rfl rfl)
theorem dX3_dress_20 : decode cX3_dress 20 = .ok (.ifCond .ne 5, 3) := dk_154 0 5 (dk_at dksX3_dress_0 20 rfl rfl)
theorem dX3_dress_23 : decode cX3_dress 23 = .ok (.iconst (-1), 1) := dk_2 (dk_at dksX3_dress_0 23 rfl rfl)
theorem dX3_dress_24 : decode cX3_dress 24 = .ok (.ireturn, 1) := dk_172 (dk_at dksX3_dress_1 0 rfl rfl)
theorem dX3_dress_25 : decode cX3_dress 25 = .ok (.aload_n 0, 1) := dk_42 (dk_at dksX3_dress_1 1 rfl rfl)
theorem dX3_dress_26 : decode cX3_dress 26 = .ok (.iload_n 1, 1) := dk_27 (dk_at dksX3_dress_1 2 rfl rfl)
theorem dX3_dress_27 : decode cX3_dress 27 = .ok (.iload_n 2, 1) := dk_28 (dk_at dksX3_dress_1 3 rfl rfl)
theorem dX3_dress_28 : decode cX3_dress 28 = .ok (.iload_n 3, 1) := dk_29 (dk_at dksX3_dress_1 4 rfl rfl)
theorem dX3_dress_29 : decode cX3_dress 29 = .ok (.iload 4, 2) := dk_21 4 (dk_at dksX3_dress_1 5 rfl rfl)
theorem dX3_dress_31 : decode cX3_dress 31 = .ok (.invokevirtual 305, 3) := dk_182 1 49 (dk_at dksX3_dress_1 7 rfl rfl)
theorem dX3_dress_34 : decode cX3_dress 34 = .ok (.istore 5, 2) := dk_54 5 (dk_at dksX3_dress_1 10 rfl rfl)
theorem dX3_dress_36 : decode cX3_dress 36 = .ok (.iconst 0, 1) := dk_3 (dk_at dksX3_dress_1 12 rfl rfl)
theorem dX3_dress_37 : decode cX3_dress 37 = .ok (.istore 6, 2) := dk_54 6 (dk_at dksX3_dress_1 13 rfl rfl)
theorem dX3_dress_39 : decode cX3_dress 39 = .ok (.iload 6, 2) := dk_21 6 (dk_at dksX3_dress_1 15 rfl rfl)
theorem dX3_dress_41 : decode cX3_dress 41 = .ok (.iload 4, 2) := dk_21 4 (dk_at dksX3_dress_1 17 rfl rfl)
theorem dX3_dress_43 : decode cX3_dress 43 = .ok (.if_icmp .ge 46, 3) := dk_162 0 46 (dk_at dksX3_dress_1 19 rfl rfl)
theorem dX3_dress_46 : decode cX3_dress 46 = .ok (.iload 5, 2) := dk_21 5 (dk_at dksX3_dress_1 22 rfl rfl)
theorem dX3_dress_48 : decode cX3_dress 48 = .ok (.ifCond .ne 41, 3) := dk_154 0 41 (dk_at dksX3_dress_2 0 rfl rfl)
theorem dX3_dress_51 : decode cX3_dress 51 = .ok (.aload_n 0, 1) := dk_42 (dk_at dksX3_dress_2 3 rfl rfl)
theorem dX3_dress_52 : decode cX3_dress 52 = .ok (.getfield 65, 3) := dk_180 0 65 (dk_at dksX3_dress_2 4 rfl rfl)
theorem dX3_dress_55 : decode cX3_dress 55 = .ok (.bipush 24, 2) := dk_16 24 (dk_at dksX3_dress_2 7 rfl rfl)
theorem dX3_dress_57 : decode cX3_dress 57 = .ok (.iload_n 1, 1) := dk_27 (dk_at dksX3_dress_2 9 rfl rfl)
theorem dX3_dress_58 : decode cX3_dress 58 = .ok (.imul, 1) := dk_104 (dk_at dksX3_dress_2 10 rfl rfl)
theorem dX3_dress_59 : decode cX3_dress 59 = .ok (.iload_n 3, 1) := dk_29 (dk_at dksX3_dress_2 11 rfl rfl)
theorem dX3_dress_60 : decode cX3_dress 60 = .ok (.iadd, 1) := dk_96 (dk_at dksX3_dress_2 12 rfl rfl)
theorem dX3_dress_61 : decode cX3_dress 61 = .ok (.iload 6, 2) := dk_21 6 (dk_at dksX3_dress_2 13 rfl rfl)
theorem dX3_dress_63 : decode cX3_dress 63 = .ok (.iadd, 1) := dk_96 (dk_at dksX3_dress_2 15 rfl rfl)
theorem dX3_dress_64 : decode cX3_dress 64 = .ok (.laload, 1) := dk_47 (dk_at dksX3_dress_2 16 rfl rfl)
theorem dX3_dress_65 : decode cX3_dress 65 = .ok (.lconst 0, 1) := dk_9 (dk_at dksX3_dress_2 17 rfl rfl)
theorem dX3_dress_66 : decode cX3_dress 66 = .ok (.ldc2_w 117, 3) := dk_20 0 117 (dk_at dksX3_dress_2 18 rfl rfl)
theorem dX3_dress_69 : decode cX3_dress 69 = .ok (.invokestatic 75, 3) := dk_184 0 75 (dk_at dksX3_dress_2 21 rfl rfl)
theorem dX3_dress_72 : decode cX3_dress 72 = .ok (.ifCond .eq 7, 3) := dk_153 0 7 (dk_at dksX3_dress_3 0 rfl rfl)
theorem dX3_dress_75 : decode cX3_dress 75 = .ok (.iconst 0, 1) := dk_3 (dk_at dksX3_dress_3 3 rfl rfl)
theorem dX3_dress_76 : decode cX3_dress 76 = .ok (.goto 5, 3) := dk_167 0 5 (dk_at dksX3_dress_3 4 rfl rfl)
theorem dX3_dress_79 : decode cX3_dress 79 = .ok (.bipush (-2), 2) := dk_16 254 (dk_at dksX3_dress_3 7 rfl rfl)
theorem dX3_dress_81 : decode cX3_dress 81 = .ok (.istore 5, 2) := dk_54 5 (dk_at dksX3_dress_3 9 rfl rfl)
theorem dX3_dress_83 : decode cX3_dress 83 = .ok (.iinc 6 1, 3) := dk_132 6 1 (dk_at dksX3_dress_3 11 rfl rfl)
theorem dX3_dress_86 : decode cX3_dress 86 = .ok (.goto (-47), 3) := dk_167 255 209 (dk_at dksX3_dress_3 14 rfl rfl)
theorem dX3_dress_89 : decode cX3_dress 89 = .ok (.iload 5, 2) := dk_21 5 (dk_at dksX3_dress_3 17 rfl rfl)
theorem dX3_dress_91 : decode cX3_dress 91 = .ok (.ifCond .ge 6, 3) := dk_156 0 6 (dk_at dksX3_dress_3 19 rfl rfl)
theorem dX3_dress_94 : decode cX3_dress 94 = .ok (.iload 5, 2) := dk_21 5 (dk_at dksX3_dress_3 22 rfl rfl)
theorem dX3_dress_96 : decode cX3_dress 96 = .ok (.ireturn, 1) := dk_172 (dk_at dksX3_dress_4 0 rfl rfl)
theorem dX3_dress_97 : decode cX3_dress 97 = .ok (.iconst 0, 1) := dk_3 (dk_at dksX3_dress_4 1 rfl rfl)
theorem dX3_dress_98 : decode cX3_dress 98 = .ok (.istore 6, 2) := dk_54 6 (dk_at dksX3_dress_4 2 rfl rfl)
theorem dX3_dress_100 : decode cX3_dress 100 = .ok (.iload 6, 2) := dk_21 6 (dk_at dksX3_dress_4 4 rfl rfl)
theorem dX3_dress_102 : decode cX3_dress 102 = .ok (.iload 4, 2) := dk_21 4 (dk_at dksX3_dress_4 6 rfl rfl)
theorem dX3_dress_104 : decode cX3_dress 104 = .ok (.if_icmp .ge 31, 3) := dk_162 0 31 (dk_at dksX3_dress_4 8 rfl rfl)
theorem dX3_dress_107 : decode cX3_dress 107 = .ok (.aload_n 0, 1) := dk_42 (dk_at dksX3_dress_4 11 rfl rfl)
theorem dX3_dress_108 : decode cX3_dress 108 = .ok (.getfield 7, 3) := dk_180 0 7 (dk_at dksX3_dress_4 12 rfl rfl)
theorem dX3_dress_111 : decode cX3_dress 111 = .ok (.iload 6, 2) := dk_21 6 (dk_at dksX3_dress_4 15 rfl rfl)
theorem dX3_dress_113 : decode cX3_dress 113 = .ok (.aload_n 0, 1) := dk_42 (dk_at dksX3_dress_4 17 rfl rfl)
theorem dX3_dress_114 : decode cX3_dress 114 = .ok (.getfield 65, 3) := dk_180 0 65 (dk_at dksX3_dress_4 18 rfl rfl)
theorem dX3_dress_117 : decode cX3_dress 117 = .ok (.bipush 24, 2) := dk_16 24 (dk_at dksX3_dress_4 21 rfl rfl)
theorem dX3_dress_119 : decode cX3_dress 119 = .ok (.iload_n 1, 1) := dk_27 (dk_at dksX3_dress_4 23 rfl rfl)
theorem dX3_dress_120 : decode cX3_dress 120 = .ok (.imul, 1) := dk_104 (dk_at dksX3_dress_5 0 rfl rfl)
theorem dX3_dress_121 : decode cX3_dress 121 = .ok (.iload_n 3, 1) := dk_29 (dk_at dksX3_dress_5 1 rfl rfl)
theorem dX3_dress_122 : decode cX3_dress 122 = .ok (.iadd, 1) := dk_96 (dk_at dksX3_dress_5 2 rfl rfl)
theorem dX3_dress_123 : decode cX3_dress 123 = .ok (.iload 6, 2) := dk_21 6 (dk_at dksX3_dress_5 3 rfl rfl)
theorem dX3_dress_125 : decode cX3_dress 125 = .ok (.iadd, 1) := dk_96 (dk_at dksX3_dress_5 5 rfl rfl)
theorem dX3_dress_126 : decode cX3_dress 126 = .ok (.laload, 1) := dk_47 (dk_at dksX3_dress_5 6 rfl rfl)
theorem dX3_dress_127 : decode cX3_dress 127 = .ok (.l2i, 1) := dk_136 (dk_at dksX3_dress_5 7 rfl rfl)
theorem dX3_dress_128 : decode cX3_dress 128 = .ok (.iastore, 1) := dk_79 (dk_at dksX3_dress_5 8 rfl rfl)
theorem dX3_dress_129 : decode cX3_dress 129 = .ok (.iinc 6 1, 3) := dk_132 6 1 (dk_at dksX3_dress_5 9 rfl rfl)
theorem dX3_dress_132 : decode cX3_dress 132 = .ok (.goto (-32), 3) := dk_167 255 224 (dk_at dksX3_dress_5 12 rfl rfl)
theorem dX3_dress_135 : decode cX3_dress 135 = .ok (.iload 4, 2) := dk_21 4 (dk_at dksX3_dress_5 15 rfl rfl)
theorem dX3_dress_137 : decode cX3_dress 137 = .ok (.ireturn, 1) := dk_172 (dk_at dksX3_dress_5 17 rfl rfl)
abbrev cX3_film : ByteArray := prog_24_method_95_code
def yX3_film : MethodName := ⟨RX3, "film", "(III)I"⟩
def dkwX3_film_3 : List UInt8 := [167, 255, 219, 42, 180, 0, 72, 172]
abbrev dktX3_film_3 : List UInt8 := dkwX3_film_3 ++ []
def dkwX3_film_2 : List UInt8 := [16, 24, 27, 104, 29, 96, 21, 5, 96, 42, 180, 0, 7, 16, 42, 21, 5, 96, 46, 133, 80, 132, 5, 1]
abbrev dktX3_film_2 : List UInt8 := dkwX3_film_2 ++ dktX3_film_3
def dkwX3_film_1 : List UInt8 := [21, 4, 156, 0, 6, 21, 4, 172, 3, 54, 5, 21, 5, 42, 180, 0, 72, 162, 0, 34, 42, 180, 0, 65]
abbrev dktX3_film_1 : List UInt8 := dkwX3_film_1 ++ dktX3_film_2
def dkwX3_film_0 : List UInt8 := [27, 28, 184, 1, 46, 154, 0, 5, 2, 172, 42, 27, 28, 29, 42, 180, 0, 72, 182, 1, 49, 54, 4]
abbrev dktX3_film_0 : List UInt8 := dkwX3_film_0 ++ dktX3_film_1
theorem dksX3_film_0 : cX3_film.data.toList.drop 0 = dktX3_film_0 := by decide +kernel
theorem dksX3_film_1 : cX3_film.data.toList.drop 23 = dktX3_film_1 := dk_seg dksX3_film_0 23 rfl rfl
theorem dksX3_film_2 : cX3_film.data.toList.drop 47 = dktX3_film_2 := dk_seg dksX3_film_1 24 rfl rfl
theorem dksX3_film_3 : cX3_film.data.toList.drop 71 = dktX3_film_3 := dk_seg dksX3_film_2 24 rfl rfl
theorem dX3_film_0 : decode cX3_film 0 = .ok (.iload_n 1, 1) := dk_27 (dk_at dksX3_film_0 0 rfl rfl)
theorem dX3_film_1 : decode cX3_film 1 = .ok (.iload_n 2, 1) := dk_28 (dk_at dksX3_film_0 1 rfl rfl)
theorem dX3_film_2 : decode cX3_film 2 = .ok (.invokestatic 302, 3) := dk_184 1 46 (dk_at dksX3_film_0 2 rfl rfl)
theorem dX3_film_5 : decode cX3_film 5 = .ok (.ifCond .ne 5, 3) := dk_154 0 5 (dk_at dksX3_film_0 5 rfl rfl)
theorem dX3_film_8 : decode cX3_film 8 = .ok (.iconst (-1), 1) := dk_2 (dk_at dksX3_film_0 8 rfl rfl)
theorem dX3_film_9 : decode cX3_film 9 = .ok (.ireturn, 1) := dk_172 (dk_at dksX3_film_0 9 rfl rfl)
theorem dX3_film_10 : decode cX3_film 10 = .ok (.aload_n 0, 1) := dk_42 (dk_at dksX3_film_0 10 rfl rfl)
theorem dX3_film_11 : decode cX3_film 11 = .ok (.iload_n 1, 1) := dk_27 (dk_at dksX3_film_0 11 rfl rfl)
theorem dX3_film_12 : decode cX3_film 12 = .ok (.iload_n 2, 1) := dk_28 (dk_at dksX3_film_0 12 rfl rfl)
theorem dX3_film_13 : decode cX3_film 13 = .ok (.iload_n 3, 1) := dk_29 (dk_at dksX3_film_0 13 rfl rfl)
theorem dX3_film_14 : decode cX3_film 14 = .ok (.aload_n 0, 1) := dk_42 (dk_at dksX3_film_0 14 rfl rfl)
theorem dX3_film_15 : decode cX3_film 15 = .ok (.getfield 72, 3) := dk_180 0 72 (dk_at dksX3_film_0 15 rfl rfl)
theorem dX3_film_18 : decode cX3_film 18 = .ok (.invokevirtual 305, 3) := dk_182 1 49 (dk_at dksX3_film_0 18 rfl rfl)
theorem dX3_film_21 : decode cX3_film 21 = .ok (.istore 4, 2) := dk_54 4 (dk_at dksX3_film_0 21 rfl rfl)
theorem dX3_film_23 : decode cX3_film 23 = .ok (.iload 4, 2) := dk_21 4 (dk_at dksX3_film_1 0 rfl rfl)
theorem dX3_film_25 : decode cX3_film 25 = .ok (.ifCond .ge 6, 3) := dk_156 0 6 (dk_at dksX3_film_1 2 rfl rfl)
theorem dX3_film_28 : decode cX3_film 28 = .ok (.iload 4, 2) := dk_21 4 (dk_at dksX3_film_1 5 rfl rfl)
theorem dX3_film_30 : decode cX3_film 30 = .ok (.ireturn, 1) := dk_172 (dk_at dksX3_film_1 7 rfl rfl)
theorem dX3_film_31 : decode cX3_film 31 = .ok (.iconst 0, 1) := dk_3 (dk_at dksX3_film_1 8 rfl rfl)
theorem dX3_film_32 : decode cX3_film 32 = .ok (.istore 5, 2) := dk_54 5 (dk_at dksX3_film_1 9 rfl rfl)
theorem dX3_film_34 : decode cX3_film 34 = .ok (.iload 5, 2) := dk_21 5 (dk_at dksX3_film_1 11 rfl rfl)
theorem dX3_film_36 : decode cX3_film 36 = .ok (.aload_n 0, 1) := dk_42 (dk_at dksX3_film_1 13 rfl rfl)
theorem dX3_film_37 : decode cX3_film 37 = .ok (.getfield 72, 3) := dk_180 0 72 (dk_at dksX3_film_1 14 rfl rfl)
theorem dX3_film_40 : decode cX3_film 40 = .ok (.if_icmp .ge 34, 3) := dk_162 0 34 (dk_at dksX3_film_1 17 rfl rfl)
theorem dX3_film_43 : decode cX3_film 43 = .ok (.aload_n 0, 1) := dk_42 (dk_at dksX3_film_1 20 rfl rfl)
theorem dX3_film_44 : decode cX3_film 44 = .ok (.getfield 65, 3) := dk_180 0 65 (dk_at dksX3_film_1 21 rfl rfl)
theorem dX3_film_47 : decode cX3_film 47 = .ok (.bipush 24, 2) := dk_16 24 (dk_at dksX3_film_2 0 rfl rfl)
theorem dX3_film_49 : decode cX3_film 49 = .ok (.iload_n 1, 1) := dk_27 (dk_at dksX3_film_2 2 rfl rfl)
theorem dX3_film_50 : decode cX3_film 50 = .ok (.imul, 1) := dk_104 (dk_at dksX3_film_2 3 rfl rfl)
theorem dX3_film_51 : decode cX3_film 51 = .ok (.iload_n 3, 1) := dk_29 (dk_at dksX3_film_2 4 rfl rfl)
theorem dX3_film_52 : decode cX3_film 52 = .ok (.iadd, 1) := dk_96 (dk_at dksX3_film_2 5 rfl rfl)
theorem dX3_film_53 : decode cX3_film 53 = .ok (.iload 5, 2) := dk_21 5 (dk_at dksX3_film_2 6 rfl rfl)
theorem dX3_film_55 : decode cX3_film 55 = .ok (.iadd, 1) := dk_96 (dk_at dksX3_film_2 8 rfl rfl)
theorem dX3_film_56 : decode cX3_film 56 = .ok (.aload_n 0, 1) := dk_42 (dk_at dksX3_film_2 9 rfl rfl)
theorem dX3_film_57 : decode cX3_film 57 = .ok (.getfield 7, 3) := dk_180 0 7 (dk_at dksX3_film_2 10 rfl rfl)
theorem dX3_film_60 : decode cX3_film 60 = .ok (.bipush 42, 2) := dk_16 42 (dk_at dksX3_film_2 13 rfl rfl)
theorem dX3_film_62 : decode cX3_film 62 = .ok (.iload 5, 2) := dk_21 5 (dk_at dksX3_film_2 15 rfl rfl)
theorem dX3_film_64 : decode cX3_film 64 = .ok (.iadd, 1) := dk_96 (dk_at dksX3_film_2 17 rfl rfl)
theorem dX3_film_65 : decode cX3_film 65 = .ok (.iaload, 1) := dk_46 (dk_at dksX3_film_2 18 rfl rfl)
theorem dX3_film_66 : decode cX3_film 66 = .ok (.i2l, 1) := dk_133 (dk_at dksX3_film_2 19 rfl rfl)
theorem dX3_film_67 : decode cX3_film 67 = .ok (.lastore, 1) := dk_80 (dk_at dksX3_film_2 20 rfl rfl)
theorem dX3_film_68 : decode cX3_film 68 = .ok (.iinc 5 1, 3) := dk_132 5 1 (dk_at dksX3_film_2 21 rfl rfl)
theorem dX3_film_71 : decode cX3_film 71 = .ok (.goto (-37), 3) := dk_167 255 219 (dk_at dksX3_film_3 0 rfl rfl)
theorem dX3_film_74 : decode cX3_film 74 = .ok (.aload_n 0, 1) := dk_42 (dk_at dksX3_film_3 3 rfl rfl)
theorem dX3_film_75 : decode cX3_film 75 = .ok (.getfield 72, 3) := dk_180 0 72 (dk_at dksX3_film_3 4 rfl rfl)
theorem dX3_film_78 : decode cX3_film 78 = .ok (.ireturn, 1) := dk_172 (dk_at dksX3_film_3 7 rfl rfl)
abbrev cX3_areSo : ByteArray := prog_24_method_96_code
def yX3_areSo : MethodName := ⟨RX3, "areSo", "(I)Z"⟩
def dkwX3_areSo_2 : List UInt8 := [167, 255, 213, 28, 172]
abbrev dktX3_areSo_2 : List UInt8 := dkwX3_areSo_2 ++ []
def dkwX3_areSo_1 : List UInt8 := [42, 180, 0, 7, 16, 42, 29, 96, 46, 133, 148, 154, 0, 7, 4, 167, 0, 4, 3, 61, 132, 3, 1]
abbrev dktX3_areSo_1 : List UInt8 := dkwX3_areSo_1 ++ dktX3_areSo_2
def dkwX3_areSo_0 : List UInt8 := [4, 61, 3, 62, 29, 42, 180, 0, 72, 162, 0, 41, 28, 153, 0, 29, 42, 180, 0, 65, 27, 29, 96, 47]
abbrev dktX3_areSo_0 : List UInt8 := dkwX3_areSo_0 ++ dktX3_areSo_1
theorem dksX3_areSo_0 : cX3_areSo.data.toList.drop 0 = dktX3_areSo_0 := by decide +kernel
theorem dksX3_areSo_1 : cX3_areSo.data.toList.drop 24 = dktX3_areSo_1 := dk_seg dksX3_areSo_0 24 rfl rfl
theorem dksX3_areSo_2 : cX3_areSo.data.toList.drop 47 = dktX3_areSo_2 := dk_seg dksX3_areSo_1 23 rfl rfl
theorem dX3_areSo_0 : decode cX3_areSo 0 = .ok (.iconst 1, 1) := dk_4 (dk_at dksX3_areSo_0 0 rfl rfl)
theorem dX3_areSo_1 : decode cX3_areSo 1 = .ok (.istore_n 2, 1) := dk_61 (dk_at dksX3_areSo_0 1 rfl rfl)
theorem dX3_areSo_2 : decode cX3_areSo 2 = .ok (.iconst 0, 1) := dk_3 (dk_at dksX3_areSo_0 2 rfl rfl)
theorem dX3_areSo_3 : decode cX3_areSo 3 = .ok (.istore_n 3, 1) := dk_62 (dk_at dksX3_areSo_0 3 rfl rfl)
theorem dX3_areSo_4 : decode cX3_areSo 4 = .ok (.iload_n 3, 1) := dk_29 (dk_at dksX3_areSo_0 4 rfl rfl)
theorem dX3_areSo_5 : decode cX3_areSo 5 = .ok (.aload_n 0, 1) := dk_42 (dk_at dksX3_areSo_0 5 rfl rfl)
theorem dX3_areSo_6 : decode cX3_areSo 6 = .ok (.getfield 72, 3) := dk_180 0 72 (dk_at dksX3_areSo_0 6 rfl rfl)
theorem dX3_areSo_9 : decode cX3_areSo 9 = .ok (.if_icmp .ge 41, 3) := dk_162 0 41 (dk_at dksX3_areSo_0 9 rfl rfl)
theorem dX3_areSo_12 : decode cX3_areSo 12 = .ok (.iload_n 2, 1) := dk_28 (dk_at dksX3_areSo_0 12 rfl rfl)
theorem dX3_areSo_13 : decode cX3_areSo 13 = .ok (.ifCond .eq 29, 3) := dk_153 0 29 (dk_at dksX3_areSo_0 13 rfl rfl)
theorem dX3_areSo_16 : decode cX3_areSo 16 = .ok (.aload_n 0, 1) := dk_42 (dk_at dksX3_areSo_0 16 rfl rfl)
theorem dX3_areSo_17 : decode cX3_areSo 17 = .ok (.getfield 65, 3) := dk_180 0 65 (dk_at dksX3_areSo_0 17 rfl rfl)
theorem dX3_areSo_20 : decode cX3_areSo 20 = .ok (.iload_n 1, 1) := dk_27 (dk_at dksX3_areSo_0 20 rfl rfl)
theorem dX3_areSo_21 : decode cX3_areSo 21 = .ok (.iload_n 3, 1) := dk_29 (dk_at dksX3_areSo_0 21 rfl rfl)
theorem dX3_areSo_22 : decode cX3_areSo 22 = .ok (.iadd, 1) := dk_96 (dk_at dksX3_areSo_0 22 rfl rfl)
theorem dX3_areSo_23 : decode cX3_areSo 23 = .ok (.laload, 1) := dk_47 (dk_at dksX3_areSo_0 23 rfl rfl)
theorem dX3_areSo_24 : decode cX3_areSo 24 = .ok (.aload_n 0, 1) := dk_42 (dk_at dksX3_areSo_1 0 rfl rfl)
theorem dX3_areSo_25 : decode cX3_areSo 25 = .ok (.getfield 7, 3) := dk_180 0 7 (dk_at dksX3_areSo_1 1 rfl rfl)
theorem dX3_areSo_28 : decode cX3_areSo 28 = .ok (.bipush 42, 2) := dk_16 42 (dk_at dksX3_areSo_1 4 rfl rfl)
theorem dX3_areSo_30 : decode cX3_areSo 30 = .ok (.iload_n 3, 1) := dk_29 (dk_at dksX3_areSo_1 6 rfl rfl)
theorem dX3_areSo_31 : decode cX3_areSo 31 = .ok (.iadd, 1) := dk_96 (dk_at dksX3_areSo_1 7 rfl rfl)
theorem dX3_areSo_32 : decode cX3_areSo 32 = .ok (.iaload, 1) := dk_46 (dk_at dksX3_areSo_1 8 rfl rfl)
theorem dX3_areSo_33 : decode cX3_areSo 33 = .ok (.i2l, 1) := dk_133 (dk_at dksX3_areSo_1 9 rfl rfl)
theorem dX3_areSo_34 : decode cX3_areSo 34 = .ok (.lcmp, 1) := dk_148 (dk_at dksX3_areSo_1 10 rfl rfl)
theorem dX3_areSo_35 : decode cX3_areSo 35 = .ok (.ifCond .ne 7, 3) := dk_154 0 7 (dk_at dksX3_areSo_1 11 rfl rfl)
theorem dX3_areSo_38 : decode cX3_areSo 38 = .ok (.iconst 1, 1) := dk_4 (dk_at dksX3_areSo_1 14 rfl rfl)
theorem dX3_areSo_39 : decode cX3_areSo 39 = .ok (.goto 4, 3) := dk_167 0 4 (dk_at dksX3_areSo_1 15 rfl rfl)
theorem dX3_areSo_42 : decode cX3_areSo 42 = .ok (.iconst 0, 1) := dk_3 (dk_at dksX3_areSo_1 18 rfl rfl)
theorem dX3_areSo_43 : decode cX3_areSo 43 = .ok (.istore_n 2, 1) := dk_61 (dk_at dksX3_areSo_1 19 rfl rfl)
theorem dX3_areSo_44 : decode cX3_areSo 44 = .ok (.iinc 3 1, 3) := dk_132 3 1 (dk_at dksX3_areSo_1 20 rfl rfl)
theorem dX3_areSo_47 : decode cX3_areSo 47 = .ok (.goto (-43), 3) := dk_167 255 213 (dk_at dksX3_areSo_2 0 rfl rfl)
theorem dX3_areSo_50 : decode cX3_areSo 50 = .ok (.iload_n 2, 1) := dk_28 (dk_at dksX3_areSo_2 3 rfl rfl)
theorem dX3_areSo_51 : decode cX3_areSo 51 = .ok (.ireturn, 1) := dk_172 (dk_at dksX3_areSo_2 4 rfl rfl)
theorem q1701 : (Jvm.Cond.fieldLink "LameClocksModel" (296 : Nat) "LameClocksModel" "isKept" "Z") ∈ lw_all := lw_g (lw_at lw_m7 192 rfl) rfl
theorem q1702 : (Jvm.Cond.fieldLink "LameClocksModel" (56 : Nat) "LameClocksModel" "kept" "[I") ∈ lw_all := lw_g (lw_at lw_m7 193 rfl) rfl
theorem q1703 : (Jvm.Cond.fieldLink "LameClocksModel" (59 : Nat) "LameClocksModel" "lanes" "[I") ∈ lw_all := lw_g (lw_at lw_m7 194 rfl) rfl
theorem q1704 : (Jvm.Cond.fieldLink "LameClocksModel" (62 : Nat) "LameClocksModel" "rowSizes" "[I") ∈ lw_all := lw_g (lw_at lw_m7 195 rfl) rfl
theorem q1705 : (Jvm.Cond.fieldLink "LameClocksModel" (65 : Nat) "LameClocksModel" "items" "[J") ∈ lw_all := lw_g (lw_at lw_m7 196 rfl) rfl
theorem q2117 : (Jvm.Cond.code ({ cls := "LameClocksModel", name := "image", desc := "()I" } : Jvm.MethodName) prog_24_method_86_code (2 : Nat) (Option.some Jvm.ClassFile.FieldType.int)) ∈ lw_all := lw_g (lw_at lw_m9 128 rfl) rfl
theorem q2118 : (Jvm.Cond.methodLink "LameClocksModel" (292 : Nat) ({ cls := "LameClocksModel", name := "carried", desc := "(IIZ)I" } : Jvm.MethodName)) ∈ lw_all := lw_g (lw_at lw_m9 129 rfl) rfl
theorem q2120 : (Jvm.Cond.instanceMethod ({ cls := "LameClocksModel", name := "carried", desc := "(IIZ)I" } : Jvm.MethodName)) ∈ lw_all := lw_g (lw_at lw_m9 131 rfl) rfl
theorem q2121 : (Jvm.Cond.code ({ cls := "LameClocksModel", name := "carried", desc := "(IIZ)I" } : Jvm.MethodName) prog_24_method_85_code (5 : Nat) (Option.some Jvm.ClassFile.FieldType.int)) ∈ lw_all := lw_g (lw_at lw_m9 132 rfl) rfl
theorem q2125 : (Jvm.Cond.code ({ cls := "LameClocksModel", name := "restore", desc := "()I" } : Jvm.MethodName) prog_24_method_87_code (2 : Nat) (Option.some Jvm.ClassFile.FieldType.int)) ∈ lw_all := lw_g (lw_at lw_m9 136 rfl) rfl
theorem q2129 : (Jvm.Cond.code ({ cls := "LameClocksModel", name := "sheet", desc := "(III)I" } : Jvm.MethodName) prog_24_method_90_code (5 : Nat) (Option.some Jvm.ClassFile.FieldType.int)) ∈ lw_all := lw_g (lw_at lw_m9 140 rfl) rfl
theorem q2130 : (Jvm.Cond.methodLink "LameClocksModel" (302 : Nat) ({ cls := "LameClocksModel", name := "isSheet", desc := "(II)Z" } : Jvm.MethodName)) ∈ lw_all := lw_g (lw_at lw_m9 141 rfl) rfl
theorem q2131 : (Jvm.Cond.static ({ cls := "LameClocksModel", name := "isSheet", desc := "(II)Z" } : Jvm.MethodName)) ∈ lw_all := lw_g (lw_at lw_m9 142 rfl) rfl
theorem q2132 : (Jvm.Cond.code ({ cls := "LameClocksModel", name := "isSheet", desc := "(II)Z" } : Jvm.MethodName) prog_24_method_88_code (2 : Nat) (Option.some Jvm.ClassFile.FieldType.boolean)) ∈ lw_all := lw_g (lw_at lw_m9 143 rfl) rfl
theorem q2133 : (Jvm.Cond.constantLong "LameClocksModel" (300 : Nat) (3 : Int64)) ∈ lw_all := lw_g (lw_at lw_m9 144 rfl) rfl
theorem q2137 : (Jvm.Cond.code ({ cls := "LameClocksModel", name := "drop", desc := "(I)I" } : Jvm.MethodName) prog_24_method_91_code (2 : Nat) (Option.some Jvm.ClassFile.FieldType.int)) ∈ lw_all := lw_g (lw_at lw_m9 148 rfl) rfl
theorem q2141 : (Jvm.Cond.code ({ cls := "LameClocksModel", name := "item", desc := "(IIIJ)I" } : Jvm.MethodName) prog_24_method_93_code (7 : Nat) (Option.some Jvm.ClassFile.FieldType.int)) ∈ lw_all := lw_g (lw_at lw_m9 152 rfl) rfl
theorem q2142 : (Jvm.Cond.methodLink "LameClocksModel" (305 : Nat) ({ cls := "LameClocksModel", name := "lacksRow", desc := "(IIII)I" } : Jvm.MethodName)) ∈ lw_all := lw_g (lw_at lw_m9 153 rfl) rfl
theorem q2144 : (Jvm.Cond.instanceMethod ({ cls := "LameClocksModel", name := "lacksRow", desc := "(IIII)I" } : Jvm.MethodName)) ∈ lw_all := lw_g (lw_at lw_m9 155 rfl) rfl
theorem q2145 : (Jvm.Cond.code ({ cls := "LameClocksModel", name := "lacksRow", desc := "(IIII)I" } : Jvm.MethodName) prog_24_method_92_code (5 : Nat) (Option.some Jvm.ClassFile.FieldType.int)) ∈ lw_all := lw_g (lw_at lw_m9 156 rfl) rfl
theorem q2146 : (Jvm.Cond.methodLink "LameClocksModel" (308 : Nat) ({ cls := "LameClocksModel", name := "asLane", desc := "(IJ)J" } : Jvm.MethodName)) ∈ lw_all := lw_g (lw_at lw_m9 157 rfl) rfl
theorem q2147 : (Jvm.Cond.static ({ cls := "LameClocksModel", name := "asLane", desc := "(IJ)J" } : Jvm.MethodName)) ∈ lw_all := lw_g (lw_at lw_m9 158 rfl) rfl
theorem q2148 : (Jvm.Cond.code ({ cls := "LameClocksModel", name := "asLane", desc := "(IJ)J" } : Jvm.MethodName) prog_24_method_89_code (3 : Nat) (Option.some Jvm.ClassFile.FieldType.long)) ∈ lw_all := lw_g (lw_at lw_m9 159 rfl) rfl
theorem q2152 : (Jvm.Cond.code ({ cls := "LameClocksModel", name := "dress", desc := "(IIII)I" } : Jvm.MethodName) prog_24_method_94_code (7 : Nat) (Option.some Jvm.ClassFile.FieldType.int)) ∈ lw_all := lw_g (lw_at lw_m9 163 rfl) rfl
theorem q2156 : (Jvm.Cond.code ({ cls := "LameClocksModel", name := "film", desc := "(III)I" } : Jvm.MethodName) prog_24_method_95_code (6 : Nat) (Option.some Jvm.ClassFile.FieldType.int)) ∈ lw_all := lw_g (lw_at lw_m9 167 rfl) rfl
theorem q2164 : (Jvm.Cond.code ({ cls := "LameClocksModel", name := "areSo", desc := "(I)Z" } : Jvm.MethodName) prog_24_method_96_code (4 : Nat) (Option.some Jvm.ClassFile.FieldType.boolean)) ∈ lw_all := lw_g (lw_at lw_m9 175 rfl) rfl
theorem fp_X3_296 : g_fp RX3 296 [3] 21 .boolean false := ⟨_, _, _, Or.inl q1701, by decide +kernel, fun ci h => by rcases List.mem_singleton.mp h with rfl; exact ⟨_, _, _, tyX3, rfl, by decide, rfl, rfl, Or.inl rfl, in_X3, rfl, (fun h => by cases h), tyX3_ok, fun j hj hne => nmX3 j hj 21 (by decide) hne⟩⟩
theorem fo_X3_56 : g_fo RX3 56 [3] 22 := ⟨_, _, _, Or.inl q1702, fun ci h => by rcases List.mem_singleton.mp h with rfl; exact ⟨_, _, _, rfl, by decide, rfl, rfl, Or.inl rfl, in_X3⟩⟩
theorem dmV_X3_carried : yX3_carried.cls = RX3 ∧ yX3_carried.cls ≠ "java/lang/invoke/MethodHandle" ∧ yX3_carried.cls ≠ "java/lang/invoke/VarHandle" ∧ (parseMethodDescriptor yX3_carried.desc).map (fun d => d.parameters.length) = some 3 := by decide +kernel
theorem fo_X3_296 : g_fo RX3 296 [3] 21 := ⟨_, _, _, Or.inl q1701, fun ci h => by rcases List.mem_singleton.mp h with rfl; exact ⟨_, _, _, rfl, by decide, rfl, rfl, Or.inl rfl, in_X3⟩⟩
theorem fo_X3_59 : g_fo RX3 59 [3] 23 := ⟨_, _, _, Or.inl q1703, fun ci h => by rcases List.mem_singleton.mp h with rfl; exact ⟨_, _, _, rfl, by decide, rfl, rfl, Or.inl rfl, in_X3⟩⟩
theorem fo_X3_62 : g_fo RX3 62 [3] 24 := ⟨_, _, _, Or.inl q1704, fun ci h => by rcases List.mem_singleton.mp h with rfl; exact ⟨_, _, _, rfl, by decide, rfl, rfl, Or.inl rfl, in_X3⟩⟩
theorem fo_X3_65 : g_fo RX3 65 [3] 25 := ⟨_, _, _, Or.inl q1705, fun ci h => by rcases List.mem_singleton.mp h with rfl; exact ⟨_, _, _, rfl, by decide, rfl, rfl, Or.inl rfl, in_X3⟩⟩
theorem dmS_X3_isSheet : yX3_isSheet.cls ≠ "java/lang/invoke/MethodHandle" ∧ yX3_isSheet.cls ≠ "java/lang/invoke/VarHandle" ∧ (parseMethodDescriptor yX3_isSheet.desc).map (fun d => d.parameters.length) = some 2 := by decide +kernel
theorem dmV_X3_lacksRow : yX3_lacksRow.cls = RX3 ∧ yX3_lacksRow.cls ≠ "java/lang/invoke/MethodHandle" ∧ yX3_lacksRow.cls ≠ "java/lang/invoke/VarHandle" ∧ (parseMethodDescriptor yX3_lacksRow.desc).map (fun d => d.parameters.length) = some 4 := by decide +kernel
theorem dmS_X3_asLane : yX3_asLane.cls ≠ "java/lang/invoke/MethodHandle" ∧ yX3_asLane.cls ≠ "java/lang/invoke/VarHandle" ∧ (parseMethodDescriptor yX3_asLane.desc).map (fun d => d.parameters.length) = some 2 := by decide +kernel
section MP
variable {Γ : Gc} {p : Program} {l : Launch} {e : Env} {s : State} {m : MethodId} {args : Array Value} {below : List Frame} {meth : Method} {c : Code} {mo : Nat} {ρ : Sg} {sz : Nat} {tF : MS}
def fX3_carried_103 (x1 : Int32) (x4 : Int32) (s0 : Int32) (s1 : Int32) (t : MS) : Option (Int32 × MS) := mast t 2 9 s1 s0 fun t1 => if 72 ≤ x1 then mald t1 2 9 x4 fun v2 => some (v2, t1) else mald t1 1 9 x4 fun v3 => some (v3, t1)
set_option maxHeartbeats 4000000 in
theorem wX3_carried_103 {rF : Int32} (X : g_X Γ p s m args meth c cX3_carried 5 RX3) (hr : meth.sig.returnType = (Option.some Jvm.ClassFile.FieldType.int)) (x1 : Int32) (x4 : Int32) (s0 : Int32) (s1 : Int32) (t : MS) : Wf Γ p l e 0 0 s m args below meth c 5 (m_ι mo ρ sz) v_i rF tF 103 [(0, .ref mo), (1, .int x1), (4, .int x4)] [.int s0, .int s1, .ref (mo + 3)] t (fX3_carried_103 x1 x4 s0 s1 t) := by
  unfold fX3_carried_103
  refine mg_ast (pc := 103) X (j := 2) dX3_carried_103 (by decide) rfl (fun t1 => ?_)
  refine g_iload_n (pc := 104) X 1 dX3_carried_104 rfl rfl ?_
  refine g_bipush (pc := 105) X 72 dX3_carried_105 rfl ?_
  refine g_icmp_ge (pc := 107) X 120 dX3_carried_107 (by decide) ?_ ?_
  · refine g_aload_n (pc := 120) X 0 dX3_carried_120 rfl rfl ?_
    refine mg_get (pc := 121) X fo_X3_16 dX3_carried_121 rfl ?_
    refine g_iload (pc := 124) X 2 dX3_carried_124 rfl ?_
    refine mg_ald (pc := 126) X (j := 2) dX3_carried_126 (by decide) rfl (fun v2 => ?_)
    exact g_iret (pc := 127) X hr dX3_carried_127
  · refine g_aload_n (pc := 110) X 0 dX3_carried_110 rfl rfl ?_
    refine mg_get (pc := 111) X fo_X3_13 dX3_carried_111 rfl ?_
    refine g_iload (pc := 114) X 2 dX3_carried_114 rfl ?_
    refine mg_ald (pc := 116) X (j := 1) dX3_carried_116 (by decide) rfl (fun v3 => ?_)
    refine g_goto (pc := 117) X 127 dX3_carried_117 (by decide) ?_
    exact g_iret (pc := 127) X hr dX3_carried_127
def fX3_carried_96 (x1 : Int32) (x4 : Int32) (s0 : Int32) (t : MS) : Option (Int32 × MS) := mald t 2 9 x4 fun v1 => fX3_carried_103 x1 x4 v1 s0 t
set_option maxHeartbeats 4000000 in
theorem wX3_carried_96 {rF : Int32} (X : g_X Γ p s m args meth c cX3_carried 5 RX3) (hr : meth.sig.returnType = (Option.some Jvm.ClassFile.FieldType.int)) (x1 : Int32) (x4 : Int32) (s0 : Int32) (t : MS) : Wf Γ p l e 0 0 s m args below meth c 5 (m_ι mo ρ sz) v_i rF tF 96 [(0, .ref mo), (1, .int x1), (4, .int x4)] [.int s0, .ref (mo + 3)] t (fX3_carried_96 x1 x4 s0 t) := by
  unfold fX3_carried_96
  refine g_aload_n (pc := 96) X 0 dX3_carried_96 rfl rfl ?_
  refine mg_get (pc := 97) X fo_X3_16 dX3_carried_97 rfl ?_
  refine g_iload (pc := 100) X 2 dX3_carried_100 rfl ?_
  refine mg_ald (pc := 102) X (j := 2) dX3_carried_102 (by decide) rfl (fun v1 => ?_)
  exact g_lv (pc := 103) (lv' := [(0, .ref mo), (1, .int x1), (4, .int x4)]) [0, 1, 2] rfl (wX3_carried_103 X hr x1 x4 v1 s0 t)
def fX3_carried_75 (x1 : Int32) (x2 : Int32) (x3 : Int32) (x4 : Int32) (s0 : Int32) (s1 : Int32) (t : MS) : Option (Int32 × MS) := mast t 1 9 s1 s0 fun t1 => if x3 = 0 then fX3_carried_96 x1 x4 x4 t1 else if x1 < 72 then fX3_carried_96 x1 x4 x4 t1 else fX3_carried_103 x1 x4 x2 x4 t1
set_option maxHeartbeats 4000000 in
theorem wX3_carried_75 {rF : Int32} (X : g_X Γ p s m args meth c cX3_carried 5 RX3) (hr : meth.sig.returnType = (Option.some Jvm.ClassFile.FieldType.int)) (x1 : Int32) (x2 : Int32) (x3 : Int32) (x4 : Int32) (s0 : Int32) (s1 : Int32) (t : MS) : Wf Γ p l e 0 0 s m args below meth c 5 (m_ι mo ρ sz) v_i rF tF 75 [(0, .ref mo), (1, .int x1), (2, .int x2), (3, .int x3), (4, .int x4)] [.int s0, .int s1, .ref (mo + 2)] t (fX3_carried_75 x1 x2 x3 x4 s0 s1 t) := by
  unfold fX3_carried_75
  refine mg_ast (pc := 75) X (j := 1) dX3_carried_75 (by decide) rfl (fun t1 => ?_)
  refine g_aload_n (pc := 76) X 0 dX3_carried_76 rfl rfl ?_
  refine mg_get (pc := 77) X fo_X3_16 dX3_carried_77 rfl ?_
  refine g_iload (pc := 80) X 4 dX3_carried_80 rfl ?_
  refine g_iload_n (pc := 82) X 3 dX3_carried_82 rfl rfl ?_
  refine g_if_eq (pc := 83) X 96 dX3_carried_83 (by decide) ?_ ?_
  · exact g_lv (pc := 96) (lv' := [(0, .ref mo), (1, .int x1), (4, .int x4)]) [0, 1, 4] rfl (wX3_carried_96 X hr x1 x4 x4 t1)
  · refine g_iload_n (pc := 86) X 1 dX3_carried_86 rfl rfl ?_
    refine g_bipush (pc := 87) X 72 dX3_carried_87 rfl ?_
    refine g_icmp_lt (pc := 89) X 96 dX3_carried_89 (by decide) ?_ ?_
    · exact g_lv (pc := 96) (lv' := [(0, .ref mo), (1, .int x1), (4, .int x4)]) [0, 1, 4] rfl (wX3_carried_96 X hr x1 x4 x4 t1)
    · refine g_iload_n (pc := 92) X 2 dX3_carried_92 rfl rfl ?_
      refine g_goto (pc := 93) X 103 dX3_carried_93 (by decide) ?_
      exact g_lv (pc := 103) (lv' := [(0, .ref mo), (1, .int x1), (4, .int x4)]) [0, 1, 4] rfl (wX3_carried_103 X hr x1 x4 x2 x4 t1)
def fX3_carried_68 (x1 : Int32) (x2 : Int32) (x3 : Int32) (x4 : Int32) (s0 : Int32) (t : MS) : Option (Int32 × MS) := mald t 1 9 x4 fun v1 => fX3_carried_75 x1 x2 x3 x4 v1 s0 t
set_option maxHeartbeats 4000000 in
theorem wX3_carried_68 {rF : Int32} (X : g_X Γ p s m args meth c cX3_carried 5 RX3) (hr : meth.sig.returnType = (Option.some Jvm.ClassFile.FieldType.int)) (x1 : Int32) (x2 : Int32) (x3 : Int32) (x4 : Int32) (s0 : Int32) (t : MS) : Wf Γ p l e 0 0 s m args below meth c 5 (m_ι mo ρ sz) v_i rF tF 68 [(0, .ref mo), (1, .int x1), (2, .int x2), (3, .int x3), (4, .int x4)] [.int s0, .ref (mo + 2)] t (fX3_carried_68 x1 x2 x3 x4 s0 t) := by
  unfold fX3_carried_68
  refine g_aload_n (pc := 68) X 0 dX3_carried_68 rfl rfl ?_
  refine mg_get (pc := 69) X fo_X3_13 dX3_carried_69 rfl ?_
  refine g_iload (pc := 72) X 4 dX3_carried_72 rfl ?_
  refine mg_ald (pc := 74) X (j := 1) dX3_carried_74 (by decide) rfl (fun v1 => ?_)
  exact g_lv (pc := 75) (lv' := [(0, .ref mo), (1, .int x1), (2, .int x2), (3, .int x3), (4, .int x4)]) [0, 1, 2, 3, 4] rfl (wX3_carried_75 X hr x1 x2 x3 x4 v1 s0 t)
def fX3_carried_159 (x1 : Int32) (s0 : Int32) (s1 : Int32) (t : MS) : Option (Int32 × MS) := mast t 3 12 s1 s0 fun t1 => mald t1 3 12 (x1 - 81) fun v2 => some (v2, t1)
set_option maxHeartbeats 4000000 in
theorem wX3_carried_159 {rF : Int32} (X : g_X Γ p s m args meth c cX3_carried 5 RX3) (hr : meth.sig.returnType = (Option.some Jvm.ClassFile.FieldType.int)) (x1 : Int32) (s0 : Int32) (s1 : Int32) (t : MS) : Wf Γ p l e 0 0 s m args below meth c 5 (m_ι mo ρ sz) v_i rF tF 159 [(0, .ref mo), (1, .int x1)] [.int s0, .int s1, .ref (mo + 4)] t (fX3_carried_159 x1 s0 s1 t) := by
  unfold fX3_carried_159
  refine mg_ast (pc := 159) X (j := 3) dX3_carried_159 (by decide) rfl (fun t1 => ?_)
  refine g_aload_n (pc := 160) X 0 dX3_carried_160 rfl rfl ?_
  refine mg_get (pc := 161) X fo_X3_23 dX3_carried_161 rfl ?_
  refine g_iload_n (pc := 164) X 1 dX3_carried_164 rfl rfl ?_
  refine g_bipush (pc := 165) X 81 dX3_carried_165 rfl ?_
  refine g_isub (pc := 167) X dX3_carried_167 ?_
  refine mg_ald (pc := 168) X (j := 3) dX3_carried_168 (by decide) rfl (fun v2 => ?_)
  exact g_iret (pc := 169) X hr dX3_carried_169
def fX3_carried_240 (x1 : Int32) (x4 : Int32) (s0 : Int32) (s1 : Int32) (t : MS) : Option (Int32 × MS) := mast t 5 6 s1 s0 fun t1 => if 99 ≤ x1 then mald t1 5 6 x4 fun v2 => some (v2, t1) else mald t1 4 6 x4 fun v3 => some (v3, t1)
set_option maxHeartbeats 4000000 in
theorem wX3_carried_240 {rF : Int32} (X : g_X Γ p s m args meth c cX3_carried 5 RX3) (hr : meth.sig.returnType = (Option.some Jvm.ClassFile.FieldType.int)) (x1 : Int32) (x4 : Int32) (s0 : Int32) (s1 : Int32) (t : MS) : Wf Γ p l e 0 0 s m args below meth c 5 (m_ι mo ρ sz) v_i rF tF 240 [(0, .ref mo), (1, .int x1), (4, .int x4)] [.int s0, .int s1, .ref (mo + 6)] t (fX3_carried_240 x1 x4 s0 s1 t) := by
  unfold fX3_carried_240
  refine mg_ast (pc := 240) X (j := 5) dX3_carried_240 (by decide) rfl (fun t1 => ?_)
  refine g_iload_n (pc := 241) X 1 dX3_carried_241 rfl rfl ?_
  refine g_bipush (pc := 242) X 99 dX3_carried_242 rfl ?_
  refine g_icmp_ge (pc := 244) X 257 dX3_carried_244 (by decide) ?_ ?_
  · refine g_aload_n (pc := 257) X 0 dX3_carried_257 rfl rfl ?_
    refine mg_get (pc := 258) X fo_X3_35 dX3_carried_258 rfl ?_
    refine g_iload (pc := 261) X 2 dX3_carried_261 rfl ?_
    refine mg_ald (pc := 263) X (j := 5) dX3_carried_263 (by decide) rfl (fun v2 => ?_)
    exact g_iret (pc := 264) X hr dX3_carried_264
  · refine g_aload_n (pc := 247) X 0 dX3_carried_247 rfl rfl ?_
    refine mg_get (pc := 248) X fo_X3_32 dX3_carried_248 rfl ?_
    refine g_iload (pc := 251) X 2 dX3_carried_251 rfl ?_
    refine mg_ald (pc := 253) X (j := 4) dX3_carried_253 (by decide) rfl (fun v3 => ?_)
    refine g_goto (pc := 254) X 264 dX3_carried_254 (by decide) ?_
    exact g_iret (pc := 264) X hr dX3_carried_264
def fX3_carried_233 (x1 : Int32) (x4 : Int32) (s0 : Int32) (t : MS) : Option (Int32 × MS) := mald t 5 6 x4 fun v1 => fX3_carried_240 x1 x4 v1 s0 t
set_option maxHeartbeats 4000000 in
theorem wX3_carried_233 {rF : Int32} (X : g_X Γ p s m args meth c cX3_carried 5 RX3) (hr : meth.sig.returnType = (Option.some Jvm.ClassFile.FieldType.int)) (x1 : Int32) (x4 : Int32) (s0 : Int32) (t : MS) : Wf Γ p l e 0 0 s m args below meth c 5 (m_ι mo ρ sz) v_i rF tF 233 [(0, .ref mo), (1, .int x1), (4, .int x4)] [.int s0, .ref (mo + 6)] t (fX3_carried_233 x1 x4 s0 t) := by
  unfold fX3_carried_233
  refine g_aload_n (pc := 233) X 0 dX3_carried_233 rfl rfl ?_
  refine mg_get (pc := 234) X fo_X3_35 dX3_carried_234 rfl ?_
  refine g_iload (pc := 237) X 2 dX3_carried_237 rfl ?_
  refine mg_ald (pc := 239) X (j := 5) dX3_carried_239 (by decide) rfl (fun v1 => ?_)
  exact g_lv (pc := 240) (lv' := [(0, .ref mo), (1, .int x1), (4, .int x4)]) [0, 1, 2] rfl (wX3_carried_240 X hr x1 x4 v1 s0 t)
def fX3_carried_212 (x1 : Int32) (x2 : Int32) (x3 : Int32) (x4 : Int32) (s0 : Int32) (s1 : Int32) (t : MS) : Option (Int32 × MS) := mast t 4 6 s1 s0 fun t1 => if x3 = 0 then fX3_carried_233 x1 x4 x4 t1 else if x1 < 99 then fX3_carried_233 x1 x4 x4 t1 else fX3_carried_240 x1 x4 x2 x4 t1
set_option maxHeartbeats 4000000 in
theorem wX3_carried_212 {rF : Int32} (X : g_X Γ p s m args meth c cX3_carried 5 RX3) (hr : meth.sig.returnType = (Option.some Jvm.ClassFile.FieldType.int)) (x1 : Int32) (x2 : Int32) (x3 : Int32) (x4 : Int32) (s0 : Int32) (s1 : Int32) (t : MS) : Wf Γ p l e 0 0 s m args below meth c 5 (m_ι mo ρ sz) v_i rF tF 212 [(0, .ref mo), (1, .int x1), (2, .int x2), (3, .int x3), (4, .int x4)] [.int s0, .int s1, .ref (mo + 5)] t (fX3_carried_212 x1 x2 x3 x4 s0 s1 t) := by
  unfold fX3_carried_212
  refine mg_ast (pc := 212) X (j := 4) dX3_carried_212 (by decide) rfl (fun t1 => ?_)
  refine g_aload_n (pc := 213) X 0 dX3_carried_213 rfl rfl ?_
  refine mg_get (pc := 214) X fo_X3_35 dX3_carried_214 rfl ?_
  refine g_iload (pc := 217) X 4 dX3_carried_217 rfl ?_
  refine g_iload_n (pc := 219) X 3 dX3_carried_219 rfl rfl ?_
  refine g_if_eq (pc := 220) X 233 dX3_carried_220 (by decide) ?_ ?_
  · exact g_lv (pc := 233) (lv' := [(0, .ref mo), (1, .int x1), (4, .int x4)]) [0, 1, 4] rfl (wX3_carried_233 X hr x1 x4 x4 t1)
  · refine g_iload_n (pc := 223) X 1 dX3_carried_223 rfl rfl ?_
    refine g_bipush (pc := 224) X 99 dX3_carried_224 rfl ?_
    refine g_icmp_lt (pc := 226) X 233 dX3_carried_226 (by decide) ?_ ?_
    · exact g_lv (pc := 233) (lv' := [(0, .ref mo), (1, .int x1), (4, .int x4)]) [0, 1, 4] rfl (wX3_carried_233 X hr x1 x4 x4 t1)
    · refine g_iload_n (pc := 229) X 2 dX3_carried_229 rfl rfl ?_
      refine g_goto (pc := 230) X 240 dX3_carried_230 (by decide) ?_
      exact g_lv (pc := 240) (lv' := [(0, .ref mo), (1, .int x1), (4, .int x4)]) [0, 1, 4] rfl (wX3_carried_240 X hr x1 x4 x2 x4 t1)
def fX3_carried_205 (x1 : Int32) (x2 : Int32) (x3 : Int32) (x4 : Int32) (s0 : Int32) (t : MS) : Option (Int32 × MS) := mald t 4 6 x4 fun v1 => fX3_carried_212 x1 x2 x3 x4 v1 s0 t
set_option maxHeartbeats 4000000 in
theorem wX3_carried_205 {rF : Int32} (X : g_X Γ p s m args meth c cX3_carried 5 RX3) (hr : meth.sig.returnType = (Option.some Jvm.ClassFile.FieldType.int)) (x1 : Int32) (x2 : Int32) (x3 : Int32) (x4 : Int32) (s0 : Int32) (t : MS) : Wf Γ p l e 0 0 s m args below meth c 5 (m_ι mo ρ sz) v_i rF tF 205 [(0, .ref mo), (1, .int x1), (2, .int x2), (3, .int x3), (4, .int x4)] [.int s0, .ref (mo + 5)] t (fX3_carried_205 x1 x2 x3 x4 s0 t) := by
  unfold fX3_carried_205
  refine g_aload_n (pc := 205) X 0 dX3_carried_205 rfl rfl ?_
  refine mg_get (pc := 206) X fo_X3_32 dX3_carried_206 rfl ?_
  refine g_iload (pc := 209) X 4 dX3_carried_209 rfl ?_
  refine mg_ald (pc := 211) X (j := 4) dX3_carried_211 (by decide) rfl (fun v1 => ?_)
  exact g_lv (pc := 212) (lv' := [(0, .ref mo), (1, .int x1), (2, .int x2), (3, .int x3), (4, .int x4)]) [0, 1, 2, 3, 4] rfl (wX3_carried_212 X hr x1 x2 x3 x4 v1 s0 t)
def fX3_carried_297 (x1 : Int32) (s0 : Int32) (s1 : Int32) (t : MS) : Option (Int32 × MS) := mast t 6 30 s1 s0 fun t1 => mald t1 6 30 (x1 - 105) fun v2 => some (v2, t1)
set_option maxHeartbeats 4000000 in
theorem wX3_carried_297 {rF : Int32} (X : g_X Γ p s m args meth c cX3_carried 5 RX3) (hr : meth.sig.returnType = (Option.some Jvm.ClassFile.FieldType.int)) (x1 : Int32) (s0 : Int32) (s1 : Int32) (t : MS) : Wf Γ p l e 0 0 s m args below meth c 5 (m_ι mo ρ sz) v_i rF tF 297 [(0, .ref mo), (1, .int x1)] [.int s0, .int s1, .ref (mo + 7)] t (fX3_carried_297 x1 s0 s1 t) := by
  unfold fX3_carried_297
  refine mg_ast (pc := 297) X (j := 6) dX3_carried_297 (by decide) rfl (fun t1 => ?_)
  refine g_aload_n (pc := 298) X 0 dX3_carried_298 rfl rfl ?_
  refine mg_get (pc := 299) X fo_X3_38 dX3_carried_299 rfl ?_
  refine g_iload_n (pc := 302) X 1 dX3_carried_302 rfl rfl ?_
  refine g_bipush (pc := 303) X 105 dX3_carried_303 rfl ?_
  refine g_isub (pc := 305) X dX3_carried_305 ?_
  refine mg_ald (pc := 306) X (j := 6) dX3_carried_306 (by decide) rfl (fun v2 => ?_)
  exact g_iret (pc := 307) X hr dX3_carried_307
def fX3_carried_443 (x1 : Int32) (s0 : Int32) (t : MS) : Option (Int32 × MS) := lt (setI t 13 s0) fun t1 => if x1 = 135 then some (t1.1 3, t1) else if x1 = 136 then some (t1.1 4, t1) else if x1 = 137 then some (t1.1 6, t1) else if x1 = 138 then some (t1.1 10, t1) else if x1 = 139 then some (t1.1 12, t1) else some (t1.1 13, t1)
set_option maxHeartbeats 4000000 in
theorem wX3_carried_443 {rF : Int32} (X : g_X Γ p s m args meth c cX3_carried 5 RX3) (hr : meth.sig.returnType = (Option.some Jvm.ClassFile.FieldType.int)) (x1 : Int32) (s0 : Int32) (t : MS) : Wf Γ p l e 0 0 s m args below meth c 5 (m_ι mo ρ sz) v_i rF tF 443 [(0, .ref mo), (1, .int x1)] [.int s0, .ref mo] t (fX3_carried_443 x1 s0 t) := by
  unfold fX3_carried_443
  refine mg_put (pc := 443) X fp_X3_41 dX3_carried_443 rfl rfl (by decide) rfl (fun t1 => ?_)
  refine g_iload_n (pc := 446) X 1 dX3_carried_446 rfl rfl ?_
  refine g_sipush (pc := 447) X 135 dX3_carried_447 rfl ?_
  refine g_icmp_ne (pc := 450) X 460 dX3_carried_450 (by decide) ?_ ?_
  · refine g_iload_n (pc := 460) X 1 dX3_carried_460 rfl rfl ?_
    refine g_sipush (pc := 461) X 136 dX3_carried_461 rfl ?_
    refine g_icmp_ne (pc := 464) X 474 dX3_carried_464 (by decide) ?_ ?_
    · refine g_iload_n (pc := 474) X 1 dX3_carried_474 rfl rfl ?_
      refine g_sipush (pc := 475) X 137 dX3_carried_475 rfl ?_
      refine g_icmp_ne (pc := 478) X 488 dX3_carried_478 (by decide) ?_ ?_
      · refine g_iload_n (pc := 488) X 1 dX3_carried_488 rfl rfl ?_
        refine g_sipush (pc := 489) X 138 dX3_carried_489 rfl ?_
        refine g_icmp_ne (pc := 492) X 502 dX3_carried_492 (by decide) ?_ ?_
        · refine g_iload_n (pc := 502) X 1 dX3_carried_502 rfl rfl ?_
          refine g_sipush (pc := 503) X 139 dX3_carried_503 rfl ?_
          refine g_icmp_ne (pc := 506) X 516 dX3_carried_506 (by decide) ?_ ?_
          · refine g_aload_n (pc := 516) X 0 dX3_carried_516 rfl rfl ?_
            refine mg_get (pc := 517) X fo_X3_41 dX3_carried_517 rfl ?_
            exact g_iret (pc := 520) X hr dX3_carried_520
          · refine g_aload_n (pc := 509) X 0 dX3_carried_509 rfl rfl ?_
            refine mg_get (pc := 510) X fo_X3_96 dX3_carried_510 rfl ?_
            refine g_goto (pc := 513) X 520 dX3_carried_513 (by decide) ?_
            exact g_iret (pc := 520) X hr dX3_carried_520
        · refine g_aload_n (pc := 495) X 0 dX3_carried_495 rfl rfl ?_
          refine mg_get (pc := 496) X fo_X3_93 dX3_carried_496 rfl ?_
          refine g_goto (pc := 499) X 520 dX3_carried_499 (by decide) ?_
          exact g_iret (pc := 520) X hr dX3_carried_520
      · refine g_aload_n (pc := 481) X 0 dX3_carried_481 rfl rfl ?_
        refine mg_get (pc := 482) X fo_X3_26 dX3_carried_482 rfl ?_
        refine g_goto (pc := 485) X 520 dX3_carried_485 (by decide) ?_
        exact g_iret (pc := 520) X hr dX3_carried_520
    · refine g_aload_n (pc := 467) X 0 dX3_carried_467 rfl rfl ?_
      refine mg_get (pc := 468) X fo_X3_19 dX3_carried_468 rfl ?_
      refine g_goto (pc := 471) X 520 dX3_carried_471 (by decide) ?_
      exact g_iret (pc := 520) X hr dX3_carried_520
  · refine g_aload_n (pc := 453) X 0 dX3_carried_453 rfl rfl ?_
    refine mg_get (pc := 454) X fo_X3_72 dX3_carried_454 rfl ?_
    refine g_goto (pc := 457) X 520 dX3_carried_457 (by decide) ?_
    exact g_iret (pc := 520) X hr dX3_carried_520
def fX3_carried_439 (x1 : Int32) (t : MS) : Option (Int32 × MS) := fX3_carried_443 x1 (t.1 13) t
set_option maxHeartbeats 4000000 in
theorem wX3_carried_439 {rF : Int32} (X : g_X Γ p s m args meth c cX3_carried 5 RX3) (hr : meth.sig.returnType = (Option.some Jvm.ClassFile.FieldType.int)) (x1 : Int32) (t : MS) : Wf Γ p l e 0 0 s m args below meth c 5 (m_ι mo ρ sz) v_i rF tF 439 [(0, .ref mo), (1, .int x1)] [.ref mo] t (fX3_carried_439 x1 t) := by
  unfold fX3_carried_439
  refine g_aload_n (pc := 439) X 0 dX3_carried_439 rfl rfl ?_
  refine mg_get (pc := 440) X fo_X3_41 dX3_carried_440 rfl ?_
  exact g_lv (pc := 443) (lv' := [(0, .ref mo), (1, .int x1)]) [0, 1] rfl (wX3_carried_443 X hr x1 (t.1 13) t)
def fX3_carried_420 (x1 : Int32) (x2 : Int32) (x3 : Int32) (s0 : Int32) (t : MS) : Option (Int32 × MS) := lt (setI t 12 s0) fun t1 => if x3 = 0 then fX3_carried_439 x1 t1 else if x1 = 140 then fX3_carried_443 x1 x2 t1 else fX3_carried_439 x1 t1
set_option maxHeartbeats 4000000 in
theorem wX3_carried_420 {rF : Int32} (X : g_X Γ p s m args meth c cX3_carried 5 RX3) (hr : meth.sig.returnType = (Option.some Jvm.ClassFile.FieldType.int)) (x1 : Int32) (x2 : Int32) (x3 : Int32) (s0 : Int32) (t : MS) : Wf Γ p l e 0 0 s m args below meth c 5 (m_ι mo ρ sz) v_i rF tF 420 [(0, .ref mo), (1, .int x1), (2, .int x2), (3, .int x3)] [.int s0, .ref mo] t (fX3_carried_420 x1 x2 x3 s0 t) := by
  unfold fX3_carried_420
  refine mg_put (pc := 420) X fp_X3_96 dX3_carried_420 rfl rfl (by decide) rfl (fun t1 => ?_)
  refine g_aload_n (pc := 423) X 0 dX3_carried_423 rfl rfl ?_
  refine g_iload_n (pc := 424) X 3 dX3_carried_424 rfl rfl ?_
  refine g_if_eq (pc := 425) X 439 dX3_carried_425 (by decide) ?_ ?_
  · exact g_lv (pc := 439) (lv' := [(0, .ref mo), (1, .int x1)]) [0, 1] rfl (wX3_carried_439 X hr x1 t1)
  · refine g_iload_n (pc := 428) X 1 dX3_carried_428 rfl rfl ?_
    refine g_sipush (pc := 429) X 140 dX3_carried_429 rfl ?_
    refine g_icmp_ne (pc := 432) X 439 dX3_carried_432 (by decide) ?_ ?_
    · exact g_lv (pc := 439) (lv' := [(0, .ref mo), (1, .int x1)]) [0, 1] rfl (wX3_carried_439 X hr x1 t1)
    · refine g_iload_n (pc := 435) X 2 dX3_carried_435 rfl rfl ?_
      refine g_goto (pc := 436) X 443 dX3_carried_436 (by decide) ?_
      exact g_lv (pc := 443) (lv' := [(0, .ref mo), (1, .int x1)]) [0, 1] rfl (wX3_carried_443 X hr x1 x2 t1)
def fX3_carried_416 (x1 : Int32) (x2 : Int32) (x3 : Int32) (t : MS) : Option (Int32 × MS) := fX3_carried_420 x1 x2 x3 (t.1 12) t
set_option maxHeartbeats 4000000 in
theorem wX3_carried_416 {rF : Int32} (X : g_X Γ p s m args meth c cX3_carried 5 RX3) (hr : meth.sig.returnType = (Option.some Jvm.ClassFile.FieldType.int)) (x1 : Int32) (x2 : Int32) (x3 : Int32) (t : MS) : Wf Γ p l e 0 0 s m args below meth c 5 (m_ι mo ρ sz) v_i rF tF 416 [(0, .ref mo), (1, .int x1), (2, .int x2), (3, .int x3)] [.ref mo] t (fX3_carried_416 x1 x2 x3 t) := by
  unfold fX3_carried_416
  refine g_aload_n (pc := 416) X 0 dX3_carried_416 rfl rfl ?_
  refine mg_get (pc := 417) X fo_X3_96 dX3_carried_417 rfl ?_
  exact g_lv (pc := 420) (lv' := [(0, .ref mo), (1, .int x1), (2, .int x2), (3, .int x3)]) [0, 1, 2, 3] rfl (wX3_carried_420 X hr x1 x2 x3 (t.1 12) t)
def fX3_carried_397 (x1 : Int32) (x2 : Int32) (x3 : Int32) (s0 : Int32) (t : MS) : Option (Int32 × MS) := lt (setI t 10 s0) fun t1 => if x3 = 0 then fX3_carried_416 x1 x2 x3 t1 else if x1 = 139 then fX3_carried_420 x1 x2 x3 x2 t1 else fX3_carried_416 x1 x2 x3 t1
set_option maxHeartbeats 4000000 in
theorem wX3_carried_397 {rF : Int32} (X : g_X Γ p s m args meth c cX3_carried 5 RX3) (hr : meth.sig.returnType = (Option.some Jvm.ClassFile.FieldType.int)) (x1 : Int32) (x2 : Int32) (x3 : Int32) (s0 : Int32) (t : MS) : Wf Γ p l e 0 0 s m args below meth c 5 (m_ι mo ρ sz) v_i rF tF 397 [(0, .ref mo), (1, .int x1), (2, .int x2), (3, .int x3)] [.int s0, .ref mo] t (fX3_carried_397 x1 x2 x3 s0 t) := by
  unfold fX3_carried_397
  refine mg_put (pc := 397) X fp_X3_93 dX3_carried_397 rfl rfl (by decide) rfl (fun t1 => ?_)
  refine g_aload_n (pc := 400) X 0 dX3_carried_400 rfl rfl ?_
  refine g_iload_n (pc := 401) X 3 dX3_carried_401 rfl rfl ?_
  refine g_if_eq (pc := 402) X 416 dX3_carried_402 (by decide) ?_ ?_
  · exact g_lv (pc := 416) (lv' := [(0, .ref mo), (1, .int x1), (2, .int x2), (3, .int x3)]) [0, 1, 2, 3] rfl (wX3_carried_416 X hr x1 x2 x3 t1)
  · refine g_iload_n (pc := 405) X 1 dX3_carried_405 rfl rfl ?_
    refine g_sipush (pc := 406) X 139 dX3_carried_406 rfl ?_
    refine g_icmp_ne (pc := 409) X 416 dX3_carried_409 (by decide) ?_ ?_
    · exact g_lv (pc := 416) (lv' := [(0, .ref mo), (1, .int x1), (2, .int x2), (3, .int x3)]) [0, 1, 2, 3] rfl (wX3_carried_416 X hr x1 x2 x3 t1)
    · refine g_iload_n (pc := 412) X 2 dX3_carried_412 rfl rfl ?_
      refine g_goto (pc := 413) X 420 dX3_carried_413 (by decide) ?_
      exact g_lv (pc := 420) (lv' := [(0, .ref mo), (1, .int x1), (2, .int x2), (3, .int x3)]) [0, 1, 2, 3] rfl (wX3_carried_420 X hr x1 x2 x3 x2 t1)
def fX3_carried_393 (x1 : Int32) (x2 : Int32) (x3 : Int32) (t : MS) : Option (Int32 × MS) := fX3_carried_397 x1 x2 x3 (t.1 10) t
set_option maxHeartbeats 4000000 in
theorem wX3_carried_393 {rF : Int32} (X : g_X Γ p s m args meth c cX3_carried 5 RX3) (hr : meth.sig.returnType = (Option.some Jvm.ClassFile.FieldType.int)) (x1 : Int32) (x2 : Int32) (x3 : Int32) (t : MS) : Wf Γ p l e 0 0 s m args below meth c 5 (m_ι mo ρ sz) v_i rF tF 393 [(0, .ref mo), (1, .int x1), (2, .int x2), (3, .int x3)] [.ref mo] t (fX3_carried_393 x1 x2 x3 t) := by
  unfold fX3_carried_393
  refine g_aload_n (pc := 393) X 0 dX3_carried_393 rfl rfl ?_
  refine mg_get (pc := 394) X fo_X3_93 dX3_carried_394 rfl ?_
  exact g_lv (pc := 397) (lv' := [(0, .ref mo), (1, .int x1), (2, .int x2), (3, .int x3)]) [0, 1, 2, 3] rfl (wX3_carried_397 X hr x1 x2 x3 (t.1 10) t)
def fX3_carried_374 (x1 : Int32) (x2 : Int32) (x3 : Int32) (s0 : Int32) (t : MS) : Option (Int32 × MS) := lt (setI t 6 s0) fun t1 => if x3 = 0 then fX3_carried_393 x1 x2 x3 t1 else if x1 = 138 then fX3_carried_397 x1 x2 x3 x2 t1 else fX3_carried_393 x1 x2 x3 t1
set_option maxHeartbeats 4000000 in
theorem wX3_carried_374 {rF : Int32} (X : g_X Γ p s m args meth c cX3_carried 5 RX3) (hr : meth.sig.returnType = (Option.some Jvm.ClassFile.FieldType.int)) (x1 : Int32) (x2 : Int32) (x3 : Int32) (s0 : Int32) (t : MS) : Wf Γ p l e 0 0 s m args below meth c 5 (m_ι mo ρ sz) v_i rF tF 374 [(0, .ref mo), (1, .int x1), (2, .int x2), (3, .int x3)] [.int s0, .ref mo] t (fX3_carried_374 x1 x2 x3 s0 t) := by
  unfold fX3_carried_374
  refine mg_put (pc := 374) X fp_X3_26 dX3_carried_374 rfl rfl (by decide) rfl (fun t1 => ?_)
  refine g_aload_n (pc := 377) X 0 dX3_carried_377 rfl rfl ?_
  refine g_iload_n (pc := 378) X 3 dX3_carried_378 rfl rfl ?_
  refine g_if_eq (pc := 379) X 393 dX3_carried_379 (by decide) ?_ ?_
  · exact g_lv (pc := 393) (lv' := [(0, .ref mo), (1, .int x1), (2, .int x2), (3, .int x3)]) [0, 1, 2, 3] rfl (wX3_carried_393 X hr x1 x2 x3 t1)
  · refine g_iload_n (pc := 382) X 1 dX3_carried_382 rfl rfl ?_
    refine g_sipush (pc := 383) X 138 dX3_carried_383 rfl ?_
    refine g_icmp_ne (pc := 386) X 393 dX3_carried_386 (by decide) ?_ ?_
    · exact g_lv (pc := 393) (lv' := [(0, .ref mo), (1, .int x1), (2, .int x2), (3, .int x3)]) [0, 1, 2, 3] rfl (wX3_carried_393 X hr x1 x2 x3 t1)
    · refine g_iload_n (pc := 389) X 2 dX3_carried_389 rfl rfl ?_
      refine g_goto (pc := 390) X 397 dX3_carried_390 (by decide) ?_
      exact g_lv (pc := 397) (lv' := [(0, .ref mo), (1, .int x1), (2, .int x2), (3, .int x3)]) [0, 1, 2, 3] rfl (wX3_carried_397 X hr x1 x2 x3 x2 t1)
def fX3_carried_370 (x1 : Int32) (x2 : Int32) (x3 : Int32) (t : MS) : Option (Int32 × MS) := fX3_carried_374 x1 x2 x3 (t.1 6) t
set_option maxHeartbeats 4000000 in
theorem wX3_carried_370 {rF : Int32} (X : g_X Γ p s m args meth c cX3_carried 5 RX3) (hr : meth.sig.returnType = (Option.some Jvm.ClassFile.FieldType.int)) (x1 : Int32) (x2 : Int32) (x3 : Int32) (t : MS) : Wf Γ p l e 0 0 s m args below meth c 5 (m_ι mo ρ sz) v_i rF tF 370 [(0, .ref mo), (1, .int x1), (2, .int x2), (3, .int x3)] [.ref mo] t (fX3_carried_370 x1 x2 x3 t) := by
  unfold fX3_carried_370
  refine g_aload_n (pc := 370) X 0 dX3_carried_370 rfl rfl ?_
  refine mg_get (pc := 371) X fo_X3_26 dX3_carried_371 rfl ?_
  exact g_lv (pc := 374) (lv' := [(0, .ref mo), (1, .int x1), (2, .int x2), (3, .int x3)]) [0, 1, 2, 3] rfl (wX3_carried_374 X hr x1 x2 x3 (t.1 6) t)
def fX3_carried_351 (x1 : Int32) (x2 : Int32) (x3 : Int32) (s0 : Int32) (t : MS) : Option (Int32 × MS) := lt (setI t 4 s0) fun t1 => if x3 = 0 then fX3_carried_370 x1 x2 x3 t1 else if x1 = 137 then fX3_carried_374 x1 x2 x3 x2 t1 else fX3_carried_370 x1 x2 x3 t1
set_option maxHeartbeats 4000000 in
theorem wX3_carried_351 {rF : Int32} (X : g_X Γ p s m args meth c cX3_carried 5 RX3) (hr : meth.sig.returnType = (Option.some Jvm.ClassFile.FieldType.int)) (x1 : Int32) (x2 : Int32) (x3 : Int32) (s0 : Int32) (t : MS) : Wf Γ p l e 0 0 s m args below meth c 5 (m_ι mo ρ sz) v_i rF tF 351 [(0, .ref mo), (1, .int x1), (2, .int x2), (3, .int x3)] [.int s0, .ref mo] t (fX3_carried_351 x1 x2 x3 s0 t) := by
  unfold fX3_carried_351
  refine mg_put (pc := 351) X fp_X3_19 dX3_carried_351 rfl rfl (by decide) rfl (fun t1 => ?_)
  refine g_aload_n (pc := 354) X 0 dX3_carried_354 rfl rfl ?_
  refine g_iload_n (pc := 355) X 3 dX3_carried_355 rfl rfl ?_
  refine g_if_eq (pc := 356) X 370 dX3_carried_356 (by decide) ?_ ?_
  · exact g_lv (pc := 370) (lv' := [(0, .ref mo), (1, .int x1), (2, .int x2), (3, .int x3)]) [0, 1, 2, 3] rfl (wX3_carried_370 X hr x1 x2 x3 t1)
  · refine g_iload_n (pc := 359) X 1 dX3_carried_359 rfl rfl ?_
    refine g_sipush (pc := 360) X 137 dX3_carried_360 rfl ?_
    refine g_icmp_ne (pc := 363) X 370 dX3_carried_363 (by decide) ?_ ?_
    · exact g_lv (pc := 370) (lv' := [(0, .ref mo), (1, .int x1), (2, .int x2), (3, .int x3)]) [0, 1, 2, 3] rfl (wX3_carried_370 X hr x1 x2 x3 t1)
    · refine g_iload_n (pc := 366) X 2 dX3_carried_366 rfl rfl ?_
      refine g_goto (pc := 367) X 374 dX3_carried_367 (by decide) ?_
      exact g_lv (pc := 374) (lv' := [(0, .ref mo), (1, .int x1), (2, .int x2), (3, .int x3)]) [0, 1, 2, 3] rfl (wX3_carried_374 X hr x1 x2 x3 x2 t1)
def fX3_carried_347 (x1 : Int32) (x2 : Int32) (x3 : Int32) (t : MS) : Option (Int32 × MS) := fX3_carried_351 x1 x2 x3 (t.1 4) t
set_option maxHeartbeats 4000000 in
theorem wX3_carried_347 {rF : Int32} (X : g_X Γ p s m args meth c cX3_carried 5 RX3) (hr : meth.sig.returnType = (Option.some Jvm.ClassFile.FieldType.int)) (x1 : Int32) (x2 : Int32) (x3 : Int32) (t : MS) : Wf Γ p l e 0 0 s m args below meth c 5 (m_ι mo ρ sz) v_i rF tF 347 [(0, .ref mo), (1, .int x1), (2, .int x2), (3, .int x3)] [.ref mo] t (fX3_carried_347 x1 x2 x3 t) := by
  unfold fX3_carried_347
  refine g_aload_n (pc := 347) X 0 dX3_carried_347 rfl rfl ?_
  refine mg_get (pc := 348) X fo_X3_19 dX3_carried_348 rfl ?_
  exact g_lv (pc := 351) (lv' := [(0, .ref mo), (1, .int x1), (2, .int x2), (3, .int x3)]) [0, 1, 2, 3] rfl (wX3_carried_351 X hr x1 x2 x3 (t.1 4) t)
def fX3_carried_328 (x1 : Int32) (x2 : Int32) (x3 : Int32) (s0 : Int32) (t : MS) : Option (Int32 × MS) := lt (setI t 3 s0) fun t1 => if x3 = 0 then fX3_carried_347 x1 x2 x3 t1 else if x1 = 136 then fX3_carried_351 x1 x2 x3 x2 t1 else fX3_carried_347 x1 x2 x3 t1
set_option maxHeartbeats 4000000 in
theorem wX3_carried_328 {rF : Int32} (X : g_X Γ p s m args meth c cX3_carried 5 RX3) (hr : meth.sig.returnType = (Option.some Jvm.ClassFile.FieldType.int)) (x1 : Int32) (x2 : Int32) (x3 : Int32) (s0 : Int32) (t : MS) : Wf Γ p l e 0 0 s m args below meth c 5 (m_ι mo ρ sz) v_i rF tF 328 [(0, .ref mo), (1, .int x1), (2, .int x2), (3, .int x3)] [.int s0, .ref mo] t (fX3_carried_328 x1 x2 x3 s0 t) := by
  unfold fX3_carried_328
  refine mg_put (pc := 328) X fp_X3_72 dX3_carried_328 rfl rfl (by decide) rfl (fun t1 => ?_)
  refine g_aload_n (pc := 331) X 0 dX3_carried_331 rfl rfl ?_
  refine g_iload_n (pc := 332) X 3 dX3_carried_332 rfl rfl ?_
  refine g_if_eq (pc := 333) X 347 dX3_carried_333 (by decide) ?_ ?_
  · exact g_lv (pc := 347) (lv' := [(0, .ref mo), (1, .int x1), (2, .int x2), (3, .int x3)]) [0, 1, 2, 3] rfl (wX3_carried_347 X hr x1 x2 x3 t1)
  · refine g_iload_n (pc := 336) X 1 dX3_carried_336 rfl rfl ?_
    refine g_sipush (pc := 337) X 136 dX3_carried_337 rfl ?_
    refine g_icmp_ne (pc := 340) X 347 dX3_carried_340 (by decide) ?_ ?_
    · exact g_lv (pc := 347) (lv' := [(0, .ref mo), (1, .int x1), (2, .int x2), (3, .int x3)]) [0, 1, 2, 3] rfl (wX3_carried_347 X hr x1 x2 x3 t1)
    · refine g_iload_n (pc := 343) X 2 dX3_carried_343 rfl rfl ?_
      refine g_goto (pc := 344) X 351 dX3_carried_344 (by decide) ?_
      exact g_lv (pc := 351) (lv' := [(0, .ref mo), (1, .int x1), (2, .int x2), (3, .int x3)]) [0, 1, 2, 3] rfl (wX3_carried_351 X hr x1 x2 x3 x2 t1)
def fX3_carried_324 (x1 : Int32) (x2 : Int32) (x3 : Int32) (t : MS) : Option (Int32 × MS) := fX3_carried_328 x1 x2 x3 (t.1 3) t
set_option maxHeartbeats 4000000 in
theorem wX3_carried_324 {rF : Int32} (X : g_X Γ p s m args meth c cX3_carried 5 RX3) (hr : meth.sig.returnType = (Option.some Jvm.ClassFile.FieldType.int)) (x1 : Int32) (x2 : Int32) (x3 : Int32) (t : MS) : Wf Γ p l e 0 0 s m args below meth c 5 (m_ι mo ρ sz) v_i rF tF 324 [(0, .ref mo), (1, .int x1), (2, .int x2), (3, .int x3)] [.ref mo] t (fX3_carried_324 x1 x2 x3 t) := by
  unfold fX3_carried_324
  refine g_aload_n (pc := 324) X 0 dX3_carried_324 rfl rfl ?_
  refine mg_get (pc := 325) X fo_X3_72 dX3_carried_325 rfl ?_
  exact g_lv (pc := 328) (lv' := [(0, .ref mo), (1, .int x1), (2, .int x2), (3, .int x3)]) [0, 1, 2, 3] rfl (wX3_carried_328 X hr x1 x2 x3 (t.1 3) t)
def fX3_carried (x1 : Int32) (x2 : Int32) (x3 : Int32) (t : MS) : Option (Int32 × MS) := if 63 ≤ x1 then if 81 ≤ x1 then if 93 ≤ x1 then if 105 ≤ x1 then if 135 ≤ x1 then if x3 = 0 then fX3_carried_324 x1 x2 x3 t else if x1 = 135 then fX3_carried_328 x1 x2 x3 x2 t else fX3_carried_324 x1 x2 x3 t else if x3 = 0 then mald t 6 30 (x1 - 105) fun v1 => fX3_carried_297 x1 v1 (x1 - 105) t else fX3_carried_297 x1 x2 (x1 - 105) t else lt ((x1 - 93) - (x1 - 93) / 6 * 6) fun y2 => if x3 = 0 then fX3_carried_205 x1 x2 x3 y2 y2 t else if 99 ≤ x1 then fX3_carried_205 x1 x2 x3 y2 y2 t else fX3_carried_212 x1 x2 x3 y2 x2 y2 t else if x3 = 0 then mald t 3 12 (x1 - 81) fun v3 => fX3_carried_159 x1 v3 (x1 - 81) t else fX3_carried_159 x1 x2 (x1 - 81) t else lt ((x1 - 63) - (x1 - 63) / 9 * 9) fun y4 => if x3 = 0 then fX3_carried_68 x1 x2 x3 y4 y4 t else if 72 ≤ x1 then fX3_carried_68 x1 x2 x3 y4 y4 t else fX3_carried_75 x1 x2 x3 y4 x2 y4 t else if x3 = 0 then mald t 0 63 x1 fun v5 => mast t 0 63 x1 v5 fun t6 => mald t6 0 63 x1 fun v7 => some (v7, t6) else mast t 0 63 x1 x2 fun t8 => mald t8 0 63 x1 fun v9 => some (v9, t8)
set_option maxHeartbeats 4000000 in
theorem wX3_carried {rF : Int32} (X : g_X Γ p s m args meth c cX3_carried 5 RX3) (hr : meth.sig.returnType = (Option.some Jvm.ClassFile.FieldType.int)) (x1 : Int32) (x2 : Int32) (x3 : Int32) (t : MS) : Wf Γ p l e 0 0 s m args below meth c 5 (m_ι mo ρ sz) v_i rF tF 0 [(0, .ref mo), (1, .int x1), (2, .int x2), (3, .int x3)] [] t (fX3_carried x1 x2 x3 t) := by
  unfold fX3_carried
  refine g_iload_n (pc := 0) X 1 dX3_carried_0 rfl rfl ?_
  refine g_bipush (pc := 1) X 63 dX3_carried_1 rfl ?_
  refine g_icmp_ge (pc := 3) X 33 dX3_carried_3 (by decide) ?_ ?_
  · refine g_iload_n (pc := 33) X 1 dX3_carried_33 rfl rfl ?_
    refine g_bipush (pc := 34) X 81 dX3_carried_34 rfl ?_
    refine g_icmp_ge (pc := 36) X 128 dX3_carried_36 (by decide) ?_ ?_
    · refine g_iload_n (pc := 128) X 1 dX3_carried_128 rfl rfl ?_
      refine g_bipush (pc := 129) X 93 dX3_carried_129 rfl ?_
      refine g_icmp_ge (pc := 131) X 170 dX3_carried_131 (by decide) ?_ ?_
      · refine g_iload_n (pc := 170) X 1 dX3_carried_170 rfl rfl ?_
        refine g_bipush (pc := 171) X 105 dX3_carried_171 rfl ?_
        refine g_icmp_ge (pc := 173) X 265 dX3_carried_173 (by decide) ?_ ?_
        · refine g_iload_n (pc := 265) X 1 dX3_carried_265 rfl rfl ?_
          refine g_sipush (pc := 266) X 135 dX3_carried_266 rfl ?_
          refine g_icmp_ge (pc := 269) X 308 dX3_carried_269 (by decide) ?_ ?_
          · refine g_aload_n (pc := 308) X 0 dX3_carried_308 rfl rfl ?_
            refine g_iload_n (pc := 309) X 3 dX3_carried_309 rfl rfl ?_
            refine g_if_eq (pc := 310) X 324 dX3_carried_310 (by decide) ?_ ?_
            · exact g_lv (pc := 324) (lv' := [(0, .ref mo), (1, .int x1), (2, .int x2), (3, .int x3)]) [0, 1, 2, 3] rfl (wX3_carried_324 X hr x1 x2 x3 t)
            · refine g_iload_n (pc := 313) X 1 dX3_carried_313 rfl rfl ?_
              refine g_sipush (pc := 314) X 135 dX3_carried_314 rfl ?_
              refine g_icmp_ne (pc := 317) X 324 dX3_carried_317 (by decide) ?_ ?_
              · exact g_lv (pc := 324) (lv' := [(0, .ref mo), (1, .int x1), (2, .int x2), (3, .int x3)]) [0, 1, 2, 3] rfl (wX3_carried_324 X hr x1 x2 x3 t)
              · refine g_iload_n (pc := 320) X 2 dX3_carried_320 rfl rfl ?_
                refine g_goto (pc := 321) X 328 dX3_carried_321 (by decide) ?_
                exact g_lv (pc := 328) (lv' := [(0, .ref mo), (1, .int x1), (2, .int x2), (3, .int x3)]) [0, 1, 2, 3] rfl (wX3_carried_328 X hr x1 x2 x3 x2 t)
          · refine g_aload_n (pc := 272) X 0 dX3_carried_272 rfl rfl ?_
            refine mg_get (pc := 273) X fo_X3_38 dX3_carried_273 rfl ?_
            refine g_iload_n (pc := 276) X 1 dX3_carried_276 rfl rfl ?_
            refine g_bipush (pc := 277) X 105 dX3_carried_277 rfl ?_
            refine g_isub (pc := 279) X dX3_carried_279 ?_
            refine g_iload_n (pc := 280) X 3 dX3_carried_280 rfl rfl ?_
            refine g_if_eq (pc := 281) X 288 dX3_carried_281 (by decide) ?_ ?_
            · refine g_aload_n (pc := 288) X 0 dX3_carried_288 rfl rfl ?_
              refine mg_get (pc := 289) X fo_X3_38 dX3_carried_289 rfl ?_
              refine g_iload_n (pc := 292) X 1 dX3_carried_292 rfl rfl ?_
              refine g_bipush (pc := 293) X 105 dX3_carried_293 rfl ?_
              refine g_isub (pc := 295) X dX3_carried_295 ?_
              refine mg_ald (pc := 296) X (j := 6) dX3_carried_296 (by decide) rfl (fun v1 => ?_)
              exact g_lv (pc := 297) (lv' := [(0, .ref mo), (1, .int x1)]) [0, 1] rfl (wX3_carried_297 X hr x1 v1 (x1 - 105) t)
            · refine g_iload_n (pc := 284) X 2 dX3_carried_284 rfl rfl ?_
              refine g_goto (pc := 285) X 297 dX3_carried_285 (by decide) ?_
              exact g_lv (pc := 297) (lv' := [(0, .ref mo), (1, .int x1)]) [0, 1] rfl (wX3_carried_297 X hr x1 x2 (x1 - 105) t)
        · refine g_iload_n (pc := 176) X 1 dX3_carried_176 rfl rfl ?_
          refine g_bipush (pc := 177) X 93 dX3_carried_177 rfl ?_
          refine g_isub (pc := 179) X dX3_carried_179 ?_
          refine g_bipush (pc := 180) X 6 dX3_carried_180 rfl ?_
          refine g_irem (pc := 182) X dX3_carried_182 (by decide) ?_
          refine g_lti (pc := 183) (fun y2 => ?_)
          refine g_istore (pc := 183) X (lv' := [(4, .int y2), (0, .ref mo), (1, .int x1), (2, .int x2), (3, .int x3)]) dX3_carried_183 (by decide) rfl ?_
          refine g_aload_n (pc := 185) X 1 dX3_carried_185 rfl rfl ?_
          refine mg_get (pc := 186) X fo_X3_32 dX3_carried_186 rfl ?_
          refine g_iload (pc := 189) X 0 dX3_carried_189 rfl ?_
          refine g_iload_n (pc := 191) X 4 dX3_carried_191 rfl rfl ?_
          refine g_if_eq (pc := 192) X 205 dX3_carried_192 (by decide) ?_ ?_
          · exact g_lv (pc := 205) (lv' := [(0, .ref mo), (1, .int x1), (2, .int x2), (3, .int x3), (4, .int y2)]) [1, 2, 3, 4, 0] rfl (wX3_carried_205 X hr x1 x2 x3 y2 y2 t)
          · refine g_iload_n (pc := 195) X 2 dX3_carried_195 rfl rfl ?_
            refine g_bipush (pc := 196) X 99 dX3_carried_196 rfl ?_
            refine g_icmp_ge (pc := 198) X 205 dX3_carried_198 (by decide) ?_ ?_
            · exact g_lv (pc := 205) (lv' := [(0, .ref mo), (1, .int x1), (2, .int x2), (3, .int x3), (4, .int y2)]) [1, 2, 3, 4, 0] rfl (wX3_carried_205 X hr x1 x2 x3 y2 y2 t)
            · refine g_iload_n (pc := 201) X 3 dX3_carried_201 rfl rfl ?_
              refine g_goto (pc := 202) X 212 dX3_carried_202 (by decide) ?_
              exact g_lv (pc := 212) (lv' := [(0, .ref mo), (1, .int x1), (2, .int x2), (3, .int x3), (4, .int y2)]) [1, 2, 3, 4, 0] rfl (wX3_carried_212 X hr x1 x2 x3 y2 x2 y2 t)
      · refine g_aload_n (pc := 134) X 0 dX3_carried_134 rfl rfl ?_
        refine mg_get (pc := 135) X fo_X3_23 dX3_carried_135 rfl ?_
        refine g_iload_n (pc := 138) X 1 dX3_carried_138 rfl rfl ?_
        refine g_bipush (pc := 139) X 81 dX3_carried_139 rfl ?_
        refine g_isub (pc := 141) X dX3_carried_141 ?_
        refine g_iload_n (pc := 142) X 3 dX3_carried_142 rfl rfl ?_
        refine g_if_eq (pc := 143) X 150 dX3_carried_143 (by decide) ?_ ?_
        · refine g_aload_n (pc := 150) X 0 dX3_carried_150 rfl rfl ?_
          refine mg_get (pc := 151) X fo_X3_23 dX3_carried_151 rfl ?_
          refine g_iload_n (pc := 154) X 1 dX3_carried_154 rfl rfl ?_
          refine g_bipush (pc := 155) X 81 dX3_carried_155 rfl ?_
          refine g_isub (pc := 157) X dX3_carried_157 ?_
          refine mg_ald (pc := 158) X (j := 3) dX3_carried_158 (by decide) rfl (fun v3 => ?_)
          exact g_lv (pc := 159) (lv' := [(0, .ref mo), (1, .int x1)]) [0, 1] rfl (wX3_carried_159 X hr x1 v3 (x1 - 81) t)
        · refine g_iload_n (pc := 146) X 2 dX3_carried_146 rfl rfl ?_
          refine g_goto (pc := 147) X 159 dX3_carried_147 (by decide) ?_
          exact g_lv (pc := 159) (lv' := [(0, .ref mo), (1, .int x1)]) [0, 1] rfl (wX3_carried_159 X hr x1 x2 (x1 - 81) t)
    · refine g_iload_n (pc := 39) X 1 dX3_carried_39 rfl rfl ?_
      refine g_bipush (pc := 40) X 63 dX3_carried_40 rfl ?_
      refine g_isub (pc := 42) X dX3_carried_42 ?_
      refine g_bipush (pc := 43) X 9 dX3_carried_43 rfl ?_
      refine g_irem (pc := 45) X dX3_carried_45 (by decide) ?_
      refine g_lti (pc := 46) (fun y4 => ?_)
      refine g_istore (pc := 46) X (lv' := [(4, .int y4), (0, .ref mo), (1, .int x1), (2, .int x2), (3, .int x3)]) dX3_carried_46 (by decide) rfl ?_
      refine g_aload_n (pc := 48) X 1 dX3_carried_48 rfl rfl ?_
      refine mg_get (pc := 49) X fo_X3_13 dX3_carried_49 rfl ?_
      refine g_iload (pc := 52) X 0 dX3_carried_52 rfl ?_
      refine g_iload_n (pc := 54) X 4 dX3_carried_54 rfl rfl ?_
      refine g_if_eq (pc := 55) X 68 dX3_carried_55 (by decide) ?_ ?_
      · exact g_lv (pc := 68) (lv' := [(0, .ref mo), (1, .int x1), (2, .int x2), (3, .int x3), (4, .int y4)]) [1, 2, 3, 4, 0] rfl (wX3_carried_68 X hr x1 x2 x3 y4 y4 t)
      · refine g_iload_n (pc := 58) X 2 dX3_carried_58 rfl rfl ?_
        refine g_bipush (pc := 59) X 72 dX3_carried_59 rfl ?_
        refine g_icmp_ge (pc := 61) X 68 dX3_carried_61 (by decide) ?_ ?_
        · exact g_lv (pc := 68) (lv' := [(0, .ref mo), (1, .int x1), (2, .int x2), (3, .int x3), (4, .int y4)]) [1, 2, 3, 4, 0] rfl (wX3_carried_68 X hr x1 x2 x3 y4 y4 t)
        · refine g_iload_n (pc := 64) X 3 dX3_carried_64 rfl rfl ?_
          refine g_goto (pc := 65) X 75 dX3_carried_65 (by decide) ?_
          exact g_lv (pc := 75) (lv' := [(0, .ref mo), (1, .int x1), (2, .int x2), (3, .int x3), (4, .int y4)]) [1, 2, 3, 4, 0] rfl (wX3_carried_75 X hr x1 x2 x3 y4 x2 y4 t)
  · refine g_aload_n (pc := 6) X 0 dX3_carried_6 rfl rfl ?_
    refine mg_get (pc := 7) X fo_X3_7 dX3_carried_7 rfl ?_
    refine g_iload_n (pc := 10) X 1 dX3_carried_10 rfl rfl ?_
    refine g_iload_n (pc := 11) X 3 dX3_carried_11 rfl rfl ?_
    refine g_if_eq (pc := 12) X 19 dX3_carried_12 (by decide) ?_ ?_
    · refine g_aload_n (pc := 19) X 0 dX3_carried_19 rfl rfl ?_
      refine mg_get (pc := 20) X fo_X3_7 dX3_carried_20 rfl ?_
      refine g_iload_n (pc := 23) X 1 dX3_carried_23 rfl rfl ?_
      refine mg_ald (pc := 24) X (j := 0) dX3_carried_24 (by decide) rfl (fun v5 => ?_)
      refine mg_ast (pc := 25) X (j := 0) dX3_carried_25 (by decide) rfl (fun t6 => ?_)
      refine g_aload_n (pc := 26) X 0 dX3_carried_26 rfl rfl ?_
      refine mg_get (pc := 27) X fo_X3_7 dX3_carried_27 rfl ?_
      refine g_iload_n (pc := 30) X 1 dX3_carried_30 rfl rfl ?_
      refine mg_ald (pc := 31) X (j := 0) dX3_carried_31 (by decide) rfl (fun v7 => ?_)
      exact g_iret (pc := 32) X hr dX3_carried_32
    · refine g_iload_n (pc := 15) X 2 dX3_carried_15 rfl rfl ?_
      refine g_goto (pc := 16) X 25 dX3_carried_16 (by decide) ?_
      refine mg_ast (pc := 25) X (j := 0) dX3_carried_25 (by decide) rfl (fun t8 => ?_)
      refine g_aload_n (pc := 26) X 0 dX3_carried_26 rfl rfl ?_
      refine mg_get (pc := 27) X fo_X3_7 dX3_carried_27 rfl ?_
      refine g_iload_n (pc := 30) X 1 dX3_carried_30 rfl rfl ?_
      refine mg_ald (pc := 31) X (j := 0) dX3_carried_31 (by decide) rfl (fun v9 => ?_)
      exact g_iret (pc := 32) X hr dX3_carried_32
theorem kX3_carried {mo : Nat} {ρ : Sg} {sz : Nat} {x1 : Int32} {x2 : Int32} {x3 : Int32} {t : MS} {r : Int32} {u : MS} (h : fX3_carried x1 x2 x3 t = some (r, u)) : g_C Γ l yX3_carried cX3_carried 5 (Option.some Jvm.ClassFile.FieldType.int) 0 0 [.ref mo, .int x1, .int x2, .int x3] (MC mo t ρ) sz v_i r (m_ι mo ρ sz u) :=
  g_met [.ref mo, .int x1, .int x2, .int x3] (by decide) (Nat.le_of_ble_eq_true rfl) h rfl (fun p e s m args below meth c X hr hn => wX3_carried X hr x1 x2 x3 t)
def fX3_image_2 : Nat → Int32 → MS → Option (Int32 × MS)
  | 0, _, _ => none
  | n + 1, x1, t => if 141 ≤ x1 then lt (setI t 21 1) fun t1 => some (1, t1) else gm (fX3_carried x1 0 0 t) fun r2 t3 => mast t3 11 155 x1 r2 fun t4 => fX3_image_2 n (x1 + 1) t4
set_option maxHeartbeats 4000000 in
theorem wX3_image_2 {rF : Int32} (X : g_X Γ p s m args meth c cX3_image 2 RX3) (hr : meth.sig.returnType = (Option.some Jvm.ClassFile.FieldType.int)) (n : Nat) : ∀ (x1 : Int32) (t : MS), Wf Γ p l e 1 24 s m args below meth c 2 (m_ι mo ρ sz) v_i rF tF 2 [(0, .ref mo), (1, .int x1)] [] t (fX3_image_2 n x1 t) := by
  induction n with
  | zero => intro x1 t; exact g_none
  | succ n ih =>
    intro x1 t
    rw [fX3_image_2]
    refine g_iload_n (pc := 2) X 1 dX3_image_2 rfl rfl ?_
    refine g_sipush (pc := 3) X 141 dX3_image_3 rfl ?_
    refine g_icmp_ge (pc := 6) X 28 dX3_image_6 (by decide) ?_ ?_
    · refine g_aload_n (pc := 28) X 0 dX3_image_28 rfl rfl ?_
      refine g_iconst (pc := 29) X 1 dX3_image_29 rfl ?_
      refine mg_put (pc := 30) X fp_X3_296 dX3_image_30 rfl rfl (by decide) rfl (fun t1 => ?_)
      refine g_iconst (pc := 33) X 1 dX3_image_33 rfl ?_
      exact g_iret (pc := 34) X hr dX3_image_34
    · refine g_aload_n (pc := 9) X 0 dX3_image_9 rfl rfl ?_
      refine mg_get (pc := 10) X fo_X3_56 dX3_image_10 rfl ?_
      refine g_iload_n (pc := 13) X 1 dX3_image_13 rfl rfl ?_
      refine g_aload_n (pc := 14) X 0 dX3_image_14 rfl rfl ?_
      refine g_iload_n (pc := 15) X 1 dX3_image_15 rfl rfl ?_
      refine g_iconst (pc := 16) X 0 dX3_image_16 rfl ?_
      refine g_iconst (pc := 17) X 0 dX3_image_17 rfl ?_
      refine g_mV_i (pc := 18) X (C := RX3) (y := yX3_carried) (As := [.int x1, .int 0, .int 0]) (rest := [.int x1, .ref (mo + 12)]) (fr' := 0) (lo' := 0) (fun _ => cwV 3 X.2.2.2.2.1 (lw_V q2118 q2120 qs66 q76 q2121) rfl rfl rfl dmV_X3_carried ⟨Nat.le_of_ble_eq_true rfl, Nat.le_of_ble_eq_true rfl⟩) dX3_image_18 MC_o ⟨_, _, rfl⟩ rfl rfl (Nat.le_of_ble_eq_true rfl) (fun _ => rfl) (fun r u h => kX3_carried h) (fun r2 t3 => ?_)
      refine mg_ast (pc := 21) X (j := 11) dX3_image_21 (by decide) rfl (fun t4 => ?_)
      refine g_iinc (pc := 22) X 1 1 (lv' := [(1, .int (x1 + 1)), (0, .ref mo)]) dX3_image_22 rfl rfl (by decide) rfl ?_
      refine g_goto (pc := 25) X 2 dX3_image_25 (by decide) ?_
      exact g_lv (pc := 2) (lv' := [(0, .ref mo), (1, .int (x1 + 1))]) [1, 0] rfl (ih (x1 + 1) t4)
def fX3_image (t : MS) : Option (Int32 × MS) := fX3_image_2 1000 0 t
set_option maxHeartbeats 4000000 in
theorem wX3_image {rF : Int32} (X : g_X Γ p s m args meth c cX3_image 2 RX3) (hr : meth.sig.returnType = (Option.some Jvm.ClassFile.FieldType.int)) (t : MS) : Wf Γ p l e 1 24 s m args below meth c 2 (m_ι mo ρ sz) v_i rF tF 0 [(0, .ref mo)] [] t (fX3_image  t) := by
  unfold fX3_image
  refine g_iconst (pc := 0) X 0 dX3_image_0 rfl ?_
  refine g_istore_n (pc := 1) X (lv' := [(1, .int 0), (0, .ref mo)]) dX3_image_1 rfl (by decide) rfl ?_
  exact g_lv (pc := 2) (lv' := [(0, .ref mo), (1, .int 0)]) [1, 0] rfl (wX3_image_2 X hr 1000 0 t)
theorem kX3_image {mo : Nat} {ρ : Sg} {sz : Nat} {t : MS} {r : Int32} {u : MS} (h : fX3_image  t = some (r, u)) : g_C Γ l yX3_image cX3_image 2 (Option.some Jvm.ClassFile.FieldType.int) 1 24 [.ref mo] (MC mo t ρ) sz v_i r (m_ι mo ρ sz u) :=
  g_met [.ref mo] (by decide) (Nat.le_of_ble_eq_true rfl) h rfl (fun p e s m args below meth c X hr hn => wX3_image X hr  t)
def fX3_restore_12 : Nat → Int32 → MS → Option (Int32 × MS)
  | 0, _, _ => none
  | n + 1, x1, t => if 141 ≤ x1 then some (1, t) else mald t 11 155 x1 fun v1 => gm (fX3_carried x1 v1 1 t) fun r2 t3 => fX3_restore_12 n (x1 + 1) t3
set_option maxHeartbeats 4000000 in
theorem wX3_restore_12 {rF : Int32} (X : g_X Γ p s m args meth c cX3_restore 2 RX3) (hr : meth.sig.returnType = (Option.some Jvm.ClassFile.FieldType.int)) (n : Nat) : ∀ (x1 : Int32) (t : MS), Wf Γ p l e 1 24 s m args below meth c 2 (m_ι mo ρ sz) v_i rF tF 12 [(0, .ref mo), (1, .int x1)] [] t (fX3_restore_12 n x1 t) := by
  induction n with
  | zero => intro x1 t; exact g_none
  | succ n ih =>
    intro x1 t
    rw [fX3_restore_12]
    refine g_iload_n (pc := 12) X 1 dX3_restore_12 rfl rfl ?_
    refine g_sipush (pc := 13) X 141 dX3_restore_13 rfl ?_
    refine g_icmp_ge (pc := 16) X 38 dX3_restore_16 (by decide) ?_ ?_
    · refine g_iconst (pc := 38) X 1 dX3_restore_38 rfl ?_
      exact g_iret (pc := 39) X hr dX3_restore_39
    · refine g_aload_n (pc := 19) X 0 dX3_restore_19 rfl rfl ?_
      refine g_iload_n (pc := 20) X 1 dX3_restore_20 rfl rfl ?_
      refine g_aload_n (pc := 21) X 0 dX3_restore_21 rfl rfl ?_
      refine mg_get (pc := 22) X fo_X3_56 dX3_restore_22 rfl ?_
      refine g_iload_n (pc := 25) X 1 dX3_restore_25 rfl rfl ?_
      refine mg_ald (pc := 26) X (j := 11) dX3_restore_26 (by decide) rfl (fun v1 => ?_)
      refine g_iconst (pc := 27) X 1 dX3_restore_27 rfl ?_
      refine g_mV_i (pc := 28) X (C := RX3) (y := yX3_carried) (As := [.int x1, .int v1, .int 1]) (rest := []) (fr' := 0) (lo' := 0) (fun _ => cwV 3 X.2.2.2.2.1 (lw_V q2118 q2120 qs66 q76 q2121) rfl rfl rfl dmV_X3_carried ⟨Nat.le_of_ble_eq_true rfl, Nat.le_of_ble_eq_true rfl⟩) dX3_restore_28 MC_o ⟨_, _, rfl⟩ rfl rfl (Nat.le_of_ble_eq_true rfl) (fun _ => rfl) (fun r u h => kX3_carried h) (fun r2 t3 => ?_)
      refine g_pop (pc := 31) X dX3_restore_31 rfl ?_
      refine g_iinc (pc := 32) X 1 1 (lv' := [(1, .int (x1 + 1)), (0, .ref mo)]) dX3_restore_32 rfl rfl (by decide) rfl ?_
      refine g_goto (pc := 35) X 12 dX3_restore_35 (by decide) ?_
      exact g_lv (pc := 12) (lv' := [(0, .ref mo), (1, .int (x1 + 1))]) [1, 0] rfl (ih (x1 + 1) t3)
def fX3_restore (t : MS) : Option (Int32 × MS) := if t.1 21 = 0 then some ((-4), t) else fX3_restore_12 1000 0 t
set_option maxHeartbeats 4000000 in
theorem wX3_restore {rF : Int32} (X : g_X Γ p s m args meth c cX3_restore 2 RX3) (hr : meth.sig.returnType = (Option.some Jvm.ClassFile.FieldType.int)) (t : MS) : Wf Γ p l e 1 24 s m args below meth c 2 (m_ι mo ρ sz) v_i rF tF 0 [(0, .ref mo)] [] t (fX3_restore  t) := by
  unfold fX3_restore
  refine g_aload_n (pc := 0) X 0 dX3_restore_0 rfl rfl ?_
  refine mg_get (pc := 1) X fo_X3_296 dX3_restore_1 rfl ?_
  refine g_if_ne (pc := 4) X 10 dX3_restore_4 (by decide) ?_ ?_
  · refine g_iconst (pc := 10) X 0 dX3_restore_10 rfl ?_
    refine g_istore_n (pc := 11) X (lv' := [(1, .int 0), (0, .ref mo)]) dX3_restore_11 rfl (by decide) rfl ?_
    exact g_lv (pc := 12) (lv' := [(0, .ref mo), (1, .int 0)]) [1, 0] rfl (wX3_restore_12 X hr 1000 0 t)
  · refine g_bipush (pc := 7) X (-4) dX3_restore_7 rfl ?_
    exact g_iret (pc := 9) X hr dX3_restore_9
theorem kX3_restore {mo : Nat} {ρ : Sg} {sz : Nat} {t : MS} {r : Int32} {u : MS} (h : fX3_restore  t = some (r, u)) : g_C Γ l yX3_restore cX3_restore 2 (Option.some Jvm.ClassFile.FieldType.int) 1 24 [.ref mo] (MC mo t ρ) sz v_i r (m_ι mo ρ sz u) :=
  g_met [.ref mo] (by decide) (Nat.le_of_ble_eq_true rfl) h rfl (fun p e s m args below meth c X hr hn => wX3_restore X hr  t)
def fX3_isSheet (x0 : Int32) (x1 : Int32) (t : MS) : Option (Int32 × MS) := gm (fX3_in x0.toInt64 0 3 t) fun r1 t2 => if r1 = 0 then some (0, t2) else gm (fX3_in x1.toInt64 0 3 t2) fun r3 t4 => if r3 = 0 then some (0, t4) else some (1, t4)
set_option maxHeartbeats 4000000 in
theorem wX3_isSheet {rF : Int32} (X : g_X Γ p s m args meth c cX3_isSheet 2 RX3) (hr : meth.sig.returnType = (Option.some Jvm.ClassFile.FieldType.boolean)) (x0 : Int32) (x1 : Int32) (t : MS) : Wf Γ p l e 1 25 s m args below meth c 2 (m_ι mo ρ sz) v_i rF tF 0 [(0, .int x0), (1, .int x1)] [] t (fX3_isSheet x0 x1 t) := by
  unfold fX3_isSheet
  refine g_iload_n (pc := 0) X 0 dX3_isSheet_0 rfl rfl ?_
  refine g_i2l (pc := 1) X dX3_isSheet_1 ?_
  refine g_lconst (pc := 2) X 0 dX3_isSheet_2 rfl ?_
  refine g_ldc2 (pc := 3) X 3 dX3_isSheet_3 q2133 ?_
  refine g_mS_i (pc := 6) X (y := yX3_in) (As := [.long x0.toInt64, .long 0, .long 3]) (rest := []) (fr' := 0) (lo' := 0) (fun _ => va_cwS 3 X.2.2.2.2.1 (lw_S q1767 q1768 q76 q1769) rfl rfl rfl dmS_X3_in ⟨Nat.le_of_ble_eq_true rfl, Nat.le_of_ble_eq_true rfl⟩) dX3_isSheet_6 rfl rfl (Nat.le_of_ble_eq_true rfl) (fun _ => rfl) (fun r u h => kX3_in h) (fun r1 t2 => ?_)
  refine g_if_eq (pc := 9) X 28 dX3_isSheet_9 (by decide) ?_ ?_
  · refine g_iconst (pc := 28) X 0 dX3_isSheet_28 rfl ?_
    exact g_zret (pc := 29) X hr rfl dX3_isSheet_29
  · refine g_iload_n (pc := 12) X 1 dX3_isSheet_12 rfl rfl ?_
    refine g_i2l (pc := 13) X dX3_isSheet_13 ?_
    refine g_lconst (pc := 14) X 0 dX3_isSheet_14 rfl ?_
    refine g_ldc2 (pc := 15) X 3 dX3_isSheet_15 q2133 ?_
    refine g_mS_i (pc := 18) X (y := yX3_in) (As := [.long x1.toInt64, .long 0, .long 3]) (rest := []) (fr' := 0) (lo' := 0) (fun _ => va_cwS 3 X.2.2.2.2.1 (lw_S q1767 q1768 q76 q1769) rfl rfl rfl dmS_X3_in ⟨Nat.le_of_ble_eq_true rfl, Nat.le_of_ble_eq_true rfl⟩) dX3_isSheet_18 rfl rfl (Nat.le_of_ble_eq_true rfl) (fun _ => rfl) (fun r u h => kX3_in h) (fun r3 t4 => ?_)
    refine g_if_eq (pc := 21) X 28 dX3_isSheet_21 (by decide) ?_ ?_
    · refine g_iconst (pc := 28) X 0 dX3_isSheet_28 rfl ?_
      exact g_zret (pc := 29) X hr rfl dX3_isSheet_29
    · refine g_iconst (pc := 24) X 1 dX3_isSheet_24 rfl ?_
      refine g_goto (pc := 25) X 29 dX3_isSheet_25 (by decide) ?_
      exact g_zret (pc := 29) X hr rfl dX3_isSheet_29
theorem kX3_isSheet {mo : Nat} {ρ : Sg} {sz : Nat} {x0 : Int32} {x1 : Int32} {t : MS} {r : Int32} {u : MS} (h : fX3_isSheet x0 x1 t = some (r, u)) : g_C Γ l yX3_isSheet cX3_isSheet 2 (Option.some Jvm.ClassFile.FieldType.boolean) 1 25 [.int x0, .int x1] (MC mo t ρ) sz v_i r (m_ι mo ρ sz u) :=
  g_met [.int x0, .int x1] (by decide) (Nat.le_of_ble_eq_true rfl) h rfl (fun p e s m args below meth c X hr hn => wX3_isSheet X hr x0 x1 t)
def fX3_sheet_40 : Nat → Int32 → Int32 → Int32 → MS → Option (Int32 × MS)
  | 0, _, _, _, _ => none
  | n + 1, x1, x3, x4, t => if 24 ≤ x4 then some (x3, t) else mstl t 0 96 ((24 * x1) + x4) 0 fun t1 => fX3_sheet_40 n x1 x3 (x4 + 1) t1
set_option maxHeartbeats 4000000 in
theorem wX3_sheet_40 {rF : Int32} (X : g_X Γ p s m args meth c cX3_sheet 5 RX3) (hr : meth.sig.returnType = (Option.some Jvm.ClassFile.FieldType.int)) (n : Nat) : ∀ (x1 : Int32) (x3 : Int32) (x4 : Int32) (t : MS), Wf Γ p l e 2 46 s m args below meth c 5 (m_ι mo ρ sz) v_i rF tF 40 [(0, .ref mo), (1, .int x1), (3, .int x3), (4, .int x4)] [] t (fX3_sheet_40 n x1 x3 x4 t) := by
  induction n with
  | zero => intro x1 x3 x4 t; exact g_none
  | succ n ih =>
    intro x1 x3 x4 t
    rw [fX3_sheet_40]
    refine g_iload (pc := 40) X 3 dX3_sheet_40 rfl ?_
    refine g_bipush (pc := 42) X 24 dX3_sheet_42 rfl ?_
    refine g_icmp_ge (pc := 44) X 66 dX3_sheet_44 (by decide) ?_ ?_
    · refine g_iload_n (pc := 66) X 2 dX3_sheet_66 rfl rfl ?_
      exact g_iret (pc := 67) X hr dX3_sheet_67
    · refine g_aload_n (pc := 47) X 0 dX3_sheet_47 rfl rfl ?_
      refine mg_get (pc := 48) X fo_X3_65 dX3_sheet_48 rfl ?_
      refine g_bipush (pc := 51) X 24 dX3_sheet_51 rfl ?_
      refine g_iload_n (pc := 53) X 1 dX3_sheet_53 rfl rfl ?_
      refine g_imul (pc := 54) X dX3_sheet_54 ?_
      refine g_iload (pc := 55) X 3 dX3_sheet_55 rfl ?_
      refine g_iadd (pc := 57) X dX3_sheet_57 ?_
      refine g_lconst (pc := 58) X 0 dX3_sheet_58 rfl ?_
      refine mg_stl (pc := 59) X (j := 0) dX3_sheet_59 (by decide) rfl (fun t1 => ?_)
      refine g_iinc (pc := 60) X 1 3 (lv' := [(4, .int (x4 + 1)), (0, .ref mo), (1, .int x1), (3, .int x3)]) dX3_sheet_60 rfl rfl (by decide) rfl ?_
      refine g_goto (pc := 63) X 40 dX3_sheet_63 (by decide) ?_
      exact g_lv (pc := 40) (lv' := [(0, .ref mo), (1, .int x1), (3, .int x3), (4, .int (x4 + 1))]) [1, 2, 3, 0] rfl (ih x1 x3 (x4 + 1) t1)
def fX3_sheet (x1 : Int32) (x2 : Int32) (x3 : Int32) (t : MS) : Option (Int32 × MS) := gm (fX3_isSheet x1 x2 t) fun r1 t2 => if r1 = 0 then some ((-1), t2) else if x3 ≤ 24 then if 0 ≤ x3 then mast t2 12 4 x1 x2 fun t3 => mast t3 13 4 x1 x3 fun t4 => fX3_sheet_40 1000 x1 x3 0 t4 else some ((-14), t2) else some ((-1), t2)
set_option maxHeartbeats 4000000 in
theorem wX3_sheet {rF : Int32} (X : g_X Γ p s m args meth c cX3_sheet 5 RX3) (hr : meth.sig.returnType = (Option.some Jvm.ClassFile.FieldType.int)) (x1 : Int32) (x2 : Int32) (x3 : Int32) (t : MS) : Wf Γ p l e 2 46 s m args below meth c 5 (m_ι mo ρ sz) v_i rF tF 0 [(0, .ref mo), (1, .int x1), (2, .int x2), (3, .int x3)] [] t (fX3_sheet x1 x2 x3 t) := by
  unfold fX3_sheet
  refine g_iload_n (pc := 0) X 1 dX3_sheet_0 rfl rfl ?_
  refine g_iload_n (pc := 1) X 2 dX3_sheet_1 rfl rfl ?_
  refine g_mS_i (pc := 2) X (y := yX3_isSheet) (As := [.int x1, .int x2]) (rest := []) (fr' := 1) (lo' := 25) (fun _ => va_cwS 2 X.2.2.2.2.1 (lw_S q2130 q2131 q76 q2132) rfl rfl rfl dmS_X3_isSheet ⟨Nat.le_of_ble_eq_true rfl, Nat.le_of_ble_eq_true rfl⟩) dX3_sheet_2 rfl rfl (Nat.le_of_ble_eq_true rfl) (fun _ => rfl) (fun r u h => kX3_isSheet h) (fun r1 t2 => ?_)
  refine g_if_eq (pc := 5) X 14 dX3_sheet_5 (by decide) ?_ ?_
  · refine g_iconst (pc := 14) X (-1) dX3_sheet_14 rfl ?_
    exact g_iret (pc := 15) X hr dX3_sheet_15
  · refine g_iload_n (pc := 8) X 3 dX3_sheet_8 rfl rfl ?_
    refine g_bipush (pc := 9) X 24 dX3_sheet_9 rfl ?_
    refine g_icmp_le (pc := 11) X 16 dX3_sheet_11 (by decide) ?_ ?_
    · refine g_iload_n (pc := 16) X 3 dX3_sheet_16 rfl rfl ?_
      refine g_if_ge (pc := 17) X 23 dX3_sheet_17 (by decide) ?_ ?_
      · refine g_aload_n (pc := 23) X 0 dX3_sheet_23 rfl rfl ?_
        refine mg_get (pc := 24) X fo_X3_59 dX3_sheet_24 rfl ?_
        refine g_iload_n (pc := 27) X 1 dX3_sheet_27 rfl rfl ?_
        refine g_iload_n (pc := 28) X 2 dX3_sheet_28 rfl rfl ?_
        refine mg_ast (pc := 29) X (j := 12) dX3_sheet_29 (by decide) rfl (fun t3 => ?_)
        refine g_aload_n (pc := 30) X 0 dX3_sheet_30 rfl rfl ?_
        refine mg_get (pc := 31) X fo_X3_62 dX3_sheet_31 rfl ?_
        refine g_iload_n (pc := 34) X 1 dX3_sheet_34 rfl rfl ?_
        refine g_iload_n (pc := 35) X 3 dX3_sheet_35 rfl rfl ?_
        refine mg_ast (pc := 36) X (j := 13) dX3_sheet_36 (by decide) rfl (fun t4 => ?_)
        refine g_iconst (pc := 37) X 0 dX3_sheet_37 rfl ?_
        refine g_istore (pc := 38) X (lv' := [(4, .int 0), (0, .ref mo), (1, .int x1), (2, .int x2), (3, .int x3)]) dX3_sheet_38 (by decide) rfl ?_
        exact g_lv (pc := 40) (lv' := [(0, .ref mo), (1, .int x1), (3, .int x3), (4, .int 0)]) [1, 2, 4, 0] rfl (wX3_sheet_40 X hr 1000 x1 x3 0 t4)
      · refine g_bipush (pc := 20) X (-14) dX3_sheet_20 rfl ?_
        exact g_iret (pc := 22) X hr dX3_sheet_22
    · refine g_iconst (pc := 14) X (-1) dX3_sheet_14 rfl ?_
      exact g_iret (pc := 15) X hr dX3_sheet_15
theorem kX3_sheet {mo : Nat} {ρ : Sg} {sz : Nat} {x1 : Int32} {x2 : Int32} {x3 : Int32} {t : MS} {r : Int32} {u : MS} (h : fX3_sheet x1 x2 x3 t = some (r, u)) : g_C Γ l yX3_sheet cX3_sheet 5 (Option.some Jvm.ClassFile.FieldType.int) 2 46 [.ref mo, .int x1, .int x2, .int x3] (MC mo t ρ) sz v_i r (m_ι mo ρ sz u) :=
  g_met [.ref mo, .int x1, .int x2, .int x3] (by decide) (Nat.le_of_ble_eq_true rfl) h rfl (fun p e s m args below meth c X hr hn => wX3_sheet X hr x1 x2 x3 t)
def fX3_drop (x1 : Int32) (t : MS) : Option (Int32 × MS) := gm (fX3_in x1.toInt64 0 3 t) fun r1 t2 => if r1 = 0 then some ((-1), t2) else mald t2 12 4 x1 fun v3 => if 0 ≤ v3 then mast t2 12 4 x1 (-1) fun t4 => mald t4 13 4 x1 fun v5 => some (v5, t4) else some ((-11), t2)
set_option maxHeartbeats 4000000 in
theorem wX3_drop {rF : Int32} (X : g_X Γ p s m args meth c cX3_drop 2 RX3) (hr : meth.sig.returnType = (Option.some Jvm.ClassFile.FieldType.int)) (x1 : Int32) (t : MS) : Wf Γ p l e 1 25 s m args below meth c 2 (m_ι mo ρ sz) v_i rF tF 0 [(0, .ref mo), (1, .int x1)] [] t (fX3_drop x1 t) := by
  unfold fX3_drop
  refine g_iload_n (pc := 0) X 1 dX3_drop_0 rfl rfl ?_
  refine g_i2l (pc := 1) X dX3_drop_1 ?_
  refine g_lconst (pc := 2) X 0 dX3_drop_2 rfl ?_
  refine g_ldc2 (pc := 3) X 3 dX3_drop_3 q2133 ?_
  refine g_mS_i (pc := 6) X (y := yX3_in) (As := [.long x1.toInt64, .long 0, .long 3]) (rest := []) (fr' := 0) (lo' := 0) (fun _ => va_cwS 3 X.2.2.2.2.1 (lw_S q1767 q1768 q76 q1769) rfl rfl rfl dmS_X3_in ⟨Nat.le_of_ble_eq_true rfl, Nat.le_of_ble_eq_true rfl⟩) dX3_drop_6 rfl rfl (Nat.le_of_ble_eq_true rfl) (fun _ => rfl) (fun r u h => kX3_in h) (fun r1 t2 => ?_)
  refine g_if_ne (pc := 9) X 14 dX3_drop_9 (by decide) ?_ ?_
  · refine g_aload_n (pc := 14) X 0 dX3_drop_14 rfl rfl ?_
    refine mg_get (pc := 15) X fo_X3_59 dX3_drop_15 rfl ?_
    refine g_iload_n (pc := 18) X 1 dX3_drop_18 rfl rfl ?_
    refine mg_ald (pc := 19) X (j := 12) dX3_drop_19 (by decide) rfl (fun v3 => ?_)
    refine g_if_ge (pc := 20) X 26 dX3_drop_20 (by decide) ?_ ?_
    · refine g_aload_n (pc := 26) X 0 dX3_drop_26 rfl rfl ?_
      refine mg_get (pc := 27) X fo_X3_59 dX3_drop_27 rfl ?_
      refine g_iload_n (pc := 30) X 1 dX3_drop_30 rfl rfl ?_
      refine g_iconst (pc := 31) X (-1) dX3_drop_31 rfl ?_
      refine mg_ast (pc := 32) X (j := 12) dX3_drop_32 (by decide) rfl (fun t4 => ?_)
      refine g_aload_n (pc := 33) X 0 dX3_drop_33 rfl rfl ?_
      refine mg_get (pc := 34) X fo_X3_62 dX3_drop_34 rfl ?_
      refine g_iload_n (pc := 37) X 1 dX3_drop_37 rfl rfl ?_
      refine mg_ald (pc := 38) X (j := 13) dX3_drop_38 (by decide) rfl (fun v5 => ?_)
      exact g_iret (pc := 39) X hr dX3_drop_39
    · refine g_bipush (pc := 23) X (-11) dX3_drop_23 rfl ?_
      exact g_iret (pc := 25) X hr dX3_drop_25
  · refine g_iconst (pc := 12) X (-1) dX3_drop_12 rfl ?_
    exact g_iret (pc := 13) X hr dX3_drop_13
theorem kX3_drop {mo : Nat} {ρ : Sg} {sz : Nat} {x1 : Int32} {t : MS} {r : Int32} {u : MS} (h : fX3_drop x1 t = some (r, u)) : g_C Γ l yX3_drop cX3_drop 2 (Option.some Jvm.ClassFile.FieldType.int) 1 25 [.ref mo, .int x1] (MC mo t ρ) sz v_i r (m_ι mo ρ sz u) :=
  g_met [.ref mo, .int x1] (by decide) (Nat.le_of_ble_eq_true rfl) h rfl (fun p e s m args below meth c X hr hn => wX3_drop X hr x1 t)
def fX3_asLane (x0 : Int32) (x1 : Int64) (t : MS) : Option (Int64 × MS) := if x0 = 0 then some ((x1 <<< ((56 : Int32).toInt64 &&& 63)) >>> ((56 : Int32).toInt64 &&& 63), t) else if x0 = 1 then some ((x1 <<< ((48 : Int32).toInt64 &&& 63)) >>> ((48 : Int32).toInt64 &&& 63), t) else if x0 = 2 then some ((x1 <<< ((32 : Int32).toInt64 &&& 63)) >>> ((32 : Int32).toInt64 &&& 63), t) else some (x1, t)
set_option maxHeartbeats 4000000 in
theorem wX3_asLane {rF : Int64} (X : g_X Γ p s m args meth c cX3_asLane 3 RX3) (hr : meth.sig.returnType = (Option.some Jvm.ClassFile.FieldType.long)) (x0 : Int32) (x1 : Int64) (t : MS) : Wf Γ p l e 0 0 s m args below meth c 3 (m_ι mo ρ sz) v_l rF tF 0 [(0, .int x0), (1, .long x1)] [] t (fX3_asLane x0 x1 t) := by
  unfold fX3_asLane
  refine g_iload_n (pc := 0) X 0 dX3_asLane_0 rfl rfl ?_
  refine g_if_ne (pc := 1) X 14 dX3_asLane_1 (by decide) ?_ ?_
  · refine g_iload_n (pc := 14) X 0 dX3_asLane_14 rfl rfl ?_
    refine g_iconst (pc := 15) X 1 dX3_asLane_15 rfl ?_
    refine g_icmp_ne (pc := 16) X 29 dX3_asLane_16 (by decide) ?_ ?_
    · refine g_iload_n (pc := 29) X 0 dX3_asLane_29 rfl rfl ?_
      refine g_iconst (pc := 30) X 2 dX3_asLane_30 rfl ?_
      refine g_icmp_ne (pc := 31) X 44 dX3_asLane_31 (by decide) ?_ ?_
      · refine g_lload_n (pc := 44) X 1 dX3_asLane_44 rfl rfl ?_
        exact g_lret (pc := 45) X hr dX3_asLane_45
      · refine g_lload_n (pc := 34) X 1 dX3_asLane_34 rfl rfl ?_
        refine g_bipush (pc := 35) X 32 dX3_asLane_35 rfl ?_
        refine g_lshl (pc := 37) X dX3_asLane_37 ?_
        refine g_bipush (pc := 38) X 32 dX3_asLane_38 rfl ?_
        refine g_lshr (pc := 40) X dX3_asLane_40 ?_
        refine g_goto (pc := 41) X 45 dX3_asLane_41 (by decide) ?_
        exact g_lret (pc := 45) X hr dX3_asLane_45
    · refine g_lload_n (pc := 19) X 1 dX3_asLane_19 rfl rfl ?_
      refine g_bipush (pc := 20) X 48 dX3_asLane_20 rfl ?_
      refine g_lshl (pc := 22) X dX3_asLane_22 ?_
      refine g_bipush (pc := 23) X 48 dX3_asLane_23 rfl ?_
      refine g_lshr (pc := 25) X dX3_asLane_25 ?_
      refine g_goto (pc := 26) X 45 dX3_asLane_26 (by decide) ?_
      exact g_lret (pc := 45) X hr dX3_asLane_45
  · refine g_lload_n (pc := 4) X 1 dX3_asLane_4 rfl rfl ?_
    refine g_bipush (pc := 5) X 56 dX3_asLane_5 rfl ?_
    refine g_lshl (pc := 7) X dX3_asLane_7 ?_
    refine g_bipush (pc := 8) X 56 dX3_asLane_8 rfl ?_
    refine g_lshr (pc := 10) X dX3_asLane_10 ?_
    refine g_goto (pc := 11) X 45 dX3_asLane_11 (by decide) ?_
    exact g_lret (pc := 45) X hr dX3_asLane_45
theorem kX3_asLane {mo : Nat} {ρ : Sg} {sz : Nat} {x0 : Int32} {x1 : Int64} {t : MS} {r : Int64} {u : MS} (h : fX3_asLane x0 x1 t = some (r, u)) : g_C Γ l yX3_asLane cX3_asLane 3 (Option.some Jvm.ClassFile.FieldType.long) 0 0 [.int x0, .long x1] (MC mo t ρ) sz v_l r (m_ι mo ρ sz u) :=
  g_met [.int x0, .long x1] (by decide) (Nat.le_of_ble_eq_true rfl) h rfl (fun p e s m args below meth c X hr hn => wX3_asLane X hr x0 x1 t)
def fX3_lacksRow (x1 : Int32) (x2 : Int32) (x3 : Int32) (x4 : Int32) (t : MS) : Option (Int32 × MS) := mald t 12 4 x1 fun v1 => if v1 = x2 then mald t 13 4 x1 fun v2 => gm (fX3_in x3.toInt64 0 ((v2 - x4).toInt64) t) fun r3 t4 => if r3 = 0 then some ((-13), t4) else some (0, t4) else mald t 12 4 x1 fun v5 => if 0 ≤ v5 then some ((-12), t) else some ((-11), t)
set_option maxHeartbeats 4000000 in
theorem wX3_lacksRow {rF : Int32} (X : g_X Γ p s m args meth c cX3_lacksRow 5 RX3) (hr : meth.sig.returnType = (Option.some Jvm.ClassFile.FieldType.int)) (x1 : Int32) (x2 : Int32) (x3 : Int32) (x4 : Int32) (t : MS) : Wf Γ p l e 1 25 s m args below meth c 5 (m_ι mo ρ sz) v_i rF tF 0 [(0, .ref mo), (1, .int x1), (2, .int x2), (3, .int x3), (4, .int x4)] [] t (fX3_lacksRow x1 x2 x3 x4 t) := by
  unfold fX3_lacksRow
  refine g_aload_n (pc := 0) X 0 dX3_lacksRow_0 rfl rfl ?_
  refine mg_get (pc := 1) X fo_X3_59 dX3_lacksRow_1 rfl ?_
  refine g_iload_n (pc := 4) X 1 dX3_lacksRow_4 rfl rfl ?_
  refine mg_ald (pc := 5) X (j := 12) dX3_lacksRow_5 (by decide) rfl (fun v1 => ?_)
  refine g_iload_n (pc := 6) X 2 dX3_lacksRow_6 rfl rfl ?_
  refine g_icmp_eq (pc := 7) X 27 dX3_lacksRow_7 (by decide) ?_ ?_
  · refine g_iload_n (pc := 27) X 3 dX3_lacksRow_27 rfl rfl ?_
    refine g_i2l (pc := 28) X dX3_lacksRow_28 ?_
    refine g_lconst (pc := 29) X 0 dX3_lacksRow_29 rfl ?_
    refine g_aload_n (pc := 30) X 0 dX3_lacksRow_30 rfl rfl ?_
    refine mg_get (pc := 31) X fo_X3_62 dX3_lacksRow_31 rfl ?_
    refine g_iload_n (pc := 34) X 1 dX3_lacksRow_34 rfl rfl ?_
    refine mg_ald (pc := 35) X (j := 13) dX3_lacksRow_35 (by decide) rfl (fun v2 => ?_)
    refine g_iload (pc := 36) X 4 dX3_lacksRow_36 rfl ?_
    refine g_isub (pc := 38) X dX3_lacksRow_38 ?_
    refine g_i2l (pc := 39) X dX3_lacksRow_39 ?_
    refine g_mS_i (pc := 40) X (y := yX3_in) (As := [.long x3.toInt64, .long 0, .long ((v2 - x4).toInt64)]) (rest := []) (fr' := 0) (lo' := 0) (fun _ => va_cwS 3 X.2.2.2.2.1 (lw_S q1767 q1768 q76 q1769) rfl rfl rfl dmS_X3_in ⟨Nat.le_of_ble_eq_true rfl, Nat.le_of_ble_eq_true rfl⟩) dX3_lacksRow_40 rfl rfl (Nat.le_of_ble_eq_true rfl) (fun _ => rfl) (fun r u h => kX3_in h) (fun r3 t4 => ?_)
    refine g_if_eq (pc := 43) X 50 dX3_lacksRow_43 (by decide) ?_ ?_
    · refine g_bipush (pc := 50) X (-13) dX3_lacksRow_50 rfl ?_
      exact g_iret (pc := 52) X hr dX3_lacksRow_52
    · refine g_iconst (pc := 46) X 0 dX3_lacksRow_46 rfl ?_
      refine g_goto (pc := 47) X 52 dX3_lacksRow_47 (by decide) ?_
      exact g_iret (pc := 52) X hr dX3_lacksRow_52
  · refine g_aload_n (pc := 10) X 0 dX3_lacksRow_10 rfl rfl ?_
    refine mg_get (pc := 11) X fo_X3_59 dX3_lacksRow_11 rfl ?_
    refine g_iload_n (pc := 14) X 1 dX3_lacksRow_14 rfl rfl ?_
    refine mg_ald (pc := 15) X (j := 12) dX3_lacksRow_15 (by decide) rfl (fun v5 => ?_)
    refine g_if_ge (pc := 16) X 24 dX3_lacksRow_16 (by decide) ?_ ?_
    · refine g_bipush (pc := 24) X (-12) dX3_lacksRow_24 rfl ?_
      exact g_iret (pc := 26) X hr dX3_lacksRow_26
    · refine g_bipush (pc := 19) X (-11) dX3_lacksRow_19 rfl ?_
      refine g_goto (pc := 21) X 26 dX3_lacksRow_21 (by decide) ?_
      exact g_iret (pc := 26) X hr dX3_lacksRow_26
theorem kX3_lacksRow {mo : Nat} {ρ : Sg} {sz : Nat} {x1 : Int32} {x2 : Int32} {x3 : Int32} {x4 : Int32} {t : MS} {r : Int32} {u : MS} (h : fX3_lacksRow x1 x2 x3 x4 t = some (r, u)) : g_C Γ l yX3_lacksRow cX3_lacksRow 5 (Option.some Jvm.ClassFile.FieldType.int) 1 25 [.ref mo, .int x1, .int x2, .int x3, .int x4] (MC mo t ρ) sz v_i r (m_ι mo ρ sz u) :=
  g_met [.ref mo, .int x1, .int x2, .int x3, .int x4] (by decide) (Nat.le_of_ble_eq_true rfl) h rfl (fun p e s m args below meth c X hr hn => wX3_lacksRow X hr x1 x2 x3 x4 t)
def fX3_item (x1 : Int32) (x2 : Int32) (x3 : Int32) (x4 : Int64) (t : MS) : Option (Int32 × MS) := gm (fX3_isSheet x1 x2 t) fun r1 t2 => if r1 = 0 then some ((-1), t2) else gm (fX3_lacksRow x1 x2 x3 1 t2) fun r3 t4 => if 0 ≤ r3 then gm (fX3_asLane x2 x4 t4) fun r5 t6 => mstl t6 0 96 ((24 * x1) + x3) r5 fun t7 => some (1, t7) else some (r3, t4)
set_option maxHeartbeats 4000000 in
theorem wX3_item {rF : Int32} (X : g_X Γ p s m args meth c cX3_item 7 RX3) (hr : meth.sig.returnType = (Option.some Jvm.ClassFile.FieldType.int)) (x1 : Int32) (x2 : Int32) (x3 : Int32) (x4 : Int64) (t : MS) : Wf Γ p l e 2 49 s m args below meth c 7 (m_ι mo ρ sz) v_i rF tF 0 [(0, .ref mo), (1, .int x1), (2, .int x2), (3, .int x3), (4, .long x4)] [] t (fX3_item x1 x2 x3 x4 t) := by
  unfold fX3_item
  refine g_iload_n (pc := 0) X 1 dX3_item_0 rfl rfl ?_
  refine g_iload_n (pc := 1) X 2 dX3_item_1 rfl rfl ?_
  refine g_mS_i (pc := 2) X (y := yX3_isSheet) (As := [.int x1, .int x2]) (rest := []) (fr' := 1) (lo' := 25) (fun _ => va_cwS 2 X.2.2.2.2.1 (lw_S q2130 q2131 q76 q2132) rfl rfl rfl dmS_X3_isSheet ⟨Nat.le_of_ble_eq_true rfl, Nat.le_of_ble_eq_true rfl⟩) dX3_item_2 rfl rfl (Nat.le_of_ble_eq_true rfl) (fun _ => rfl) (fun r u h => kX3_isSheet h) (fun r1 t2 => ?_)
  refine g_if_ne (pc := 5) X 10 dX3_item_5 (by decide) ?_ ?_
  · refine g_aload_n (pc := 10) X 0 dX3_item_10 rfl rfl ?_
    refine g_iload_n (pc := 11) X 1 dX3_item_11 rfl rfl ?_
    refine g_iload_n (pc := 12) X 2 dX3_item_12 rfl rfl ?_
    refine g_iload_n (pc := 13) X 3 dX3_item_13 rfl rfl ?_
    refine g_iconst (pc := 14) X 1 dX3_item_14 rfl ?_
    refine g_mV_i (pc := 15) X (C := RX3) (y := yX3_lacksRow) (As := [.int x1, .int x2, .int x3, .int 1]) (rest := []) (fr' := 1) (lo' := 25) (fun _ => cwV 4 X.2.2.2.2.1 (lw_V q2142 q2144 qs67 q76 q2145) rfl rfl rfl dmV_X3_lacksRow ⟨Nat.le_of_ble_eq_true rfl, Nat.le_of_ble_eq_true rfl⟩) dX3_item_15 MC_o ⟨_, _, rfl⟩ rfl rfl (Nat.le_of_ble_eq_true rfl) (fun _ => rfl) (fun r u h => kX3_lacksRow h) (fun r3 t4 => ?_)
    refine g_istore (pc := 18) X (lv' := [(6, .int r3), (0, .ref mo), (1, .int x1), (2, .int x2), (3, .int x3), (4, .long x4)]) dX3_item_18 (by decide) rfl ?_
    refine g_iload (pc := 20) X 0 dX3_item_20 rfl ?_
    refine g_if_ge (pc := 22) X 28 dX3_item_22 (by decide) ?_ ?_
    · refine g_aload_n (pc := 28) X 1 dX3_item_28 rfl rfl ?_
      refine mg_get (pc := 29) X fo_X3_65 dX3_item_29 rfl ?_
      refine g_bipush (pc := 32) X 24 dX3_item_32 rfl ?_
      refine g_iload_n (pc := 34) X 2 dX3_item_34 rfl rfl ?_
      refine g_imul (pc := 35) X dX3_item_35 ?_
      refine g_iload_n (pc := 36) X 4 dX3_item_36 rfl rfl ?_
      refine g_iadd (pc := 37) X dX3_item_37 ?_
      refine g_iload_n (pc := 38) X 3 dX3_item_38 rfl rfl ?_
      refine g_lload (pc := 39) X 5 dX3_item_39 rfl ?_
      refine g_mS_l (pc := 41) X (y := yX3_asLane) (As := [.int x2, .long x4]) (rest := [.int ((24 * x1) + x3), .ref (mo + 15)]) (fr' := 0) (lo' := 0) (fun _ => va_cwS 2 X.2.2.2.2.1 (lw_S q2146 q2147 q76 q2148) rfl rfl rfl dmS_X3_asLane ⟨Nat.le_of_ble_eq_true rfl, Nat.le_of_ble_eq_true rfl⟩) dX3_item_41 rfl rfl (Nat.le_of_ble_eq_true rfl) (fun _ => rfl) (fun r u h => kX3_asLane h) (fun r5 t6 => ?_)
      refine mg_stl (pc := 44) X (j := 0) dX3_item_44 (by decide) rfl (fun t7 => ?_)
      refine g_iconst (pc := 45) X 1 dX3_item_45 rfl ?_
      exact g_iret (pc := 46) X hr dX3_item_46
    · refine g_iload (pc := 25) X 0 dX3_item_25 rfl ?_
      exact g_iret (pc := 27) X hr dX3_item_27
  · refine g_iconst (pc := 8) X (-1) dX3_item_8 rfl ?_
    exact g_iret (pc := 9) X hr dX3_item_9
theorem kX3_item {mo : Nat} {ρ : Sg} {sz : Nat} {x1 : Int32} {x2 : Int32} {x3 : Int32} {x4 : Int64} {t : MS} {r : Int32} {u : MS} (h : fX3_item x1 x2 x3 x4 t = some (r, u)) : g_C Γ l yX3_item cX3_item 7 (Option.some Jvm.ClassFile.FieldType.int) 2 49 [.ref mo, .int x1, .int x2, .int x3, .long x4] (MC mo t ρ) sz v_i r (m_ι mo ρ sz u) :=
  g_met [.ref mo, .int x1, .int x2, .int x3, .long x4] (by decide) (Nat.le_of_ble_eq_true rfl) h rfl (fun p e s m args below meth c X hr hn => wX3_item X hr x1 x2 x3 x4 t)
def fX3_dress_81 (kc39 : Int32 → Int32 → Int32 → Int32 → Int32 → MS → Option (Int32 × MS)) (x1 : Int32) (x3 : Int32) (x4 : Int32) (x6 : Int32) (s0 : Int32) (t : MS) : Option (Int32 × MS) := kc39 x1 x3 x4 s0 (x6 + 1) t
set_option maxHeartbeats 4000000 in
theorem wX3_dress_81 {rF : Int32} (X : g_X Γ p s m args meth c cX3_dress 7 RX3) (hr : meth.sig.returnType = (Option.some Jvm.ClassFile.FieldType.int)) {kc39 : Int32 → Int32 → Int32 → Int32 → Int32 → MS → Option (Int32 × MS)} (hk39 : ∀ (x1 : Int32) (x3 : Int32) (x4 : Int32) (x5 : Int32) (x6 : Int32) (t : MS), Wf Γ p l e 2 49 s m args below meth c 7 (m_ι mo ρ sz) v_i rF tF 39 [(0, .ref mo), (1, .int x1), (3, .int x3), (4, .int x4), (5, .int x5), (6, .int x6)] [] t (kc39 x1 x3 x4 x5 x6 t)) (x1 : Int32) (x3 : Int32) (x4 : Int32) (x6 : Int32) (s0 : Int32) (t : MS) : Wf Γ p l e 2 49 s m args below meth c 7 (m_ι mo ρ sz) v_i rF tF 81 [(0, .ref mo), (1, .int x1), (3, .int x3), (4, .int x4), (6, .int x6)] [.int s0] t (fX3_dress_81 kc39 x1 x3 x4 x6 s0 t) := by
  unfold fX3_dress_81
  refine g_istore (pc := 81) X (lv' := [(5, .int s0), (0, .ref mo), (1, .int x1), (3, .int x3), (4, .int x4), (6, .int x6)]) dX3_dress_81 (by decide) rfl ?_
  refine g_iinc (pc := 83) X 1 5 (lv' := [(6, .int (x6 + 1)), (5, .int s0), (0, .ref mo), (1, .int x1), (3, .int x3), (4, .int x4)]) dX3_dress_83 rfl rfl (by decide) rfl ?_
  refine g_goto (pc := 86) X 39 dX3_dress_86 (by decide) ?_
  exact g_lv (pc := 39) (lv' := [(0, .ref mo), (1, .int x1), (3, .int x3), (4, .int x4), (5, .int s0), (6, .int (x6 + 1))]) [2, 3, 4, 5, 1, 0] rfl (hk39 x1 x3 x4 s0 (x6 + 1) t)
def fX3_dress_100 : Nat → Int32 → Int32 → Int32 → Int32 → MS → Option (Int32 × MS)
  | 0, _, _, _, _, _ => none
  | n + 1, x1, x3, x4, x6, t => if x4 ≤ x6 then some (x4, t) else mldl t 0 96 (((24 * x1) + x3) + x6) fun v1 => mast t 0 63 x6 v1.toInt32 fun t2 => fX3_dress_100 n x1 x3 x4 (x6 + 1) t2
set_option maxHeartbeats 4000000 in
theorem wX3_dress_100 {rF : Int32} (X : g_X Γ p s m args meth c cX3_dress 7 RX3) (hr : meth.sig.returnType = (Option.some Jvm.ClassFile.FieldType.int)) (n : Nat) : ∀ (x1 : Int32) (x3 : Int32) (x4 : Int32) (x6 : Int32) (t : MS), Wf Γ p l e 2 49 s m args below meth c 7 (m_ι mo ρ sz) v_i rF tF 100 [(0, .ref mo), (1, .int x1), (3, .int x3), (4, .int x4), (6, .int x6)] [] t (fX3_dress_100 n x1 x3 x4 x6 t) := by
  induction n with
  | zero => intro x1 x3 x4 x6 t; exact g_none
  | succ n ih =>
    intro x1 x3 x4 x6 t
    rw [fX3_dress_100]
    refine g_iload (pc := 100) X 4 dX3_dress_100 rfl ?_
    refine g_iload (pc := 102) X 3 dX3_dress_102 rfl ?_
    refine g_icmp_ge (pc := 104) X 135 dX3_dress_104 (by decide) ?_ ?_
    · refine g_iload (pc := 135) X 3 dX3_dress_135 rfl ?_
      exact g_iret (pc := 137) X hr dX3_dress_137
    · refine g_aload_n (pc := 107) X 0 dX3_dress_107 rfl rfl ?_
      refine mg_get (pc := 108) X fo_X3_7 dX3_dress_108 rfl ?_
      refine g_iload (pc := 111) X 4 dX3_dress_111 rfl ?_
      refine g_aload_n (pc := 113) X 0 dX3_dress_113 rfl rfl ?_
      refine mg_get (pc := 114) X fo_X3_65 dX3_dress_114 rfl ?_
      refine g_bipush (pc := 117) X 24 dX3_dress_117 rfl ?_
      refine g_iload_n (pc := 119) X 1 dX3_dress_119 rfl rfl ?_
      refine g_imul (pc := 120) X dX3_dress_120 ?_
      refine g_iload_n (pc := 121) X 2 dX3_dress_121 rfl rfl ?_
      refine g_iadd (pc := 122) X dX3_dress_122 ?_
      refine g_iload (pc := 123) X 4 dX3_dress_123 rfl ?_
      refine g_iadd (pc := 125) X dX3_dress_125 ?_
      refine mg_ldl (pc := 126) X (j := 0) dX3_dress_126 (by decide) rfl (fun v1 => ?_)
      refine g_l2i (pc := 127) X dX3_dress_127 ?_
      refine mg_ast (pc := 128) X (j := 0) dX3_dress_128 (by decide) rfl (fun t2 => ?_)
      refine g_iinc (pc := 129) X 1 4 (lv' := [(6, .int (x6 + 1)), (0, .ref mo), (1, .int x1), (3, .int x3), (4, .int x4)]) dX3_dress_129 rfl rfl (by decide) rfl ?_
      refine g_goto (pc := 132) X 100 dX3_dress_132 (by decide) ?_
      exact g_lv (pc := 100) (lv' := [(0, .ref mo), (1, .int x1), (3, .int x3), (4, .int x4), (6, .int (x6 + 1))]) [1, 2, 3, 4, 0] rfl (ih x1 x3 x4 (x6 + 1) t2)
def fX3_dress_89 (x1 : Int32) (x3 : Int32) (x4 : Int32) (x5 : Int32) (t : MS) : Option (Int32 × MS) := if 0 ≤ x5 then fX3_dress_100 1000 x1 x3 x4 0 t else some (x5, t)
set_option maxHeartbeats 4000000 in
theorem wX3_dress_89 {rF : Int32} (X : g_X Γ p s m args meth c cX3_dress 7 RX3) (hr : meth.sig.returnType = (Option.some Jvm.ClassFile.FieldType.int)) (x1 : Int32) (x3 : Int32) (x4 : Int32) (x5 : Int32) (t : MS) : Wf Γ p l e 2 49 s m args below meth c 7 (m_ι mo ρ sz) v_i rF tF 89 [(0, .ref mo), (1, .int x1), (3, .int x3), (4, .int x4), (5, .int x5)] [] t (fX3_dress_89 x1 x3 x4 x5 t) := by
  unfold fX3_dress_89
  refine g_iload (pc := 89) X 4 dX3_dress_89 rfl ?_
  refine g_if_ge (pc := 91) X 97 dX3_dress_91 (by decide) ?_ ?_
  · refine g_iconst (pc := 97) X 0 dX3_dress_97 rfl ?_
    refine g_istore (pc := 98) X (lv' := [(6, .int 0), (0, .ref mo), (1, .int x1), (3, .int x3), (4, .int x4), (5, .int x5)]) dX3_dress_98 (by decide) rfl ?_
    exact g_lv (pc := 100) (lv' := [(0, .ref mo), (1, .int x1), (3, .int x3), (4, .int x4), (6, .int 0)]) [1, 2, 3, 4, 0] rfl (wX3_dress_100 X hr 1000 x1 x3 x4 0 t)
  · refine g_iload (pc := 94) X 4 dX3_dress_94 rfl ?_
    exact g_iret (pc := 96) X hr dX3_dress_96
def fX3_dress_39 : Nat → Int32 → Int32 → Int32 → Int32 → Int32 → MS → Option (Int32 × MS)
  | 0, _, _, _, _, _, _ => none
  | n + 1, x1, x3, x4, x5, x6, t => if x4 ≤ x6 then fX3_dress_89 x1 x3 x4 x5 t else if x5 = 0 then mldl t 0 96 (((24 * x1) + x3) + x6) fun v1 => gm (fX3_in v1 0 12 t) fun r2 t3 => if r2 = 0 then fX3_dress_81 (fun a0 a1 a2 a3 a4 a5 => fX3_dress_39 n a0 a1 a2 a3 a4 a5) x1 x3 x4 x6 (-2) t3 else fX3_dress_81 (fun a0 a1 a2 a3 a4 a5 => fX3_dress_39 n a0 a1 a2 a3 a4 a5) x1 x3 x4 x6 0 t3 else fX3_dress_89 x1 x3 x4 x5 t
set_option maxHeartbeats 4000000 in
theorem wX3_dress_39 {rF : Int32} (X : g_X Γ p s m args meth c cX3_dress 7 RX3) (hr : meth.sig.returnType = (Option.some Jvm.ClassFile.FieldType.int)) (n : Nat) : ∀ (x1 : Int32) (x3 : Int32) (x4 : Int32) (x5 : Int32) (x6 : Int32) (t : MS), Wf Γ p l e 2 49 s m args below meth c 7 (m_ι mo ρ sz) v_i rF tF 39 [(0, .ref mo), (1, .int x1), (3, .int x3), (4, .int x4), (5, .int x5), (6, .int x6)] [] t (fX3_dress_39 n x1 x3 x4 x5 x6 t) := by
  induction n with
  | zero => intro x1 x3 x4 x5 x6 t; exact g_none
  | succ n ih =>
    intro x1 x3 x4 x5 x6 t
    rw [fX3_dress_39]
    refine g_iload (pc := 39) X 5 dX3_dress_39 rfl ?_
    refine g_iload (pc := 41) X 3 dX3_dress_41 rfl ?_
    refine g_icmp_ge (pc := 43) X 89 dX3_dress_43 (by decide) ?_ ?_
    · exact g_lv (pc := 89) (lv' := [(0, .ref mo), (1, .int x1), (3, .int x3), (4, .int x4), (5, .int x5)]) [0, 1, 2, 3, 4] rfl (wX3_dress_89 X hr x1 x3 x4 x5 t)
    · refine g_iload (pc := 46) X 4 dX3_dress_46 rfl ?_
      refine g_if_ne (pc := 48) X 89 dX3_dress_48 (by decide) ?_ ?_
      · exact g_lv (pc := 89) (lv' := [(0, .ref mo), (1, .int x1), (3, .int x3), (4, .int x4), (5, .int x5)]) [0, 1, 2, 3, 4] rfl (wX3_dress_89 X hr x1 x3 x4 x5 t)
      · refine g_aload_n (pc := 51) X 0 dX3_dress_51 rfl rfl ?_
        refine mg_get (pc := 52) X fo_X3_65 dX3_dress_52 rfl ?_
        refine g_bipush (pc := 55) X 24 dX3_dress_55 rfl ?_
        refine g_iload_n (pc := 57) X 1 dX3_dress_57 rfl rfl ?_
        refine g_imul (pc := 58) X dX3_dress_58 ?_
        refine g_iload_n (pc := 59) X 2 dX3_dress_59 rfl rfl ?_
        refine g_iadd (pc := 60) X dX3_dress_60 ?_
        refine g_iload (pc := 61) X 5 dX3_dress_61 rfl ?_
        refine g_iadd (pc := 63) X dX3_dress_63 ?_
        refine mg_ldl (pc := 64) X (j := 0) dX3_dress_64 (by decide) rfl (fun v1 => ?_)
        refine g_lconst (pc := 65) X 0 dX3_dress_65 rfl ?_
        refine g_ldc2 (pc := 66) X 12 dX3_dress_66 q1818 ?_
        refine g_mS_i (pc := 69) X (y := yX3_in) (As := [.long v1, .long 0, .long 12]) (rest := []) (fr' := 0) (lo' := 0) (fun _ => va_cwS 3 X.2.2.2.2.1 (lw_S q1767 q1768 q76 q1769) rfl rfl rfl dmS_X3_in ⟨Nat.le_of_ble_eq_true rfl, Nat.le_of_ble_eq_true rfl⟩) dX3_dress_69 rfl rfl (Nat.le_of_ble_eq_true rfl) (fun _ => rfl) (fun r u h => kX3_in h) (fun r2 t3 => ?_)
        refine g_if_eq (pc := 72) X 79 dX3_dress_72 (by decide) ?_ ?_
        · refine g_bipush (pc := 79) X (-2) dX3_dress_79 rfl ?_
          exact g_lv (pc := 81) (lv' := [(0, .ref mo), (1, .int x1), (3, .int x3), (4, .int x4), (6, .int x6)]) [0, 1, 2, 3, 5] rfl (wX3_dress_81 X hr (fun a0 a1 a2 a3 a4 a5 => ih a0 a1 a2 a3 a4 a5) x1 x3 x4 x6 (-2) t3)
        · refine g_iconst (pc := 75) X 0 dX3_dress_75 rfl ?_
          refine g_goto (pc := 76) X 81 dX3_dress_76 (by decide) ?_
          exact g_lv (pc := 81) (lv' := [(0, .ref mo), (1, .int x1), (3, .int x3), (4, .int x4), (6, .int x6)]) [0, 1, 2, 3, 5] rfl (wX3_dress_81 X hr (fun a0 a1 a2 a3 a4 a5 => ih a0 a1 a2 a3 a4 a5) x1 x3 x4 x6 0 t3)
def fX3_dress (x1 : Int32) (x2 : Int32) (x3 : Int32) (x4 : Int32) (t : MS) : Option (Int32 × MS) := gm (fX3_isSheet x1 x2 t) fun r1 t2 => if r1 = 0 then some ((-1), t2) else gm (fX3_in x4.toInt64 1 ((t2.1 4).toInt64) t2) fun r3 t4 => if r3 = 0 then some ((-1), t4) else gm (fX3_lacksRow x1 x2 x3 x4 t4) fun r5 t6 => fX3_dress_39 1000 x1 x3 x4 r5 0 t6
set_option maxHeartbeats 4000000 in
theorem wX3_dress {rF : Int32} (X : g_X Γ p s m args meth c cX3_dress 7 RX3) (hr : meth.sig.returnType = (Option.some Jvm.ClassFile.FieldType.int)) (x1 : Int32) (x2 : Int32) (x3 : Int32) (x4 : Int32) (t : MS) : Wf Γ p l e 2 49 s m args below meth c 7 (m_ι mo ρ sz) v_i rF tF 0 [(0, .ref mo), (1, .int x1), (2, .int x2), (3, .int x3), (4, .int x4)] [] t (fX3_dress x1 x2 x3 x4 t) := by
  unfold fX3_dress
  refine g_iload_n (pc := 0) X 1 dX3_dress_0 rfl rfl ?_
  refine g_iload_n (pc := 1) X 2 dX3_dress_1 rfl rfl ?_
  refine g_mS_i (pc := 2) X (y := yX3_isSheet) (As := [.int x1, .int x2]) (rest := []) (fr' := 1) (lo' := 25) (fun _ => va_cwS 2 X.2.2.2.2.1 (lw_S q2130 q2131 q76 q2132) rfl rfl rfl dmS_X3_isSheet ⟨Nat.le_of_ble_eq_true rfl, Nat.le_of_ble_eq_true rfl⟩) dX3_dress_2 rfl rfl (Nat.le_of_ble_eq_true rfl) (fun _ => rfl) (fun r u h => kX3_isSheet h) (fun r1 t2 => ?_)
  refine g_if_eq (pc := 5) X 23 dX3_dress_5 (by decide) ?_ ?_
  · refine g_iconst (pc := 23) X (-1) dX3_dress_23 rfl ?_
    exact g_iret (pc := 24) X hr dX3_dress_24
  · refine g_iload (pc := 8) X 4 dX3_dress_8 rfl ?_
    refine g_i2l (pc := 10) X dX3_dress_10 ?_
    refine g_lconst (pc := 11) X 1 dX3_dress_11 rfl ?_
    refine g_aload_n (pc := 12) X 0 dX3_dress_12 rfl rfl ?_
    refine mg_get (pc := 13) X fo_X3_19 dX3_dress_13 rfl ?_
    refine g_i2l (pc := 16) X dX3_dress_16 ?_
    refine g_mS_i (pc := 17) X (y := yX3_in) (As := [.long x4.toInt64, .long 1, .long ((t2.1 4).toInt64)]) (rest := []) (fr' := 0) (lo' := 0) (fun _ => va_cwS 3 X.2.2.2.2.1 (lw_S q1767 q1768 q76 q1769) rfl rfl rfl dmS_X3_in ⟨Nat.le_of_ble_eq_true rfl, Nat.le_of_ble_eq_true rfl⟩) dX3_dress_17 rfl rfl (Nat.le_of_ble_eq_true rfl) (fun _ => rfl) (fun r u h => kX3_in h) (fun r3 t4 => ?_)
    refine g_if_ne (pc := 20) X 25 dX3_dress_20 (by decide) ?_ ?_
    · refine g_aload_n (pc := 25) X 0 dX3_dress_25 rfl rfl ?_
      refine g_iload_n (pc := 26) X 1 dX3_dress_26 rfl rfl ?_
      refine g_iload_n (pc := 27) X 2 dX3_dress_27 rfl rfl ?_
      refine g_iload_n (pc := 28) X 3 dX3_dress_28 rfl rfl ?_
      refine g_iload (pc := 29) X 4 dX3_dress_29 rfl ?_
      refine g_mV_i (pc := 31) X (C := RX3) (y := yX3_lacksRow) (As := [.int x1, .int x2, .int x3, .int x4]) (rest := []) (fr' := 1) (lo' := 25) (fun _ => cwV 4 X.2.2.2.2.1 (lw_V q2142 q2144 qs67 q76 q2145) rfl rfl rfl dmV_X3_lacksRow ⟨Nat.le_of_ble_eq_true rfl, Nat.le_of_ble_eq_true rfl⟩) dX3_dress_31 MC_o ⟨_, _, rfl⟩ rfl rfl (Nat.le_of_ble_eq_true rfl) (fun _ => rfl) (fun r u h => kX3_lacksRow h) (fun r5 t6 => ?_)
      refine g_istore (pc := 34) X (lv' := [(5, .int r5), (0, .ref mo), (1, .int x1), (2, .int x2), (3, .int x3), (4, .int x4)]) dX3_dress_34 (by decide) rfl ?_
      refine g_iconst (pc := 36) X 0 dX3_dress_36 rfl ?_
      refine g_istore (pc := 37) X (lv' := [(6, .int 0), (5, .int r5), (0, .ref mo), (1, .int x1), (2, .int x2), (3, .int x3), (4, .int x4)]) dX3_dress_37 (by decide) rfl ?_
      exact g_lv (pc := 39) (lv' := [(0, .ref mo), (1, .int x1), (3, .int x3), (4, .int x4), (5, .int r5), (6, .int 0)]) [2, 3, 5, 6, 1, 0] rfl (wX3_dress_39 X hr 1000 x1 x3 x4 r5 0 t6)
    · refine g_iconst (pc := 23) X (-1) dX3_dress_23 rfl ?_
      exact g_iret (pc := 24) X hr dX3_dress_24
theorem kX3_dress {mo : Nat} {ρ : Sg} {sz : Nat} {x1 : Int32} {x2 : Int32} {x3 : Int32} {x4 : Int32} {t : MS} {r : Int32} {u : MS} (h : fX3_dress x1 x2 x3 x4 t = some (r, u)) : g_C Γ l yX3_dress cX3_dress 7 (Option.some Jvm.ClassFile.FieldType.int) 2 49 [.ref mo, .int x1, .int x2, .int x3, .int x4] (MC mo t ρ) sz v_i r (m_ι mo ρ sz u) :=
  g_met [.ref mo, .int x1, .int x2, .int x3, .int x4] (by decide) (Nat.le_of_ble_eq_true rfl) h rfl (fun p e s m args below meth c X hr hn => wX3_dress X hr x1 x2 x3 x4 t)
def fX3_film_34 : Nat → Int32 → Int32 → Int32 → MS → Option (Int32 × MS)
  | 0, _, _, _, _ => none
  | n + 1, x1, x3, x5, t => if t.1 3 ≤ x5 then some (t.1 3, t) else mald t 0 63 (42 + x5) fun v1 => mstl t 0 96 (((24 * x1) + x3) + x5) v1.toInt64 fun t2 => fX3_film_34 n x1 x3 (x5 + 1) t2
set_option maxHeartbeats 4000000 in
theorem wX3_film_34 {rF : Int32} (X : g_X Γ p s m args meth c cX3_film 6 RX3) (hr : meth.sig.returnType = (Option.some Jvm.ClassFile.FieldType.int)) (n : Nat) : ∀ (x1 : Int32) (x3 : Int32) (x5 : Int32) (t : MS), Wf Γ p l e 2 49 s m args below meth c 6 (m_ι mo ρ sz) v_i rF tF 34 [(0, .ref mo), (1, .int x1), (3, .int x3), (5, .int x5)] [] t (fX3_film_34 n x1 x3 x5 t) := by
  induction n with
  | zero => intro x1 x3 x5 t; exact g_none
  | succ n ih =>
    intro x1 x3 x5 t
    rw [fX3_film_34]
    refine g_iload (pc := 34) X 3 dX3_film_34 rfl ?_
    refine g_aload_n (pc := 36) X 0 dX3_film_36 rfl rfl ?_
    refine mg_get (pc := 37) X fo_X3_72 dX3_film_37 rfl ?_
    refine g_icmp_ge (pc := 40) X 74 dX3_film_40 (by decide) ?_ ?_
    · refine g_aload_n (pc := 74) X 0 dX3_film_74 rfl rfl ?_
      refine mg_get (pc := 75) X fo_X3_72 dX3_film_75 rfl ?_
      exact g_iret (pc := 78) X hr dX3_film_78
    · refine g_aload_n (pc := 43) X 0 dX3_film_43 rfl rfl ?_
      refine mg_get (pc := 44) X fo_X3_65 dX3_film_44 rfl ?_
      refine g_bipush (pc := 47) X 24 dX3_film_47 rfl ?_
      refine g_iload_n (pc := 49) X 1 dX3_film_49 rfl rfl ?_
      refine g_imul (pc := 50) X dX3_film_50 ?_
      refine g_iload_n (pc := 51) X 2 dX3_film_51 rfl rfl ?_
      refine g_iadd (pc := 52) X dX3_film_52 ?_
      refine g_iload (pc := 53) X 3 dX3_film_53 rfl ?_
      refine g_iadd (pc := 55) X dX3_film_55 ?_
      refine g_aload_n (pc := 56) X 0 dX3_film_56 rfl rfl ?_
      refine mg_get (pc := 57) X fo_X3_7 dX3_film_57 rfl ?_
      refine g_bipush (pc := 60) X 42 dX3_film_60 rfl ?_
      refine g_iload (pc := 62) X 3 dX3_film_62 rfl ?_
      refine g_iadd (pc := 64) X dX3_film_64 ?_
      refine mg_ald (pc := 65) X (j := 0) dX3_film_65 (by decide) rfl (fun v1 => ?_)
      refine g_i2l (pc := 66) X dX3_film_66 ?_
      refine mg_stl (pc := 67) X (j := 0) dX3_film_67 (by decide) rfl (fun t2 => ?_)
      refine g_iinc (pc := 68) X 1 3 (lv' := [(5, .int (x5 + 1)), (0, .ref mo), (1, .int x1), (3, .int x3)]) dX3_film_68 rfl rfl (by decide) rfl ?_
      refine g_goto (pc := 71) X 34 dX3_film_71 (by decide) ?_
      exact g_lv (pc := 34) (lv' := [(0, .ref mo), (1, .int x1), (3, .int x3), (5, .int (x5 + 1))]) [1, 2, 3, 0] rfl (ih x1 x3 (x5 + 1) t2)
def fX3_film (x1 : Int32) (x2 : Int32) (x3 : Int32) (t : MS) : Option (Int32 × MS) := gm (fX3_isSheet x1 x2 t) fun r1 t2 => if r1 = 0 then some ((-1), t2) else gm (fX3_lacksRow x1 x2 x3 (t2.1 3) t2) fun r3 t4 => if 0 ≤ r3 then fX3_film_34 1000 x1 x3 0 t4 else some (r3, t4)
set_option maxHeartbeats 4000000 in
theorem wX3_film {rF : Int32} (X : g_X Γ p s m args meth c cX3_film 6 RX3) (hr : meth.sig.returnType = (Option.some Jvm.ClassFile.FieldType.int)) (x1 : Int32) (x2 : Int32) (x3 : Int32) (t : MS) : Wf Γ p l e 2 49 s m args below meth c 6 (m_ι mo ρ sz) v_i rF tF 0 [(0, .ref mo), (1, .int x1), (2, .int x2), (3, .int x3)] [] t (fX3_film x1 x2 x3 t) := by
  unfold fX3_film
  refine g_iload_n (pc := 0) X 1 dX3_film_0 rfl rfl ?_
  refine g_iload_n (pc := 1) X 2 dX3_film_1 rfl rfl ?_
  refine g_mS_i (pc := 2) X (y := yX3_isSheet) (As := [.int x1, .int x2]) (rest := []) (fr' := 1) (lo' := 25) (fun _ => va_cwS 2 X.2.2.2.2.1 (lw_S q2130 q2131 q76 q2132) rfl rfl rfl dmS_X3_isSheet ⟨Nat.le_of_ble_eq_true rfl, Nat.le_of_ble_eq_true rfl⟩) dX3_film_2 rfl rfl (Nat.le_of_ble_eq_true rfl) (fun _ => rfl) (fun r u h => kX3_isSheet h) (fun r1 t2 => ?_)
  refine g_if_ne (pc := 5) X 10 dX3_film_5 (by decide) ?_ ?_
  · refine g_aload_n (pc := 10) X 0 dX3_film_10 rfl rfl ?_
    refine g_iload_n (pc := 11) X 1 dX3_film_11 rfl rfl ?_
    refine g_iload_n (pc := 12) X 2 dX3_film_12 rfl rfl ?_
    refine g_iload_n (pc := 13) X 3 dX3_film_13 rfl rfl ?_
    refine g_aload_n (pc := 14) X 0 dX3_film_14 rfl rfl ?_
    refine mg_get (pc := 15) X fo_X3_72 dX3_film_15 rfl ?_
    refine g_mV_i (pc := 18) X (C := RX3) (y := yX3_lacksRow) (As := [.int x1, .int x2, .int x3, .int (t2.1 3)]) (rest := []) (fr' := 1) (lo' := 25) (fun _ => cwV 4 X.2.2.2.2.1 (lw_V q2142 q2144 qs67 q76 q2145) rfl rfl rfl dmV_X3_lacksRow ⟨Nat.le_of_ble_eq_true rfl, Nat.le_of_ble_eq_true rfl⟩) dX3_film_18 MC_o ⟨_, _, rfl⟩ rfl rfl (Nat.le_of_ble_eq_true rfl) (fun _ => rfl) (fun r u h => kX3_lacksRow h) (fun r3 t4 => ?_)
    refine g_istore (pc := 21) X (lv' := [(4, .int r3), (0, .ref mo), (1, .int x1), (2, .int x2), (3, .int x3)]) dX3_film_21 (by decide) rfl ?_
    refine g_iload (pc := 23) X 0 dX3_film_23 rfl ?_
    refine g_if_ge (pc := 25) X 31 dX3_film_25 (by decide) ?_ ?_
    · refine g_iconst (pc := 31) X 0 dX3_film_31 rfl ?_
      refine g_istore (pc := 32) X (lv' := [(5, .int 0), (4, .int r3), (0, .ref mo), (1, .int x1), (2, .int x2), (3, .int x3)]) dX3_film_32 (by decide) rfl ?_
      exact g_lv (pc := 34) (lv' := [(0, .ref mo), (1, .int x1), (3, .int x3), (5, .int 0)]) [2, 3, 5, 0] rfl (wX3_film_34 X hr 1000 x1 x3 0 t4)
    · refine g_iload (pc := 28) X 0 dX3_film_28 rfl ?_
      exact g_iret (pc := 30) X hr dX3_film_30
  · refine g_iconst (pc := 8) X (-1) dX3_film_8 rfl ?_
    exact g_iret (pc := 9) X hr dX3_film_9
theorem kX3_film {mo : Nat} {ρ : Sg} {sz : Nat} {x1 : Int32} {x2 : Int32} {x3 : Int32} {t : MS} {r : Int32} {u : MS} (h : fX3_film x1 x2 x3 t = some (r, u)) : g_C Γ l yX3_film cX3_film 6 (Option.some Jvm.ClassFile.FieldType.int) 2 49 [.ref mo, .int x1, .int x2, .int x3] (MC mo t ρ) sz v_i r (m_ι mo ρ sz u) :=
  g_met [.ref mo, .int x1, .int x2, .int x3] (by decide) (Nat.le_of_ble_eq_true rfl) h rfl (fun p e s m args below meth c X hr hn => wX3_film X hr x1 x2 x3 t)
def fX3_areSo_43 (kc4 : Int32 → Int32 → Int32 → MS → Option (Int32 × MS)) (x1 : Int32) (x3 : Int32) (s0 : Int32) (t : MS) : Option (Int32 × MS) := kc4 x1 s0 (x3 + 1) t
set_option maxHeartbeats 4000000 in
theorem wX3_areSo_43 {rF : Int32} (X : g_X Γ p s m args meth c cX3_areSo 4 RX3) (hr : meth.sig.returnType = (Option.some Jvm.ClassFile.FieldType.boolean)) {kc4 : Int32 → Int32 → Int32 → MS → Option (Int32 × MS)} (hk4 : ∀ (x1 : Int32) (x2 : Int32) (x3 : Int32) (t : MS), Wf Γ p l e 0 0 s m args below meth c 4 (m_ι mo ρ sz) v_i rF tF 4 [(0, .ref mo), (1, .int x1), (2, .int x2), (3, .int x3)] [] t (kc4 x1 x2 x3 t)) (x1 : Int32) (x3 : Int32) (s0 : Int32) (t : MS) : Wf Γ p l e 0 0 s m args below meth c 4 (m_ι mo ρ sz) v_i rF tF 43 [(0, .ref mo), (1, .int x1), (3, .int x3)] [.int s0] t (fX3_areSo_43 kc4 x1 x3 s0 t) := by
  unfold fX3_areSo_43
  refine g_istore_n (pc := 43) X (lv' := [(2, .int s0), (0, .ref mo), (1, .int x1), (3, .int x3)]) dX3_areSo_43 rfl (by decide) rfl ?_
  refine g_iinc (pc := 44) X 1 3 (lv' := [(3, .int (x3 + 1)), (2, .int s0), (0, .ref mo), (1, .int x1)]) dX3_areSo_44 rfl rfl (by decide) rfl ?_
  refine g_goto (pc := 47) X 4 dX3_areSo_47 (by decide) ?_
  exact g_lv (pc := 4) (lv' := [(0, .ref mo), (1, .int x1), (2, .int s0), (3, .int (x3 + 1))]) [2, 3, 1, 0] rfl (hk4 x1 s0 (x3 + 1) t)
def fX3_areSo_42 (kc4 : Int32 → Int32 → Int32 → MS → Option (Int32 × MS)) (x1 : Int32) (x3 : Int32) (t : MS) : Option (Int32 × MS) := fX3_areSo_43 kc4 x1 x3 0 t
set_option maxHeartbeats 4000000 in
theorem wX3_areSo_42 {rF : Int32} (X : g_X Γ p s m args meth c cX3_areSo 4 RX3) (hr : meth.sig.returnType = (Option.some Jvm.ClassFile.FieldType.boolean)) {kc4 : Int32 → Int32 → Int32 → MS → Option (Int32 × MS)} (hk4 : ∀ (x1 : Int32) (x2 : Int32) (x3 : Int32) (t : MS), Wf Γ p l e 0 0 s m args below meth c 4 (m_ι mo ρ sz) v_i rF tF 4 [(0, .ref mo), (1, .int x1), (2, .int x2), (3, .int x3)] [] t (kc4 x1 x2 x3 t)) (x1 : Int32) (x3 : Int32) (t : MS) : Wf Γ p l e 0 0 s m args below meth c 4 (m_ι mo ρ sz) v_i rF tF 42 [(0, .ref mo), (1, .int x1), (3, .int x3)] [] t (fX3_areSo_42 kc4 x1 x3 t) := by
  unfold fX3_areSo_42
  refine g_iconst (pc := 42) X 0 dX3_areSo_42 rfl ?_
  exact g_lv (pc := 43) (lv' := [(0, .ref mo), (1, .int x1), (3, .int x3)]) [0, 1, 2] rfl (wX3_areSo_43 X hr hk4 x1 x3 0 t)
def fX3_areSo_4 : Nat → Int32 → Int32 → Int32 → MS → Option (Int32 × MS)
  | 0, _, _, _, _ => none
  | n + 1, x1, x2, x3, t => if t.1 3 ≤ x3 then if x2 = 0 ∨ x2 = 1 then some (x2, t) else none else if x2 = 0 then fX3_areSo_42 (fun a0 a1 a2 a3 => fX3_areSo_4 n a0 a1 a2 a3) x1 x3 t else mldl t 0 96 (x1 + x3) fun v1 => mald t 0 63 (42 + x3) fun v2 => if (if v2.toInt64 < v1 then 1 else if v1 = v2.toInt64 then 0 else -1 : Int32) = 0 then fX3_areSo_43 (fun a0 a1 a2 a3 => fX3_areSo_4 n a0 a1 a2 a3) x1 x3 1 t else fX3_areSo_42 (fun a0 a1 a2 a3 => fX3_areSo_4 n a0 a1 a2 a3) x1 x3 t
set_option maxHeartbeats 4000000 in
theorem wX3_areSo_4 {rF : Int32} (X : g_X Γ p s m args meth c cX3_areSo 4 RX3) (hr : meth.sig.returnType = (Option.some Jvm.ClassFile.FieldType.boolean)) (n : Nat) : ∀ (x1 : Int32) (x2 : Int32) (x3 : Int32) (t : MS), Wf Γ p l e 0 0 s m args below meth c 4 (m_ι mo ρ sz) v_i rF tF 4 [(0, .ref mo), (1, .int x1), (2, .int x2), (3, .int x3)] [] t (fX3_areSo_4 n x1 x2 x3 t) := by
  induction n with
  | zero => intro x1 x2 x3 t; exact g_none
  | succ n ih =>
    intro x1 x2 x3 t
    rw [fX3_areSo_4]
    refine g_iload_n (pc := 4) X 3 dX3_areSo_4 rfl rfl ?_
    refine g_aload_n (pc := 5) X 0 dX3_areSo_5 rfl rfl ?_
    refine mg_get (pc := 6) X fo_X3_72 dX3_areSo_6 rfl ?_
    refine g_icmp_ge (pc := 9) X 50 dX3_areSo_9 (by decide) ?_ ?_
    · refine g_iload_n (pc := 50) X 2 dX3_areSo_50 rfl rfl ?_
      exact g_bret (pc := 51) X hr dX3_areSo_51
    · refine g_iload_n (pc := 12) X 2 dX3_areSo_12 rfl rfl ?_
      refine g_if_eq (pc := 13) X 42 dX3_areSo_13 (by decide) ?_ ?_
      · exact g_lv (pc := 42) (lv' := [(0, .ref mo), (1, .int x1), (3, .int x3)]) [0, 1, 3] rfl (wX3_areSo_42 X hr (fun a0 a1 a2 a3 => ih a0 a1 a2 a3) x1 x3 t)
      · refine g_aload_n (pc := 16) X 0 dX3_areSo_16 rfl rfl ?_
        refine mg_get (pc := 17) X fo_X3_65 dX3_areSo_17 rfl ?_
        refine g_iload_n (pc := 20) X 1 dX3_areSo_20 rfl rfl ?_
        refine g_iload_n (pc := 21) X 3 dX3_areSo_21 rfl rfl ?_
        refine g_iadd (pc := 22) X dX3_areSo_22 ?_
        refine mg_ldl (pc := 23) X (j := 0) dX3_areSo_23 (by decide) rfl (fun v1 => ?_)
        refine g_aload_n (pc := 24) X 0 dX3_areSo_24 rfl rfl ?_
        refine mg_get (pc := 25) X fo_X3_7 dX3_areSo_25 rfl ?_
        refine g_bipush (pc := 28) X 42 dX3_areSo_28 rfl ?_
        refine g_iload_n (pc := 30) X 3 dX3_areSo_30 rfl rfl ?_
        refine g_iadd (pc := 31) X dX3_areSo_31 ?_
        refine mg_ald (pc := 32) X (j := 0) dX3_areSo_32 (by decide) rfl (fun v2 => ?_)
        refine g_i2l (pc := 33) X dX3_areSo_33 ?_
        refine g_lcmp (pc := 34) X dX3_areSo_34 ?_
        refine g_if_ne (pc := 35) X 42 dX3_areSo_35 (by decide) ?_ ?_
        · exact g_lv (pc := 42) (lv' := [(0, .ref mo), (1, .int x1), (3, .int x3)]) [0, 1, 3] rfl (wX3_areSo_42 X hr (fun a0 a1 a2 a3 => ih a0 a1 a2 a3) x1 x3 t)
        · refine g_iconst (pc := 38) X 1 dX3_areSo_38 rfl ?_
          refine g_goto (pc := 39) X 43 dX3_areSo_39 (by decide) ?_
          exact g_lv (pc := 43) (lv' := [(0, .ref mo), (1, .int x1), (3, .int x3)]) [0, 1, 3] rfl (wX3_areSo_43 X hr (fun a0 a1 a2 a3 => ih a0 a1 a2 a3) x1 x3 1 t)
def fX3_areSo (x1 : Int32) (t : MS) : Option (Int32 × MS) := fX3_areSo_4 1000 x1 1 0 t
set_option maxHeartbeats 4000000 in
theorem wX3_areSo {rF : Int32} (X : g_X Γ p s m args meth c cX3_areSo 4 RX3) (hr : meth.sig.returnType = (Option.some Jvm.ClassFile.FieldType.boolean)) (x1 : Int32) (t : MS) : Wf Γ p l e 0 0 s m args below meth c 4 (m_ι mo ρ sz) v_i rF tF 0 [(0, .ref mo), (1, .int x1)] [] t (fX3_areSo x1 t) := by
  unfold fX3_areSo
  refine g_iconst (pc := 0) X 1 dX3_areSo_0 rfl ?_
  refine g_istore_n (pc := 1) X (lv' := [(2, .int 1), (0, .ref mo), (1, .int x1)]) dX3_areSo_1 rfl (by decide) rfl ?_
  refine g_iconst (pc := 2) X 0 dX3_areSo_2 rfl ?_
  refine g_istore_n (pc := 3) X (lv' := [(3, .int 0), (2, .int 1), (0, .ref mo), (1, .int x1)]) dX3_areSo_3 rfl (by decide) rfl ?_
  exact g_lv (pc := 4) (lv' := [(0, .ref mo), (1, .int x1), (2, .int 1), (3, .int 0)]) [2, 3, 1, 0] rfl (wX3_areSo_4 X hr 1000 x1 1 0 t)
theorem kX3_areSo {mo : Nat} {ρ : Sg} {sz : Nat} {x1 : Int32} {t : MS} {r : Int32} {u : MS} (h : fX3_areSo x1 t = some (r, u)) : g_C Γ l yX3_areSo cX3_areSo 4 (Option.some Jvm.ClassFile.FieldType.boolean) 0 0 [.ref mo, .int x1] (MC mo t ρ) sz v_i r (m_ι mo ρ sz u) :=
  g_met [.ref mo, .int x1] (by decide) (Nat.le_of_ble_eq_true rfl) h rfl (fun p e s m args below meth c X hr hn => wX3_areSo X hr x1 t)
end MP
