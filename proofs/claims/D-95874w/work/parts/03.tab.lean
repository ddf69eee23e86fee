/-! the tables of the classes: names, fields, words (out of claim/names) -/
set_option maxRecDepth 100000
def RX0 : String := "LameClocks"
def TX0 : u_T := fun k => match k with
  | 0 => ("LameClocks", "race", "LLameClocks$Race;", true)
  | 1 => ("LameClocks", "tried", "LLameClocks$Race;", true)
  | 2 => ("LameClocks", "undos", "Ljava/util/ArrayList;", true)
  | 3 => ("LameClocks", "duels", "[[I", true)
  | 4 => ("LameClocks", "bets", "Ljava/util/ArrayList;", true)
  | 5 => ("LameClocks", "draw", "I", false)
  | 6 => ("LameClocks", "tape", "[B", true)
  | 7 => ("LameClocks", "typed", "I", false)
  | 8 => ("LameClocks", "at", "I", false)
  | 9 => ("LameClocks", "signs", "[B", true)
  | 10 => ("LameClocks", "read", "Ljava/util/ArrayList;", true)
  | 11 => ("LameClocks", "acts", "Ljava/util/ArrayList;", true)
  | 12 => ("LameClocks", "isImage", "Z", false)
  | 13 => ("LameClocks", "image", "LLameClocks$Race;", true)
  | 14 => ("LameClocks", "imageBets", "Ljava/util/ArrayList;", true)
  | 15 => ("LameClocks", "imageUndos", "Ljava/util/ArrayList;", true)
  | 16 => ("LameClocks", "imageDraw", "I", false)
  | 17 => ("LameClocks", "sheets", "[LLameClocks$Held;", true)
  | _ => ("LameClocks", "taken", "[J", true)
def tyX0 : Nat → FieldType := fun k => match k with
  | 0 => .object "LameClocks$Race"
  | 1 => .object "LameClocks$Race"
  | 2 => .object "java/util/ArrayList"
  | 3 => .array (.array .int)
  | 4 => .object "java/util/ArrayList"
  | 5 => .int
  | 6 => .array .byte
  | 7 => .int
  | 8 => .int
  | 9 => .array .byte
  | 10 => .object "java/util/ArrayList"
  | 11 => .object "java/util/ArrayList"
  | 12 => .boolean
  | 13 => .object "LameClocks$Race"
  | 14 => .object "java/util/ArrayList"
  | 15 => .object "java/util/ArrayList"
  | 16 => .int
  | 17 => .array (.object "LameClocks$Held")
  | _ => .array .long
abbrev wsX00 : List Cond := u_ws RX0 TX0 19
theorem nmX0 : ∀ a, a < 19 → ∀ b, b < 19 → a ≠ b → (TX0 a).2.1 ≠ (TX0 b).2.1 := by decide +kernel
theorem tyX0_ok : ∀ k, k < 19 → parseFieldDescriptor (TX0 k).2.2.1 = some (tyX0 k) := by decide +kernel
theorem in_X0 : ∀ w ∈ wsX00, w ∈ lw_all := lw_in wsX00 [1635, 1637, 1639, 1641, 1643, 1645, 1647, 1649, 1651, 1653, 1655, 1657, 1659, 1661, 1663, 1665, 1667, 1669, 1671] (by decide +kernel) (by decide +kernel)
def RX1 : String := "LameClocks$Race"
def TX1 : u_T := fun k => match k with
  | 0 => ("LameClocks$Race", "windows", "I", false)
  | 1 => ("LameClocks$Race", "dials", "[B", true)
  | 2 => ("LameClocks$Race", "all", "Ljava/util/ArrayList;", true)
  | 3 => ("LameClocks$Race", "hour", "I", false)
  | 4 => ("LameClocks$Race", "skies", "[B", true)
  | 5 => ("LameClocks$Race", "many", "I", false)
  | 6 => ("LameClocks$Race", "always", "I", false)
  | 7 => ("LameClocks$Race", "heard", "I", false)
  | _ => ("LameClocks$Race", "strokes", "I", false)
def tyX1 : Nat → FieldType := fun k => match k with
  | 0 => .int
  | 1 => .array .byte
  | 2 => .object "java/util/ArrayList"
  | 3 => .int
  | 4 => .array .byte
  | 5 => .int
  | 6 => .int
  | 7 => .int
  | _ => .int
abbrev wsX10 : List Cond := u_ws RX1 TX1 9
theorem nmX1 : ∀ a, a < 9 → ∀ b, b < 9 → a ≠ b → (TX1 a).2.1 ≠ (TX1 b).2.1 := by decide +kernel
theorem tyX1_ok : ∀ k, k < 9 → parseFieldDescriptor (TX1 k).2.2.1 = some (tyX1 k) := by decide +kernel
theorem in_X1 : ∀ w ∈ wsX10, w ∈ lw_all := lw_in wsX10 [1578, 1580, 1582, 1584, 1586, 1588, 1590, 1592, 1594] (by decide +kernel) (by decide +kernel)
def RX2 : String := "LameClocks$Held"
def TX2 : u_T := fun k => match k with
  | _ => ("LameClocks$Held", "row", "Ljava/lang/Object;", false)
def tyX2 : Nat → FieldType := fun k => match k with
  | _ => .object "java/lang/Object"
abbrev wsX20 : List Cond := u_ws RX2 TX2 1
theorem nmX2 : ∀ a, a < 1 → ∀ b, b < 1 → a ≠ b → (TX2 a).2.1 ≠ (TX2 b).2.1 := by decide +kernel
theorem tyX2_ok : ∀ k, k < 1 → parseFieldDescriptor (TX2 k).2.2.1 = some (tyX2 k) := by decide +kernel
theorem in_X2 : ∀ w ∈ wsX20, w ∈ lw_all := lw_in wsX20 [1608] (by decide +kernel) (by decide +kernel)
def RX3 : String := "LameClocksModel"
def TX3 : u_T := fun k => match k with
  | 0 => ("LameClocksModel", "st", "[I", true)
  | 1 => ("LameClocksModel", "kinds", "[I", true)
  | 2 => ("LameClocksModel", "rates", "[I", true)
  | 3 => ("LameClocksModel", "clocks", "I", false)
  | 4 => ("LameClocksModel", "windows", "I", false)
  | 5 => ("LameClocksModel", "skyRow", "[I", true)
  | 6 => ("LameClocksModel", "skyMany", "I", false)
  | 7 => ("LameClocksModel", "sky", "I", false)
  | 8 => ("LameClocksModel", "betOn", "[I", true)
  | 9 => ("LameClocksModel", "stakes", "[I", true)
  | 10 => ("LameClocksModel", "bets", "I", false)
  | 11 => ("LameClocksModel", "undos", "[I", true)
  | 12 => ("LameClocksModel", "undoMany", "I", false)
  | 13 => ("LameClocksModel", "drawn", "I", false)
  | 14 => ("LameClocksModel", "tape", "[I", true)
  | 15 => ("LameClocksModel", "taped", "I", false)
  | 16 => ("LameClocksModel", "place", "I", false)
  | 17 => ("LameClocksModel", "reads", "I", false)
  | 18 => ("LameClocksModel", "read", "[I", true)
  | 19 => ("LameClocksModel", "aside", "[I", true)
  | 20 => ("LameClocksModel", "duels", "[I", true)
  | 21 => ("LameClocksModel", "isKept", "Z", false)
  | 22 => ("LameClocksModel", "kept", "[I", true)
  | 23 => ("LameClocksModel", "lanes", "[I", true)
  | 24 => ("LameClocksModel", "rowSizes", "[I", true)
  | 25 => ("LameClocksModel", "items", "[J", true)
  | _ => ("LameClocksModel", "moved", "[J", true)
def tyX3 : Nat → FieldType := fun k => match k with
  | 0 => .array .int
  | 1 => .array .int
  | 2 => .array .int
  | 3 => .int
  | 4 => .int
  | 5 => .array .int
  | 6 => .int
  | 7 => .int
  | 8 => .array .int
  | 9 => .array .int
  | 10 => .int
  | 11 => .array .int
  | 12 => .int
  | 13 => .int
  | 14 => .array .int
  | 15 => .int
  | 16 => .int
  | 17 => .int
  | 18 => .array .int
  | 19 => .array .int
  | 20 => .array .int
  | 21 => .boolean
  | 22 => .array .int
  | 23 => .array .int
  | 24 => .array .int
  | 25 => .array .long
  | _ => .array .long
abbrev wsX30 : List Cond := u_ws RX3 TX3 27
theorem nmX3 : ∀ a, a < 27 → ∀ b, b < 27 → a ≠ b → (TX3 a).2.1 ≠ (TX3 b).2.1 := by decide +kernel
theorem tyX3_ok : ∀ k, k < 27 → parseFieldDescriptor (TX3 k).2.2.1 = some (tyX3 k) := by decide +kernel
theorem in_X3 : ∀ w ∈ wsX30, w ∈ lw_all := lw_in wsX30 [1707, 1709, 1711, 1713, 1715, 1717, 1719, 1721, 1723, 1725, 1727, 1729, 1731, 1733, 1735, 1737, 1739, 1741, 1743, 1745, 1747, 1749, 1751, 1753, 1755, 1757, 1759] (by decide +kernel) (by decide +kernel)
def RX4 : String := "LameClocks$Plain"
def TX4 : u_T := fun k => match k with
  | 0 => ("LameClocks$Plain", "number", "I", false)
  | 1 => ("LameClocks$Plain", "hands", "I", false)
  | 2 => ("LameClocks$Plain", "rate", "I", false)
  | 3 => ("LameClocks$Plain", "spring", "I", false)
  | 4 => ("LameClocks$Plain", "window", "I", false)
  | _ => ("LameClocks$Plain", "finish", "I", false)
def tyX4 : Nat → FieldType := fun k => match k with
  | 0 => .int
  | 1 => .int
  | 2 => .int
  | 3 => .int
  | 4 => .int
  | _ => .int
abbrev wsX40 : List Cond := u_ws RX4 TX4 6
theorem nmX4 : ∀ a, a < 6 → ∀ b, b < 6 → a ≠ b → (TX4 a).2.1 ≠ (TX4 b).2.1 := by decide +kernel
theorem tyX4_ok : ∀ k, k < 6 → parseFieldDescriptor (TX4 k).2.2.1 = some (tyX4 k) := by decide +kernel
theorem in_X4 : ∀ w ∈ wsX40, w ∈ lw_all := lw_in wsX40 [172, 174, 176, 178, 180, 182] (by decide +kernel) (by decide +kernel)
def RX5 : String := "LameClocks$Cuckoo"
def TX5 : u_T := fun k => match k with
  | 0 => ("LameClocks$Plain", "number", "I", false)
  | 1 => ("LameClocks$Plain", "hands", "I", false)
  | 2 => ("LameClocks$Plain", "rate", "I", false)
  | 3 => ("LameClocks$Plain", "spring", "I", false)
  | 4 => ("LameClocks$Plain", "window", "I", false)
  | _ => ("LameClocks$Plain", "finish", "I", false)
def tyX5 : Nat → FieldType := fun k => match k with
  | 0 => .int
  | 1 => .int
  | 2 => .int
  | 3 => .int
  | 4 => .int
  | _ => .int
abbrev wsX50 : List Cond := u_ws RX5 TX5 6
theorem nmX5 : ∀ a, a < 6 → ∀ b, b < 6 → a ≠ b → (TX5 a).2.1 ≠ (TX5 b).2.1 := by decide +kernel
theorem tyX5_ok : ∀ k, k < 6 → parseFieldDescriptor (TX5 k).2.2.1 = some (tyX5 k) := by decide +kernel
theorem in_X5 : ∀ w ∈ wsX50, w ∈ lw_all := lw_in wsX50 [191, 192, 193, 194, 195, 196] (by decide +kernel) (by decide +kernel)
def RX6 : String := "LameClocks$Stopped"
def TX6 : u_T := fun k => match k with
  | 0 => ("LameClocks$Plain", "number", "I", false)
  | 1 => ("LameClocks$Plain", "hands", "I", false)
  | 2 => ("LameClocks$Plain", "rate", "I", false)
  | 3 => ("LameClocks$Plain", "spring", "I", false)
  | 4 => ("LameClocks$Plain", "window", "I", false)
  | _ => ("LameClocks$Plain", "finish", "I", false)
def tyX6 : Nat → FieldType := fun k => match k with
  | 0 => .int
  | 1 => .int
  | 2 => .int
  | 3 => .int
  | 4 => .int
  | _ => .int
abbrev wsX60 : List Cond := u_ws RX6 TX6 6
theorem nmX6 : ∀ a, a < 6 → ∀ b, b < 6 → a ≠ b → (TX6 a).2.1 ≠ (TX6 b).2.1 := by decide +kernel
theorem tyX6_ok : ∀ k, k < 6 → parseFieldDescriptor (TX6 k).2.2.1 = some (tyX6 k) := by decide +kernel
theorem in_X6 : ∀ w ∈ wsX60, w ∈ lw_all := lw_in wsX60 [204, 205, 206, 207, 208, 209] (by decide +kernel) (by decide +kernel)
def RX7 : String := "LameClocks$Sundial"
def TX7 : u_T := fun k => match k with
  | 0 => ("LameClocks$Plain", "number", "I", false)
  | 1 => ("LameClocks$Plain", "hands", "I", false)
  | 2 => ("LameClocks$Plain", "rate", "I", false)
  | 3 => ("LameClocks$Plain", "spring", "I", false)
  | 4 => ("LameClocks$Plain", "window", "I", false)
  | _ => ("LameClocks$Plain", "finish", "I", false)
def tyX7 : Nat → FieldType := fun k => match k with
  | 0 => .int
  | 1 => .int
  | 2 => .int
  | 3 => .int
  | 4 => .int
  | _ => .int
abbrev wsX70 : List Cond := u_ws RX7 TX7 6
theorem nmX7 : ∀ a, a < 6 → ∀ b, b < 6 → a ≠ b → (TX7 a).2.1 ≠ (TX7 b).2.1 := by decide +kernel
theorem tyX7_ok : ∀ k, k < 6 → parseFieldDescriptor (TX7 k).2.2.1 = some (tyX7 k) := by decide +kernel
theorem in_X7 : ∀ w ∈ wsX70, w ∈ lw_all := lw_in wsX70 [217, 218, 219, 220, 221, 222] (by decide +kernel) (by decide +kernel)
def RX8 : String := "LameClocks$Twin"
def TX8 : u_T := fun k => match k with
  | 0 => ("LameClocks$Plain", "number", "I", false)
  | 1 => ("LameClocks$Plain", "hands", "I", false)
  | 2 => ("LameClocks$Plain", "rate", "I", false)
  | 3 => ("LameClocks$Plain", "spring", "I", false)
  | 4 => ("LameClocks$Plain", "window", "I", false)
  | _ => ("LameClocks$Plain", "finish", "I", false)
def tyX8 : Nat → FieldType := fun k => match k with
  | 0 => .int
  | 1 => .int
  | 2 => .int
  | 3 => .int
  | 4 => .int
  | _ => .int
abbrev wsX80 : List Cond := u_ws RX8 TX8 6
theorem nmX8 : ∀ a, a < 6 → ∀ b, b < 6 → a ≠ b → (TX8 a).2.1 ≠ (TX8 b).2.1 := by decide +kernel
theorem tyX8_ok : ∀ k, k < 6 → parseFieldDescriptor (TX8 k).2.2.1 = some (tyX8 k) := by decide +kernel
theorem in_X8 : ∀ w ∈ wsX80, w ∈ lw_all := lw_in wsX80 [230, 231, 232, 233, 234, 235] (by decide +kernel) (by decide +kernel)
def RX9 : String := "LameClocks$Mayor"
def TX9 : u_T := fun k => match k with
  | 0 => ("LameClocks$Plain", "number", "I", false)
  | 1 => ("LameClocks$Plain", "hands", "I", false)
  | 2 => ("LameClocks$Plain", "rate", "I", false)
  | 3 => ("LameClocks$Plain", "spring", "I", false)
  | 4 => ("LameClocks$Plain", "window", "I", false)
  | _ => ("LameClocks$Plain", "finish", "I", false)
def tyX9 : Nat → FieldType := fun k => match k with
  | 0 => .int
  | 1 => .int
  | 2 => .int
  | 3 => .int
  | 4 => .int
  | _ => .int
abbrev wsX90 : List Cond := u_ws RX9 TX9 6
theorem nmX9 : ∀ a, a < 6 → ∀ b, b < 6 → a ≠ b → (TX9 a).2.1 ≠ (TX9 b).2.1 := by decide +kernel
theorem tyX9_ok : ∀ k, k < 6 → parseFieldDescriptor (TX9 k).2.2.1 = some (tyX9 k) := by decide +kernel
theorem in_X9 : ∀ w ∈ wsX90, w ∈ lw_all := lw_in wsX90 [243, 244, 245, 246, 247, 248] (by decide +kernel) (by decide +kernel)
def RX10 : String := "LameClocks$Fault"
def TX10 : u_T := fun k => match k with
  | 0 => ("java/lang/Throwable", "cause", "Ljava/lang/Throwable;", false)
  | 1 => ("java/lang/Throwable", "stackTrace", "[Ljava/lang/StackTraceElement;", false)
  | 2 => ("java/lang/Throwable", "suppressedExceptions", "Ljava/util/List;", false)
  | 3 => ("java/lang/Throwable", "detailMessage", "Ljava/lang/String;", false)
  | 4 => ("java/lang/Throwable", "backtrace", "Ljava/lang/Object;", false)
  | 5 => ("java/lang/Throwable", "depth", "I", false)
  | _ => ("LameClocks$Fault", "place", "I", true)
def tyX10 : Nat → FieldType := fun k => match k with
  | 0 => .object "java/lang/Throwable"
  | 1 => .array (.object "java/lang/StackTraceElement")
  | 2 => .object "java/util/List"
  | 3 => .object "java/lang/String"
  | 4 => .object "java/lang/Object"
  | 5 => .int
  | _ => .int
abbrev wsX100 : List Cond := u_ws RX10 TX10 7
theorem nmX10 : ∀ a, a < 7 → ∀ b, b < 7 → a ≠ b → (TX10 a).2.1 ≠ (TX10 b).2.1 := by decide +kernel
theorem tyX10_ok : ∀ k, k < 7 → parseFieldDescriptor (TX10 k).2.2.1 = some (tyX10 k) := by decide +kernel
theorem in_X10 : ∀ w ∈ wsX100, w ∈ lw_all := lw_in wsX100 [1188, 1189, 1190, 1191, 1192, 1206, 1204] (by decide +kernel) (by decide +kernel)
def RX11 : String := "LameClocks$Passing"
def TX11 : u_T := fun k => match k with
  | _ => ("LameClocks$Passing", "this$0", "LLameClocks;", true)
def tyX11 : Nat → FieldType := fun k => match k with
  | _ => .object "LameClocks"
abbrev wsX110 : List Cond := u_ws RX11 TX11 1
theorem nmX11 : ∀ a, a < 1 → ∀ b, b < 1 → a ≠ b → (TX11 a).2.1 ≠ (TX11 b).2.1 := by decide +kernel
theorem tyX11_ok : ∀ k, k < 1 → parseFieldDescriptor (TX11 k).2.2.1 = some (tyX11 k) := by decide +kernel
theorem in_X11 : ∀ w ∈ wsX110, w ∈ lw_all := lw_in wsX110 [1252] (by decide +kernel) (by decide +kernel)
def RX12 : String := "LameClocks$Breathing"
def TX12 : u_T := fun k => match k with
  | 0 => ("LameClocks$Breathing", "window", "I", true)
  | _ => ("LameClocks$Breathing", "this$0", "LLameClocks;", true)
def tyX12 : Nat → FieldType := fun k => match k with
  | 0 => .int
  | _ => .object "LameClocks"
abbrev wsX120 : List Cond := u_ws RX12 TX12 2
theorem nmX12 : ∀ a, a < 2 → ∀ b, b < 2 → a ≠ b → (TX12 a).2.1 ≠ (TX12 b).2.1 := by decide +kernel
theorem tyX12_ok : ∀ k, k < 2 → parseFieldDescriptor (TX12 k).2.2.1 = some (tyX12 k) := by decide +kernel
theorem in_X12 : ∀ w ∈ wsX120, w ∈ lw_all := lw_in wsX120 [1263, 1265] (by decide +kernel) (by decide +kernel)
def RX13 : String := "LameClocks$Winding"
def TX13 : u_T := fun k => match k with
  | 0 => ("LameClocks$Winding", "clock", "I", true)
  | 1 => ("LameClocks$Winding", "n", "I", true)
  | _ => ("LameClocks$Winding", "this$0", "LLameClocks;", true)
def tyX13 : Nat → FieldType := fun k => match k with
  | 0 => .int
  | 1 => .int
  | _ => .object "LameClocks"
abbrev wsX130 : List Cond := u_ws RX13 TX13 3
theorem nmX13 : ∀ a, a < 3 → ∀ b, b < 3 → a ≠ b → (TX13 a).2.1 ≠ (TX13 b).2.1 := by decide +kernel
theorem tyX13_ok : ∀ k, k < 3 → parseFieldDescriptor (TX13 k).2.2.1 = some (tyX13 k) := by decide +kernel
theorem in_X13 : ∀ w ∈ wsX130, w ∈ lw_all := lw_in wsX130 [1285, 1287, 1289] (by decide +kernel) (by decide +kernel)
def RX14 : String := "LameClocks$Turning"
def TX14 : u_T := fun k => match k with
  | 0 => ("LameClocks$Turning", "clock", "I", true)
  | 1 => ("LameClocks$Turning", "n", "I", true)
  | _ => ("LameClocks$Turning", "this$0", "LLameClocks;", true)
def tyX14 : Nat → FieldType := fun k => match k with
  | 0 => .int
  | 1 => .int
  | _ => .object "LameClocks"
abbrev wsX140 : List Cond := u_ws RX14 TX14 3
theorem nmX14 : ∀ a, a < 3 → ∀ b, b < 3 → a ≠ b → (TX14 a).2.1 ≠ (TX14 b).2.1 := by decide +kernel
theorem tyX14_ok : ∀ k, k < 3 → parseFieldDescriptor (TX14 k).2.2.1 = some (tyX14 k) := by decide +kernel
theorem in_X14 : ∀ w ∈ wsX140, w ∈ lw_all := lw_in wsX140 [1301, 1303, 1305] (by decide +kernel) (by decide +kernel)
def RJ2 : String := "java/util/ArrayList"
def TJ2 : u_T := fun k => match k with
  | 0 => ("java/util/AbstractList", "modCount", "I", false)
  | 1 => ("java/util/ArrayList", "elementData", "[Ljava/lang/Object;", false)
  | _ => ("java/util/ArrayList", "size", "I", false)
def tyJ2 : Nat → FieldType := fun k => match k with
  | 0 => .int
  | 1 => .array (.object "java/lang/Object")
  | _ => .int
abbrev wsJ20 : List Cond := u_ws RJ2 TJ2 3
theorem nmJ2 : ∀ a, a < 3 → ∀ b, b < 3 → a ≠ b → (TJ2 a).2.1 ≠ (TJ2 b).2.1 := by decide +kernel
theorem tyJ2_ok : ∀ k, k < 3 → parseFieldDescriptor (TJ2 k).2.2.1 = some (tyJ2 k) := by decide +kernel
theorem in_J2 : ∀ w ∈ wsJ20, w ∈ lw_all := lw_in wsJ20 [1556, 1552, 1554] (by decide +kernel) (by decide +kernel)
def RX16 : String := "LameClocks$Breathed"
def TX16 : u_T := fun k => match k with
  | 0 => ("LameClocks$Repair", "what", "I", true)
  | 1 => ("LameClocks$Repair", "was", "I", true)
  | 2 => ("LameClocks$Repair", "this$0", "LLameClocks;", true)
  | _ => ("LameClocks$Breathed", "this$0", "LLameClocks;", true)
def tyX16 : Nat → FieldType := fun k => match k with
  | 0 => .int
  | 1 => .int
  | 2 => .object "LameClocks"
  | _ => .object "LameClocks"
abbrev wsX160 : List Cond := u_ws RX16 TX16 4
-- no nmX16
theorem tyX16_ok : ∀ k, k < 4 → parseFieldDescriptor (TX16 k).2.2.1 = some (tyX16 k) := by decide +kernel
theorem in_X16 : ∀ w ∈ wsX160, w ∈ lw_all := lw_in wsX160 [776, 777, 778, 774] (by decide +kernel) (by decide +kernel)
def RX17 : String := "LameClocks$Turned"
def TX17 : u_T := fun k => match k with
  | 0 => ("LameClocks$Repair", "what", "I", true)
  | 1 => ("LameClocks$Repair", "was", "I", true)
  | 2 => ("LameClocks$Repair", "this$0", "LLameClocks;", true)
  | _ => ("LameClocks$Turned", "this$0", "LLameClocks;", true)
def tyX17 : Nat → FieldType := fun k => match k with
  | 0 => .int
  | 1 => .int
  | 2 => .object "LameClocks"
  | _ => .object "LameClocks"
abbrev wsX170 : List Cond := u_ws RX17 TX17 4
-- no nmX17
theorem tyX17_ok : ∀ k, k < 4 → parseFieldDescriptor (TX17 k).2.2.1 = some (tyX17 k) := by decide +kernel
theorem in_X17 : ∀ w ∈ wsX170, w ∈ lw_all := lw_in wsX170 [725, 726, 727, 723] (by decide +kernel) (by decide +kernel)
def RX18 : String := "LameClocks$Wound"
def TX18 : u_T := fun k => match k with
  | 0 => ("LameClocks$Repair", "what", "I", true)
  | 1 => ("LameClocks$Repair", "was", "I", true)
  | 2 => ("LameClocks$Repair", "this$0", "LLameClocks;", true)
  | _ => ("LameClocks$Wound", "this$0", "LLameClocks;", true)
def tyX18 : Nat → FieldType := fun k => match k with
  | 0 => .int
  | 1 => .int
  | 2 => .object "LameClocks"
  | _ => .object "LameClocks"
abbrev wsX180 : List Cond := u_ws RX18 TX18 4
-- no nmX18
theorem tyX18_ok : ∀ k, k < 4 → parseFieldDescriptor (TX18 k).2.2.1 = some (tyX18 k) := by decide +kernel
theorem in_X18 : ∀ w ∈ wsX180, w ∈ lw_all := lw_in wsX180 [684, 686, 688, 682] (by decide +kernel) (by decide +kernel)
def RX19 : String := "LameClocks$Tuned"
def TX19 : u_T := fun k => match k with
  | 0 => ("LameClocks$Repair", "what", "I", true)
  | 1 => ("LameClocks$Repair", "was", "I", true)
  | 2 => ("LameClocks$Repair", "this$0", "LLameClocks;", true)
  | _ => ("LameClocks$Tuned", "this$0", "LLameClocks;", true)
def tyX19 : Nat → FieldType := fun k => match k with
  | 0 => .int
  | 1 => .int
  | 2 => .object "LameClocks"
  | _ => .object "LameClocks"
abbrev wsX190 : List Cond := u_ws RX19 TX19 4
-- no nmX19
theorem tyX19_ok : ∀ k, k < 4 → parseFieldDescriptor (TX19 k).2.2.1 = some (tyX19 k) := by decide +kernel
theorem in_X19 : ∀ w ∈ wsX190, w ∈ lw_all := lw_in wsX190 [756, 757, 758, 754] (by decide +kernel) (by decide +kernel)
def RX20 : String := "LameClocks$Bet"
def TX20 : u_T := fun k => match k with
  | 0 => ("LameClocks$Bet", "clock", "I", true)
  | _ => ("LameClocks$Bet", "stake", "I", true)
def tyX20 : Nat → FieldType := fun k => match k with
  | 0 => .int
  | _ => .int
abbrev wsX200 : List Cond := u_ws RX20 TX20 2
theorem nmX20 : ∀ a, a < 2 → ∀ b, b < 2 → a ≠ b → (TX20 a).2.1 ≠ (TX20 b).2.1 := by decide +kernel
theorem tyX20_ok : ∀ k, k < 2 → parseFieldDescriptor (TX20 k).2.2.1 = some (tyX20 k) := by decide +kernel
theorem in_X20 : ∀ w ∈ wsX200, w ∈ lw_all := lw_in wsX200 [961, 963] (by decide +kernel) (by decide +kernel)
def RJ8 : String := "java/lang/String"
def TJ8 : u_T := fun k => match k with
  | 0 => ("java/lang/String", "value", "[B", true)
  | _ => ("java/lang/String", "coder", "B", true)
def tyJ8 : Nat → FieldType := fun k => match k with
  | 0 => .array .byte
  | _ => .byte
abbrev wsJ80 : List Cond := u_ws RJ8 TJ8 2
theorem nmJ8 : ∀ a, a < 2 → ∀ b, b < 2 → a ≠ b → (TJ8 a).2.1 ≠ (TJ8 b).2.1 := by decide +kernel
theorem tyJ8_ok : ∀ k, k < 2 → parseFieldDescriptor (TJ8 k).2.2.1 = some (tyJ8 k) := by decide +kernel
theorem in_J8 : ∀ w ∈ wsJ80, w ∈ lw_all := lw_in wsJ80 [1055, 1057] (by decide +kernel) (by decide +kernel)
def RJ15 : String := "java/lang/ArithmeticException"
def TJ15 : u_T := fun k => match k with
  | 0 => ("java/lang/Throwable", "backtrace", "Ljava/lang/Object;", false)
  | 1 => ("java/lang/Throwable", "detailMessage", "Ljava/lang/String;", false)
  | 2 => ("java/lang/Throwable", "cause", "Ljava/lang/Throwable;", false)
  | 3 => ("java/lang/Throwable", "stackTrace", "[Ljava/lang/StackTraceElement;", false)
  | 4 => ("java/lang/Throwable", "depth", "I", false)
  | _ => ("java/lang/Throwable", "suppressedExceptions", "Ljava/util/List;", false)
def tyJ15 : Nat → FieldType := fun k => match k with
  | 0 => .object "java/lang/Object"
  | 1 => .object "java/lang/String"
  | 2 => .object "java/lang/Throwable"
  | 3 => .array (.object "java/lang/StackTraceElement")
  | 4 => .int
  | _ => .object "java/util/List"
abbrev wsJ150 : List Cond := u_ws RJ15 TJ15 6
theorem nmJ15 : ∀ a, a < 6 → ∀ b, b < 6 → a ≠ b → (TJ15 a).2.1 ≠ (TJ15 b).2.1 := by decide +kernel
theorem tyJ15_ok : ∀ k, k < 6 → parseFieldDescriptor (TJ15 k).2.2.1 = some (tyJ15 k) := by decide +kernel
theorem in_J15 : ∀ w ∈ wsJ150, w ∈ lw_all := lw_in wsJ150 [1023, 1025, 1027, 1029, 1031, 1033] (by decide +kernel) (by decide +kernel)
def RJ16 : String := "java/lang/NullPointerException"
def TJ16 : u_T := fun k => match k with
  | 0 => ("java/lang/Throwable", "backtrace", "Ljava/lang/Object;", false)
  | 1 => ("java/lang/Throwable", "detailMessage", "Ljava/lang/String;", false)
  | 2 => ("java/lang/Throwable", "cause", "Ljava/lang/Throwable;", false)
  | 3 => ("java/lang/Throwable", "stackTrace", "[Ljava/lang/StackTraceElement;", false)
  | 4 => ("java/lang/Throwable", "depth", "I", false)
  | 5 => ("java/lang/Throwable", "suppressedExceptions", "Ljava/util/List;", false)
  | 6 => ("java/lang/NullPointerException", "extendedMessageState", "I", false)
  | _ => ("java/lang/NullPointerException", "extendedMessage", "Ljava/lang/String;", false)
def tyJ16 : Nat → FieldType := fun k => match k with
  | 0 => .object "java/lang/Object"
  | 1 => .object "java/lang/String"
  | 2 => .object "java/lang/Throwable"
  | 3 => .array (.object "java/lang/StackTraceElement")
  | 4 => .int
  | 5 => .object "java/util/List"
  | 6 => .int
  | _ => .object "java/lang/String"
abbrev wsJ160 : List Cond := u_ws RJ16 TJ16 8
theorem nmJ16 : ∀ a, a < 8 → ∀ b, b < 8 → a ≠ b → (TJ16 a).2.1 ≠ (TJ16 b).2.1 := by decide +kernel
theorem tyJ16_ok : ∀ k, k < 8 → parseFieldDescriptor (TJ16 k).2.2.1 = some (tyJ16 k) := by decide +kernel
theorem in_J16 : ∀ w ∈ wsJ160, w ∈ lw_all := lw_in wsJ160 [1428, 1429, 1430, 1431, 1432, 1433, 1424, 1426] (by decide +kernel) (by decide +kernel)
def RJ17 : String := "java/lang/ClassCastException"
def TJ17 : u_T := fun k => match k with
  | 0 => ("java/lang/Throwable", "backtrace", "Ljava/lang/Object;", false)
  | 1 => ("java/lang/Throwable", "detailMessage", "Ljava/lang/String;", false)
  | 2 => ("java/lang/Throwable", "cause", "Ljava/lang/Throwable;", false)
  | 3 => ("java/lang/Throwable", "stackTrace", "[Ljava/lang/StackTraceElement;", false)
  | 4 => ("java/lang/Throwable", "depth", "I", false)
  | _ => ("java/lang/Throwable", "suppressedExceptions", "Ljava/util/List;", false)
def tyJ17 : Nat → FieldType := fun k => match k with
  | 0 => .object "java/lang/Object"
  | 1 => .object "java/lang/String"
  | 2 => .object "java/lang/Throwable"
  | 3 => .array (.object "java/lang/StackTraceElement")
  | 4 => .int
  | _ => .object "java/util/List"
abbrev wsJ170 : List Cond := u_ws RJ17 TJ17 6
theorem nmJ17 : ∀ a, a < 6 → ∀ b, b < 6 → a ≠ b → (TJ17 a).2.1 ≠ (TJ17 b).2.1 := by decide +kernel
theorem tyJ17_ok : ∀ k, k < 6 → parseFieldDescriptor (TJ17 k).2.2.1 = some (tyJ17 k) := by decide +kernel
theorem in_J17 : ∀ w ∈ wsJ170, w ∈ lw_all := lw_in wsJ170 [1442, 1443, 1444, 1445, 1446, 1447] (by decide +kernel) (by decide +kernel)
def RJ19 : String := "java/lang/ArrayIndexOutOfBoundsException"
def TJ19 : u_T := fun k => match k with
  | 0 => ("java/lang/Throwable", "backtrace", "Ljava/lang/Object;", false)
  | 1 => ("java/lang/Throwable", "detailMessage", "Ljava/lang/String;", false)
  | 2 => ("java/lang/Throwable", "cause", "Ljava/lang/Throwable;", false)
  | 3 => ("java/lang/Throwable", "stackTrace", "[Ljava/lang/StackTraceElement;", false)
  | 4 => ("java/lang/Throwable", "depth", "I", false)
  | _ => ("java/lang/Throwable", "suppressedExceptions", "Ljava/util/List;", false)
def tyJ19 : Nat → FieldType := fun k => match k with
  | 0 => .object "java/lang/Object"
  | 1 => .object "java/lang/String"
  | 2 => .object "java/lang/Throwable"
  | 3 => .array (.object "java/lang/StackTraceElement")
  | 4 => .int
  | _ => .object "java/util/List"
abbrev wsJ190 : List Cond := u_ws RJ19 TJ19 6
theorem nmJ19 : ∀ a, a < 6 → ∀ b, b < 6 → a ≠ b → (TJ19 a).2.1 ≠ (TJ19 b).2.1 := by decide +kernel
theorem tyJ19_ok : ∀ k, k < 6 → parseFieldDescriptor (TJ19 k).2.2.1 = some (tyJ19 k) := by decide +kernel
theorem in_J19 : ∀ w ∈ wsJ190, w ∈ lw_all := lw_in wsJ190 [1459, 1460, 1461, 1462, 1463, 1464] (by decide +kernel) (by decide +kernel)
def RJ20 : String := "java/lang/NegativeArraySizeException"
def TJ20 : u_T := fun k => match k with
  | 0 => ("java/lang/Throwable", "backtrace", "Ljava/lang/Object;", false)
  | 1 => ("java/lang/Throwable", "detailMessage", "Ljava/lang/String;", false)
  | 2 => ("java/lang/Throwable", "cause", "Ljava/lang/Throwable;", false)
  | 3 => ("java/lang/Throwable", "stackTrace", "[Ljava/lang/StackTraceElement;", false)
  | 4 => ("java/lang/Throwable", "depth", "I", false)
  | _ => ("java/lang/Throwable", "suppressedExceptions", "Ljava/util/List;", false)
def tyJ20 : Nat → FieldType := fun k => match k with
  | 0 => .object "java/lang/Object"
  | 1 => .object "java/lang/String"
  | 2 => .object "java/lang/Throwable"
  | 3 => .array (.object "java/lang/StackTraceElement")
  | 4 => .int
  | _ => .object "java/util/List"
abbrev wsJ200 : List Cond := u_ws RJ20 TJ20 6
theorem nmJ20 : ∀ a, a < 6 → ∀ b, b < 6 → a ≠ b → (TJ20 a).2.1 ≠ (TJ20 b).2.1 := by decide +kernel
theorem tyJ20_ok : ∀ k, k < 6 → parseFieldDescriptor (TJ20 k).2.2.1 = some (tyJ20 k) := by decide +kernel
theorem in_J20 : ∀ w ∈ wsJ200, w ∈ lw_all := lw_in wsJ200 [1372, 1373, 1374, 1375, 1376, 1377] (by decide +kernel) (by decide +kernel)
def RJ21 : String := "java/lang/ArrayStoreException"
def TJ21 : u_T := fun k => match k with
  | 0 => ("java/lang/Throwable", "backtrace", "Ljava/lang/Object;", false)
  | 1 => ("java/lang/Throwable", "detailMessage", "Ljava/lang/String;", false)
  | 2 => ("java/lang/Throwable", "cause", "Ljava/lang/Throwable;", false)
  | 3 => ("java/lang/Throwable", "stackTrace", "[Ljava/lang/StackTraceElement;", false)
  | 4 => ("java/lang/Throwable", "depth", "I", false)
  | _ => ("java/lang/Throwable", "suppressedExceptions", "Ljava/util/List;", false)
def tyJ21 : Nat → FieldType := fun k => match k with
  | 0 => .object "java/lang/Object"
  | 1 => .object "java/lang/String"
  | 2 => .object "java/lang/Throwable"
  | 3 => .array (.object "java/lang/StackTraceElement")
  | 4 => .int
  | _ => .object "java/util/List"
abbrev wsJ210 : List Cond := u_ws RJ21 TJ21 6
theorem nmJ21 : ∀ a, a < 6 → ∀ b, b < 6 → a ≠ b → (TJ21 a).2.1 ≠ (TJ21 b).2.1 := by decide +kernel
theorem tyJ21_ok : ∀ k, k < 6 → parseFieldDescriptor (TJ21 k).2.2.1 = some (tyJ21 k) := by decide +kernel
theorem in_J21 : ∀ w ∈ wsJ210, w ∈ lw_all := lw_in wsJ210 [1516, 1517, 1518, 1519, 1520, 1521] (by decide +kernel) (by decide +kernel)
def RX15 : String := "LameClocks$Repair"
def RX21 : String := "LameClocks$Street"
def RJ0 : String := "java/util/AbstractCollection"
def RJ1 : String := "java/util/AbstractList"
def RJ3 : String := "jdk/internal/util/ArraysSupport"
def RJ4 : String := "java/lang/Math"
def RJ5 : String := "java/util/Arrays"
def RJ6 : String := "java/util/Objects"
def RJ7 : String := "jdk/internal/util/Preconditions"
def RJ9 : String := "java/lang/StringLatin1"
def RJ10 : String := "java/lang/StringUTF16"
def RJ11 : String := "java/lang/Character"
def RJ12 : String := "java/lang/Throwable"
def RJ13 : String := "java/lang/Exception"
def RJ14 : String := "java/lang/RuntimeException"
def RJ18 : String := "java/lang/IndexOutOfBoundsException"
def RJ22 : String := "java/lang/Object"
def TP16 : u_T := fun k => match k with
  | 0 => ("LameClocks$Repair", "what", "I", true)
  | 1 => ("LameClocks$Repair", "was", "I", true)
  | _ => ("LameClocks$Breathed", "this$0", "LLameClocks;", true)
def TP17 : u_T := fun k => match k with
  | 0 => ("LameClocks$Repair", "what", "I", true)
  | 1 => ("LameClocks$Repair", "was", "I", true)
  | _ => ("LameClocks$Turned", "this$0", "LLameClocks;", true)
def TP18 : u_T := fun k => match k with
  | 0 => ("LameClocks$Repair", "what", "I", true)
  | 1 => ("LameClocks$Repair", "was", "I", true)
  | _ => ("LameClocks$Wound", "this$0", "LLameClocks;", true)
def TP19 : u_T := fun k => match k with
  | 0 => ("LameClocks$Repair", "what", "I", true)
  | 1 => ("LameClocks$Repair", "was", "I", true)
  | _ => ("LameClocks$Tuned", "this$0", "LLameClocks;", true)
abbrev cls : List vw_C := [(RX0, TX0, 19), (RX1, TX1, 9), (RX2, TX2, 1), (RX3, TX3, 27), (RX4, TX4, 6), (RX5, TX5, 6), (RX6, TX6, 6), (RX7, TX7, 6), (RX8, TX8, 6), (RX9, TX9, 6), (RX10, TX10, 7), (RX11, TX11, 1), (RX12, TX12, 2), (RX13, TX13, 3), (RX14, TX14, 3), (RJ2, TJ2, 3), (RX16, TX16, 4), (RX17, TX17, 4), (RX18, TX18, 4), (RX19, TX19, 4), (RX20, TX20, 2), (RJ8, TJ8, 2), (RX16, TP16, 3), (RX17, TP17, 3), (RX18, TP18, 3), (RX19, TP19, 3), (RJ15, TJ15, 0), (RJ16, TJ16, 0), (RJ17, TJ17, 0), (RJ19, TJ19, 0), (RJ20, TJ20, 0), (RJ21, TJ21, 0)]
