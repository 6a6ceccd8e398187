/-! the tables of fields of the classes that have objects (out of claim/names) -/
set_option maxRecDepth 100000
def RX0 : String := "GargoyleTowerLaw"
def RX1 : String := "GargoyleTower"
def TX1 : u_T := fun k => match k with
  | 0 => ("GargoyleTower", "world", "LGargoyleTower$World;", false)
  | 1 => ("GargoyleTower", "saved", "LGargoyleTower$World;", false)
  | 2 => ("GargoyleTower", "history", "Ljava/util/ArrayDeque;", true)
  | 3 => ("GargoyleTower", "reason", "LGargoyleTower$RefusedException;", false)
  | 4 => ("GargoyleTower", "line", "Ljava/lang/StringBuilder;", true)
  | 5 => ("GargoyleTower", "input", "[C", true)
  | _ => ("GargoyleTower", "inputLength", "I", false)
def tyX1 : Nat → FieldType := fun k => match k with
  | 0 => .object "GargoyleTower$World"
  | 1 => .object "GargoyleTower$World"
  | 2 => .object "java/util/ArrayDeque"
  | 3 => .object "GargoyleTower$RefusedException"
  | 4 => .object "java/lang/StringBuilder"
  | 5 => .array .char
  | _ => .int
abbrev wsX10 : List Cond := u_ws RX1 TX1 7
theorem nmX1 : ∀ a, a < 7 → ∀ b, b < 7 → a ≠ b → (TX1 a).2.1 ≠ (TX1 b).2.1 := by decide +kernel
theorem tyX1_ok : ∀ k, k < 7 → parseFieldDescriptor (TX1 k).2.2.1 = some (tyX1 k) := by decide +kernel
theorem in_X1 : ∀ w ∈ wsX10, w ∈ lw_all := lw_in wsX10 [280, 282, 284, 286, 288, 290, 292] (by decide +kernel) (by decide +kernel)
def RX2 : String := "GargoyleTower$World"
def TX2 : u_T := fun k => match k with
  | 0 => ("GargoyleTower$World", "coins", "I", false)
  | 1 => ("GargoyleTower$World", "day", "I", false)
  | 2 => ("GargoyleTower$World", "edge", "I", false)
  | 3 => ("GargoyleTower$World", "whets", "I", false)
  | 4 => ("GargoyleTower$World", "storms", "I", false)
  | 5 => ("GargoyleTower$World", "weather", "LGargoyleTower$Weather;", true)
  | 6 => ("GargoyleTower$World", "blocks", "Ljava/util/ArrayList;", true)
  | 7 => ("GargoyleTower$World", "ropes", "Ljava/util/ArrayList;", true)
  | _ => ("GargoyleTower$World", "commissions", "Ljava/util/ArrayList;", true)
def tyX2 : Nat → FieldType := fun k => match k with
  | 0 => .int
  | 1 => .int
  | 2 => .int
  | 3 => .int
  | 4 => .int
  | 5 => .object "GargoyleTower$Weather"
  | 6 => .object "java/util/ArrayList"
  | 7 => .object "java/util/ArrayList"
  | _ => .object "java/util/ArrayList"
abbrev wsX20 : List Cond := u_ws RX2 TX2 9
theorem nmX2 : ∀ a, a < 9 → ∀ b, b < 9 → a ≠ b → (TX2 a).2.1 ≠ (TX2 b).2.1 := by decide +kernel
theorem tyX2_ok : ∀ k, k < 9 → parseFieldDescriptor (TX2 k).2.2.1 = some (tyX2 k) := by decide +kernel
theorem in_X2 : ∀ w ∈ wsX20, w ∈ lw_all := lw_in wsX20 [201, 203, 205, 207, 209, 211, 213, 215, 217] (by decide +kernel) (by decide +kernel)
def RX3 : String := "GargoyleTower$Weather"
def TX3 : u_T := fun k => match k with
  | _ => ("GargoyleTower$Weather", "seed", "I", false)
def tyX3 : Nat → FieldType := fun k => match k with
  | _ => .int
abbrev wsX30 : List Cond := u_ws RX3 TX3 1
theorem nmX3 : ∀ a, a < 1 → ∀ b, b < 1 → a ≠ b → (TX3 a).2.1 ≠ (TX3 b).2.1 := by decide +kernel
theorem tyX3_ok : ∀ k, k < 1 → parseFieldDescriptor (TX3 k).2.2.1 = some (tyX3 k) := by decide +kernel
theorem in_X3 : ∀ w ∈ wsX30, w ∈ lw_all := lw_in wsX30 [180] (by decide +kernel) (by decide +kernel)
def RX4 : String := "GargoyleTowerModel"
def TX4 : u_T := fun k => match k with
  | 0 => ("GargoyleTowerModel", "thrown", "I", false)
  | 1 => ("GargoyleTowerModel", "changes", "I", false)
  | 2 => ("GargoyleTowerModel", "now0", "I", false)
  | 3 => ("GargoyleTowerModel", "now0Detail", "I", false)
  | 4 => ("GargoyleTowerModel", "now1", "I", false)
  | 5 => ("GargoyleTowerModel", "now1Detail", "I", false)
  | 6 => ("GargoyleTowerModel", "isSaved", "Z", false)
  | 7 => ("GargoyleTowerModel", "isRefused", "Z", false)
  | 8 => ("GargoyleTowerModel", "isOther", "Z", false)
  | 9 => ("GargoyleTowerModel", "v", "[I", true)
  | 10 => ("GargoyleTowerModel", "before", "[I", true)
  | 11 => ("GargoyleTowerModel", "saved", "[I", true)
  | 12 => ("GargoyleTowerModel", "past", "[I", true)
  | 13 => ("GargoyleTowerModel", "why", "[I", true)
  | 14 => ("GargoyleTowerModel", "line", "[I", true)
  | 15 => ("GargoyleTowerModel", "tape", "[I", true)
  | 16 => ("GargoyleTowerModel", "told", "[I", true)
  | 17 => ("GargoyleTowerModel", "lineN", "I", false)
  | 18 => ("GargoyleTowerModel", "tapeN", "I", false)
  | 19 => ("GargoyleTowerModel", "here", "I", false)
  | 20 => ("GargoyleTowerModel", "end", "I", false)
  | 21 => ("GargoyleTowerModel", "isWrong", "Z", false)
  | 22 => ("GargoyleTowerModel", "isDoing", "Z", false)
  | _ => ("GargoyleTowerModel", "words", "[I", true)
def tyX4 : Nat → FieldType := fun k => match k with
  | 0 => .int
  | 1 => .int
  | 2 => .int
  | 3 => .int
  | 4 => .int
  | 5 => .int
  | 6 => .boolean
  | 7 => .boolean
  | 8 => .boolean
  | 9 => .array .int
  | 10 => .array .int
  | 11 => .array .int
  | 12 => .array .int
  | 13 => .array .int
  | 14 => .array .int
  | 15 => .array .int
  | 16 => .array .int
  | 17 => .int
  | 18 => .int
  | 19 => .int
  | 20 => .int
  | 21 => .boolean
  | 22 => .boolean
  | _ => .array .int
abbrev wsX40 : List Cond := u_ws RX4 TX4 24
theorem nmX4 : ∀ a, a < 24 → ∀ b, b < 24 → a ≠ b → (TX4 a).2.1 ≠ (TX4 b).2.1 := by decide +kernel
theorem tyX4_ok : ∀ k, k < 24 → parseFieldDescriptor (TX4 k).2.2.1 = some (tyX4 k) := by decide +kernel
theorem in_X4 : ∀ w ∈ wsX40, w ∈ lw_all := lw_in wsX40 [2327, 2329, 2331, 2333, 2335, 2337, 2339, 2341, 2343, 2345, 2347, 2349, 2351, 2353, 2355, 2357, 2359, 2361, 2363, 2365, 2367, 2369, 2371, 2373] (by decide +kernel) (by decide +kernel)
def RX5 : String := "GargoyleTower$Deed"
def TX5 : u_T := fun k => match k with
  | 0 => ("GargoyleTower$Deed", "word", "Ljava/lang/String;", true)
  | 1 => ("GargoyleTower$Deed", "one", "I", true)
  | 2 => ("GargoyleTower$Deed", "other", "I", true)
  | _ => ("GargoyleTower$Deed", "third", "I", true)
def tyX5 : Nat → FieldType := fun k => match k with
  | 0 => .object "java/lang/String"
  | 1 => .int
  | 2 => .int
  | _ => .int
abbrev wsX50 : List Cond := u_ws RX5 TX5 4
theorem nmX5 : ∀ a, a < 4 → ∀ b, b < 4 → a ≠ b → (TX5 a).2.1 ≠ (TX5 b).2.1 := by decide +kernel
theorem tyX5_ok : ∀ k, k < 4 → parseFieldDescriptor (TX5 k).2.2.1 = some (tyX5 k) := by decide +kernel
theorem in_X5 : ∀ w ∈ wsX50, w ∈ lw_all := lw_in wsX50 [1120, 1122, 1124, 1126] (by decide +kernel) (by decide +kernel)
def RX6 : String := "GargoyleTower$Block"
def TX6 : u_T := fun k => match k with
  | 0 => ("GargoyleTower$Block", "number", "I", true)
  | 1 => ("GargoyleTower$Block", "weight", "I", true)
  | 2 => ("GargoyleTower$Block", "isWithBed", "Z", true)
  | 3 => ("GargoyleTower$Block", "detail", "I", false)
  | 4 => ("GargoyleTower$Block", "damage", "I", false)
  | 5 => ("GargoyleTower$Block", "where", "I", false)
  | 6 => ("GargoyleTower$Block", "place", "I", false)
  | _ => ("GargoyleTower$Block", "commission", "I", false)
def tyX6 : Nat → FieldType := fun k => match k with
  | 0 => .int
  | 1 => .int
  | 2 => .boolean
  | 3 => .int
  | 4 => .int
  | 5 => .int
  | 6 => .int
  | _ => .int
abbrev wsX60 : List Cond := u_ws RX6 TX6 8
theorem nmX6 : ∀ a, a < 8 → ∀ b, b < 8 → a ≠ b → (TX6 a).2.1 ≠ (TX6 b).2.1 := by decide +kernel
theorem tyX6_ok : ∀ k, k < 8 → parseFieldDescriptor (TX6 k).2.2.1 = some (tyX6 k) := by decide +kernel
theorem in_X6 : ∀ w ∈ wsX60, w ∈ lw_all := lw_in wsX60 [998, 1000, 1002, 1004, 1006, 1008, 1010, 1012] (by decide +kernel) (by decide +kernel)
def RX7 : String := "GargoyleTower$Rope"
def TX7 : u_T := fun k => match k with
  | 0 => ("GargoyleTower$Rope", "strength", "I", true)
  | 1 => ("GargoyleTower$Rope", "wear", "I", false)
  | 2 => ("GargoyleTower$Rope", "wasTorn", "Z", false)
  | _ => ("GargoyleTower$Rope", "block", "I", false)
def tyX7 : Nat → FieldType := fun k => match k with
  | 0 => .int
  | 1 => .int
  | 2 => .boolean
  | _ => .int
abbrev wsX70 : List Cond := u_ws RX7 TX7 4
theorem nmX7 : ∀ a, a < 4 → ∀ b, b < 4 → a ≠ b → (TX7 a).2.1 ≠ (TX7 b).2.1 := by decide +kernel
theorem tyX7_ok : ∀ k, k < 4 → parseFieldDescriptor (TX7 k).2.2.1 = some (tyX7 k) := by decide +kernel
theorem in_X7 : ∀ w ∈ wsX70, w ∈ lw_all := lw_in wsX70 [1059, 1061, 1063, 1065] (by decide +kernel) (by decide +kernel)
def RX8 : String := "GargoyleTower$Commission"
def TX8 : u_T := fun k => match k with
  | 0 => ("GargoyleTower$Commission", "face", "I", true)
  | 1 => ("GargoyleTower$Commission", "detail", "I", true)
  | 2 => ("GargoyleTower$Commission", "pay", "I", true)
  | _ => ("GargoyleTower$Commission", "block", "I", false)
def tyX8 : Nat → FieldType := fun k => match k with
  | 0 => .int
  | 1 => .int
  | 2 => .int
  | _ => .int
abbrev wsX80 : List Cond := u_ws RX8 TX8 4
theorem nmX8 : ∀ a, a < 4 → ∀ b, b < 4 → a ≠ b → (TX8 a).2.1 ≠ (TX8 b).2.1 := by decide +kernel
theorem tyX8_ok : ∀ k, k < 4 → parseFieldDescriptor (TX8 k).2.2.1 = some (tyX8 k) := by decide +kernel
theorem in_X8 : ∀ w ∈ wsX80, w ∈ lw_all := lw_in wsX80 [1088, 1090, 1092, 1094] (by decide +kernel) (by decide +kernel)
def RX9 : String := "GargoyleTower$RefusedException"
def TX9 : u_T := fun k => match k with
  | 0 => ("java/lang/Throwable", "cause", "Ljava/lang/Throwable;", false)
  | 1 => ("java/lang/Throwable", "stackTrace", "[Ljava/lang/StackTraceElement;", false)
  | 2 => ("java/lang/Throwable", "suppressedExceptions", "Ljava/util/List;", false)
  | 3 => ("java/lang/Throwable", "detailMessage", "Ljava/lang/String;", false)
  | 4 => ("java/lang/Throwable", "backtrace", "Ljava/lang/Object;", false)
  | 5 => ("java/lang/Throwable", "depth", "I", false)
  | 6 => ("GargoyleTower$RefusedException", "reason", "I", true)
  | _ => ("GargoyleTower$RefusedException", "detail", "I", true)
def tyX9 : Nat → FieldType := fun k => match k with
  | 0 => .object "java/lang/Throwable"
  | 1 => .array (.object "java/lang/StackTraceElement")
  | 2 => .object "java/util/List"
  | 3 => .object "java/lang/String"
  | 4 => .object "java/lang/Object"
  | 5 => .int
  | 6 => .int
  | _ => .int
abbrev wsX90 : List Cond := u_ws RX9 TX9 8
theorem nmX9 : ∀ a, a < 8 → ∀ b, b < 8 → a ≠ b → (TX9 a).2.1 ≠ (TX9 b).2.1 := by decide +kernel
theorem tyX9_ok : ∀ k, k < 8 → parseFieldDescriptor (TX9 k).2.2.1 = some (tyX9 k) := by decide +kernel
theorem in_X9 : ∀ w ∈ wsX90, w ∈ lw_all := lw_in wsX90 [1254, 1255, 1256, 1257, 1258, 1279, 1275, 1277] (by decide +kernel) (by decide +kernel)
def RX10 : String := "GargoyleTower$Holding"
def RX11 : String := "GargoyleTower$Hit"
def RX12 : String := "GargoyleTower$Reader"
def TX12 : u_T := fun k => match k with
  | 0 => ("GargoyleTower$Reader", "position", "I", false)
  | _ => ("GargoyleTower$Reader", "this$0", "LGargoyleTower;", true)
def tyX12 : Nat → FieldType := fun k => match k with
  | 0 => .int
  | _ => .object "GargoyleTower"
abbrev wsX120 : List Cond := u_ws RX12 TX12 2
theorem nmX12 : ∀ a, a < 2 → ∀ b, b < 2 → a ≠ b → (TX12 a).2.1 ≠ (TX12 b).2.1 := by decide +kernel
theorem tyX12_ok : ∀ k, k < 2 → parseFieldDescriptor (TX12 k).2.2.1 = some (tyX12 k) := by decide +kernel
theorem in_X12 : ∀ w ∈ wsX120, w ∈ lw_all := lw_in wsX120 [2074, 2076] (by decide +kernel) (by decide +kernel)
def RX13 : String := "GargoyleTower$TextException"
def TX13 : u_T := fun k => match k with
  | 0 => ("java/lang/Throwable", "cause", "Ljava/lang/Throwable;", false)
  | 1 => ("java/lang/Throwable", "stackTrace", "[Ljava/lang/StackTraceElement;", false)
  | 2 => ("java/lang/Throwable", "suppressedExceptions", "Ljava/util/List;", false)
  | 3 => ("java/lang/Throwable", "detailMessage", "Ljava/lang/String;", false)
  | 4 => ("java/lang/Throwable", "backtrace", "Ljava/lang/Object;", false)
  | 5 => ("java/lang/Throwable", "depth", "I", false)
  | _ => ("GargoyleTower$TextException", "position", "I", true)
def tyX13 : Nat → FieldType := fun k => match k with
  | 0 => .object "java/lang/Throwable"
  | 1 => .array (.object "java/lang/StackTraceElement")
  | 2 => .object "java/util/List"
  | 3 => .object "java/lang/String"
  | 4 => .object "java/lang/Object"
  | 5 => .int
  | _ => .int
abbrev wsX130 : List Cond := u_ws RX13 TX13 7
theorem nmX13 : ∀ a, a < 7 → ∀ b, b < 7 → a ≠ b → (TX13 a).2.1 ≠ (TX13 b).2.1 := by decide +kernel
theorem tyX13_ok : ∀ k, k < 7 → parseFieldDescriptor (TX13 k).2.2.1 = some (tyX13 k) := by decide +kernel
theorem in_X13 : ∀ w ∈ wsX130, w ∈ lw_all := lw_in wsX130 [2109, 2110, 2111, 2112, 2113, 2122, 2120] (by decide +kernel) (by decide +kernel)
def RJ0 : String := "java/util/AbstractCollection"
def RJ1 : String := "java/util/AbstractList"
def RJ2 : String := "java/util/ArrayList"
def TJ2 : u_T := fun k => match k with
  | 0 => ("java/util/AbstractList", "modCount", "I", false)
  | 1 => ("java/util/ArrayList", "elementData", "[Ljava/lang/Object;", false)
  | _ => ("java/util/ArrayList", "size", "I", false)
def tyJ2 : Nat → FieldType := fun k => match k with
  | 0 => .int
  | 1 => .array (.object "java/lang/Object")
  | _ => .int
abbrev wsJ20 : List Cond := u_ws RJ2 TJ2 3
theorem nmJ2 : ∀ a, a < 3 → ∀ b, b < 3 → a ≠ b → (TJ2 a).2.1 ≠ (TJ2 b).2.1 := by decide +kernel
theorem tyJ2_ok : ∀ k, k < 3 → parseFieldDescriptor (TJ2 k).2.2.1 = some (tyJ2 k) := by decide +kernel
theorem in_J2 : ∀ w ∈ wsJ20, w ∈ lw_all := lw_in wsJ20 [168, 164, 166] (by decide +kernel) (by decide +kernel)
def RJ3 : String := "java/util/ArrayDeque"
def TJ3 : u_T := fun k => match k with
  | 0 => ("java/util/ArrayDeque", "elements", "[Ljava/lang/Object;", false)
  | 1 => ("java/util/ArrayDeque", "head", "I", false)
  | _ => ("java/util/ArrayDeque", "tail", "I", false)
def tyJ3 : Nat → FieldType := fun k => match k with
  | 0 => .array (.object "java/lang/Object")
  | 1 => .int
  | _ => .int
abbrev wsJ30 : List Cond := u_ws RJ3 TJ3 3
theorem nmJ3 : ∀ a, a < 3 → ∀ b, b < 3 → a ≠ b → (TJ3 a).2.1 ≠ (TJ3 b).2.1 := by decide +kernel
theorem tyJ3_ok : ∀ k, k < 3 → parseFieldDescriptor (TJ3 k).2.2.1 = some (tyJ3 k) := by decide +kernel
theorem in_J3 : ∀ w ∈ wsJ30, w ∈ lw_all := lw_in wsJ30 [231, 233, 235] (by decide +kernel) (by decide +kernel)
def RJ4 : String := "java/lang/AbstractStringBuilder"
def RJ5 : String := "java/lang/StringBuilder"
def TJ5 : u_T := fun k => match k with
  | 0 => ("java/lang/AbstractStringBuilder", "value", "[B", false)
  | 1 => ("java/lang/AbstractStringBuilder", "coder", "B", false)
  | 2 => ("java/lang/AbstractStringBuilder", "maybeLatin1", "Z", false)
  | _ => ("java/lang/AbstractStringBuilder", "count", "I", false)
def tyJ5 : Nat → FieldType := fun k => match k with
  | 0 => .array .byte
  | 1 => .byte
  | 2 => .boolean
  | _ => .int
abbrev wsJ50 : List Cond := u_ws RJ5 TJ5 4
theorem nmJ5 : ∀ a, a < 4 → ∀ b, b < 4 → a ≠ b → (TJ5 a).2.1 ≠ (TJ5 b).2.1 := by decide +kernel
theorem tyJ5_ok : ∀ k, k < 4 → parseFieldDescriptor (TJ5 k).2.2.1 = some (tyJ5 k) := by decide +kernel
theorem in_J5 : ∀ w ∈ wsJ50, w ∈ lw_all := lw_in wsJ50 [261, 263, 265, 267] (by decide +kernel) (by decide +kernel)
def RJ6 : String := "java/lang/String"
def TJ6 : u_T := fun k => match k with
  | 0 => ("java/lang/String", "value", "[B", true)
  | 1 => ("java/lang/String", "coder", "B", true)
  | 2 => ("java/lang/String", "hash", "I", false)
  | _ => ("java/lang/String", "hashIsZero", "Z", false)
def tyJ6 : Nat → FieldType := fun k => match k with
  | 0 => .array .byte
  | 1 => .byte
  | 2 => .int
  | _ => .boolean
abbrev wsJ60 : List Cond := u_ws RJ6 TJ6 4
theorem nmJ6 : ∀ a, a < 4 → ∀ b, b < 4 → a ≠ b → (TJ6 a).2.1 ≠ (TJ6 b).2.1 := by decide +kernel
theorem tyJ6_ok : ∀ k, k < 4 → parseFieldDescriptor (TJ6 k).2.2.1 = some (tyJ6 k) := by decide +kernel
theorem in_J6 : ∀ w ∈ wsJ60, w ∈ lw_all := lw_in wsJ60 [703, 705, 707, 709] (by decide +kernel) (by decide +kernel)
def RJ7 : String := "java/lang/StringUTF16"
def RJ8 : String := "java/util/ArrayList$Itr"
def TJ8 : u_T := fun k => match k with
  | 0 => ("java/util/ArrayList$Itr", "cursor", "I", false)
  | 1 => ("java/util/ArrayList$Itr", "lastRet", "I", false)
  | 2 => ("java/util/ArrayList$Itr", "expectedModCount", "I", false)
  | _ => ("java/util/ArrayList$Itr", "this$0", "Ljava/util/ArrayList;", true)
def tyJ8 : Nat → FieldType := fun k => match k with
  | 0 => .int
  | 1 => .int
  | 2 => .int
  | _ => .object "java/util/ArrayList"
abbrev wsJ80 : List Cond := u_ws RJ8 TJ8 4
theorem nmJ8 : ∀ a, a < 4 → ∀ b, b < 4 → a ≠ b → (TJ8 a).2.1 ≠ (TJ8 b).2.1 := by decide +kernel
theorem tyJ8_ok : ∀ k, k < 4 → parseFieldDescriptor (TJ8 k).2.2.1 = some (tyJ8 k) := by decide +kernel
theorem in_J8 : ∀ w ∈ wsJ80, w ∈ lw_all := lw_in wsJ80 [324, 326, 328, 330] (by decide +kernel) (by decide +kernel)
def RJ9 : String := "java/util/Objects"
def RJ10 : String := "jdk/internal/util/Preconditions"
def RJ11 : String := "java/lang/Throwable"
def RJ12 : String := "java/lang/Exception"
def RJ13 : String := "java/lang/RuntimeException"
def RJ14 : String := "java/lang/IndexOutOfBoundsException"
def TJ14 : u_T := fun k => match k with
  | 0 => ("java/lang/Throwable", "cause", "Ljava/lang/Throwable;", false)
  | 1 => ("java/lang/Throwable", "stackTrace", "[Ljava/lang/StackTraceElement;", false)
  | 2 => ("java/lang/Throwable", "suppressedExceptions", "Ljava/util/List;", false)
  | 3 => ("java/lang/Throwable", "detailMessage", "Ljava/lang/String;", false)
  | 4 => ("java/lang/Throwable", "backtrace", "Ljava/lang/Object;", false)
  | _ => ("java/lang/Throwable", "depth", "I", false)
def tyJ14 : Nat → FieldType := fun k => match k with
  | 0 => .object "java/lang/Throwable"
  | 1 => .array (.object "java/lang/StackTraceElement")
  | 2 => .object "java/util/List"
  | 3 => .object "java/lang/String"
  | 4 => .object "java/lang/Object"
  | _ => .int
abbrev wsJ140 : List Cond := u_ws RJ14 TJ14 6
theorem nmJ14 : ∀ a, a < 6 → ∀ b, b < 6 → a ≠ b → (TJ14 a).2.1 ≠ (TJ14 b).2.1 := by decide +kernel
theorem tyJ14_ok : ∀ k, k < 6 → parseFieldDescriptor (TJ14 k).2.2.1 = some (tyJ14 k) := by decide +kernel
theorem in_J14 : ∀ w ∈ wsJ140, w ∈ lw_all := lw_in wsJ140 [420, 422, 424, 426, 428, 716] (by decide +kernel) (by decide +kernel)
def RJ15 : String := "jdk/internal/util/ArraysSupport"
def RJ16 : String := "java/lang/Math"
def RJ17 : String := "java/util/Arrays"
def RJ18 : String := "java/lang/StringLatin1"
def RJ19 : String := "java/lang/Integer"
def RJ20 : String := "java/lang/IllegalArgumentException"
def TJ20 : u_T := fun k => match k with
  | 0 => ("java/lang/Throwable", "cause", "Ljava/lang/Throwable;", false)
  | 1 => ("java/lang/Throwable", "stackTrace", "[Ljava/lang/StackTraceElement;", false)
  | 2 => ("java/lang/Throwable", "suppressedExceptions", "Ljava/util/List;", false)
  | 3 => ("java/lang/Throwable", "detailMessage", "Ljava/lang/String;", false)
  | 4 => ("java/lang/Throwable", "backtrace", "Ljava/lang/Object;", false)
  | _ => ("java/lang/Throwable", "depth", "I", false)
def tyJ20 : Nat → FieldType := fun k => match k with
  | 0 => .object "java/lang/Throwable"
  | 1 => .array (.object "java/lang/StackTraceElement")
  | 2 => .object "java/util/List"
  | 3 => .object "java/lang/String"
  | 4 => .object "java/lang/Object"
  | _ => .int
abbrev wsJ200 : List Cond := u_ws RJ20 TJ20 6
theorem nmJ20 : ∀ a, a < 6 → ∀ b, b < 6 → a ≠ b → (TJ20 a).2.1 ≠ (TJ20 b).2.1 := by decide +kernel
theorem tyJ20_ok : ∀ k, k < 6 → parseFieldDescriptor (TJ20 k).2.2.1 = some (tyJ20 k) := by decide +kernel
theorem in_J20 : ∀ w ∈ wsJ200, w ∈ lw_all := lw_in wsJ200 [650, 651, 652, 653, 654, 682] (by decide +kernel) (by decide +kernel)
def RJ21 : String := "java/util/NoSuchElementException"
def TJ21 : u_T := fun k => match k with
  | 0 => ("java/lang/Throwable", "cause", "Ljava/lang/Throwable;", false)
  | 1 => ("java/lang/Throwable", "stackTrace", "[Ljava/lang/StackTraceElement;", false)
  | 2 => ("java/lang/Throwable", "suppressedExceptions", "Ljava/util/List;", false)
  | 3 => ("java/lang/Throwable", "detailMessage", "Ljava/lang/String;", false)
  | 4 => ("java/lang/Throwable", "backtrace", "Ljava/lang/Object;", false)
  | _ => ("java/lang/Throwable", "depth", "I", false)
def tyJ21 : Nat → FieldType := fun k => match k with
  | 0 => .object "java/lang/Throwable"
  | 1 => .array (.object "java/lang/StackTraceElement")
  | 2 => .object "java/util/List"
  | 3 => .object "java/lang/String"
  | 4 => .object "java/lang/Object"
  | _ => .int
abbrev wsJ210 : List Cond := u_ws RJ21 TJ21 6
theorem nmJ21 : ∀ a, a < 6 → ∀ b, b < 6 → a ≠ b → (TJ21 a).2.1 ≠ (TJ21 b).2.1 := by decide +kernel
theorem tyJ21_ok : ∀ k, k < 6 → parseFieldDescriptor (TJ21 k).2.2.1 = some (tyJ21 k) := by decide +kernel
theorem in_J21 : ∀ w ∈ wsJ210, w ∈ lw_all := lw_in wsJ210 [726, 727, 728, 729, 730, 824] (by decide +kernel) (by decide +kernel)
def RJ22 : String := "java/lang/IllegalStateException"
def TJ22 : u_T := fun k => match k with
  | 0 => ("java/lang/Throwable", "cause", "Ljava/lang/Throwable;", false)
  | 1 => ("java/lang/Throwable", "stackTrace", "[Ljava/lang/StackTraceElement;", false)
  | 2 => ("java/lang/Throwable", "suppressedExceptions", "Ljava/util/List;", false)
  | 3 => ("java/lang/Throwable", "detailMessage", "Ljava/lang/String;", false)
  | 4 => ("java/lang/Throwable", "backtrace", "Ljava/lang/Object;", false)
  | _ => ("java/lang/Throwable", "depth", "I", false)
def tyJ22 : Nat → FieldType := fun k => match k with
  | 0 => .object "java/lang/Throwable"
  | 1 => .array (.object "java/lang/StackTraceElement")
  | 2 => .object "java/util/List"
  | 3 => .object "java/lang/String"
  | 4 => .object "java/lang/Object"
  | _ => .int
abbrev wsJ220 : List Cond := u_ws RJ22 TJ22 6
theorem nmJ22 : ∀ a, a < 6 → ∀ b, b < 6 → a ≠ b → (TJ22 a).2.1 ≠ (TJ22 b).2.1 := by decide +kernel
theorem tyJ22_ok : ∀ k, k < 6 → parseFieldDescriptor (TJ22 k).2.2.1 = some (tyJ22 k) := by decide +kernel
theorem in_J22 : ∀ w ∈ wsJ220, w ∈ lw_all := lw_in wsJ220 [1445, 1446, 1447, 1448, 1449, 1455] (by decide +kernel) (by decide +kernel)
def RJ23 : String := "java/lang/UnsupportedOperationException"
def TJ23 : u_T := fun k => match k with
  | 0 => ("java/lang/Throwable", "cause", "Ljava/lang/Throwable;", false)
  | 1 => ("java/lang/Throwable", "stackTrace", "[Ljava/lang/StackTraceElement;", false)
  | 2 => ("java/lang/Throwable", "suppressedExceptions", "Ljava/util/List;", false)
  | 3 => ("java/lang/Throwable", "detailMessage", "Ljava/lang/String;", false)
  | 4 => ("java/lang/Throwable", "backtrace", "Ljava/lang/Object;", false)
  | _ => ("java/lang/Throwable", "depth", "I", false)
def tyJ23 : Nat → FieldType := fun k => match k with
  | 0 => .object "java/lang/Throwable"
  | 1 => .array (.object "java/lang/StackTraceElement")
  | 2 => .object "java/util/List"
  | 3 => .object "java/lang/String"
  | 4 => .object "java/lang/Object"
  | _ => .int
abbrev wsJ230 : List Cond := u_ws RJ23 TJ23 6
theorem nmJ23 : ∀ a, a < 6 → ∀ b, b < 6 → a ≠ b → (TJ23 a).2.1 ≠ (TJ23 b).2.1 := by decide +kernel
theorem tyJ23_ok : ∀ k, k < 6 → parseFieldDescriptor (TJ23 k).2.2.1 = some (tyJ23 k) := by decide +kernel
theorem in_J23 : ∀ w ∈ wsJ230, w ∈ lw_all := lw_in wsJ230 [1468, 1469, 1470, 1471, 1472, 1477] (by decide +kernel) (by decide +kernel)
def RJ24 : String := "java/lang/ArrayIndexOutOfBoundsException"
def RJ25 : String := "java/util/AbstractSequentialList"
def RJ26 : String := "java/util/LinkedList"
def TJ26 : u_T := fun k => match k with
  | 0 => ("java/util/AbstractList", "modCount", "I", false)
  | 1 => ("java/util/LinkedList", "size", "I", false)
  | 2 => ("java/util/LinkedList", "first", "Ljava/util/LinkedList$Node;", false)
  | _ => ("java/util/LinkedList", "last", "Ljava/util/LinkedList$Node;", false)
def tyJ26 : Nat → FieldType := fun k => match k with
  | 0 => .int
  | 1 => .int
  | 2 => .object "java/util/LinkedList$Node"
  | _ => .object "java/util/LinkedList$Node"
abbrev wsJ260 : List Cond := u_ws RJ26 TJ26 4
theorem nmJ26 : ∀ a, a < 4 → ∀ b, b < 4 → a ≠ b → (TJ26 a).2.1 ≠ (TJ26 b).2.1 := by decide +kernel
theorem tyJ26_ok : ∀ k, k < 4 → parseFieldDescriptor (TJ26 k).2.2.1 = some (tyJ26 k) := by decide +kernel
theorem in_J26 : ∀ w ∈ wsJ260, w ∈ lw_all := lw_in wsJ260 [1546, 1540, 1542, 1544] (by decide +kernel) (by decide +kernel)
def RJ27 : String := "java/util/LinkedList$Node"
def TJ27 : u_T := fun k => match k with
  | 0 => ("java/util/LinkedList$Node", "item", "Ljava/lang/Object;", false)
  | 1 => ("java/util/LinkedList$Node", "next", "Ljava/util/LinkedList$Node;", false)
  | _ => ("java/util/LinkedList$Node", "prev", "Ljava/util/LinkedList$Node;", false)
def tyJ27 : Nat → FieldType := fun k => match k with
  | 0 => .object "java/lang/Object"
  | 1 => .object "java/util/LinkedList$Node"
  | _ => .object "java/util/LinkedList$Node"
abbrev wsJ270 : List Cond := u_ws RJ27 TJ27 3
theorem nmJ27 : ∀ a, a < 3 → ∀ b, b < 3 → a ≠ b → (TJ27 a).2.1 ≠ (TJ27 b).2.1 := by decide +kernel
theorem tyJ27_ok : ∀ k, k < 3 → parseFieldDescriptor (TJ27 k).2.2.1 = some (tyJ27 k) := by decide +kernel
theorem in_J27 : ∀ w ∈ wsJ270, w ∈ lw_all := lw_in wsJ270 [1583, 1585, 1587] (by decide +kernel) (by decide +kernel)
def RJ28 : String := "java/lang/StringIndexOutOfBoundsException"
def RJ29 : String := "java/lang/ArithmeticException"
def TJ29 : u_T := fun k => match k with
  | 0 => ("java/lang/Throwable", "backtrace", "Ljava/lang/Object;", false)
  | 1 => ("java/lang/Throwable", "detailMessage", "Ljava/lang/String;", false)
  | 2 => ("java/lang/Throwable", "cause", "Ljava/lang/Throwable;", false)
  | 3 => ("java/lang/Throwable", "stackTrace", "[Ljava/lang/StackTraceElement;", false)
  | 4 => ("java/lang/Throwable", "depth", "I", false)
  | _ => ("java/lang/Throwable", "suppressedExceptions", "Ljava/util/List;", false)
def tyJ29 : Nat → FieldType := fun k => match k with
  | 0 => .object "java/lang/Object"
  | 1 => .object "java/lang/String"
  | 2 => .object "java/lang/Throwable"
  | 3 => .array (.object "java/lang/StackTraceElement")
  | 4 => .int
  | _ => .object "java/util/List"
abbrev wsJ290 : List Cond := u_ws RJ29 TJ29 6
theorem nmJ29 : ∀ a, a < 6 → ∀ b, b < 6 → a ≠ b → (TJ29 a).2.1 ≠ (TJ29 b).2.1 := by decide +kernel
theorem tyJ29_ok : ∀ k, k < 6 → parseFieldDescriptor (TJ29 k).2.2.1 = some (tyJ29 k) := by decide +kernel
theorem in_J29 : ∀ w ∈ wsJ290, w ∈ lw_all := lw_in wsJ290 [1972, 1973, 1974, 1975, 1976, 1977] (by decide +kernel) (by decide +kernel)
def RJ30 : String := "java/util/AbstractList$Itr"
def RJ31 : String := "java/util/ArrayList$ListItr"
def RJ32 : String := "java/util/LinkedList$ListItr"
def TJ32 : u_T := fun k => match k with
  | 0 => ("java/util/LinkedList$ListItr", "lastReturned", "Ljava/util/LinkedList$Node;", false)
  | 1 => ("java/util/LinkedList$ListItr", "next", "Ljava/util/LinkedList$Node;", false)
  | 2 => ("java/util/LinkedList$ListItr", "nextIndex", "I", false)
  | 3 => ("java/util/LinkedList$ListItr", "expectedModCount", "I", false)
  | _ => ("java/util/LinkedList$ListItr", "this$0", "Ljava/util/LinkedList;", true)
def tyJ32 : Nat → FieldType := fun k => match k with
  | 0 => .object "java/util/LinkedList$Node"
  | 1 => .object "java/util/LinkedList$Node"
  | 2 => .int
  | 3 => .int
  | _ => .object "java/util/LinkedList"
abbrev wsJ320 : List Cond := u_ws RJ32 TJ32 5
theorem nmJ32 : ∀ a, a < 5 → ∀ b, b < 5 → a ≠ b → (TJ32 a).2.1 ≠ (TJ32 b).2.1 := by decide +kernel
theorem tyJ32_ok : ∀ k, k < 5 → parseFieldDescriptor (TJ32 k).2.2.1 = some (tyJ32 k) := by decide +kernel
theorem in_J32 : ∀ w ∈ wsJ320, w ∈ lw_all := lw_in wsJ320 [2239, 2241, 2243, 2245, 2247] (by decide +kernel) (by decide +kernel)
def RJ33 : String := "java/lang/Object"
def RJ34 : String := "java/lang/System$2"
/-- every class that has objects: name, fields, how many -/
def gh_cl : List vw_C := [(RX1, TX1, 7), (RX2, TX2, 9), (RX3, TX3, 1), (RX4, TX4, 24), (RX5, TX5, 4), (RX6, TX6, 8), (RX7, TX7, 4), (RX8, TX8, 4), (RX9, TX9, 8), (RX12, TX12, 2), (RX13, TX13, 7), (RJ2, TJ2, 3), (RJ3, TJ3, 3), (RJ5, TJ5, 4), (RJ6, TJ6, 4), (RJ8, TJ8, 4), (RJ14, TJ14, 6), (RJ20, TJ20, 6), (RJ21, TJ21, 6), (RJ22, TJ22, 6), (RJ23, TJ23, 6), (RJ26, TJ26, 4), (RJ27, TJ27, 3), (RJ29, TJ29, 6), (RJ32, TJ32, 5)]
theorem gh_cX1 : gh_cl[0]? = some (RX1, TX1, 7) := rfl
theorem gh_cX2 : gh_cl[1]? = some (RX2, TX2, 9) := rfl
theorem gh_cX3 : gh_cl[2]? = some (RX3, TX3, 1) := rfl
theorem gh_cX4 : gh_cl[3]? = some (RX4, TX4, 24) := rfl
theorem gh_cX5 : gh_cl[4]? = some (RX5, TX5, 4) := rfl
theorem gh_cX6 : gh_cl[5]? = some (RX6, TX6, 8) := rfl
theorem gh_cX7 : gh_cl[6]? = some (RX7, TX7, 4) := rfl
theorem gh_cX8 : gh_cl[7]? = some (RX8, TX8, 4) := rfl
theorem gh_cX9 : gh_cl[8]? = some (RX9, TX9, 8) := rfl
theorem gh_cX12 : gh_cl[9]? = some (RX12, TX12, 2) := rfl
theorem gh_cX13 : gh_cl[10]? = some (RX13, TX13, 7) := rfl
theorem gh_cJ2 : gh_cl[11]? = some (RJ2, TJ2, 3) := rfl
theorem gh_cJ3 : gh_cl[12]? = some (RJ3, TJ3, 3) := rfl
theorem gh_cJ5 : gh_cl[13]? = some (RJ5, TJ5, 4) := rfl
theorem gh_cJ6 : gh_cl[14]? = some (RJ6, TJ6, 4) := rfl
theorem gh_cJ8 : gh_cl[15]? = some (RJ8, TJ8, 4) := rfl
theorem gh_cJ14 : gh_cl[16]? = some (RJ14, TJ14, 6) := rfl
theorem gh_cJ20 : gh_cl[17]? = some (RJ20, TJ20, 6) := rfl
theorem gh_cJ21 : gh_cl[18]? = some (RJ21, TJ21, 6) := rfl
theorem gh_cJ22 : gh_cl[19]? = some (RJ22, TJ22, 6) := rfl
theorem gh_cJ23 : gh_cl[20]? = some (RJ23, TJ23, 6) := rfl
theorem gh_cJ26 : gh_cl[21]? = some (RJ26, TJ26, 4) := rfl
theorem gh_cJ27 : gh_cl[22]? = some (RJ27, TJ27, 3) := rfl
theorem gh_cJ29 : gh_cl[23]? = some (RJ29, TJ29, 6) := rfl
theorem gh_cJ32 : gh_cl[24]? = some (RJ32, TJ32, 5) := rfl
