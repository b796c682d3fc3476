/-! heads of the classes: names, fields -/
set_option maxRecDepth 100000
def RX0 : String := "SharedTaxisLaw"
def RX1 : String := "SharedTaxis"
def TX1 : u_T := fun k => match k with
  | 0 => ("SharedTaxis", "buffer", "[B", true)
  | 1 => ("SharedTaxis", "bufferLength", "I", false)
  | 2 => ("SharedTaxis", "errorPosition", "I", false)
  | 3 => ("SharedTaxis", "state", "LSharedTaxis$State;", false)
  | 4 => ("SharedTaxis", "snapshot", "LSharedTaxis$State;", false)
  | 5 => ("SharedTaxis", "history", "Ljava/util/ArrayDeque;", true)
  | _ => ("SharedTaxis", "formatted", "Ljava/lang/String;", false)
def tyX1 : Nat → FieldType := fun k => match k with
  | 0 => .array .byte
  | 1 => .int
  | 2 => .int
  | 3 => .object "SharedTaxis$State"
  | 4 => .object "SharedTaxis$State"
  | 5 => .object "java/util/ArrayDeque"
  | _ => .object "java/lang/String"
abbrev wsX10 : List Cond := u_ws RX1 TX1 7
theorem nmX1 : ∀ a, a < 7 → ∀ b, b < 7 → a ≠ b → (TX1 a).2.1 ≠ (TX1 b).2.1 := by decide +kernel
theorem tyX1_ok : ∀ k, k < 7 → parseFieldDescriptor (TX1 k).2.2.1 = some (tyX1 k) := by decide +kernel
theorem in_X1 : ∀ w ∈ wsX10, w ∈ lw_all := lw_in wsX10 [307, 309, 311, 313, 315, 317, 319] (by decide +kernel) (by decide +kernel)
def RX2 : String := "SharedTaxis$State"
def TX2 : u_T := fun k => match k with
  | 0 => ("SharedTaxis$State", "town", "LSharedTaxis$Town;", true)
  | 1 => ("SharedTaxis$State", "rules", "[I", true)
  | 2 => ("SharedTaxis$State", "flag", "I", false)
  | 3 => ("SharedTaxis$State", "rate", "I", false)
  | 4 => ("SharedTaxis$State", "present", "I", false)
  | 5 => ("SharedTaxis$State", "taxis", "Ljava/util/List;", true)
  | _ => ("SharedTaxis$State", "rides", "Ljava/util/List;", true)
def tyX2 : Nat → FieldType := fun k => match k with
  | 0 => .object "SharedTaxis$Town"
  | 1 => .array .int
  | 2 => .int
  | 3 => .int
  | 4 => .int
  | 5 => .object "java/util/List"
  | _ => .object "java/util/List"
abbrev wsX20 : List Cond := u_ws RX2 TX2 7
theorem nmX2 : ∀ a, a < 7 → ∀ b, b < 7 → a ≠ b → (TX2 a).2.1 ≠ (TX2 b).2.1 := by decide +kernel
theorem tyX2_ok : ∀ k, k < 7 → parseFieldDescriptor (TX2 k).2.2.1 = some (tyX2 k) := by decide +kernel
theorem in_X2 : ∀ w ∈ wsX20, w ∈ lw_all := lw_in wsX20 [263, 265, 267, 269, 271, 273, 275] (by decide +kernel) (by decide +kernel)
def RX3 : String := "SharedTaxis$Town"
def TX3 : u_T := fun k => match k with
  | 0 => ("SharedTaxis$Town", "zones", "I", true)
  | 1 => ("SharedTaxis$Town", "minutes", "[[I", true)
  | _ => ("SharedTaxis$Town", "roads", "I", false)
def tyX3 : Nat → FieldType := fun k => match k with
  | 0 => .int
  | 1 => .array (.array .int)
  | _ => .int
abbrev wsX30 : List Cond := u_ws RX3 TX3 3
theorem nmX3 : ∀ a, a < 3 → ∀ b, b < 3 → a ≠ b → (TX3 a).2.1 ≠ (TX3 b).2.1 := by decide +kernel
theorem tyX3_ok : ∀ k, k < 3 → parseFieldDescriptor (TX3 k).2.2.1 = some (tyX3 k) := by decide +kernel
theorem in_X3 : ∀ w ∈ wsX30, w ∈ lw_all := lw_in wsX30 [190, 192, 194] (by decide +kernel) (by decide +kernel)
def RX4 : String := "SharedTaxisModel"
def TX4 : u_T := fun k => match k with
  | 0 => ("SharedTaxisModel", "thrown", "I", false)
  | 1 => ("SharedTaxisModel", "now", "[I", true)
  | 2 => ("SharedTaxisModel", "draft", "[I", true)
  | 3 => ("SharedTaxisModel", "saved", "[I", true)
  | 4 => ("SharedTaxisModel", "history", "[I", true)
  | 5 => ("SharedTaxisModel", "isSaved", "Z", false)
  | 6 => ("SharedTaxisModel", "recorded", "I", false)
  | 7 => ("SharedTaxisModel", "draftZones", "I", false)
  | 8 => ("SharedTaxisModel", "draftRoads", "I", false)
  | 9 => ("SharedTaxisModel", "draftTaxis", "I", false)
  | 10 => ("SharedTaxisModel", "draftFlag", "I", false)
  | 11 => ("SharedTaxisModel", "draftRoad", "[I", true)
  | 12 => ("SharedTaxisModel", "draftSeats", "[I", true)
  | 13 => ("SharedTaxisModel", "draftBegin", "[I", true)
  | 14 => ("SharedTaxisModel", "draftAt", "[I", true)
  | 15 => ("SharedTaxisModel", "zones", "I", false)
  | 16 => ("SharedTaxisModel", "roads", "I", false)
  | 17 => ("SharedTaxisModel", "taxis", "I", false)
  | 18 => ("SharedTaxisModel", "flag", "I", false)
  | 19 => ("SharedTaxisModel", "way", "[I", true)
  | 20 => ("SharedTaxisModel", "seats", "[I", true)
  | 21 => ("SharedTaxisModel", "begins", "[I", true)
  | 22 => ("SharedTaxisModel", "buffer", "[I", true)
  | 23 => ("SharedTaxisModel", "buffered", "I", false)
  | 24 => ("SharedTaxisModel", "textEnd", "I", false)
  | 25 => ("SharedTaxisModel", "at", "I", false)
  | 26 => ("SharedTaxisModel", "begin", "I", false)
  | 27 => ("SharedTaxisModel", "kind", "I", false)
  | 28 => ("SharedTaxisModel", "value", "I", false)
  | 29 => ("SharedTaxisModel", "word", "J", false)
  | 30 => ("SharedTaxisModel", "wrong", "I", false)
  | 31 => ("SharedTaxisModel", "wrongAt", "I", false)
  | 32 => ("SharedTaxisModel", "list", "[I", true)
  | 33 => ("SharedTaxisModel", "leaves", "[I", true)
  | 34 => ("SharedTaxisModel", "arrives", "[I", true)
  | 35 => ("SharedTaxisModel", "ends", "[I", true)
  | 36 => ("SharedTaxisModel", "stints", "[I", true)
  | 37 => ("SharedTaxisModel", "ways", "[I", true)
  | 38 => ("SharedTaxisModel", "pickedAt", "[I", true)
  | 39 => ("SharedTaxisModel", "listed", "I", false)
  | 40 => ("SharedTaxisModel", "foundExtra", "I", false)
  | 41 => ("SharedTaxisModel", "foundPick", "I", false)
  | 42 => ("SharedTaxisModel", "foundDrop", "I", false)
  | 43 => ("SharedTaxisModel", "foundPlace", "I", false)
  | 44 => ("SharedTaxisModel", "foundBehind", "I", false)
  | 45 => ("SharedTaxisModel", "riding", "[I", true)
  | 46 => ("SharedTaxisModel", "text", "[B", true)
  | 47 => ("SharedTaxisModel", "texts", "I", false)
  | 48 => ("SharedTaxisModel", "codes", "[I", true)
  | 49 => ("SharedTaxisModel", "wait", "[I", true)
  | 50 => ("SharedTaxisModel", "stack", "[I", true)
  | 51 => ("SharedTaxisModel", "coded", "I", false)
  | 52 => ("SharedTaxisModel", "waits", "I", false)
  | _ => ("SharedTaxisModel", "open", "I", false)
def tyX4 : Nat → FieldType := fun k => match k with
  | 0 => .int
  | 1 => .array .int
  | 2 => .array .int
  | 3 => .array .int
  | 4 => .array .int
  | 5 => .boolean
  | 6 => .int
  | 7 => .int
  | 8 => .int
  | 9 => .int
  | 10 => .int
  | 11 => .array .int
  | 12 => .array .int
  | 13 => .array .int
  | 14 => .array .int
  | 15 => .int
  | 16 => .int
  | 17 => .int
  | 18 => .int
  | 19 => .array .int
  | 20 => .array .int
  | 21 => .array .int
  | 22 => .array .int
  | 23 => .int
  | 24 => .int
  | 25 => .int
  | 26 => .int
  | 27 => .int
  | 28 => .int
  | 29 => .long
  | 30 => .int
  | 31 => .int
  | 32 => .array .int
  | 33 => .array .int
  | 34 => .array .int
  | 35 => .array .int
  | 36 => .array .int
  | 37 => .array .int
  | 38 => .array .int
  | 39 => .int
  | 40 => .int
  | 41 => .int
  | 42 => .int
  | 43 => .int
  | 44 => .int
  | 45 => .array .int
  | 46 => .array .byte
  | 47 => .int
  | 48 => .array .int
  | 49 => .array .int
  | 50 => .array .int
  | 51 => .int
  | 52 => .int
  | _ => .int
abbrev wsX40 : List Cond := u_ws RX4 TX4 54
theorem nmX4 : ∀ a, a < 54 → ∀ b, b < 54 → a ≠ b → (TX4 a).2.1 ≠ (TX4 b).2.1 := by decide +kernel
theorem tyX4_ok : ∀ k, k < 54 → parseFieldDescriptor (TX4 k).2.2.1 = some (tyX4 k) := by decide +kernel
theorem in_X4 : ∀ w ∈ wsX40, w ∈ lw_all := lw_in wsX40 [2741, 2743, 2745, 2747, 2749, 2751, 2753, 2755, 2757, 2759, 2761, 2763, 2765, 2767, 2769, 2771, 2773, 2775, 2777, 2779, 2781, 2783, 2785, 2787, 2789, 2791, 2793, 2795, 2797, 2799, 2801, 2803, 2805, 2807, 2809, 2811, 2813, 2815, 2817, 2819, 2821, 2823, 2825, 2827, 2829, 2831, 2833, 2835, 2837, 2839, 2841, 2843, 2845, 2847] (by decide +kernel) (by decide +kernel)
def RX5 : String := "SharedTaxis$Reader"
def TX5 : u_T := fun k => match k with
  | 0 => ("SharedTaxis$Reader", "scanner", "LSharedTaxis$Scanner;", true)
  | _ => ("SharedTaxis$Reader", "town", "LSharedTaxis$Town;", false)
def tyX5 : Nat → FieldType := fun k => match k with
  | 0 => .object "SharedTaxis$Scanner"
  | _ => .object "SharedTaxis$Town"
abbrev wsX50 : List Cond := u_ws RX5 TX5 2
theorem nmX5 : ∀ a, a < 2 → ∀ b, b < 2 → a ≠ b → (TX5 a).2.1 ≠ (TX5 b).2.1 := by decide +kernel
theorem tyX5_ok : ∀ k, k < 2 → parseFieldDescriptor (TX5 k).2.2.1 = some (tyX5 k) := by decide +kernel
theorem in_X5 : ∀ w ∈ wsX50, w ∈ lw_all := lw_in wsX50 [1337, 1339] (by decide +kernel) (by decide +kernel)
def RX6 : String := "SharedTaxis$Scanner"
def TX6 : u_T := fun k => match k with
  | 0 => ("SharedTaxis$Scanner", "text", "[B", true)
  | 1 => ("SharedTaxis$Scanner", "end", "I", true)
  | 2 => ("SharedTaxis$Scanner", "symbols", "Ljava/lang/String;", true)
  | 3 => ("SharedTaxis$Scanner", "kind", "I", false)
  | 4 => ("SharedTaxis$Scanner", "begin", "I", false)
  | 5 => ("SharedTaxis$Scanner", "next", "I", false)
  | 6 => ("SharedTaxis$Scanner", "value", "I", false)
  | _ => ("SharedTaxis$Scanner", "word", "Ljava/lang/String;", false)
def tyX6 : Nat → FieldType := fun k => match k with
  | 0 => .array .byte
  | 1 => .int
  | 2 => .object "java/lang/String"
  | 3 => .int
  | 4 => .int
  | 5 => .int
  | 6 => .int
  | _ => .object "java/lang/String"
abbrev wsX60 : List Cond := u_ws RX6 TX6 8
theorem nmX6 : ∀ a, a < 8 → ∀ b, b < 8 → a ≠ b → (TX6 a).2.1 ≠ (TX6 b).2.1 := by decide +kernel
theorem tyX6_ok : ∀ k, k < 8 → parseFieldDescriptor (TX6 k).2.2.1 = some (tyX6 k) := by decide +kernel
theorem in_X6 : ∀ w ∈ wsX60, w ∈ lw_all := lw_in wsX60 [1314, 1316, 1318, 1320, 1322, 1324, 1326, 1328] (by decide +kernel) (by decide +kernel)
def RX7 : String := "SharedTaxis$TextException"
def RX8 : String := "SharedTaxis$SyntaxException"
def TX8 : u_T := fun k => match k with
  | 0 => ("SharedTaxis$TextException", "place", "I", true)
  | 1 => ("java/lang/Throwable", "cause", "Ljava/lang/Throwable;", false)
  | 2 => ("java/lang/Throwable", "stackTrace", "[Ljava/lang/StackTraceElement;", false)
  | 3 => ("java/lang/Throwable", "suppressedExceptions", "Ljava/util/List;", false)
  | 4 => ("java/lang/Throwable", "detailMessage", "Ljava/lang/String;", false)
  | 5 => ("java/lang/Throwable", "backtrace", "Ljava/lang/Object;", false)
  | _ => ("java/lang/Throwable", "depth", "I", false)
def tyX8 : Nat → FieldType := fun k => match k with
  | 0 => .int
  | 1 => .object "java/lang/Throwable"
  | 2 => .array (.object "java/lang/StackTraceElement")
  | 3 => .object "java/util/List"
  | 4 => .object "java/lang/String"
  | 5 => .object "java/lang/Object"
  | _ => .int
abbrev wsX80 : List Cond := u_ws RX8 TX8 7
theorem nmX8 : ∀ a, a < 7 → ∀ b, b < 7 → a ≠ b → (TX8 a).2.1 ≠ (TX8 b).2.1 := by decide +kernel
theorem tyX8_ok : ∀ k, k < 7 → parseFieldDescriptor (TX8 k).2.2.1 = some (tyX8 k) := by decide +kernel
theorem in_X8 : ∀ w ∈ wsX80, w ∈ lw_all := lw_in wsX80 [1394, 1375, 1376, 1377, 1378, 1379, 1396] (by decide +kernel) (by decide +kernel)
def RX9 : String := "SharedTaxis$RangeException"
def TX9 : u_T := fun k => match k with
  | 0 => ("SharedTaxis$TextException", "place", "I", true)
  | 1 => ("java/lang/Throwable", "cause", "Ljava/lang/Throwable;", false)
  | 2 => ("java/lang/Throwable", "stackTrace", "[Ljava/lang/StackTraceElement;", false)
  | 3 => ("java/lang/Throwable", "suppressedExceptions", "Ljava/util/List;", false)
  | 4 => ("java/lang/Throwable", "detailMessage", "Ljava/lang/String;", false)
  | 5 => ("java/lang/Throwable", "backtrace", "Ljava/lang/Object;", false)
  | _ => ("java/lang/Throwable", "depth", "I", false)
def tyX9 : Nat → FieldType := fun k => match k with
  | 0 => .int
  | 1 => .object "java/lang/Throwable"
  | 2 => .array (.object "java/lang/StackTraceElement")
  | 3 => .object "java/util/List"
  | 4 => .object "java/lang/String"
  | 5 => .object "java/lang/Object"
  | _ => .int
abbrev wsX90 : List Cond := u_ws RX9 TX9 7
theorem nmX9 : ∀ a, a < 7 → ∀ b, b < 7 → a ≠ b → (TX9 a).2.1 ≠ (TX9 b).2.1 := by decide +kernel
theorem tyX9_ok : ∀ k, k < 7 → parseFieldDescriptor (TX9 k).2.2.1 = some (tyX9 k) := by decide +kernel
theorem in_X9 : ∀ w ∈ wsX90, w ∈ lw_all := lw_in wsX90 [1420, 1411, 1412, 1413, 1414, 1415, 1421] (by decide +kernel) (by decide +kernel)
def RX10 : String := "SharedTaxis$LimitException"
def TX10 : u_T := fun k => match k with
  | 0 => ("SharedTaxis$TextException", "place", "I", true)
  | 1 => ("java/lang/Throwable", "cause", "Ljava/lang/Throwable;", false)
  | 2 => ("java/lang/Throwable", "stackTrace", "[Ljava/lang/StackTraceElement;", false)
  | 3 => ("java/lang/Throwable", "suppressedExceptions", "Ljava/util/List;", false)
  | 4 => ("java/lang/Throwable", "detailMessage", "Ljava/lang/String;", false)
  | 5 => ("java/lang/Throwable", "backtrace", "Ljava/lang/Object;", false)
  | _ => ("java/lang/Throwable", "depth", "I", false)
def tyX10 : Nat → FieldType := fun k => match k with
  | 0 => .int
  | 1 => .object "java/lang/Throwable"
  | 2 => .array (.object "java/lang/StackTraceElement")
  | 3 => .object "java/util/List"
  | 4 => .object "java/lang/String"
  | 5 => .object "java/lang/Object"
  | _ => .int
abbrev wsX100 : List Cond := u_ws RX10 TX10 7
theorem nmX10 : ∀ a, a < 7 → ∀ b, b < 7 → a ≠ b → (TX10 a).2.1 ≠ (TX10 b).2.1 := by decide +kernel
theorem tyX10_ok : ∀ k, k < 7 → parseFieldDescriptor (TX10 k).2.2.1 = some (tyX10 k) := by decide +kernel
theorem in_X10 : ∀ w ∈ wsX100, w ∈ lw_all := lw_in wsX100 [1459, 1450, 1451, 1452, 1453, 1454, 1460] (by decide +kernel) (by decide +kernel)
def RX11 : String := "SharedTaxis$ClashException"
def TX11 : u_T := fun k => match k with
  | 0 => ("SharedTaxis$TextException", "place", "I", true)
  | 1 => ("java/lang/Throwable", "cause", "Ljava/lang/Throwable;", false)
  | 2 => ("java/lang/Throwable", "stackTrace", "[Ljava/lang/StackTraceElement;", false)
  | 3 => ("java/lang/Throwable", "suppressedExceptions", "Ljava/util/List;", false)
  | 4 => ("java/lang/Throwable", "detailMessage", "Ljava/lang/String;", false)
  | 5 => ("java/lang/Throwable", "backtrace", "Ljava/lang/Object;", false)
  | _ => ("java/lang/Throwable", "depth", "I", false)
def tyX11 : Nat → FieldType := fun k => match k with
  | 0 => .int
  | 1 => .object "java/lang/Throwable"
  | 2 => .array (.object "java/lang/StackTraceElement")
  | 3 => .object "java/util/List"
  | 4 => .object "java/lang/String"
  | 5 => .object "java/lang/Object"
  | _ => .int
abbrev wsX110 : List Cond := u_ws RX11 TX11 7
theorem nmX11 : ∀ a, a < 7 → ∀ b, b < 7 → a ≠ b → (TX11 a).2.1 ≠ (TX11 b).2.1 := by decide +kernel
theorem tyX11_ok : ∀ k, k < 7 → parseFieldDescriptor (TX11 k).2.2.1 = some (tyX11 k) := by decide +kernel
theorem in_X11 : ∀ w ∈ wsX110, w ∈ lw_all := lw_in wsX110 [1485, 1476, 1477, 1478, 1479, 1480, 1486] (by decide +kernel) (by decide +kernel)
def RX12 : String := "SharedTaxis$Taxi"
def TX12 : u_T := fun k => match k with
  | 0 => ("SharedTaxis$Taxi", "seats", "I", true)
  | 1 => ("SharedTaxis$Taxi", "begin", "I", true)
  | 2 => ("SharedTaxis$Taxi", "zone", "I", false)
  | 3 => ("SharedTaxis$Taxi", "free", "I", false)
  | 4 => ("SharedTaxis$Taxi", "end", "I", false)
  | 5 => ("SharedTaxis$Taxi", "stint", "I", false)
  | 6 => ("SharedTaxis$Taxi", "left", "I", false)
  | 7 => ("SharedTaxis$Taxi", "stops", "Ljava/util/List;", true)
  | 8 => ("SharedTaxis$Taxi", "aboard", "Ljava/util/List;", true)
  | 9 => ("SharedTaxis$Taxi", "takings", "I", false)
  | 10 => ("SharedTaxis$Taxi", "tips", "I", false)
  | 11 => ("SharedTaxis$Taxi", "driven", "I", false)
  | 12 => ("SharedTaxis$Taxi", "withParties", "I", false)
  | 13 => ("SharedTaxis$Taxi", "shared", "I", false)
  | _ => ("SharedTaxis$Taxi", "amounts", "I", false)
def tyX12 : Nat → FieldType := fun k => match k with
  | 0 => .int
  | 1 => .int
  | 2 => .int
  | 3 => .int
  | 4 => .int
  | 5 => .int
  | 6 => .int
  | 7 => .object "java/util/List"
  | 8 => .object "java/util/List"
  | 9 => .int
  | 10 => .int
  | 11 => .int
  | 12 => .int
  | 13 => .int
  | _ => .int
abbrev wsX120 : List Cond := u_ws RX12 TX12 15
theorem nmX12 : ∀ a, a < 15 → ∀ b, b < 15 → a ≠ b → (TX12 a).2.1 ≠ (TX12 b).2.1 := by decide +kernel
theorem tyX12_ok : ∀ k, k < 15 → parseFieldDescriptor (TX12 k).2.2.1 = some (tyX12 k) := by decide +kernel
theorem in_X12 : ∀ w ∈ wsX120, w ∈ lw_all := lw_in wsX120 [955, 957, 959, 961, 963, 965, 967, 969, 971, 973, 975, 977, 979, 981, 983] (by decide +kernel) (by decide +kernel)
def RX13 : String := "SharedTaxis$Walk"
def TX13 : u_T := fun k => match k with
  | 0 => ("SharedTaxis$Walk", "state", "LSharedTaxis$State;", true)
  | 1 => ("SharedTaxis$Walk", "taxi", "LSharedTaxis$Taxi;", false)
  | 2 => ("SharedTaxis$Walk", "route", "Ljava/util/List;", false)
  | 3 => ("SharedTaxis$Walk", "index", "I", false)
  | 4 => ("SharedTaxis$Walk", "zone", "I", false)
  | 5 => ("SharedTaxis$Walk", "free", "I", false)
  | 6 => ("SharedTaxis$Walk", "persons", "I", false)
  | 7 => ("SharedTaxis$Walk", "stop", "LSharedTaxis$Stop;", false)
  | 8 => ("SharedTaxis$Walk", "ride", "LSharedTaxis$Ride;", false)
  | 9 => ("SharedTaxis$Walk", "minutes", "I", false)
  | 10 => ("SharedTaxis$Walk", "leave", "I", false)
  | 11 => ("SharedTaxis$Walk", "arrive", "I", false)
  | 12 => ("SharedTaxis$Walk", "done", "I", false)
  | 13 => ("SharedTaxis$Walk", "stint", "I", false)
  | 14 => ("SharedTaxis$Walk", "carried", "I", false)
  | 15 => ("SharedTaxis$Walk", "isBroken", "Z", false)
  | _ => ("SharedTaxis$Walk", "boarded", "[I", true)
def tyX13 : Nat → FieldType := fun k => match k with
  | 0 => .object "SharedTaxis$State"
  | 1 => .object "SharedTaxis$Taxi"
  | 2 => .object "java/util/List"
  | 3 => .int
  | 4 => .int
  | 5 => .int
  | 6 => .int
  | 7 => .object "SharedTaxis$Stop"
  | 8 => .object "SharedTaxis$Ride"
  | 9 => .int
  | 10 => .int
  | 11 => .int
  | 12 => .int
  | 13 => .int
  | 14 => .int
  | 15 => .boolean
  | _ => .array .int
abbrev wsX130 : List Cond := u_ws RX13 TX13 17
theorem nmX13 : ∀ a, a < 17 → ∀ b, b < 17 → a ≠ b → (TX13 a).2.1 ≠ (TX13 b).2.1 := by decide +kernel
theorem tyX13_ok : ∀ k, k < 17 → parseFieldDescriptor (TX13 k).2.2.1 = some (tyX13 k) := by decide +kernel
theorem in_X13 : ∀ w ∈ wsX130, w ∈ lw_all := lw_in wsX130 [1674, 1676, 1678, 1680, 1682, 1684, 1686, 1688, 1690, 1692, 1694, 1696, 1698, 1700, 1702, 1704, 1706] (by decide +kernel) (by decide +kernel)
def RX14 : String := "SharedTaxis$Search"
def TX14 : u_T := fun k => match k with
  | 0 => ("SharedTaxis$Search", "state", "LSharedTaxis$State;", true)
  | 1 => ("SharedTaxis$Search", "walk", "LSharedTaxis$Walk;", true)
  | 2 => ("SharedTaxis$Search", "tried", "Ljava/util/List;", true)
  | 3 => ("SharedTaxis$Search", "extra", "I", false)
  | 4 => ("SharedTaxis$Search", "pickup", "I", false)
  | 5 => ("SharedTaxis$Search", "drop", "I", false)
  | 6 => ("SharedTaxis$Search", "first", "I", false)
  | _ => ("SharedTaxis$Search", "second", "I", false)
def tyX14 : Nat → FieldType := fun k => match k with
  | 0 => .object "SharedTaxis$State"
  | 1 => .object "SharedTaxis$Walk"
  | 2 => .object "java/util/List"
  | 3 => .int
  | 4 => .int
  | 5 => .int
  | 6 => .int
  | _ => .int
abbrev wsX140 : List Cond := u_ws RX14 TX14 8
theorem nmX14 : ∀ a, a < 8 → ∀ b, b < 8 → a ≠ b → (TX14 a).2.1 ≠ (TX14 b).2.1 := by decide +kernel
theorem tyX14_ok : ∀ k, k < 8 → parseFieldDescriptor (TX14 k).2.2.1 = some (tyX14 k) := by decide +kernel
theorem in_X14 : ∀ w ∈ wsX140, w ∈ lw_all := lw_in wsX140 [1788, 1790, 1792, 1794, 1796, 1798, 1800, 1802] (by decide +kernel) (by decide +kernel)
def RX15 : String := "SharedTaxis$Stop"
def TX15 : u_T := fun k => match k with
  | 0 => ("SharedTaxis$Stop", "ride", "I", true)
  | _ => ("SharedTaxis$Stop", "pickup", "Z", true)
def tyX15 : Nat → FieldType := fun k => match k with
  | 0 => .int
  | _ => .boolean
abbrev wsX150 : List Cond := u_ws RX15 TX15 2
theorem nmX15 : ∀ a, a < 2 → ∀ b, b < 2 → a ≠ b → (TX15 a).2.1 ≠ (TX15 b).2.1 := by decide +kernel
theorem tyX15_ok : ∀ k, k < 2 → parseFieldDescriptor (TX15 k).2.2.1 = some (tyX15 k) := by decide +kernel
theorem in_X15 : ∀ w ∈ wsX150, w ∈ lw_all := lw_in wsX150 [1828, 1830] (by decide +kernel) (by decide +kernel)
def RX16 : String := "SharedTaxis$Ride"
def TX16 : u_T := fun k => match k with
  | 0 => ("SharedTaxis$Ride", "number", "I", true)
  | 1 => ("SharedTaxis$Ride", "from", "I", true)
  | 2 => ("SharedTaxis$Ride", "to", "I", true)
  | 3 => ("SharedTaxis$Ride", "persons", "I", true)
  | 4 => ("SharedTaxis$Ride", "ready", "I", true)
  | 5 => ("SharedTaxis$Ride", "latest", "I", true)
  | 6 => ("SharedTaxis$Ride", "detour", "I", true)
  | 7 => ("SharedTaxis$Ride", "direct", "I", true)
  | 8 => ("SharedTaxis$Ride", "state", "I", false)
  | 9 => ("SharedTaxis$Ride", "taxi", "I", false)
  | 10 => ("SharedTaxis$Ride", "boarded", "I", false)
  | 11 => ("SharedTaxis$Ride", "dropped", "I", false)
  | 12 => ("SharedTaxis$Ride", "paid", "I", false)
  | 13 => ("SharedTaxis$Ride", "absent", "Z", false)
  | _ => ("SharedTaxis$Ride", "offer", "LSharedTaxis$Offer;", false)
def tyX16 : Nat → FieldType := fun k => match k with
  | 0 => .int
  | 1 => .int
  | 2 => .int
  | 3 => .int
  | 4 => .int
  | 5 => .int
  | 6 => .int
  | 7 => .int
  | 8 => .int
  | 9 => .int
  | 10 => .int
  | 11 => .int
  | 12 => .int
  | 13 => .boolean
  | _ => .object "SharedTaxis$Offer"
abbrev wsX160 : List Cond := u_ws RX16 TX16 15
theorem nmX16 : ∀ a, a < 15 → ∀ b, b < 15 → a ≠ b → (TX16 a).2.1 ≠ (TX16 b).2.1 := by decide +kernel
theorem tyX16_ok : ∀ k, k < 15 → parseFieldDescriptor (TX16 k).2.2.1 = some (tyX16 k) := by decide +kernel
theorem in_X16 : ∀ w ∈ wsX160, w ∈ lw_all := lw_in wsX160 [1152, 1154, 1156, 1158, 1160, 1162, 1164, 1166, 1168, 1170, 1172, 1174, 1176, 1178, 1180] (by decide +kernel) (by decide +kernel)
def RX17 : String := "SharedTaxis$Offer"
def TX17 : u_T := fun k => match k with
  | 0 => ("SharedTaxis$Offer", "taxi", "I", true)
  | 1 => ("SharedTaxis$Offer", "extra", "I", true)
  | 2 => ("SharedTaxis$Offer", "pickup", "I", true)
  | 3 => ("SharedTaxis$Offer", "drop", "I", true)
  | _ => ("SharedTaxis$Offer", "last", "I", true)
def tyX17 : Nat → FieldType := fun k => match k with
  | 0 => .int
  | 1 => .int
  | 2 => .int
  | 3 => .int
  | _ => .int
abbrev wsX170 : List Cond := u_ws RX17 TX17 5
theorem nmX17 : ∀ a, a < 5 → ∀ b, b < 5 → a ≠ b → (TX17 a).2.1 ≠ (TX17 b).2.1 := by decide +kernel
theorem tyX17_ok : ∀ k, k < 5 → parseFieldDescriptor (TX17 k).2.2.1 = some (tyX17 k) := by decide +kernel
theorem in_X17 : ∀ w ∈ wsX170, w ∈ lw_all := lw_in wsX170 [2104, 2106, 2108, 2110, 2112] (by decide +kernel) (by decide +kernel)
def RX18 : String := "SharedTaxis$Passing"
def TX18 : u_T := fun k => match k with
  | 0 => ("SharedTaxis$Passing", "state", "LSharedTaxis$State;", true)
  | 1 => ("SharedTaxis$Passing", "until", "I", true)
  | _ => ("SharedTaxis$Passing", "count", "I", false)
def tyX18 : Nat → FieldType := fun k => match k with
  | 0 => .object "SharedTaxis$State"
  | 1 => .int
  | _ => .int
abbrev wsX180 : List Cond := u_ws RX18 TX18 3
theorem nmX18 : ∀ a, a < 3 → ∀ b, b < 3 → a ≠ b → (TX18 a).2.1 ≠ (TX18 b).2.1 := by decide +kernel
theorem tyX18_ok : ∀ k, k < 3 → parseFieldDescriptor (TX18 k).2.2.1 = some (tyX18 k) := by decide +kernel
theorem in_X18 : ∀ w ∈ wsX180, w ∈ lw_all := lw_in wsX180 [2253, 2255, 2257] (by decide +kernel) (by decide +kernel)
def RX19 : String := "SharedTaxis$Words"
def TX19 : u_T := fun k => match k with
  | 0 => ("SharedTaxis$Words", "taxi", "LSharedTaxis$Taxi;", true)
  | _ => ("SharedTaxis$Words", "this$0", "LSharedTaxis;", true)
def tyX19 : Nat → FieldType := fun k => match k with
  | 0 => .object "SharedTaxis$Taxi"
  | _ => .object "SharedTaxis"
abbrev wsX190 : List Cond := u_ws RX19 TX19 2
theorem nmX19 : ∀ a, a < 2 → ∀ b, b < 2 → a ≠ b → (TX19 a).2.1 ≠ (TX19 b).2.1 := by decide +kernel
theorem tyX19_ok : ∀ k, k < 2 → parseFieldDescriptor (TX19 k).2.2.1 = some (tyX19 k) := by decide +kernel
theorem in_X19 : ∀ w ∈ wsX190, w ∈ lw_all := lw_in wsX190 [2403, 2405] (by decide +kernel) (by decide +kernel)
def RX20 : String := "SharedTaxis$Words$1"
def TX20 : u_T := fun k => match k with
  | 0 => ("SharedTaxis$Words$1", "next", "I", false)
  | _ => ("SharedTaxis$Words$1", "this$1", "LSharedTaxis$Words;", true)
def tyX20 : Nat → FieldType := fun k => match k with
  | 0 => .int
  | _ => .object "SharedTaxis$Words"
abbrev wsX200 : List Cond := u_ws RX20 TX20 2
theorem nmX20 : ∀ a, a < 2 → ∀ b, b < 2 → a ≠ b → (TX20 a).2.1 ≠ (TX20 b).2.1 := by decide +kernel
theorem tyX20_ok : ∀ k, k < 2 → parseFieldDescriptor (TX20 k).2.2.1 = some (tyX20 k) := by decide +kernel
theorem in_X20 : ∀ w ∈ wsX200, w ∈ lw_all := lw_in wsX200 [2426, 2428] (by decide +kernel) (by decide +kernel)
def RX21 : String := "SharedTaxis$QueryParser"
def TX21 : u_T := fun k => match k with
  | 0 => ("SharedTaxis$QueryParser", "scanner", "LSharedTaxis$Scanner;", true)
  | 1 => ("SharedTaxis$QueryParser", "first", "Z", true)
  | 2 => ("SharedTaxis$QueryParser", "test", "LSharedTaxis$Test;", true)
  | _ => ("SharedTaxis$QueryParser", "open", "I", false)
def tyX21 : Nat → FieldType := fun k => match k with
  | 0 => .object "SharedTaxis$Scanner"
  | 1 => .boolean
  | 2 => .object "SharedTaxis$Test"
  | _ => .int
abbrev wsX210 : List Cond := u_ws RX21 TX21 4
theorem nmX21 : ∀ a, a < 4 → ∀ b, b < 4 → a ≠ b → (TX21 a).2.1 ≠ (TX21 b).2.1 := by decide +kernel
theorem tyX21_ok : ∀ k, k < 4 → parseFieldDescriptor (TX21 k).2.2.1 = some (tyX21 k) := by decide +kernel
theorem in_X21 : ∀ w ∈ wsX210, w ∈ lw_all := lw_in wsX210 [2657, 2659, 2661, 2663] (by decide +kernel) (by decide +kernel)
def RX22 : String := "SharedTaxis$Tests"
def TX22 : u_T := fun k => match k with
  | 0 => ("SharedTaxis$Tests", "all", "Z", true)
  | 1 => ("SharedTaxis$Tests", "parts", "[LSharedTaxis$Test;", false)
  | _ => ("SharedTaxis$Tests", "count", "I", false)
def tyX22 : Nat → FieldType := fun k => match k with
  | 0 => .boolean
  | 1 => .array (.object "SharedTaxis$Test")
  | _ => .int
abbrev wsX220 : List Cond := u_ws RX22 TX22 3
theorem nmX22 : ∀ a, a < 3 → ∀ b, b < 3 → a ≠ b → (TX22 a).2.1 ≠ (TX22 b).2.1 := by decide +kernel
theorem tyX22_ok : ∀ k, k < 3 → parseFieldDescriptor (TX22 k).2.2.1 = some (tyX22 k) := by decide +kernel
theorem in_X22 : ∀ w ∈ wsX220, w ∈ lw_all := lw_in wsX220 [2499, 2501, 2503] (by decide +kernel) (by decide +kernel)
def RJ0 : String := "java/util/AbstractCollection"
def RJ1 : String := "java/util/AbstractList"
def RJ2 : String := "java/util/ArrayList"
def TJ2 : u_T := fun k => match k with
  | 0 => ("java/util/AbstractList", "modCount", "I", false)
  | 1 => ("java/util/ArrayList", "elementData", "[Ljava/lang/Object;", false)
  | _ => ("java/util/ArrayList", "size", "I", false)
def tyJ2 : Nat → FieldType := fun k => match k with
  | 0 => .int
  | 1 => .array (.object "java/lang/Object")
  | _ => .int
abbrev wsJ20 : List Cond := u_ws RJ2 TJ2 3
theorem nmJ2 : ∀ a, a < 3 → ∀ b, b < 3 → a ≠ b → (TJ2 a).2.1 ≠ (TJ2 b).2.1 := by decide +kernel
theorem tyJ2_ok : ∀ k, k < 3 → parseFieldDescriptor (TJ2 k).2.2.1 = some (tyJ2 k) := by decide +kernel
theorem in_J2 : ∀ w ∈ wsJ20, w ∈ lw_all := lw_in wsJ20 [229, 225, 227] (by decide +kernel) (by decide +kernel)
def RJ3 : String := "java/util/ArrayDeque"
def TJ3 : u_T := fun k => match k with
  | 0 => ("java/util/ArrayDeque", "elements", "[Ljava/lang/Object;", false)
  | 1 => ("java/util/ArrayDeque", "head", "I", false)
  | _ => ("java/util/ArrayDeque", "tail", "I", false)
def tyJ3 : Nat → FieldType := fun k => match k with
  | 0 => .array (.object "java/lang/Object")
  | 1 => .int
  | _ => .int
abbrev wsJ30 : List Cond := u_ws RJ3 TJ3 3
theorem nmJ3 : ∀ a, a < 3 → ∀ b, b < 3 → a ≠ b → (TJ3 a).2.1 ≠ (TJ3 b).2.1 := by decide +kernel
theorem tyJ3_ok : ∀ k, k < 3 → parseFieldDescriptor (TJ3 k).2.2.1 = some (tyJ3 k) := by decide +kernel
theorem in_J3 : ∀ w ∈ wsJ30, w ∈ lw_all := lw_in wsJ30 [291, 293, 295] (by decide +kernel) (by decide +kernel)
def RJ4 : String := "java/lang/Throwable"
def TJ4 : u_T := fun k => match k with
  | 0 => ("java/lang/Throwable", "cause", "Ljava/lang/Throwable;", false)
  | 1 => ("java/lang/Throwable", "stackTrace", "[Ljava/lang/StackTraceElement;", false)
  | 2 => ("java/lang/Throwable", "suppressedExceptions", "Ljava/util/List;", false)
  | 3 => ("java/lang/Throwable", "detailMessage", "Ljava/lang/String;", false)
  | _ => ("java/lang/Throwable", "backtrace", "Ljava/lang/Object;", false)
def tyJ4 : Nat → FieldType := fun k => match k with
  | 0 => .object "java/lang/Throwable"
  | 1 => .array (.object "java/lang/StackTraceElement")
  | 2 => .object "java/util/List"
  | 3 => .object "java/lang/String"
  | _ => .object "java/lang/Object"
abbrev wsJ40 : List Cond := u_ws RJ4 TJ4 5
theorem nmJ4 : ∀ a, a < 5 → ∀ b, b < 5 → a ≠ b → (TJ4 a).2.1 ≠ (TJ4 b).2.1 := by decide +kernel
theorem tyJ4_ok : ∀ k, k < 5 → parseFieldDescriptor (TJ4 k).2.2.1 = some (tyJ4 k) := by decide +kernel
theorem in_J4 : ∀ w ∈ wsJ40, w ∈ lw_all := lw_in wsJ40 [427, 429, 431, 433, 435] (by decide +kernel) (by decide +kernel)
def RJ5 : String := "java/lang/Exception"
def RJ6 : String := "java/lang/RuntimeException"
def RJ7 : String := "java/lang/IllegalArgumentException"
def TJ7 : u_T := fun k => match k with
  | 0 => ("java/lang/Throwable", "cause", "Ljava/lang/Throwable;", false)
  | 1 => ("java/lang/Throwable", "stackTrace", "[Ljava/lang/StackTraceElement;", false)
  | 2 => ("java/lang/Throwable", "suppressedExceptions", "Ljava/util/List;", false)
  | 3 => ("java/lang/Throwable", "detailMessage", "Ljava/lang/String;", false)
  | 4 => ("java/lang/Throwable", "backtrace", "Ljava/lang/Object;", false)
  | _ => ("java/lang/Throwable", "depth", "I", false)
def tyJ7 : Nat → FieldType := fun k => match k with
  | 0 => .object "java/lang/Throwable"
  | 1 => .array (.object "java/lang/StackTraceElement")
  | 2 => .object "java/util/List"
  | 3 => .object "java/lang/String"
  | 4 => .object "java/lang/Object"
  | _ => .int
abbrev wsJ70 : List Cond := u_ws RJ7 TJ7 6
theorem nmJ7 : ∀ a, a < 6 → ∀ b, b < 6 → a ≠ b → (TJ7 a).2.1 ≠ (TJ7 b).2.1 := by decide +kernel
theorem tyJ7_ok : ∀ k, k < 6 → parseFieldDescriptor (TJ7 k).2.2.1 = some (tyJ7 k) := by decide +kernel
theorem in_J7 : ∀ w ∈ wsJ70, w ∈ lw_all := lw_in wsJ70 [725, 726, 727, 728, 729, 748] (by decide +kernel) (by decide +kernel)
def RJ8 : String := "java/lang/AbstractStringBuilder"
def RJ9 : String := "java/lang/StringBuilder"
def TJ9 : u_T := fun k => match k with
  | 0 => ("java/lang/AbstractStringBuilder", "value", "[B", false)
  | 1 => ("java/lang/AbstractStringBuilder", "coder", "B", false)
  | 2 => ("java/lang/AbstractStringBuilder", "maybeLatin1", "Z", false)
  | _ => ("java/lang/AbstractStringBuilder", "count", "I", false)
def tyJ9 : Nat → FieldType := fun k => match k with
  | 0 => .array .byte
  | 1 => .byte
  | 2 => .boolean
  | _ => .int
abbrev wsJ90 : List Cond := u_ws RJ9 TJ9 4
theorem nmJ9 : ∀ a, a < 4 → ∀ b, b < 4 → a ≠ b → (TJ9 a).2.1 ≠ (TJ9 b).2.1 := by decide +kernel
theorem tyJ9_ok : ∀ k, k < 4 → parseFieldDescriptor (TJ9 k).2.2.1 = some (tyJ9 k) := by decide +kernel
theorem in_J9 : ∀ w ∈ wsJ90, w ∈ lw_all := lw_in wsJ90 [528, 530, 532, 534] (by decide +kernel) (by decide +kernel)
def RJ10 : String := "java/lang/String"
def TJ10 : u_T := fun k => match k with
  | 0 => ("java/lang/String", "value", "[B", true)
  | 1 => ("java/lang/String", "coder", "B", true)
  | 2 => ("java/lang/String", "hash", "I", false)
  | _ => ("java/lang/String", "hashIsZero", "Z", false)
def tyJ10 : Nat → FieldType := fun k => match k with
  | 0 => .array .byte
  | 1 => .byte
  | 2 => .int
  | _ => .boolean
abbrev wsJ100 : List Cond := u_ws RJ10 TJ10 4
theorem nmJ10 : ∀ a, a < 4 → ∀ b, b < 4 → a ≠ b → (TJ10 a).2.1 ≠ (TJ10 b).2.1 := by decide +kernel
theorem tyJ10_ok : ∀ k, k < 4 → parseFieldDescriptor (TJ10 k).2.2.1 = some (tyJ10 k) := by decide +kernel
theorem in_J10 : ∀ w ∈ wsJ100, w ∈ lw_all := lw_in wsJ100 [767, 769, 771, 773] (by decide +kernel) (by decide +kernel)
def RJ11 : String := "java/lang/StringUTF16"
def RJ12 : String := "jdk/internal/util/ArraysSupport"
def RJ13 : String := "java/lang/Math"
def RJ14 : String := "java/util/Arrays"
def RJ15 : String := "java/lang/StringLatin1"
def RJ16 : String := "jdk/internal/util/Preconditions"
def RJ17 : String := "java/lang/Number"
def RJ18 : String := "java/lang/Integer"
def TJ18 : u_T := fun k => match k with
  | _ => ("java/lang/Integer", "value", "I", true)
def tyJ18 : Nat → FieldType := fun k => match k with
  | _ => .int
abbrev wsJ180 : List Cond := u_ws RJ18 TJ18 1
theorem nmJ18 : ∀ a, a < 1 → ∀ b, b < 1 → a ≠ b → (TJ18 a).2.1 ≠ (TJ18 b).2.1 := by decide +kernel
theorem tyJ18_ok : ∀ k, k < 1 → parseFieldDescriptor (TJ18 k).2.2.1 = some (tyJ18 k) := by decide +kernel
theorem in_J18 : ∀ w ∈ wsJ180, w ∈ lw_all := lw_in wsJ180 [1937] (by decide +kernel) (by decide +kernel)
def RJ19 : String := "java/lang/Character"
def RJ20 : String := "java/util/Objects"
def RJ21 : String := "java/util/ArrayList$Itr"
def TJ21 : u_T := fun k => match k with
  | 0 => ("java/util/ArrayList$Itr", "cursor", "I", false)
  | 1 => ("java/util/ArrayList$Itr", "lastRet", "I", false)
  | 2 => ("java/util/ArrayList$Itr", "expectedModCount", "I", false)
  | _ => ("java/util/ArrayList$Itr", "this$0", "Ljava/util/ArrayList;", true)
def tyJ21 : Nat → FieldType := fun k => match k with
  | 0 => .int
  | 1 => .int
  | 2 => .int
  | _ => .object "java/util/ArrayList"
abbrev wsJ210 : List Cond := u_ws RJ21 TJ21 4
theorem nmJ21 : ∀ a, a < 4 → ∀ b, b < 4 → a ≠ b → (TJ21 a).2.1 ≠ (TJ21 b).2.1 := by decide +kernel
theorem tyJ21_ok : ∀ k, k < 4 → parseFieldDescriptor (TJ21 k).2.2.1 = some (tyJ21 k) := by decide +kernel
theorem in_J21 : ∀ w ∈ wsJ210, w ∈ lw_all := lw_in wsJ210 [358, 360, 362, 364] (by decide +kernel) (by decide +kernel)
def RJ22 : String := "java/util/NoSuchElementException"
def TJ22 : u_T := fun k => match k with
  | 0 => ("java/lang/Throwable", "cause", "Ljava/lang/Throwable;", false)
  | 1 => ("java/lang/Throwable", "stackTrace", "[Ljava/lang/StackTraceElement;", false)
  | 2 => ("java/lang/Throwable", "suppressedExceptions", "Ljava/util/List;", false)
  | 3 => ("java/lang/Throwable", "detailMessage", "Ljava/lang/String;", false)
  | 4 => ("java/lang/Throwable", "backtrace", "Ljava/lang/Object;", false)
  | _ => ("java/lang/Throwable", "depth", "I", false)
def tyJ22 : Nat → FieldType := fun k => match k with
  | 0 => .object "java/lang/Throwable"
  | 1 => .array (.object "java/lang/StackTraceElement")
  | 2 => .object "java/util/List"
  | 3 => .object "java/lang/String"
  | 4 => .object "java/lang/Object"
  | _ => .int
abbrev wsJ220 : List Cond := u_ws RJ22 TJ22 6
theorem nmJ22 : ∀ a, a < 6 → ∀ b, b < 6 → a ≠ b → (TJ22 a).2.1 ≠ (TJ22 b).2.1 := by decide +kernel
theorem tyJ22_ok : ∀ k, k < 6 → parseFieldDescriptor (TJ22 k).2.2.1 = some (tyJ22 k) := by decide +kernel
theorem in_J22 : ∀ w ∈ wsJ220, w ∈ lw_all := lw_in wsJ220 [426, 428, 430, 432, 434, 481] (by decide +kernel) (by decide +kernel)
def RJ23 : String := "java/lang/IllegalStateException"
def TJ23 : u_T := fun k => match k with
  | 0 => ("java/lang/Throwable", "cause", "Ljava/lang/Throwable;", false)
  | 1 => ("java/lang/Throwable", "stackTrace", "[Ljava/lang/StackTraceElement;", false)
  | 2 => ("java/lang/Throwable", "suppressedExceptions", "Ljava/util/List;", false)
  | 3 => ("java/lang/Throwable", "detailMessage", "Ljava/lang/String;", false)
  | 4 => ("java/lang/Throwable", "backtrace", "Ljava/lang/Object;", false)
  | _ => ("java/lang/Throwable", "depth", "I", false)
def tyJ23 : Nat → FieldType := fun k => match k with
  | 0 => .object "java/lang/Throwable"
  | 1 => .array (.object "java/lang/StackTraceElement")
  | 2 => .object "java/util/List"
  | 3 => .object "java/lang/String"
  | 4 => .object "java/lang/Object"
  | _ => .int
abbrev wsJ230 : List Cond := u_ws RJ23 TJ23 6
theorem nmJ23 : ∀ a, a < 6 → ∀ b, b < 6 → a ≠ b → (TJ23 a).2.1 ≠ (TJ23 b).2.1 := by decide +kernel
theorem tyJ23_ok : ∀ k, k < 6 → parseFieldDescriptor (TJ23 k).2.2.1 = some (tyJ23 k) := by decide +kernel
theorem in_J23 : ∀ w ∈ wsJ230, w ∈ lw_all := lw_in wsJ230 [2201, 2202, 2203, 2204, 2205, 2210] (by decide +kernel) (by decide +kernel)
def RJ24 : String := "java/util/ConcurrentModificationException"
def TJ24 : u_T := fun k => match k with
  | 0 => ("java/lang/Throwable", "backtrace", "Ljava/lang/Object;", false)
  | 1 => ("java/lang/Throwable", "detailMessage", "Ljava/lang/String;", false)
  | 2 => ("java/lang/Throwable", "cause", "Ljava/lang/Throwable;", false)
  | 3 => ("java/lang/Throwable", "stackTrace", "[Ljava/lang/StackTraceElement;", false)
  | 4 => ("java/lang/Throwable", "depth", "I", false)
  | _ => ("java/lang/Throwable", "suppressedExceptions", "Ljava/util/List;", false)
def tyJ24 : Nat → FieldType := fun k => match k with
  | 0 => .object "java/lang/Object"
  | 1 => .object "java/lang/String"
  | 2 => .object "java/lang/Throwable"
  | 3 => .array (.object "java/lang/StackTraceElement")
  | 4 => .int
  | _ => .object "java/util/List"
abbrev wsJ240 : List Cond := u_ws RJ24 TJ24 6
theorem nmJ24 : ∀ a, a < 6 → ∀ b, b < 6 → a ≠ b → (TJ24 a).2.1 ≠ (TJ24 b).2.1 := by decide +kernel
theorem tyJ24_ok : ∀ k, k < 6 → parseFieldDescriptor (TJ24 k).2.2.1 = some (tyJ24 k) := by decide +kernel
theorem in_J24 : ∀ w ∈ wsJ240, w ∈ lw_all := lw_in wsJ240 [2222, 2223, 2224, 2225, 2226, 2227] (by decide +kernel) (by decide +kernel)
def RJ25 : String := "java/lang/ArithmeticException"
def TJ25 : u_T := fun k => match k with
  | 0 => ("java/lang/Throwable", "backtrace", "Ljava/lang/Object;", false)
  | 1 => ("java/lang/Throwable", "detailMessage", "Ljava/lang/String;", false)
  | 2 => ("java/lang/Throwable", "cause", "Ljava/lang/Throwable;", false)
  | 3 => ("java/lang/Throwable", "stackTrace", "[Ljava/lang/StackTraceElement;", false)
  | 4 => ("java/lang/Throwable", "depth", "I", false)
  | _ => ("java/lang/Throwable", "suppressedExceptions", "Ljava/util/List;", false)
def tyJ25 : Nat → FieldType := fun k => match k with
  | 0 => .object "java/lang/Object"
  | 1 => .object "java/lang/String"
  | 2 => .object "java/lang/Throwable"
  | 3 => .array (.object "java/lang/StackTraceElement")
  | 4 => .int
  | _ => .object "java/util/List"
abbrev wsJ250 : List Cond := u_ws RJ25 TJ25 6
theorem nmJ25 : ∀ a, a < 6 → ∀ b, b < 6 → a ≠ b → (TJ25 a).2.1 ≠ (TJ25 b).2.1 := by decide +kernel
theorem tyJ25_ok : ∀ k, k < 6 → parseFieldDescriptor (TJ25 k).2.2.1 = some (tyJ25 k) := by decide +kernel
theorem in_J25 : ∀ w ∈ wsJ250, w ∈ lw_all := lw_in wsJ250 [2324, 2325, 2326, 2327, 2328, 2329] (by decide +kernel) (by decide +kernel)
def RJ26 : String := "java/util/ArrayDeque$DeqIterator"
def TJ26 : u_T := fun k => match k with
  | 0 => ("java/util/ArrayDeque$DeqIterator", "cursor", "I", false)
  | 1 => ("java/util/ArrayDeque$DeqIterator", "remaining", "I", false)
  | 2 => ("java/util/ArrayDeque$DeqIterator", "lastRet", "I", false)
  | _ => ("java/util/ArrayDeque$DeqIterator", "this$0", "Ljava/util/ArrayDeque;", true)
def tyJ26 : Nat → FieldType := fun k => match k with
  | 0 => .int
  | 1 => .int
  | 2 => .int
  | _ => .object "java/util/ArrayDeque"
abbrev wsJ260 : List Cond := u_ws RJ26 TJ26 4
theorem nmJ26 : ∀ a, a < 4 → ∀ b, b < 4 → a ≠ b → (TJ26 a).2.1 ≠ (TJ26 b).2.1 := by decide +kernel
theorem tyJ26_ok : ∀ k, k < 4 → parseFieldDescriptor (TJ26 k).2.2.1 = some (tyJ26 k) := by decide +kernel
theorem in_J26 : ∀ w ∈ wsJ260, w ∈ lw_all := lw_in wsJ260 [2448, 2450, 2452, 2454] (by decide +kernel) (by decide +kernel)
def RJ27 : String := "java/lang/Object"
def RJ28 : String := "java/util/Iterator"
def RJ29 : String := "java/lang/System$2"
abbrev CL : List vw_C := [(RX1, TX1, 7), (RX2, TX2, 7), (RX3, TX3, 3), (RX4, TX4, 54), (RX5, TX5, 2), (RX6, TX6, 8), (RX8, TX8, 7), (RX9, TX9, 7), (RX10, TX10, 7), (RX11, TX11, 7), (RX12, TX12, 15), (RX13, TX13, 17), (RX14, TX14, 8), (RX15, TX15, 2), (RX16, TX16, 15), (RX17, TX17, 5), (RX18, TX18, 3), (RX19, TX19, 2), (RX20, TX20, 2), (RX21, TX21, 4), (RX22, TX22, 3), (RJ2, TJ2, 3), (RJ3, TJ3, 3), (RJ4, TJ4, 5), (RJ7, TJ7, 6), (RJ9, TJ9, 4), (RJ10, TJ10, 4), (RJ18, TJ18, 1), (RJ21, TJ21, 4), (RJ22, TJ22, 6), (RJ23, TJ23, 6), (RJ24, TJ24, 6), (RJ25, TJ25, 6), (RJ26, TJ26, 4), (RJ22, TJ22, 0), (RJ7, TJ7, 0), (RJ25, TJ25, 0)]
abbrev ciE22 : Nat := 34
abbrev ciE7 : Nat := 35
abbrev ciE25 : Nat := 36
abbrev ciX1 : Nat := 0
abbrev ciX2 : Nat := 1
abbrev ciX3 : Nat := 2
abbrev ciX4 : Nat := 3
abbrev ciX5 : Nat := 4
abbrev ciX6 : Nat := 5
abbrev ciX8 : Nat := 6
abbrev ciX9 : Nat := 7
abbrev ciX10 : Nat := 8
abbrev ciX11 : Nat := 9
abbrev ciX12 : Nat := 10
abbrev ciX13 : Nat := 11
abbrev ciX14 : Nat := 12
abbrev ciX15 : Nat := 13
abbrev ciX16 : Nat := 14
abbrev ciX17 : Nat := 15
abbrev ciX18 : Nat := 16
abbrev ciX19 : Nat := 17
abbrev ciX20 : Nat := 18
abbrev ciX21 : Nat := 19
abbrev ciX22 : Nat := 20
abbrev ciJ2 : Nat := 21
abbrev ciJ3 : Nat := 22
abbrev ciJ4 : Nat := 23
abbrev ciJ7 : Nat := 24
abbrev ciJ9 : Nat := 25
abbrev ciJ10 : Nat := 26
abbrev ciJ18 : Nat := 27
abbrev ciJ21 : Nat := 28
abbrev ciJ22 : Nat := 29
abbrev ciJ23 : Nat := 30
abbrev ciJ24 : Nat := 31
abbrev ciJ25 : Nat := 32
abbrev ciJ26 : Nat := 33
/-- the classes of lambdas, by their sites: no names, what they hold -/
abbrev CLX : List vw_C := CL ++ [("", fun _ => ("", "", "", false), 0), ("", fun _ => ("", "", "", false), 0), ("", fun _ => ("", "", "", false), 0), ("", fun _ => ("", "", "", false), 0), ("", fun _ => ("", "", "", false), 0), ("", fun _ => ("", "", "", false), 0), ("", fun _ => ("", "", "", false), 0), ("", fun _ => ("", "", "", false), 0), ("", fun _ => ("", "", "", false), 0), ("", fun _ => ("", "", "", false), 1), ("", fun _ => ("", "", "", false), 1), ("", fun _ => ("", "", "", false), 4)]
abbrev ciL : Nat := 37
theorem clu {ci : Nat} {r : vw_C} (h : CL[ci]? = some r) : CLX[ci]? = some r := by
  have hl : ci < CL.length := (List.getElem?_eq_some_iff.mp h).1
  show (CL ++ _)[ci]? = _
  rw [List.getElem?_append_left hl]; exact h
theorem clx {ci : Nat} {r q : vw_C} (h : CLX[ci]? = some r) (hc : CL[ci]? = some q) : r = q := Option.some.inj (h.symm.trans (clu hc))
