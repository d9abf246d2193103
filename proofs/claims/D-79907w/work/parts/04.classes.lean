set_option maxRecDepth 100000
def RJ0 : String := "java/util/AbstractCollection"
def RJ1 : String := "java/util/AbstractList"
def RJ10 : String := "java/lang/Character"
def RJ11 : String := "jdk/internal/util/ArraysSupport"
def RJ12 : String := "java/util/Arrays"
def RJ13 : String := "java/util/Objects"
def RJ14 : String := "java/lang/RuntimeException"
def RJ15 : String := "java/lang/NegativeArraySizeException"
def TJ15 : u_T := fun k => match k with
  | 0 => ("java/lang/Throwable", "backtrace", "Ljava/lang/Object;", false)
  | 1 => ("java/lang/Throwable", "detailMessage", "Ljava/lang/String;", false)
  | 2 => ("java/lang/Throwable", "cause", "Ljava/lang/Throwable;", false)
  | 3 => ("java/lang/Throwable", "stackTrace", "[Ljava/lang/StackTraceElement;", false)
  | 4 => ("java/lang/Throwable", "depth", "I", false)
  | _ => ("java/lang/Throwable", "suppressedExceptions", "Ljava/util/List;", false)
def tyJ15 : Nat → FieldType := fun k => match k with
  | 0 => .object "java/lang/Object"
  | 1 => .object "java/lang/String"
  | 2 => .object "java/lang/Throwable"
  | 3 => .array (.object "java/lang/StackTraceElement")
  | 4 => .int
  | _ => .object "java/util/List"
abbrev wsJ150 : List Cond := u_ws RJ15 TJ15 6
theorem nmJ15 : ∀ a, a < 6 → ∀ b, b < 6 → a ≠ b → (TJ15 a).2.1 ≠ (TJ15 b).2.1 := by decide +kernel
theorem tyJ15_ok : ∀ k, k < 6 → parseFieldDescriptor (TJ15 k).2.2.1 = some (tyJ15 k) := by decide +kernel
theorem in_J15 : ∀ w ∈ wsJ150, w ∈ lw_all := lw_in wsJ150 [1159, 1160, 1161, 1162, 1163, 1164] (by decide +kernel) (by decide +kernel)
def RJ16 : String := "java/lang/ClassCastException"
def TJ16 : u_T := fun k => match k with
  | 0 => ("java/lang/Throwable", "backtrace", "Ljava/lang/Object;", false)
  | 1 => ("java/lang/Throwable", "detailMessage", "Ljava/lang/String;", false)
  | 2 => ("java/lang/Throwable", "cause", "Ljava/lang/Throwable;", false)
  | 3 => ("java/lang/Throwable", "stackTrace", "[Ljava/lang/StackTraceElement;", false)
  | 4 => ("java/lang/Throwable", "depth", "I", false)
  | _ => ("java/lang/Throwable", "suppressedExceptions", "Ljava/util/List;", false)
def tyJ16 : Nat → FieldType := fun k => match k with
  | 0 => .object "java/lang/Object"
  | 1 => .object "java/lang/String"
  | 2 => .object "java/lang/Throwable"
  | 3 => .array (.object "java/lang/StackTraceElement")
  | 4 => .int
  | _ => .object "java/util/List"
abbrev wsJ160 : List Cond := u_ws RJ16 TJ16 6
theorem nmJ16 : ∀ a, a < 6 → ∀ b, b < 6 → a ≠ b → (TJ16 a).2.1 ≠ (TJ16 b).2.1 := by decide +kernel
theorem tyJ16_ok : ∀ k, k < 6 → parseFieldDescriptor (TJ16 k).2.2.1 = some (tyJ16 k) := by decide +kernel
theorem in_J16 : ∀ w ∈ wsJ160, w ∈ lw_all := lw_in wsJ160 [1192, 1193, 1194, 1195, 1196, 1197] (by decide +kernel) (by decide +kernel)
def RJ17 : String := "java/lang/IndexOutOfBoundsException"
def RJ18 : String := "java/lang/ArrayIndexOutOfBoundsException"
def TJ18 : u_T := fun k => match k with
  | 0 => ("java/lang/Throwable", "backtrace", "Ljava/lang/Object;", false)
  | 1 => ("java/lang/Throwable", "detailMessage", "Ljava/lang/String;", false)
  | 2 => ("java/lang/Throwable", "cause", "Ljava/lang/Throwable;", false)
  | 3 => ("java/lang/Throwable", "stackTrace", "[Ljava/lang/StackTraceElement;", false)
  | 4 => ("java/lang/Throwable", "depth", "I", false)
  | _ => ("java/lang/Throwable", "suppressedExceptions", "Ljava/util/List;", false)
def tyJ18 : Nat → FieldType := fun k => match k with
  | 0 => .object "java/lang/Object"
  | 1 => .object "java/lang/String"
  | 2 => .object "java/lang/Throwable"
  | 3 => .array (.object "java/lang/StackTraceElement")
  | 4 => .int
  | _ => .object "java/util/List"
abbrev wsJ180 : List Cond := u_ws RJ18 TJ18 6
theorem nmJ18 : ∀ a, a < 6 → ∀ b, b < 6 → a ≠ b → (TJ18 a).2.1 ≠ (TJ18 b).2.1 := by decide +kernel
theorem tyJ18_ok : ∀ k, k < 6 → parseFieldDescriptor (TJ18 k).2.2.1 = some (tyJ18 k) := by decide +kernel
theorem in_J18 : ∀ w ∈ wsJ180, w ∈ lw_all := lw_in wsJ180 [1209, 1210, 1211, 1212, 1213, 1214] (by decide +kernel) (by decide +kernel)
def RJ19 : String := "java/lang/Object"
def RJ2 : String := "java/util/ArrayList"
def TJ2 : u_T := fun k => match k with
  | 0 => ("java/util/AbstractList", "modCount", "I", false)
  | 1 => ("java/util/ArrayList", "elementData", "[Ljava/lang/Object;", false)
  | _ => ("java/util/ArrayList", "size", "I", false)
def tyJ2 : Nat → FieldType := fun k => match k with
  | 0 => .int
  | 1 => .array (.object "java/lang/Object")
  | _ => .int
abbrev wsJ20 : List Cond := u_ws RJ2 TJ2 3
theorem nmJ2 : ∀ a, a < 3 → ∀ b, b < 3 → a ≠ b → (TJ2 a).2.1 ≠ (TJ2 b).2.1 := by decide +kernel
theorem tyJ2_ok : ∀ k, k < 3 → parseFieldDescriptor (TJ2 k).2.2.1 = some (tyJ2 k) := by decide +kernel
theorem in_J2 : ∀ w ∈ wsJ20, w ∈ lw_all := lw_in wsJ20 [163, 159, 161] (by decide +kernel) (by decide +kernel)
def RJ3 : String := "java/lang/Throwable"
def TJ3 : u_T := fun k => match k with
  | 0 => ("java/lang/Throwable", "cause", "Ljava/lang/Throwable;", false)
  | 1 => ("java/lang/Throwable", "stackTrace", "[Ljava/lang/StackTraceElement;", false)
  | 2 => ("java/lang/Throwable", "suppressedExceptions", "Ljava/util/List;", false)
  | 3 => ("java/lang/Throwable", "detailMessage", "Ljava/lang/String;", false)
  | _ => ("java/lang/Throwable", "backtrace", "Ljava/lang/Object;", false)
def tyJ3 : Nat → FieldType := fun k => match k with
  | 0 => .object "java/lang/Throwable"
  | 1 => .array (.object "java/lang/StackTraceElement")
  | 2 => .object "java/util/List"
  | 3 => .object "java/lang/String"
  | _ => .object "java/lang/Object"
abbrev wsJ30 : List Cond := u_ws RJ3 TJ3 5
theorem nmJ3 : ∀ a, a < 5 → ∀ b, b < 5 → a ≠ b → (TJ3 a).2.1 ≠ (TJ3 b).2.1 := by decide +kernel
theorem tyJ3_ok : ∀ k, k < 5 → parseFieldDescriptor (TJ3 k).2.2.1 = some (tyJ3 k) := by decide +kernel
theorem in_J3 : ∀ w ∈ wsJ30, w ∈ lw_all := lw_in wsJ30 [394, 396, 398, 400, 402] (by decide +kernel) (by decide +kernel)
def RJ4 : String := "java/lang/Exception"
def RJ5 : String := "java/lang/String"
def TJ5 : u_T := fun k => match k with
  | 0 => ("java/lang/String", "value", "[B", true)
  | _ => ("java/lang/String", "coder", "B", true)
def tyJ5 : Nat → FieldType := fun k => match k with
  | 0 => .array .byte
  | _ => .byte
abbrev wsJ50 : List Cond := u_ws RJ5 TJ5 2
theorem nmJ5 : ∀ a, a < 2 → ∀ b, b < 2 → a ≠ b → (TJ5 a).2.1 ≠ (TJ5 b).2.1 := by decide +kernel
theorem tyJ5_ok : ∀ k, k < 2 → parseFieldDescriptor (TJ5 k).2.2.1 = some (tyJ5 k) := by decide +kernel
theorem in_J5 : ∀ w ∈ wsJ50, w ∈ lw_all := lw_in wsJ50 [1171, 1173] (by decide +kernel) (by decide +kernel)
def RJ6 : String := "java/lang/StringLatin1"
def RJ7 : String := "java/lang/Math"
def RJ8 : String := "java/lang/StringUTF16"
def RJ9 : String := "jdk/internal/util/Preconditions"
def RX0 : String := "Samovar"
def TX0 : u_T := fun k => match k with
  | 0 => ("Samovar", "latest", "I", false)
  | 1 => ("Samovar", "woodpile", "LSamovar$Woodpile;", true)
  | 2 => ("Samovar", "company", "LSamovar$Company;", true)
  | 3 => ("Samovar", "texts", "[LSamovar$Text;", true)
  | 4 => ("Samovar", "guests", "Ljava/util/ArrayList;", false)
  | 5 => ("Samovar", "settings", "[I", true)
  | 6 => ("Samovar", "events", "Ljava/util/ArrayList;", true)
  | 7 => ("Samovar", "heat", "I", false)
  | 8 => ("Samovar", "water", "I", false)
  | 9 => ("Samovar", "brew", "I", false)
  | 10 => ("Samovar", "steamed", "I", false)
  | 11 => ("Samovar", "served", "I", false)
  | 12 => ("Samovar", "boot", "Z", false)
  | 13 => ("Samovar", "queue", "Ljava/util/ArrayList;", true)
  | 14 => ("Samovar", "byMinute", "[[I", true)
  | 15 => ("Samovar", "lineBy", "[I", true)
  | 16 => ("Samovar", "byGuest", "[[[I", true)
  | 17 => ("Samovar", "gone", "I", false)
  | 18 => ("Samovar", "seen", "Ljava/util/ArrayList;", true)
  | 19 => ("Samovar", "boils", "[I", true)
  | 20 => ("Samovar", "drawn", "I", false)
  | 21 => ("Samovar", "others", "Ljava/util/ArrayList;", true)
  | 22 => ("Samovar", "strangers", "[LSamovar$Guest;", true)
  | _ => ("Samovar", "sheets", "[LSamovar$Sheet;", true)
def tyX0 : Nat → FieldType := fun k => match k with
  | 0 => .int
  | 1 => .object "Samovar$Woodpile"
  | 2 => .object "Samovar$Company"
  | 3 => .array (.object "Samovar$Text")
  | 4 => .object "java/util/ArrayList"
  | 5 => .array .int
  | 6 => .object "java/util/ArrayList"
  | 7 => .int
  | 8 => .int
  | 9 => .int
  | 10 => .int
  | 11 => .int
  | 12 => .boolean
  | 13 => .object "java/util/ArrayList"
  | 14 => .array (.array .int)
  | 15 => .array .int
  | 16 => .array (.array (.array .int))
  | 17 => .int
  | 18 => .object "java/util/ArrayList"
  | 19 => .array .int
  | 20 => .int
  | 21 => .object "java/util/ArrayList"
  | 22 => .array (.object "Samovar$Guest")
  | _ => .array (.object "Samovar$Sheet")
abbrev wsX00 : List Cond := u_ws RX0 TX0 24
set_option maxRecDepth 100000 in
theorem nmX0 : ∀ a, a < 24 → ∀ b, b < 24 → a ≠ b → (TX0 a).2.1 ≠ (TX0 b).2.1 := by decide +kernel
set_option maxRecDepth 100000 in
theorem tyX0_ok : ∀ k, k < 24 → parseFieldDescriptor (TX0 k).2.2.1 = some (tyX0 k) := by decide +kernel
theorem in_X0 : ∀ w ∈ wsX00, w ∈ lw_all := lw_in wsX00 [252, 254, 256, 258, 260, 262, 264, 266, 268, 270, 272, 274, 276, 278, 280, 282, 284, 286, 288, 290, 292, 294, 296, 298] (by decide +kernel) (by decide +kernel)
def RX1 : String := "Samovar$Text"
def RX10 : String := "Samovar$Charcoal"
def RX11 : String := "Samovar$Dark"
def RX12 : String := "Samovar$Fuel"
def RX13 : String := "Samovar$Taste"
def RX2 : String := "Samovar$Woodpile"
def TX2 : u_T := fun k => match k with
  | 0 => ("Samovar$Text", "bytes", "[B", true)
  | 1 => ("Samovar$Text", "typed", "I", false)
  | 2 => ("Samovar$Text", "at", "I", false)
  | 3 => ("Samovar$Text", "fresh", "Z", false)
  | 4 => ("Samovar$Text", "fault", "I", false)
  | _ => ("Samovar$Woodpile", "all", "Ljava/util/ArrayList;", true)
def tyX2 : Nat → FieldType := fun k => match k with
  | 0 => .array .byte
  | 1 => .int
  | 2 => .int
  | 3 => .boolean
  | 4 => .int
  | _ => .object "java/util/ArrayList"
abbrev wsX20 : List Cond := u_ws RX2 TX2 6
theorem nmX2 : ∀ a, a < 6 → ∀ b, b < 6 → a ≠ b → (TX2 a).2.1 ≠ (TX2 b).2.1 := by decide +kernel
theorem tyX2_ok : ∀ k, k < 6 → parseFieldDescriptor (TX2 k).2.2.1 = some (tyX2 k) := by decide +kernel
theorem in_X2 : ∀ w ∈ wsX20, w ∈ lw_all := lw_in wsX20 [176, 178, 180, 182, 184, 174] (by decide +kernel) (by decide +kernel)
def RX3 : String := "Samovar$Company"
def TX3 : u_T := fun k => match k with
  | 0 => ("Samovar$Text", "bytes", "[B", true)
  | 1 => ("Samovar$Text", "typed", "I", false)
  | 2 => ("Samovar$Text", "at", "I", false)
  | 3 => ("Samovar$Text", "fresh", "Z", false)
  | 4 => ("Samovar$Text", "fault", "I", false)
  | _ => ("Samovar$Company", "all", "Ljava/util/ArrayList;", true)
def tyX3 : Nat → FieldType := fun k => match k with
  | 0 => .array .byte
  | 1 => .int
  | 2 => .int
  | 3 => .boolean
  | 4 => .int
  | _ => .object "java/util/ArrayList"
abbrev wsX30 : List Cond := u_ws RX3 TX3 6
theorem nmX3 : ∀ a, a < 6 → ∀ b, b < 6 → a ≠ b → (TX3 a).2.1 ≠ (TX3 b).2.1 := by decide +kernel
theorem tyX3_ok : ∀ k, k < 6 → parseFieldDescriptor (TX3 k).2.2.1 = some (tyX3 k) := by decide +kernel
theorem in_X3 : ∀ w ∈ wsX30, w ∈ lw_all := lw_in wsX30 [199, 200, 201, 202, 203, 197] (by decide +kernel) (by decide +kernel)
def RX4 : String := "Samovar$Sheet"
def TX4 : u_T := fun k => match k with
  | _ => ("Samovar$Sheet", "row", "Ljava/lang/Object;", false)
def tyX4 : Nat → FieldType := fun k => match k with
  | _ => .object "java/lang/Object"
abbrev wsX40 : List Cond := u_ws RX4 TX4 1
theorem nmX4 : ∀ a, a < 1 → ∀ b, b < 1 → a ≠ b → (TX4 a).2.1 ≠ (TX4 b).2.1 := by decide +kernel
theorem tyX4_ok : ∀ k, k < 1 → parseFieldDescriptor (TX4 k).2.2.1 = some (tyX4 k) := by decide +kernel
theorem in_X4 : ∀ w ∈ wsX40, w ∈ lw_all := lw_in wsX40 [224] (by decide +kernel) (by decide +kernel)
def RX5 : String := "SamovarModel"
def TX5 : u_T := fun k => match k with
  | 0 => ("SamovarModel", "typed", "[I", true)
  | 1 => ("SamovarModel", "texts", "[I", true)
  | 2 => ("SamovarModel", "pieces", "I", false)
  | 3 => ("SamovarModel", "pieceAt", "[I", true)
  | 4 => ("SamovarModel", "pieceKind", "[I", true)
  | 5 => ("SamovarModel", "pieceMany", "[I", true)
  | 6 => ("SamovarModel", "guests", "I", false)
  | 7 => ("SamovarModel", "guestAt", "[I", true)
  | 8 => ("SamovarModel", "guestDark", "[I", true)
  | 9 => ("SamovarModel", "guestAll", "[I", true)
  | 10 => ("SamovarModel", "waterTold", "I", false)
  | 11 => ("SamovarModel", "brewTold", "I", false)
  | 12 => ("SamovarModel", "events", "I", false)
  | 13 => ("SamovarModel", "eventKind", "[I", true)
  | 14 => ("SamovarModel", "eventAt", "[I", true)
  | 15 => ("SamovarModel", "eventNumber", "[I", true)
  | 16 => ("SamovarModel", "guestsNow", "I", false)
  | 17 => ("SamovarModel", "comeNow", "[I", true)
  | 18 => ("SamovarModel", "darkNow", "[I", true)
  | 19 => ("SamovarModel", "allNow", "[I", true)
  | 20 => ("SamovarModel", "waterNow", "I", false)
  | 21 => ("SamovarModel", "notEvents", "I", false)
  | 22 => ("SamovarModel", "heat", "I", false)
  | 23 => ("SamovarModel", "water", "I", false)
  | 24 => ("SamovarModel", "brew", "I", false)
  | 25 => ("SamovarModel", "boot", "I", false)
  | 26 => ("SamovarModel", "steamed", "I", false)
  | 27 => ("SamovarModel", "boiled", "I", false)
  | 28 => ("SamovarModel", "firstBoil", "I", false)
  | 29 => ("SamovarModel", "lineMany", "I", false)
  | 30 => ("SamovarModel", "line", "[I", true)
  | 31 => ("SamovarModel", "state", "[I", true)
  | 32 => ("SamovarModel", "had", "[I", true)
  | 33 => ("SamovarModel", "backAt", "[I", true)
  | 34 => ("SamovarModel", "since", "[I", true)
  | 35 => ("SamovarModel", "waits", "[I", true)
  | 36 => ("SamovarModel", "tells", "[I", true)
  | 37 => ("SamovarModel", "lineAt", "[I", true)
  | 38 => ("SamovarModel", "stateAt", "[I", true)
  | 39 => ("SamovarModel", "hadAt", "[I", true)
  | 40 => ("SamovarModel", "bestNow", "I", false)
  | 41 => ("SamovarModel", "mostNow", "I", false)
  | 42 => ("SamovarModel", "planRow", "[I", true)
  | 43 => ("SamovarModel", "seens", "I", false)
  | 44 => ("SamovarModel", "seenAt", "[I", true)
  | 45 => ("SamovarModel", "seenIs", "[I", true)
  | 46 => ("SamovarModel", "boilsBy", "[I", true)
  | 47 => ("SamovarModel", "isThere", "[Z", true)
  | 48 => ("SamovarModel", "forms", "[I", true)
  | 49 => ("SamovarModel", "sizes", "[I", true)
  | 50 => ("SamovarModel", "items", "[I", true)
  | 51 => ("SamovarModel", "moved", "[I", true)
  | _ => ("SamovarModel", "finding", "I", false)
def tyX5 : Nat → FieldType := fun k => match k with
  | 0 => .array .int
  | 1 => .array .int
  | 2 => .int
  | 3 => .array .int
  | 4 => .array .int
  | 5 => .array .int
  | 6 => .int
  | 7 => .array .int
  | 8 => .array .int
  | 9 => .array .int
  | 10 => .int
  | 11 => .int
  | 12 => .int
  | 13 => .array .int
  | 14 => .array .int
  | 15 => .array .int
  | 16 => .int
  | 17 => .array .int
  | 18 => .array .int
  | 19 => .array .int
  | 20 => .int
  | 21 => .int
  | 22 => .int
  | 23 => .int
  | 24 => .int
  | 25 => .int
  | 26 => .int
  | 27 => .int
  | 28 => .int
  | 29 => .int
  | 30 => .array .int
  | 31 => .array .int
  | 32 => .array .int
  | 33 => .array .int
  | 34 => .array .int
  | 35 => .array .int
  | 36 => .array .int
  | 37 => .array .int
  | 38 => .array .int
  | 39 => .array .int
  | 40 => .int
  | 41 => .int
  | 42 => .array .int
  | 43 => .int
  | 44 => .array .int
  | 45 => .array .int
  | 46 => .array .int
  | 47 => .array .boolean
  | 48 => .array .int
  | 49 => .array .int
  | 50 => .array .int
  | 51 => .array .int
  | _ => .int
abbrev wsX50 : List Cond := u_ws RX5 TX5 53
set_option maxRecDepth 100000 in
theorem nmX5 : ∀ a, a < 53 → ∀ b, b < 53 → a ≠ b → (TX5 a).2.1 ≠ (TX5 b).2.1 := by decide +kernel
set_option maxRecDepth 100000 in
theorem tyX5_ok : ∀ k, k < 53 → parseFieldDescriptor (TX5 k).2.2.1 = some (tyX5 k) := by decide +kernel
theorem in_X5 : ∀ w ∈ wsX50, w ∈ lw_all := lw_in wsX50 [1330, 1332, 1334, 1336, 1338, 1340, 1342, 1344, 1346, 1348, 1350, 1352, 1354, 1356, 1358, 1360, 1362, 1364, 1366, 1368, 1370, 1372, 1374, 1376, 1378, 1380, 1382, 1384, 1386, 1388, 1390, 1392, 1394, 1396, 1398, 1400, 1402, 1404, 1406, 1408, 1410, 1412, 1414, 1416, 1418, 1420, 1422, 1424, 1426, 1428, 1430, 1432, 1434] (by decide +kernel) (by decide +kernel)
def RX6 : String := "Samovar$Torn"
def TX6 : u_T := fun k => match k with
  | 0 => ("java/lang/Throwable", "cause", "Ljava/lang/Throwable;", false)
  | 1 => ("java/lang/Throwable", "stackTrace", "[Ljava/lang/StackTraceElement;", false)
  | 2 => ("java/lang/Throwable", "suppressedExceptions", "Ljava/util/List;", false)
  | 3 => ("java/lang/Throwable", "detailMessage", "Ljava/lang/String;", false)
  | 4 => ("java/lang/Throwable", "backtrace", "Ljava/lang/Object;", false)
  | 5 => ("java/lang/Throwable", "depth", "I", false)
  | _ => ("Samovar$Torn", "place", "I", true)
def tyX6 : Nat → FieldType := fun k => match k with
  | 0 => .object "java/lang/Throwable"
  | 1 => .array (.object "java/lang/StackTraceElement")
  | 2 => .object "java/util/List"
  | 3 => .object "java/lang/String"
  | 4 => .object "java/lang/Object"
  | 5 => .int
  | _ => .int
abbrev wsX60 : List Cond := u_ws RX6 TX6 7
theorem nmX6 : ∀ a, a < 7 → ∀ b, b < 7 → a ≠ b → (TX6 a).2.1 ≠ (TX6 b).2.1 := by decide +kernel
theorem tyX6_ok : ∀ k, k < 7 → parseFieldDescriptor (TX6 k).2.2.1 = some (tyX6 k) := by decide +kernel
theorem in_X6 : ∀ w ∈ wsX60, w ∈ lw_all := lw_in wsX60 [393, 395, 397, 399, 401, 446, 440] (by decide +kernel) (by decide +kernel)
def RX7 : String := "Samovar$Guest"
def TX7 : u_T := fun k => match k with
  | 0 => ("Samovar$Guest", "minute", "I", false)
  | 1 => ("Samovar$Guest", "taste", "LSamovar$Taste;", false)
  | 2 => ("Samovar$Guest", "glasses", "I", false)
  | 3 => ("Samovar$Guest", "state", "I", false)
  | 4 => ("Samovar$Guest", "had", "I", false)
  | 5 => ("Samovar$Guest", "back", "I", false)
  | 6 => ("Samovar$Guest", "waits", "I", false)
  | _ => ("Samovar$Guest", "waited", "I", false)
def tyX7 : Nat → FieldType := fun k => match k with
  | 0 => .int
  | 1 => .object "Samovar$Taste"
  | 2 => .int
  | 3 => .int
  | 4 => .int
  | 5 => .int
  | 6 => .int
  | _ => .int
abbrev wsX70 : List Cond := u_ws RX7 TX7 8
theorem nmX7 : ∀ a, a < 8 → ∀ b, b < 8 → a ≠ b → (TX7 a).2.1 ≠ (TX7 b).2.1 := by decide +kernel
theorem tyX7_ok : ∀ k, k < 8 → parseFieldDescriptor (TX7 k).2.2.1 = some (tyX7 k) := by decide +kernel
theorem in_X7 : ∀ w ∈ wsX70, w ∈ lw_all := lw_in wsX70 [578, 580, 582, 584, 586, 588, 590, 592] (by decide +kernel) (by decide +kernel)
def RX8 : String := "Samovar$Piece"
def TX8 : u_T := fun k => match k with
  | 0 => ("Samovar$Piece", "minute", "I", true)
  | 1 => ("Samovar$Piece", "fuel", "LSamovar$Fuel;", false)
  | _ => ("Samovar$Piece", "many", "I", true)
def tyX8 : Nat → FieldType := fun k => match k with
  | 0 => .int
  | 1 => .object "Samovar$Fuel"
  | _ => .int
abbrev wsX80 : List Cond := u_ws RX8 TX8 3
theorem nmX8 : ∀ a, a < 3 → ∀ b, b < 3 → a ≠ b → (TX8 a).2.1 ≠ (TX8 b).2.1 := by decide +kernel
theorem tyX8_ok : ∀ k, k < 3 → parseFieldDescriptor (TX8 k).2.2.1 = some (tyX8 k) := by decide +kernel
theorem in_X8 : ∀ w ∈ wsX80, w ∈ lw_all := lw_in wsX80 [675, 677, 679] (by decide +kernel) (by decide +kernel)
def RX9 : String := "Samovar$Birch"
