set_option maxRecDepth 100000
/-! TailorRegimentModel -/
def RX8 : String := "TailorRegimentModel"
def TX8 : u_T := fun k => match k with
  | 0 => ("TailorRegimentModel", "tape", "[I", true)
  | 1 => ("TailorRegimentModel", "taped", "I", false)
  | 2 => ("TailorRegimentModel", "fault", "I", false)
  | 3 => ("TailorRegimentModel", "faultPlace", "I", false)
  | 4 => ("TailorRegimentModel", "at", "I", false)
  | 5 => ("TailorRegimentModel", "size", "I", false)
  | 6 => ("TailorRegimentModel", "sort", "I", false)
  | 7 => ("TailorRegimentModel", "place", "I", false)
  | 8 => ("TailorRegimentModel", "number", "I", false)
  | 9 => ("TailorRegimentModel", "word", "J", false)
  | 10 => ("TailorRegimentModel", "nName", "[J", true)
  | 11 => ("TailorRegimentModel", "nStep", "[I", true)
  | 12 => ("TailorRegimentModel", "nArg", "[I", true)
  | 13 => ("TailorRegimentModel", "step", "[I", true)
  | 14 => ("TailorRegimentModel", "arg", "[I", true)
  | 15 => ("TailorRegimentModel", "open", "[I", true)
  | 16 => ("TailorRegimentModel", "values", "[I", true)
  | 17 => ("TailorRegimentModel", "nMany", "I", false)
  | 18 => ("TailorRegimentModel", "steps", "I", false)
  | 19 => ("TailorRegimentModel", "opens", "I", false)
  | 20 => ("TailorRegimentModel", "nUnits", "I", false)
  | 21 => ("TailorRegimentModel", "units", "I", false)
  | 22 => ("TailorRegimentModel", "ownUnits", "I", false)
  | 23 => ("TailorRegimentModel", "deep", "I", false)
  | 24 => ("TailorRegimentModel", "nHasForm", "Z", false)
  | 25 => ("TailorRegimentModel", "hasForm", "Z", false)
  | 26 => ("TailorRegimentModel", "asks", "[I", true)
  | 27 => ("TailorRegimentModel", "nTall", "[I", true)
  | 28 => ("TailorRegimentModel", "nWide", "[I", true)
  | 29 => ("TailorRegimentModel", "nGrows", "[I", true)
  | 30 => ("TailorRegimentModel", "nCoatTall", "[I", true)
  | 31 => ("TailorRegimentModel", "nCoatWide", "[I", true)
  | 32 => ("TailorRegimentModel", "nSeam", "[I", true)
  | 33 => ("TailorRegimentModel", "nWorn", "[I", true)
  | 34 => ("TailorRegimentModel", "tall", "[I", true)
  | 35 => ("TailorRegimentModel", "wide", "[I", true)
  | 36 => ("TailorRegimentModel", "grows", "[I", true)
  | 37 => ("TailorRegimentModel", "coatTall", "[I", true)
  | 38 => ("TailorRegimentModel", "coatWide", "[I", true)
  | 39 => ("TailorRegimentModel", "seam", "[I", true)
  | 40 => ("TailorRegimentModel", "worn", "[I", true)
  | 41 => ("TailorRegimentModel", "nMen", "I", false)
  | 42 => ("TailorRegimentModel", "nCoats", "I", false)
  | 43 => ("TailorRegimentModel", "nEasy", "I", false)
  | 44 => ("TailorRegimentModel", "nBolt", "I", false)
  | 45 => ("TailorRegimentModel", "nLike", "I", false)
  | 46 => ("TailorRegimentModel", "nRain", "I", false)
  | 47 => ("TailorRegimentModel", "nDraw", "I", false)
  | 48 => ("TailorRegimentModel", "men", "I", false)
  | 49 => ("TailorRegimentModel", "coats", "I", false)
  | 50 => ("TailorRegimentModel", "easy", "I", false)
  | 51 => ("TailorRegimentModel", "bolt", "I", false)
  | 52 => ("TailorRegimentModel", "like", "I", false)
  | 53 => ("TailorRegimentModel", "rain", "I", false)
  | 54 => ("TailorRegimentModel", "nHasEasy", "Z", false)
  | 55 => ("TailorRegimentModel", "nHasBolt", "Z", false)
  | 56 => ("TailorRegimentModel", "nHasLike", "Z", false)
  | 57 => ("TailorRegimentModel", "nHasRain", "Z", false)
  | 58 => ("TailorRegimentModel", "nHasDraw", "Z", false)
  | 59 => ("TailorRegimentModel", "now", "[I", true)
  | 60 => ("TailorRegimentModel", "air", "[I", true)
  | 61 => ("TailorRegimentModel", "were", "[I", true)
  | 62 => ("TailorRegimentModel", "acts", "I", false)
  | 63 => ("TailorRegimentModel", "undone", "I", false)
  | 64 => ("TailorRegimentModel", "lies", "[I", true)
  | 65 => ("TailorRegimentModel", "row", "[I", true)
  | 66 => ("TailorRegimentModel", "ills", "[I", true)
  | 67 => ("TailorRegimentModel", "lain", "I", false)
  | 68 => ("TailorRegimentModel", "lengths", "[I", true)
  | 69 => ("TailorRegimentModel", "sightDays", "[I", true)
  | 70 => ("TailorRegimentModel", "sightTold", "[I", true)
  | 71 => ("TailorRegimentModel", "sightUntold", "[I", true)
  | 72 => ("TailorRegimentModel", "sightIs", "[Z", true)
  | 73 => ("TailorRegimentModel", "sights", "I", false)
  | 74 => ("TailorRegimentModel", "time", "I", false)
  | 75 => ("TailorRegimentModel", "was", "[Z", true)
  | 76 => ("TailorRegimentModel", "isFit", "[Z", true)
  | 77 => ("TailorRegimentModel", "hasBox", "[Z", true)
  | _ => ("TailorRegimentModel", "boxes", "[I", true)
def tyX8 : Nat → FieldType := fun k => match k with
  | 0 => .array .int
  | 1 => .int
  | 2 => .int
  | 3 => .int
  | 4 => .int
  | 5 => .int
  | 6 => .int
  | 7 => .int
  | 8 => .int
  | 9 => .long
  | 10 => .array .long
  | 11 => .array .int
  | 12 => .array .int
  | 13 => .array .int
  | 14 => .array .int
  | 15 => .array .int
  | 16 => .array .int
  | 17 => .int
  | 18 => .int
  | 19 => .int
  | 20 => .int
  | 21 => .int
  | 22 => .int
  | 23 => .int
  | 24 => .boolean
  | 25 => .boolean
  | 26 => .array .int
  | 27 => .array .int
  | 28 => .array .int
  | 29 => .array .int
  | 30 => .array .int
  | 31 => .array .int
  | 32 => .array .int
  | 33 => .array .int
  | 34 => .array .int
  | 35 => .array .int
  | 36 => .array .int
  | 37 => .array .int
  | 38 => .array .int
  | 39 => .array .int
  | 40 => .array .int
  | 41 => .int
  | 42 => .int
  | 43 => .int
  | 44 => .int
  | 45 => .int
  | 46 => .int
  | 47 => .int
  | 48 => .int
  | 49 => .int
  | 50 => .int
  | 51 => .int
  | 52 => .int
  | 53 => .int
  | 54 => .boolean
  | 55 => .boolean
  | 56 => .boolean
  | 57 => .boolean
  | 58 => .boolean
  | 59 => .array .int
  | 60 => .array .int
  | 61 => .array .int
  | 62 => .int
  | 63 => .int
  | 64 => .array .int
  | 65 => .array .int
  | 66 => .array .int
  | 67 => .int
  | 68 => .array .int
  | 69 => .array .int
  | 70 => .array .int
  | 71 => .array .int
  | 72 => .array .boolean
  | 73 => .int
  | 74 => .int
  | 75 => .array .boolean
  | 76 => .array .boolean
  | 77 => .array .boolean
  | _ => .array .int
abbrev wsX80 : List Cond := u_ws RX8 TX8 79
set_option maxRecDepth 100000 in
theorem nmX8 : ∀ a, a < 79 → ∀ b, b < 79 → a ≠ b → (TX8 a).2.1 ≠ (TX8 b).2.1 := by decide +kernel
set_option maxRecDepth 100000 in
theorem tyX8_ok : ∀ k, k < 79 → parseFieldDescriptor (TX8 k).2.2.1 = some (tyX8 k) := by decide +kernel
theorem in_X8 : ∀ w ∈ wsX80, w ∈ lw_all := lw_in wsX80 [1502, 1504, 1506, 1508, 1510, 1512, 1514, 1516, 1518, 1520, 1522, 1524, 1526, 1528, 1530, 1532, 1534, 1536, 1538, 1540, 1542, 1544, 1546, 1548, 1550, 1552, 1554, 1556, 1558, 1560, 1562, 1564, 1566, 1568, 1570, 1572, 1574, 1576, 1578, 1580, 1582, 1584, 1586, 1588, 1590, 1592, 1594, 1596, 1598, 1600, 1602, 1604, 1606, 1608, 1610, 1612, 1614, 1616, 1618, 1620, 1622, 1624, 1626, 1628, 1630, 1632, 1634, 1636, 1638, 1640, 1642, 1644, 1646, 1648, 1650, 1652, 1654, 1656, 1658] (by decide +kernel) (by decide +kernel)
/-! TailorRegiment -/
def RX0 : String := "TailorRegiment"
def TX0 : u_T := fun k => match k with
  | 0 => ("TailorRegiment", "regiment", "LTailorRegiment$Regiment;", false)
  | 1 => ("TailorRegiment", "now", "LTailorRegiment$State;", true)
  | 2 => ("TailorRegiment", "then", "LTailorRegiment$State;", true)
  | 3 => ("TailorRegiment", "tape", "[B", true)
  | 4 => ("TailorRegiment", "fault", "LTailorRegiment$Wrong;", true)
  | 5 => ("TailorRegiment", "taped", "I", false)
  | 6 => ("TailorRegiment", "time", "I", false)
  | 7 => ("TailorRegiment", "faultKind", "I", false)
  | 8 => ("TailorRegiment", "faultPlace", "I", false)
  | 9 => ("TailorRegiment", "acts", "Ljava/util/ArrayList;", true)
  | 10 => ("TailorRegiment", "undone", "Ljava/util/ArrayList;", true)
  | 11 => ("TailorRegiment", "laidRow", "[I", true)
  | 12 => ("TailorRegiment", "trial", "[I", true)
  | 13 => ("TailorRegiment", "laid", "I", false)
  | 14 => ("TailorRegiment", "most", "I", false)
  | 15 => ("TailorRegiment", "least", "I", false)
  | 16 => ("TailorRegiment", "fronts", "LTailorRegiment$Front;", true)
  | 17 => ("TailorRegiment", "wing", "LTailorRegiment$Wing;", true)
  | 18 => ("TailorRegiment", "lengthOf", "[I", true)
  | 19 => ("TailorRegiment", "sights", "Ljava/util/ArrayList;", true)
  | 20 => ("TailorRegiment", "fitBy", "[Z", true)
  | _ => ("TailorRegiment", "boxes", "[LTailorRegiment$Kept;", true)
def tyX0 : Nat → FieldType := fun k => match k with
  | 0 => .object "TailorRegiment$Regiment"
  | 1 => .object "TailorRegiment$State"
  | 2 => .object "TailorRegiment$State"
  | 3 => .array .byte
  | 4 => .object "TailorRegiment$Wrong"
  | 5 => .int
  | 6 => .int
  | 7 => .int
  | 8 => .int
  | 9 => .object "java/util/ArrayList"
  | 10 => .object "java/util/ArrayList"
  | 11 => .array .int
  | 12 => .array .int
  | 13 => .int
  | 14 => .int
  | 15 => .int
  | 16 => .object "TailorRegiment$Front"
  | 17 => .object "TailorRegiment$Wing"
  | 18 => .array .int
  | 19 => .object "java/util/ArrayList"
  | 20 => .array .boolean
  | _ => .array (.object "TailorRegiment$Kept")
abbrev wsX00 : List Cond := u_ws RX0 TX0 22
set_option maxRecDepth 100000 in
theorem nmX0 : ∀ a, a < 22 → ∀ b, b < 22 → a ≠ b → (TX0 a).2.1 ≠ (TX0 b).2.1 := by decide +kernel
set_option maxRecDepth 100000 in
theorem tyX0_ok : ∀ k, k < 22 → parseFieldDescriptor (TX0 k).2.2.1 = some (tyX0 k) := by decide +kernel
theorem in_X0 : ∀ w ∈ wsX00, w ∈ lw_all := lw_in wsX00 [474, 476, 478, 480, 482, 484, 486, 488, 490, 492, 494, 496, 498, 500, 502, 504, 506, 508, 510, 512, 514, 516] (by decide +kernel) (by decide +kernel)
/-! TailorRegiment$Regiment -/
def RX1 : String := "TailorRegiment$Regiment"
def TX1 : u_T := fun k => match k with
  | 0 => ("TailorRegiment$Regiment", "men", "Ljava/util/ArrayList;", true)
  | 1 => ("TailorRegiment$Regiment", "coats", "Ljava/util/ArrayList;", true)
  | 2 => ("TailorRegiment$Regiment", "ill", "LTailorRegiment$Part;", false)
  | 3 => ("TailorRegiment$Regiment", "hasEasy", "Z", false)
  | 4 => ("TailorRegiment$Regiment", "hasBolt", "Z", false)
  | 5 => ("TailorRegiment$Regiment", "hasLike", "Z", false)
  | 6 => ("TailorRegiment$Regiment", "hasRain", "Z", false)
  | 7 => ("TailorRegiment$Regiment", "hasDraw", "Z", false)
  | 8 => ("TailorRegiment$Regiment", "units", "I", false)
  | 9 => ("TailorRegiment$Regiment", "easy", "I", false)
  | 10 => ("TailorRegiment$Regiment", "bolt", "I", false)
  | 11 => ("TailorRegiment$Regiment", "like", "I", false)
  | 12 => ("TailorRegiment$Regiment", "rain", "I", false)
  | 13 => ("TailorRegiment$Regiment", "draw", "I", false)
  | _ => ("TailorRegiment$Regiment", "told", "[I", true)
def tyX1 : Nat → FieldType := fun k => match k with
  | 0 => .object "java/util/ArrayList"
  | 1 => .object "java/util/ArrayList"
  | 2 => .object "TailorRegiment$Part"
  | 3 => .boolean
  | 4 => .boolean
  | 5 => .boolean
  | 6 => .boolean
  | 7 => .boolean
  | 8 => .int
  | 9 => .int
  | 10 => .int
  | 11 => .int
  | 12 => .int
  | 13 => .int
  | _ => .array .int
abbrev wsX10 : List Cond := u_ws RX1 TX1 15
set_option maxRecDepth 100000 in
theorem nmX1 : ∀ a, a < 15 → ∀ b, b < 15 → a ≠ b → (TX1 a).2.1 ≠ (TX1 b).2.1 := by decide +kernel
set_option maxRecDepth 100000 in
theorem tyX1_ok : ∀ k, k < 15 → parseFieldDescriptor (TX1 k).2.2.1 = some (tyX1 k) := by decide +kernel
theorem in_X1 : ∀ w ∈ wsX10, w ∈ lw_all := lw_in wsX10 [224, 226, 228, 230, 232, 234, 236, 238, 240, 242, 244, 246, 248, 250, 252] (by decide +kernel) (by decide +kernel)
/-! TailorRegiment$State -/
def RX2 : String := "TailorRegiment$State"
def TX2 : u_T := fun k => match k with
  | 0 => ("TailorRegiment$State", "girth", "[I", true)
  | 1 => ("TailorRegiment$State", "wears", "[I", true)
  | 2 => ("TailorRegiment$State", "tall", "[I", true)
  | 3 => ("TailorRegiment$State", "wide", "[I", true)
  | 4 => ("TailorRegiment$State", "seam", "[I", true)
  | 5 => ("TailorRegiment$State", "worn", "[I", true)
  | 6 => ("TailorRegiment$State", "turned", "I", false)
  | 7 => ("TailorRegiment$State", "day", "I", false)
  | _ => ("TailorRegiment$State", "seed", "I", false)
def tyX2 : Nat → FieldType := fun k => match k with
  | 0 => .array .int
  | 1 => .array .int
  | 2 => .array .int
  | 3 => .array .int
  | 4 => .array .int
  | 5 => .array .int
  | 6 => .int
  | 7 => .int
  | _ => .int
abbrev wsX20 : List Cond := u_ws RX2 TX2 9
theorem nmX2 : ∀ a, a < 9 → ∀ b, b < 9 → a ≠ b → (TX2 a).2.1 ≠ (TX2 b).2.1 := by decide +kernel
theorem tyX2_ok : ∀ k, k < 9 → parseFieldDescriptor (TX2 k).2.2.1 = some (tyX2 k) := by decide +kernel
theorem in_X2 : ∀ w ∈ wsX20, w ∈ lw_all := lw_in wsX20 [285, 287, 289, 291, 293, 295, 297, 299, 301] (by decide +kernel) (by decide +kernel)
/-! TailorRegiment$Wrong -/
def RX3 : String := "TailorRegiment$Wrong"
def TX3 : u_T := fun k => match k with
  | 0 => ("java/lang/Throwable", "cause", "Ljava/lang/Throwable;", false)
  | 1 => ("java/lang/Throwable", "stackTrace", "[Ljava/lang/StackTraceElement;", false)
  | 2 => ("java/lang/Throwable", "suppressedExceptions", "Ljava/util/List;", false)
  | 3 => ("java/lang/Throwable", "detailMessage", "Ljava/lang/String;", false)
  | 4 => ("java/lang/Throwable", "backtrace", "Ljava/lang/Object;", false)
  | 5 => ("java/lang/Throwable", "depth", "I", false)
  | 6 => ("TailorRegiment$Wrong", "kind", "I", false)
  | _ => ("TailorRegiment$Wrong", "place", "I", false)
def tyX3 : Nat → FieldType := fun k => match k with
  | 0 => .object "java/lang/Throwable"
  | 1 => .array (.object "java/lang/StackTraceElement")
  | 2 => .object "java/util/List"
  | 3 => .object "java/lang/String"
  | 4 => .object "java/lang/Object"
  | 5 => .int
  | 6 => .int
  | _ => .int
abbrev wsX30 : List Cond := u_ws RX3 TX3 8
theorem nmX3 : ∀ a, a < 8 → ∀ b, b < 8 → a ≠ b → (TX3 a).2.1 ≠ (TX3 b).2.1 := by decide +kernel
theorem tyX3_ok : ∀ k, k < 8 → parseFieldDescriptor (TX3 k).2.2.1 = some (tyX3 k) := by decide +kernel
theorem in_X3 : ∀ w ∈ wsX30, w ∈ lw_all := lw_in wsX30 [313, 315, 317, 319, 321, 364, 356, 358] (by decide +kernel) (by decide +kernel)
/-! TailorRegiment$Choice -/
def RX4 : String := "TailorRegiment$Choice"
/-! TailorRegiment$Front -/
def RX5 : String := "TailorRegiment$Front"
def TX5 : u_T := fun k => match k with
  | 0 => ("TailorRegiment$Choice", "best", "I", false)
  | 1 => ("TailorRegiment$Choice", "this$0", "LTailorRegiment;", true)
  | 2 => ("TailorRegiment$Front", "wide", "I", false)
  | _ => ("TailorRegiment$Front", "this$0", "LTailorRegiment;", true)
def tyX5 : Nat → FieldType := fun k => match k with
  | 0 => .int
  | 1 => .object "TailorRegiment"
  | 2 => .int
  | _ => .object "TailorRegiment"
abbrev wsX50 : List Cond := u_ws RX5 TX5 4
-- two fields of one name: no nmX5
theorem tyX5_ok : ∀ k, k < 4 → parseFieldDescriptor (TX5 k).2.2.1 = some (tyX5 k) := by decide +kernel
theorem in_X5 : ∀ w ∈ wsX50, w ∈ lw_all := lw_in wsX50 [389, 391, 385, 387] (by decide +kernel) (by decide +kernel)
/-! TailorRegiment$Wing -/
def RX6 : String := "TailorRegiment$Wing"
def TX6 : u_T := fun k => match k with
  | 0 => ("TailorRegiment$Choice", "best", "I", false)
  | 1 => ("TailorRegiment$Choice", "this$0", "LTailorRegiment;", true)
  | _ => ("TailorRegiment$Wing", "this$0", "LTailorRegiment;", true)
def tyX6 : Nat → FieldType := fun k => match k with
  | 0 => .int
  | 1 => .object "TailorRegiment"
  | _ => .object "TailorRegiment"
abbrev wsX60 : List Cond := u_ws RX6 TX6 3
-- two fields of one name: no nmX6
theorem tyX6_ok : ∀ k, k < 3 → parseFieldDescriptor (TX6 k).2.2.1 = some (tyX6 k) := by decide +kernel
theorem in_X6 : ∀ w ∈ wsX60, w ∈ lw_all := lw_in wsX60 [403, 404, 401] (by decide +kernel) (by decide +kernel)
/-! TailorRegiment$Kept -/
def RX7 : String := "TailorRegiment$Kept"
def TX7 : u_T := fun k => match k with
  | _ => ("TailorRegiment$Kept", "state", "LTailorRegiment$State;", false)
def tyX7 : Nat → FieldType := fun k => match k with
  | _ => .object "TailorRegiment$State"
abbrev wsX70 : List Cond := u_ws RX7 TX7 1
theorem nmX7 : ∀ a, a < 1 → ∀ b, b < 1 → a ≠ b → (TX7 a).2.1 ≠ (TX7 b).2.1 := by decide +kernel
theorem tyX7_ok : ∀ k, k < 1 → parseFieldDescriptor (TX7 k).2.2.1 = some (tyX7 k) := by decide +kernel
theorem in_X7 : ∀ w ∈ wsX70, w ∈ lw_all := lw_in wsX70 [415] (by decide +kernel) (by decide +kernel)
/-! TailorRegiment$Reader -/
def RX9 : String := "TailorRegiment$Reader"
def TX9 : u_T := fun k => match k with
  | 0 => ("TailorRegiment$Reader", "text", "[B", true)
  | 1 => ("TailorRegiment$Reader", "size", "I", true)
  | 2 => ("TailorRegiment$Reader", "fault", "LTailorRegiment$Wrong;", true)
  | 3 => ("TailorRegiment$Reader", "\x72", "LTailorRegiment$Regiment;", true)
  | 4 => ("TailorRegiment$Reader", "at", "I", false)
  | 5 => ("TailorRegiment$Reader", "end", "I", false)
  | 6 => ("TailorRegiment$Reader", "token", "I", false)
  | 7 => ("TailorRegiment$Reader", "number", "I", false)
  | 8 => ("TailorRegiment$Reader", "name", "J", false)
  | 9 => ("TailorRegiment$Reader", "deep", "I", false)
  | _ => ("TailorRegiment$Reader", "mine", "I", false)
def tyX9 : Nat → FieldType := fun k => match k with
  | 0 => .array .byte
  | 1 => .int
  | 2 => .object "TailorRegiment$Wrong"
  | 3 => .object "TailorRegiment$Regiment"
  | 4 => .int
  | 5 => .int
  | 6 => .int
  | 7 => .int
  | 8 => .long
  | 9 => .int
  | _ => .int
abbrev wsX90 : List Cond := u_ws RX9 TX9 11
theorem nmX9 : ∀ a, a < 11 → ∀ b, b < 11 → a ≠ b → (TX9 a).2.1 ≠ (TX9 b).2.1 := by decide +kernel
theorem tyX9_ok : ∀ k, k < 11 → parseFieldDescriptor (TX9 k).2.2.1 = some (tyX9 k) := by decide +kernel
theorem in_X9 : ∀ w ∈ wsX90, w ∈ lw_all := lw_in wsX90 [554, 556, 558, 560, 562, 564, 566, 568, 570, 572, 574] (by decide +kernel) (by decide +kernel)
/-! TailorRegiment$Called -/
def RX10 : String := "TailorRegiment$Called"
/-! TailorRegiment$Man -/
def RX11 : String := "TailorRegiment$Man"
def TX11 : u_T := fun k => match k with
  | 0 => ("TailorRegiment$Called", "name", "J", true)
  | 1 => ("TailorRegiment$Called", "tall", "I", false)
  | 2 => ("TailorRegiment$Called", "wide", "I", false)
  | _ => ("TailorRegiment$Man", "grows", "I", false)
def tyX11 : Nat → FieldType := fun k => match k with
  | 0 => .long
  | 1 => .int
  | 2 => .int
  | _ => .int
abbrev wsX110 : List Cond := u_ws RX11 TX11 4
theorem nmX11 : ∀ a, a < 4 → ∀ b, b < 4 → a ≠ b → (TX11 a).2.1 ≠ (TX11 b).2.1 := by decide +kernel
theorem tyX11_ok : ∀ k, k < 4 → parseFieldDescriptor (TX11 k).2.2.1 = some (tyX11 k) := by decide +kernel
theorem in_X11 : ∀ w ∈ wsX110, w ∈ lw_all := lw_in wsX110 [773, 775, 777, 771] (by decide +kernel) (by decide +kernel)
/-! TailorRegiment$Coat -/
def RX12 : String := "TailorRegiment$Coat"
def TX12 : u_T := fun k => match k with
  | 0 => ("TailorRegiment$Called", "name", "J", true)
  | 1 => ("TailorRegiment$Called", "tall", "I", false)
  | 2 => ("TailorRegiment$Called", "wide", "I", false)
  | 3 => ("TailorRegiment$Coat", "seam", "I", false)
  | _ => ("TailorRegiment$Coat", "worn", "I", false)
def tyX12 : Nat → FieldType := fun k => match k with
  | 0 => .long
  | 1 => .int
  | 2 => .int
  | 3 => .int
  | _ => .int
abbrev wsX120 : List Cond := u_ws RX12 TX12 5
theorem nmX12 : ∀ a, a < 5 → ∀ b, b < 5 → a ≠ b → (TX12 a).2.1 ≠ (TX12 b).2.1 := by decide +kernel
theorem tyX12_ok : ∀ k, k < 5 → parseFieldDescriptor (TX12 k).2.2.1 = some (tyX12 k) := by decide +kernel
theorem in_X12 : ∀ w ∈ wsX120, w ∈ lw_all := lw_in wsX120 [886, 887, 888, 882, 884] (by decide +kernel) (by decide +kernel)
/-! TailorRegiment$Part -/
def RX13 : String := "TailorRegiment$Part"
/-! TailorRegiment$Not -/
def RX14 : String := "TailorRegiment$Not"
def TX14 : u_T := fun k => match k with
  | _ => ("TailorRegiment$Not", "a", "LTailorRegiment$Part;", true)
def tyX14 : Nat → FieldType := fun k => match k with
  | _ => .object "TailorRegiment$Part"
abbrev wsX140 : List Cond := u_ws RX14 TX14 1
theorem nmX14 : ∀ a, a < 1 → ∀ b, b < 1 → a ≠ b → (TX14 a).2.1 ≠ (TX14 b).2.1 := by decide +kernel
theorem tyX14_ok : ∀ k, k < 1 → parseFieldDescriptor (TX14 k).2.2.1 = some (tyX14 k) := by decide +kernel
theorem in_X14 : ∀ w ∈ wsX140, w ∈ lw_all := lw_in wsX140 [923] (by decide +kernel) (by decide +kernel)
/-! TailorRegiment$Numeral -/
def RX15 : String := "TailorRegiment$Numeral"
def TX15 : u_T := fun k => match k with
  | _ => ("TailorRegiment$Numeral", "v", "I", true)
def tyX15 : Nat → FieldType := fun k => match k with
  | _ => .int
abbrev wsX150 : List Cond := u_ws RX15 TX15 1
theorem nmX15 : ∀ a, a < 1 → ∀ b, b < 1 → a ≠ b → (TX15 a).2.1 ≠ (TX15 b).2.1 := by decide +kernel
theorem tyX15_ok : ∀ k, k < 1 → parseFieldDescriptor (TX15 k).2.2.1 = some (tyX15 k) := by decide +kernel
theorem in_X15 : ∀ w ∈ wsX150, w ∈ lw_all := lw_in wsX150 [951] (by decide +kernel) (by decide +kernel)
/-! TailorRegiment$Named -/
def RX16 : String := "TailorRegiment$Named"
def TX16 : u_T := fun k => match k with
  | _ => ("TailorRegiment$Named", "which", "I", true)
def tyX16 : Nat → FieldType := fun k => match k with
  | _ => .int
abbrev wsX160 : List Cond := u_ws RX16 TX16 1
theorem nmX16 : ∀ a, a < 1 → ∀ b, b < 1 → a ≠ b → (TX16 a).2.1 ≠ (TX16 b).2.1 := by decide +kernel
theorem tyX16_ok : ∀ k, k < 1 → parseFieldDescriptor (TX16 k).2.2.1 = some (tyX16 k) := by decide +kernel
theorem in_X16 : ∀ w ∈ wsX160, w ∈ lw_all := lw_in wsX160 [961] (by decide +kernel) (by decide +kernel)
/-! TailorRegiment$Two -/
def RX17 : String := "TailorRegiment$Two"
def TX17 : u_T := fun k => match k with
  | 0 => ("TailorRegiment$Two", "sign", "I", true)
  | 1 => ("TailorRegiment$Two", "a", "LTailorRegiment$Part;", true)
  | _ => ("TailorRegiment$Two", "b", "LTailorRegiment$Part;", true)
def tyX17 : Nat → FieldType := fun k => match k with
  | 0 => .int
  | 1 => .object "TailorRegiment$Part"
  | _ => .object "TailorRegiment$Part"
abbrev wsX170 : List Cond := u_ws RX17 TX17 3
theorem nmX17 : ∀ a, a < 3 → ∀ b, b < 3 → a ≠ b → (TX17 a).2.1 ≠ (TX17 b).2.1 := by decide +kernel
theorem tyX17_ok : ∀ k, k < 3 → parseFieldDescriptor (TX17 k).2.2.1 = some (tyX17 k) := by decide +kernel
theorem in_X17 : ∀ w ∈ wsX170, w ∈ lw_all := lw_in wsX170 [973, 975, 977] (by decide +kernel) (by decide +kernel)
/-! TailorRegiment$Sight -/
def RX18 : String := "TailorRegiment$Sight"
def TX18 : u_T := fun k => match k with
  | 0 => ("TailorRegiment$Sight", "days", "I", true)
  | 1 => ("TailorRegiment$Sight", "told", "I", true)
  | 2 => ("TailorRegiment$Sight", "is", "Z", true)
  | _ => ("TailorRegiment$Sight", "untold", "I", false)
def tyX18 : Nat → FieldType := fun k => match k with
  | 0 => .int
  | 1 => .int
  | 2 => .boolean
  | _ => .int
abbrev wsX180 : List Cond := u_ws RX18 TX18 4
theorem nmX18 : ∀ a, a < 4 → ∀ b, b < 4 → a ≠ b → (TX18 a).2.1 ≠ (TX18 b).2.1 := by decide +kernel
theorem tyX18_ok : ∀ k, k < 4 → parseFieldDescriptor (TX18 k).2.2.1 = some (tyX18 k) := by decide +kernel
theorem in_X18 : ∀ w ∈ wsX180, w ∈ lw_all := lw_in wsX180 [1353, 1355, 1357, 1359] (by decide +kernel) (by decide +kernel)
/-! java/util/AbstractCollection -/
def RJ0 : String := "java/util/AbstractCollection"
/-! java/util/AbstractList -/
def RJ1 : String := "java/util/AbstractList"
/-! java/util/ArrayList -/
def RJ2 : String := "java/util/ArrayList"
def TJ2 : u_T := fun k => match k with
  | 0 => ("java/util/AbstractList", "modCount", "I", false)
  | 1 => ("java/util/ArrayList", "elementData", "[Ljava/lang/Object;", false)
  | _ => ("java/util/ArrayList", "size", "I", false)
def tyJ2 : Nat → FieldType := fun k => match k with
  | 0 => .int
  | 1 => .array (.object "java/lang/Object")
  | _ => .int
abbrev wsJ20 : List Cond := u_ws RJ2 TJ2 3
theorem nmJ2 : ∀ a, a < 3 → ∀ b, b < 3 → a ≠ b → (TJ2 a).2.1 ≠ (TJ2 b).2.1 := by decide +kernel
theorem tyJ2_ok : ∀ k, k < 3 → parseFieldDescriptor (TJ2 k).2.2.1 = some (tyJ2 k) := by decide +kernel
theorem in_J2 : ∀ w ∈ wsJ20, w ∈ lw_all := lw_in wsJ20 [189, 185, 187] (by decide +kernel) (by decide +kernel)
/-! java/lang/Throwable -/
def RJ3 : String := "java/lang/Throwable"
def TJ3 : u_T := fun k => match k with
  | 0 => ("java/lang/Throwable", "cause", "Ljava/lang/Throwable;", false)
  | 1 => ("java/lang/Throwable", "stackTrace", "[Ljava/lang/StackTraceElement;", false)
  | 2 => ("java/lang/Throwable", "suppressedExceptions", "Ljava/util/List;", false)
  | 3 => ("java/lang/Throwable", "detailMessage", "Ljava/lang/String;", false)
  | _ => ("java/lang/Throwable", "backtrace", "Ljava/lang/Object;", false)
def tyJ3 : Nat → FieldType := fun k => match k with
  | 0 => .object "java/lang/Throwable"
  | 1 => .array (.object "java/lang/StackTraceElement")
  | 2 => .object "java/util/List"
  | 3 => .object "java/lang/String"
  | _ => .object "java/lang/Object"
abbrev wsJ30 : List Cond := u_ws RJ3 TJ3 5
theorem nmJ3 : ∀ a, a < 5 → ∀ b, b < 5 → a ≠ b → (TJ3 a).2.1 ≠ (TJ3 b).2.1 := by decide +kernel
theorem tyJ3_ok : ∀ k, k < 5 → parseFieldDescriptor (TJ3 k).2.2.1 = some (tyJ3 k) := by decide +kernel
theorem in_J3 : ∀ w ∈ wsJ30, w ∈ lw_all := lw_in wsJ30 [314, 316, 318, 320, 322] (by decide +kernel) (by decide +kernel)
/-! java/lang/Exception -/
def RJ4 : String := "java/lang/Exception"
/-! java/util/Objects -/
def RJ5 : String := "java/util/Objects"
/-! jdk/internal/util/Preconditions -/
def RJ6 : String := "jdk/internal/util/Preconditions"
/-! java/lang/String -/
def RJ7 : String := "java/lang/String"
/-! java/lang/StringLatin1 -/
def RJ8 : String := "java/lang/StringLatin1"
/-! java/lang/StringUTF16 -/
def RJ9 : String := "java/lang/StringUTF16"
/-! java/util/ArrayList$Itr -/
def RJ10 : String := "java/util/ArrayList$Itr"
def TJ10 : u_T := fun k => match k with
  | 0 => ("java/util/ArrayList$Itr", "cursor", "I", false)
  | 1 => ("java/util/ArrayList$Itr", "lastRet", "I", false)
  | 2 => ("java/util/ArrayList$Itr", "expectedModCount", "I", false)
  | _ => ("java/util/ArrayList$Itr", "this$0", "Ljava/util/ArrayList;", true)
def tyJ10 : Nat → FieldType := fun k => match k with
  | 0 => .int
  | 1 => .int
  | 2 => .int
  | _ => .object "java/util/ArrayList"
abbrev wsJ100 : List Cond := u_ws RJ10 TJ10 4
theorem nmJ10 : ∀ a, a < 4 → ∀ b, b < 4 → a ≠ b → (TJ10 a).2.1 ≠ (TJ10 b).2.1 := by decide +kernel
theorem tyJ10_ok : ∀ k, k < 4 → parseFieldDescriptor (TJ10 k).2.2.1 = some (tyJ10 k) := by decide +kernel
theorem in_J10 : ∀ w ∈ wsJ100, w ∈ lw_all := lw_in wsJ100 [715, 717, 719, 721] (by decide +kernel) (by decide +kernel)
/-! jdk/internal/util/ArraysSupport -/
def RJ11 : String := "jdk/internal/util/ArraysSupport"
/-! java/lang/Math -/
def RJ12 : String := "java/lang/Math"
/-! java/util/Arrays -/
def RJ13 : String := "java/util/Arrays"
/-! java/lang/Integer -/
def RJ14 : String := "java/lang/Integer"
/-! java/lang/Object -/
def RJ15 : String := "java/lang/Object"
