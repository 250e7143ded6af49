set_option maxRecDepth 100000
def RX0 : String := "MouldVotesLaw"
def RX1 : String := "MouldVotes"
def TX1 : u_T := fun k => match k with
  | 0 => ("MouldVotes", "values", "[I", true)
  | 1 => ("MouldVotes", "roll", "LMouldVotes$Roll;", false)
  | 2 => ("MouldVotes", "before", "LMouldVotes$Growth;", true)
  | 3 => ("MouldVotes", "tried", "LMouldVotes$Growth;", true)
  | 4 => ("MouldVotes", "growth", "LMouldVotes$Growth;", false)
  | 5 => ("MouldVotes", "tape", "[B", true)
  | 6 => ("MouldVotes", "taped", "I", false)
  | 7 => ("MouldVotes", "faultPlace", "I", false)
  | 8 => ("MouldVotes", "refused", "[I", true)
  | 9 => ("MouldVotes", "acts", "Ljava/util/List;", false)
  | 10 => ("MouldVotes", "seen", "Ljava/util/List;", false)
  | 11 => ("MouldVotes", "growthThen", "LMouldVotes$Growth;", false)
  | 12 => ("MouldVotes", "actsThen", "Ljava/util/List;", false)
  | 13 => ("MouldVotes", "seenThen", "Ljava/util/List;", false)
  | _ => ("MouldVotes", "seed", "I", false)
def tyX1 : Nat → FieldType := fun k => match k with
  | 0 => .array .int
  | 1 => .object "MouldVotes$Roll"
  | 2 => .object "MouldVotes$Growth"
  | 3 => .object "MouldVotes$Growth"
  | 4 => .object "MouldVotes$Growth"
  | 5 => .array .byte
  | 6 => .int
  | 7 => .int
  | 8 => .array .int
  | 9 => .object "java/util/List"
  | 10 => .object "java/util/List"
  | 11 => .object "MouldVotes$Growth"
  | 12 => .object "java/util/List"
  | 13 => .object "java/util/List"
  | _ => .int
abbrev wsX10 : List Cond := u_ws RX1 TX1 15
theorem nmX1 : ∀ a, a < 15 → ∀ b, b < 15 → a ≠ b → (TX1 a).2.1 ≠ (TX1 b).2.1 := by decide +kernel
theorem tyX1_ok : ∀ k, k < 15 → parseFieldDescriptor (TX1 k).2.2.1 = some (tyX1 k) := by decide +kernel
theorem in_X1 : ∀ w ∈ wsX10, w ∈ lw_all := lw_in wsX10 [290, 292, 294, 296, 298, 300, 302, 304, 306, 308, 310, 312, 314, 316, 318] (by decide +kernel) (by decide +kernel)
def RX2 : String := "MouldVotes$Roll"
def TX2 : u_T := fun k => match k with
  | 0 => ("MouldVotes$Roll", "parties", "Ljava/util/List;", true)
  | 1 => ("MouldVotes$Roll", "warmths", "Ljava/util/List;", true)
  | 2 => ("MouldVotes$Roll", "wide", "I", false)
  | 3 => ("MouldVotes$Roll", "high", "I", false)
  | 4 => ("MouldVotes$Roll", "age", "I", false)
  | 5 => ("MouldVotes$Roll", "spores", "I", false)
  | 6 => ("MouldVotes$Roll", "grows", "LMouldVotes$Form;", false)
  | _ => ("MouldVotes$Roll", "beats", "LMouldVotes$Form;", false)
def tyX2 : Nat → FieldType := fun k => match k with
  | 0 => .object "java/util/List"
  | 1 => .object "java/util/List"
  | 2 => .int
  | 3 => .int
  | 4 => .int
  | 5 => .int
  | 6 => .object "MouldVotes$Form"
  | _ => .object "MouldVotes$Form"
abbrev wsX20 : List Cond := u_ws RX2 TX2 8
theorem nmX2 : ∀ a, a < 8 → ∀ b, b < 8 → a ≠ b → (TX2 a).2.1 ≠ (TX2 b).2.1 := by decide +kernel
theorem tyX2_ok : ∀ k, k < 8 → parseFieldDescriptor (TX2 k).2.2.1 = some (tyX2 k) := by decide +kernel
theorem in_X2 : ∀ w ∈ wsX20, w ∈ lw_all := lw_in wsX20 [218, 220, 222, 224, 226, 228, 230, 232] (by decide +kernel) (by decide +kernel)
def RX3 : String := "MouldVotes$Growth"
def TX3 : u_T := fun k => match k with
  | 0 => ("MouldVotes$Growth", "damp", "[I", true)
  | 1 => ("MouldVotes$Growth", "food", "[I", true)
  | 2 => ("MouldVotes$Growth", "kind", "[I", true)
  | 3 => ("MouldVotes$Growth", "size", "[I", true)
  | 4 => ("MouldVotes$Growth", "day", "I", false)
  | _ => ("MouldVotes$Growth", "this$0", "LMouldVotes;", true)
def tyX3 : Nat → FieldType := fun k => match k with
  | 0 => .array .int
  | 1 => .array .int
  | 2 => .array .int
  | 3 => .array .int
  | 4 => .int
  | _ => .object "MouldVotes"
abbrev wsX30 : List Cond := u_ws RX3 TX3 6
theorem nmX3 : ∀ a, a < 6 → ∀ b, b < 6 → a ≠ b → (TX3 a).2.1 ≠ (TX3 b).2.1 := by decide +kernel
theorem tyX3_ok : ∀ k, k < 6 → parseFieldDescriptor (TX3 k).2.2.1 = some (tyX3 k) := by decide +kernel
theorem in_X3 : ∀ w ∈ wsX30, w ∈ lw_all := lw_in wsX30 [256, 258, 260, 262, 264, 266] (by decide +kernel) (by decide +kernel)
def RX4 : String := "MouldVotesModel"
def TX4 : u_T := fun k => match k with
  | 0 => ("MouldVotesModel", "thrown", "I", false)
  | 1 => ("MouldVotesModel", "wide", "I", false)
  | 2 => ("MouldVotesModel", "high", "I", false)
  | 3 => ("MouldVotesModel", "kinds", "I", false)
  | 4 => ("MouldVotesModel", "numbers", "I", false)
  | 5 => ("MouldVotesModel", "age", "I", false)
  | 6 => ("MouldVotesModel", "spores", "I", false)
  | 7 => ("MouldVotesModel", "growsAt", "I", false)
  | 8 => ("MouldVotesModel", "beatsAt", "I", false)
  | 9 => ("MouldVotesModel", "partyOf", "[I", true)
  | 10 => ("MouldVotesModel", "warmth", "[I", true)
  | 11 => ("MouldVotesModel", "code", "[I", true)
  | 12 => ("MouldVotesModel", "tape", "[I", true)
  | 13 => ("MouldVotesModel", "taped", "I", false)
  | 14 => ("MouldVotesModel", "faultKind", "I", false)
  | 15 => ("MouldVotesModel", "faultPlace", "I", false)
  | 16 => ("MouldVotesModel", "refused", "[I", true)
  | 17 => ("MouldVotesModel", "long1", "I", false)
  | 18 => ("MouldVotesModel", "next0", "I", false)
  | 19 => ("MouldVotesModel", "sort", "I", false)
  | 20 => ("MouldVotesModel", "place", "I", false)
  | 21 => ("MouldVotesModel", "long0", "I", false)
  | 22 => ("MouldVotesModel", "value", "I", false)
  | 23 => ("MouldVotesModel", "sign", "I", false)
  | 24 => ("MouldVotesModel", "word", "J", false)
  | 25 => ("MouldVotesModel", "newWide", "I", false)
  | 26 => ("MouldVotesModel", "newHigh", "I", false)
  | 27 => ("MouldVotesModel", "newKinds", "I", false)
  | 28 => ("MouldVotesModel", "newNumbers", "I", false)
  | 29 => ("MouldVotesModel", "newAge", "I", false)
  | 30 => ("MouldVotesModel", "newSpores", "I", false)
  | 31 => ("MouldVotesModel", "newGrowsAt", "I", false)
  | 32 => ("MouldVotesModel", "newBeatsAt", "I", false)
  | 33 => ("MouldVotesModel", "top", "I", false)
  | 34 => ("MouldVotesModel", "waiting", "I", false)
  | 35 => ("MouldVotesModel", "depth", "I", false)
  | 36 => ("MouldVotesModel", "may", "I", false)
  | 37 => ("MouldVotesModel", "newPartyOf", "[I", true)
  | 38 => ("MouldVotesModel", "newWarmth", "[I", true)
  | 39 => ("MouldVotesModel", "newRow", "[I", true)
  | 40 => ("MouldVotesModel", "readCode", "[I", true)
  | 41 => ("MouldVotesModel", "waits", "[I", true)
  | 42 => ("MouldVotesModel", "tested", "[Z", true)
  | 43 => ("MouldVotesModel", "isCell", "[Z", true)
  | 44 => ("MouldVotesModel", "rows", "[I", true)
  | 45 => ("MouldVotesModel", "ahead", "[I", true)
  | 46 => ("MouldVotesModel", "acts", "I", false)
  | 47 => ("MouldVotesModel", "told", "[I", true)
  | 48 => ("MouldVotesModel", "pile", "[I", true)
  | 49 => ("MouldVotesModel", "becomes", "[I", true)
  | 50 => ("MouldVotesModel", "kindsWere", "[I", true)
  | 51 => ("MouldVotesModel", "voter", "[I", true)
  | 52 => ("MouldVotesModel", "steps", "[I", true)
  | 53 => ("MouldVotesModel", "seenMany", "I", false)
  | 54 => ("MouldVotesModel", "seen", "[I", true)
  | 55 => ("MouldVotesModel", "soon", "[I", true)
  | 56 => ("MouldVotesModel", "soonAll", "[I", true)
  | 57 => ("MouldVotesModel", "its", "I", false)
  | 58 => ("MouldVotesModel", "hasImage", "Z", false)
  | 59 => ("MouldVotesModel", "imageActs", "I", false)
  | 60 => ("MouldVotesModel", "imageSeen", "I", false)
  | 61 => ("MouldVotesModel", "imageRow", "[I", true)
  | 62 => ("MouldVotesModel", "imageAhead", "[I", true)
  | _ => ("MouldVotesModel", "imageSees", "[I", true)
def tyX4 : Nat → FieldType := fun k => match k with
  | 0 => .int
  | 1 => .int
  | 2 => .int
  | 3 => .int
  | 4 => .int
  | 5 => .int
  | 6 => .int
  | 7 => .int
  | 8 => .int
  | 9 => .array .int
  | 10 => .array .int
  | 11 => .array .int
  | 12 => .array .int
  | 13 => .int
  | 14 => .int
  | 15 => .int
  | 16 => .array .int
  | 17 => .int
  | 18 => .int
  | 19 => .int
  | 20 => .int
  | 21 => .int
  | 22 => .int
  | 23 => .int
  | 24 => .long
  | 25 => .int
  | 26 => .int
  | 27 => .int
  | 28 => .int
  | 29 => .int
  | 30 => .int
  | 31 => .int
  | 32 => .int
  | 33 => .int
  | 34 => .int
  | 35 => .int
  | 36 => .int
  | 37 => .array .int
  | 38 => .array .int
  | 39 => .array .int
  | 40 => .array .int
  | 41 => .array .int
  | 42 => .array .boolean
  | 43 => .array .boolean
  | 44 => .array .int
  | 45 => .array .int
  | 46 => .int
  | 47 => .array .int
  | 48 => .array .int
  | 49 => .array .int
  | 50 => .array .int
  | 51 => .array .int
  | 52 => .array .int
  | 53 => .int
  | 54 => .array .int
  | 55 => .array .int
  | 56 => .array .int
  | 57 => .int
  | 58 => .boolean
  | 59 => .int
  | 60 => .int
  | 61 => .array .int
  | 62 => .array .int
  | _ => .array .int
abbrev wsX40 : List Cond := u_ws RX4 TX4 64
theorem nmX4 : ∀ a, a < 64 → ∀ b, b < 64 → a ≠ b → (TX4 a).2.1 ≠ (TX4 b).2.1 := by decide +kernel
theorem tyX4_ok : ∀ k, k < 64 → parseFieldDescriptor (TX4 k).2.2.1 = some (tyX4 k) := by decide +kernel
theorem in_X4 : ∀ w ∈ wsX40, w ∈ lw_all := lw_in wsX40 [1627, 1629, 1631, 1633, 1635, 1637, 1639, 1641, 1643, 1645, 1647, 1649, 1651, 1653, 1655, 1657, 1659, 1661, 1663, 1665, 1667, 1669, 1671, 1673, 1675, 1677, 1679, 1681, 1683, 1685, 1687, 1689, 1691, 1693, 1695, 1697, 1699, 1701, 1703, 1705, 1707, 1709, 1711, 1713, 1715, 1717, 1719, 1721, 1723, 1725, 1727, 1729, 1731, 1733, 1735, 1737, 1739, 1741, 1743, 1745, 1747, 1749, 1751, 1753] (by decide +kernel) (by decide +kernel)
def RX5 : String := "MouldVotes$Reader"
def TX5 : u_T := fun k => match k with
  | 0 => ("MouldVotes$Reader", "size", "I", true)
  | 1 => ("MouldVotes$Reader", "made", "LMouldVotes$Roll;", true)
  | 2 => ("MouldVotes$Reader", "begun", "LMouldVotes$Growth;", true)
  | 3 => ("MouldVotes$Reader", "once", "[Ljava/lang/String;", true)
  | 4 => ("MouldVotes$Reader", "ofGrows", "[Ljava/lang/String;", true)
  | 5 => ("MouldVotes$Reader", "ofBeats", "[Ljava/lang/String;", true)
  | 6 => ("MouldVotes$Reader", "names", "[Ljava/lang/String;", false)
  | 7 => ("MouldVotes$Reader", "at", "I", false)
  | 8 => ("MouldVotes$Reader", "token", "I", false)
  | 9 => ("MouldVotes$Reader", "begins", "I", false)
  | 10 => ("MouldVotes$Reader", "ends", "I", false)
  | 11 => ("MouldVotes$Reader", "number", "I", false)
  | 12 => ("MouldVotes$Reader", "done", "I", false)
  | 13 => ("MouldVotes$Reader", "celled", "I", false)
  | _ => ("MouldVotes$Reader", "this$0", "LMouldVotes;", true)
def tyX5 : Nat → FieldType := fun k => match k with
  | 0 => .int
  | 1 => .object "MouldVotes$Roll"
  | 2 => .object "MouldVotes$Growth"
  | 3 => .array (.object "java/lang/String")
  | 4 => .array (.object "java/lang/String")
  | 5 => .array (.object "java/lang/String")
  | 6 => .array (.object "java/lang/String")
  | 7 => .int
  | 8 => .int
  | 9 => .int
  | 10 => .int
  | 11 => .int
  | 12 => .int
  | 13 => .int
  | _ => .object "MouldVotes"
abbrev wsX50 : List Cond := u_ws RX5 TX5 15
theorem nmX5 : ∀ a, a < 15 → ∀ b, b < 15 → a ≠ b → (TX5 a).2.1 ≠ (TX5 b).2.1 := by decide +kernel
theorem tyX5_ok : ∀ k, k < 15 → parseFieldDescriptor (TX5 k).2.2.1 = some (tyX5 k) := by decide +kernel
theorem in_X5 : ∀ w ∈ wsX50, w ∈ lw_all := lw_in wsX50 [848, 850, 852, 854, 856, 858, 860, 862, 864, 866, 868, 870, 872, 874, 876] (by decide +kernel) (by decide +kernel)
def RX6 : String := "MouldVotes$Wrong"
def TX6 : u_T := fun k => match k with
  | 0 => ("java/lang/Throwable", "cause", "Ljava/lang/Throwable;", false)
  | 1 => ("java/lang/Throwable", "stackTrace", "[Ljava/lang/StackTraceElement;", false)
  | 2 => ("java/lang/Throwable", "suppressedExceptions", "Ljava/util/List;", false)
  | 3 => ("java/lang/Throwable", "detailMessage", "Ljava/lang/String;", false)
  | 4 => ("java/lang/Throwable", "backtrace", "Ljava/lang/Object;", false)
  | 5 => ("java/lang/Throwable", "depth", "I", false)
  | _ => ("MouldVotes$Wrong", "kind", "I", true)
def tyX6 : Nat → FieldType := fun k => match k with
  | 0 => .object "java/lang/Throwable"
  | 1 => .array (.object "java/lang/StackTraceElement")
  | 2 => .object "java/util/List"
  | 3 => .object "java/lang/String"
  | 4 => .object "java/lang/Object"
  | 5 => .int
  | _ => .int
abbrev wsX60 : List Cond := u_ws RX6 TX6 7
theorem nmX6 : ∀ a, a < 7 → ∀ b, b < 7 → a ≠ b → (TX6 a).2.1 ≠ (TX6 b).2.1 := by decide +kernel
theorem tyX6_ok : ∀ k, k < 7 → parseFieldDescriptor (TX6 k).2.2.1 = some (tyX6 k) := by decide +kernel
theorem in_X6 : ∀ w ∈ wsX60, w ∈ lw_all := lw_in wsX60 [1016, 1017, 1018, 1019, 1020, 1034, 1032] (by decide +kernel) (by decide +kernel)
def RX7 : String := "MouldVotes$Chain"
def TX7 : u_T := fun k => match k with
  | 0 => ("MouldVotes$Chain", "forms", "Ljava/util/List;", true)
  | _ => ("MouldVotes$Chain", "signs", "Ljava/lang/StringBuilder;", true)
def tyX7 : Nat → FieldType := fun k => match k with
  | 0 => .object "java/util/List"
  | _ => .object "java/lang/StringBuilder"
abbrev wsX70 : List Cond := u_ws RX7 TX7 2
theorem nmX7 : ∀ a, a < 2 → ∀ b, b < 2 → a ≠ b → (TX7 a).2.1 ≠ (TX7 b).2.1 := by decide +kernel
theorem tyX7_ok : ∀ k, k < 2 → parseFieldDescriptor (TX7 k).2.2.1 = some (tyX7 k) := by decide +kernel
theorem in_X7 : ∀ w ∈ wsX70, w ∈ lw_all := lw_in wsX70 [1143, 1145] (by decide +kernel) (by decide +kernel)
def RX8 : String := "MouldVotes$Number"
def TX8 : u_T := fun k => match k with
  | _ => ("MouldVotes$Number", "value", "I", true)
def tyX8 : Nat → FieldType := fun k => match k with
  | _ => .int
abbrev wsX80 : List Cond := u_ws RX8 TX8 1
theorem nmX8 : ∀ a, a < 1 → ∀ b, b < 1 → a ≠ b → (TX8 a).2.1 ≠ (TX8 b).2.1 := by decide +kernel
theorem tyX8_ok : ∀ k, k < 1 → parseFieldDescriptor (TX8 k).2.2.1 = some (tyX8 k) := by decide +kernel
theorem in_X8 : ∀ w ∈ wsX80, w ∈ lw_all := lw_in wsX80 [1092] (by decide +kernel) (by decide +kernel)
def RX9 : String := "MouldVotes$Value"
def TX9 : u_T := fun k => match k with
  | _ => ("MouldVotes$Value", "which", "I", true)
def tyX9 : Nat → FieldType := fun k => match k with
  | _ => .int
abbrev wsX90 : List Cond := u_ws RX9 TX9 1
theorem nmX9 : ∀ a, a < 1 → ∀ b, b < 1 → a ≠ b → (TX9 a).2.1 ≠ (TX9 b).2.1 := by decide +kernel
theorem tyX9_ok : ∀ k, k < 1 → parseFieldDescriptor (TX9 k).2.2.1 = some (tyX9 k) := by decide +kernel
theorem in_X9 : ∀ w ∈ wsX90, w ∈ lw_all := lw_in wsX90 [1102] (by decide +kernel) (by decide +kernel)
def RX10 : String := "MouldVotes$Not"
def TX10 : u_T := fun k => match k with
  | _ => ("MouldVotes$Not", "form", "LMouldVotes$Form;", true)
def tyX10 : Nat → FieldType := fun k => match k with
  | _ => .object "MouldVotes$Form"
abbrev wsX100 : List Cond := u_ws RX10 TX10 1
theorem nmX10 : ∀ a, a < 1 → ∀ b, b < 1 → a ≠ b → (TX10 a).2.1 ≠ (TX10 b).2.1 := by decide +kernel
theorem tyX10_ok : ∀ k, k < 1 → parseFieldDescriptor (TX10 k).2.2.1 = some (tyX10 k) := by decide +kernel
theorem in_X10 : ∀ w ∈ wsX100, w ∈ lw_all := lw_in wsX100 [1227] (by decide +kernel) (by decide +kernel)
def RJ0 : String := "java/util/AbstractCollection"
def RJ1 : String := "java/util/AbstractList"
def RJ2 : String := "java/util/ArrayList"
def TJ2 : u_T := fun k => match k with
  | 0 => ("java/util/AbstractList", "modCount", "I", false)
  | 1 => ("java/util/ArrayList", "elementData", "[Ljava/lang/Object;", false)
  | _ => ("java/util/ArrayList", "size", "I", false)
def tyJ2 : Nat → FieldType := fun k => match k with
  | 0 => .int
  | 1 => .array (.object "java/lang/Object")
  | _ => .int
abbrev wsJ20 : List Cond := u_ws RJ2 TJ2 3
theorem nmJ2 : ∀ a, a < 3 → ∀ b, b < 3 → a ≠ b → (TJ2 a).2.1 ≠ (TJ2 b).2.1 := by decide +kernel
theorem tyJ2_ok : ∀ k, k < 3 → parseFieldDescriptor (TJ2 k).2.2.1 = some (tyJ2 k) := by decide +kernel
theorem in_J2 : ∀ w ∈ wsJ20, w ∈ lw_all := lw_in wsJ20 [191, 187, 189] (by decide +kernel) (by decide +kernel)
def RJ3 : String := "java/lang/Throwable"
def TJ3 : u_T := fun k => match k with
  | 0 => ("java/lang/Throwable", "cause", "Ljava/lang/Throwable;", false)
  | 1 => ("java/lang/Throwable", "stackTrace", "[Ljava/lang/StackTraceElement;", false)
  | 2 => ("java/lang/Throwable", "suppressedExceptions", "Ljava/util/List;", false)
  | 3 => ("java/lang/Throwable", "detailMessage", "Ljava/lang/String;", false)
  | _ => ("java/lang/Throwable", "backtrace", "Ljava/lang/Object;", false)
def tyJ3 : Nat → FieldType := fun k => match k with
  | 0 => .object "java/lang/Throwable"
  | 1 => .array (.object "java/lang/StackTraceElement")
  | 2 => .object "java/util/List"
  | 3 => .object "java/lang/String"
  | _ => .object "java/lang/Object"
abbrev wsJ30 : List Cond := u_ws RJ3 TJ3 5
theorem nmJ3 : ∀ a, a < 5 → ∀ b, b < 5 → a ≠ b → (TJ3 a).2.1 ≠ (TJ3 b).2.1 := by decide +kernel
theorem tyJ3_ok : ∀ k, k < 5 → parseFieldDescriptor (TJ3 k).2.2.1 = some (tyJ3 k) := by decide +kernel
theorem in_J3 : ∀ w ∈ wsJ30, w ∈ lw_all := lw_in wsJ30 [754, 756, 758, 760, 762] (by decide +kernel) (by decide +kernel)
def RJ4 : String := "java/lang/Exception"
def RJ5 : String := "java/lang/RuntimeException"
def RJ6 : String := "java/lang/IllegalArgumentException"
def TJ6 : u_T := fun k => match k with
  | 0 => ("java/lang/Throwable", "cause", "Ljava/lang/Throwable;", false)
  | 1 => ("java/lang/Throwable", "stackTrace", "[Ljava/lang/StackTraceElement;", false)
  | 2 => ("java/lang/Throwable", "suppressedExceptions", "Ljava/util/List;", false)
  | 3 => ("java/lang/Throwable", "detailMessage", "Ljava/lang/String;", false)
  | 4 => ("java/lang/Throwable", "backtrace", "Ljava/lang/Object;", false)
  | _ => ("java/lang/Throwable", "depth", "I", false)
def tyJ6 : Nat → FieldType := fun k => match k with
  | 0 => .object "java/lang/Throwable"
  | 1 => .array (.object "java/lang/StackTraceElement")
  | 2 => .object "java/util/List"
  | 3 => .object "java/lang/String"
  | 4 => .object "java/lang/Object"
  | _ => .int
abbrev wsJ60 : List Cond := u_ws RJ6 TJ6 6
theorem nmJ6 : ∀ a, a < 6 → ∀ b, b < 6 → a ≠ b → (TJ6 a).2.1 ≠ (TJ6 b).2.1 := by decide +kernel
theorem tyJ6_ok : ∀ k, k < 6 → parseFieldDescriptor (TJ6 k).2.2.1 = some (tyJ6 k) := by decide +kernel
theorem in_J6 : ∀ w ∈ wsJ60, w ∈ lw_all := lw_in wsJ60 [753, 755, 757, 759, 761, 802] (by decide +kernel) (by decide +kernel)
def RJ7 : String := "java/lang/Math"
def RJ8 : String := "java/lang/String"
def RJ9 : String := "java/lang/StringLatin1"
def RJ10 : String := "java/lang/StringUTF16"
def RJ11 : String := "jdk/internal/util/Preconditions"
def RJ12 : String := "java/lang/Character"
def RJ13 : String := "java/lang/Number"
def RJ14 : String := "java/lang/Integer"
def TJ14 : u_T := fun k => match k with
  | _ => ("java/lang/Integer", "value", "I", true)
def tyJ14 : Nat → FieldType := fun k => match k with
  | _ => .int
abbrev wsJ140 : List Cond := u_ws RJ14 TJ14 1
theorem nmJ14 : ∀ a, a < 1 → ∀ b, b < 1 → a ≠ b → (TJ14 a).2.1 ≠ (TJ14 b).2.1 := by decide +kernel
theorem tyJ14_ok : ∀ k, k < 1 → parseFieldDescriptor (TJ14 k).2.2.1 = some (tyJ14 k) := by decide +kernel
theorem in_J14 : ∀ w ∈ wsJ140, w ∈ lw_all := lw_in wsJ140 [648] (by decide +kernel) (by decide +kernel)
def RJ15 : String := "jdk/internal/util/ArraysSupport"
def RJ16 : String := "java/util/Arrays"
def RJ17 : String := "java/lang/AbstractStringBuilder"
def RJ18 : String := "java/lang/StringBuilder"
def TJ18 : u_T := fun k => match k with
  | 0 => ("java/lang/AbstractStringBuilder", "value", "[B", false)
  | 1 => ("java/lang/AbstractStringBuilder", "coder", "B", false)
  | 2 => ("java/lang/AbstractStringBuilder", "maybeLatin1", "Z", false)
  | _ => ("java/lang/AbstractStringBuilder", "count", "I", false)
def tyJ18 : Nat → FieldType := fun k => match k with
  | 0 => .array .byte
  | 1 => .byte
  | 2 => .boolean
  | _ => .int
abbrev wsJ180 : List Cond := u_ws RJ18 TJ18 4
theorem nmJ18 : ∀ a, a < 4 → ∀ b, b < 4 → a ≠ b → (TJ18 a).2.1 ≠ (TJ18 b).2.1 := by decide +kernel
theorem tyJ18_ok : ∀ k, k < 4 → parseFieldDescriptor (TJ18 k).2.2.1 = some (tyJ18 k) := by decide +kernel
theorem in_J18 : ∀ w ∈ wsJ180, w ∈ lw_all := lw_in wsJ180 [1131, 1133, 1135, 1137] (by decide +kernel) (by decide +kernel)
def RJ19 : String := "java/util/Objects"
def RJ20 : String := "java/util/NoSuchElementException"
def TJ20 : u_T := fun k => match k with
  | 0 => ("java/lang/Throwable", "cause", "Ljava/lang/Throwable;", false)
  | 1 => ("java/lang/Throwable", "stackTrace", "[Ljava/lang/StackTraceElement;", false)
  | 2 => ("java/lang/Throwable", "suppressedExceptions", "Ljava/util/List;", false)
  | 3 => ("java/lang/Throwable", "detailMessage", "Ljava/lang/String;", false)
  | 4 => ("java/lang/Throwable", "backtrace", "Ljava/lang/Object;", false)
  | _ => ("java/lang/Throwable", "depth", "I", false)
def tyJ20 : Nat → FieldType := fun k => match k with
  | 0 => .object "java/lang/Throwable"
  | 1 => .array (.object "java/lang/StackTraceElement")
  | 2 => .object "java/util/List"
  | 3 => .object "java/lang/String"
  | 4 => .object "java/lang/Object"
  | _ => .int
abbrev wsJ200 : List Cond := u_ws RJ20 TJ20 6
theorem nmJ20 : ∀ a, a < 6 → ∀ b, b < 6 → a ≠ b → (TJ20 a).2.1 ≠ (TJ20 b).2.1 := by decide +kernel
theorem tyJ20_ok : ∀ k, k < 6 → parseFieldDescriptor (TJ20 k).2.2.1 = some (tyJ20 k) := by decide +kernel
theorem in_J20 : ∀ w ∈ wsJ200, w ∈ lw_all := lw_in wsJ200 [1275, 1276, 1277, 1278, 1279, 1284] (by decide +kernel) (by decide +kernel)
def RJ21 : String := "java/lang/Object"
theorem q194 : (Jvm.Cond.arrayClass Jvm.ClassFile.FieldType.int) ∈ lw_all := lw_g (lw_at lw_m1 74 rfl) rfl
theorem q321 : (Jvm.Cond.arrayClass Jvm.ClassFile.FieldType.byte) ∈ lw_all := lw_g (lw_at lw_m1 201 rfl) rfl
theorem q413 : (Jvm.Cond.arrayOver (Jvm.ClassFile.FieldType.object "java/lang/Object")) ∈ lw_tbl := lw_at lw_m2 53 rfl
theorem q652 : (Jvm.Cond.arrayOver (Jvm.ClassFile.FieldType.array Jvm.ClassFile.FieldType.int)) ∈ lw_tbl := lw_at lw_m3 52 rfl
theorem q817 : (Jvm.Cond.arrayOver (Jvm.ClassFile.FieldType.object "java/lang/String")) ∈ lw_tbl := lw_at lw_m3 217 rfl
theorem q1756 : (Jvm.Cond.arrayClass Jvm.ClassFile.FieldType.boolean) ∈ lw_all := lw_g (lw_at lw_m7 196 rfl) rfl
theorem q2229 : (Jvm.Cond.arrayClass Jvm.ClassFile.FieldType.long) ∈ lw_all := lw_g (lw_at lw_m9 189 rfl) rfl
theorem q142 : (Jvm.Cond.initialized "java/lang/Integer$IntegerCache") ∈ lw_all := lw_g (lw_at lw_m1 22 rfl) rfl
theorem q635 : (Jvm.Cond.laysStatic "java/lang/Integer$IntegerCache" "high" "I") ∈ lw_tbl := lw_at lw_m3 35 rfl
theorem q637 : (Jvm.Cond.laysStatic "java/lang/Integer$IntegerCache" "cache" "[Ljava/lang/Integer;") ∈ lw_tbl := lw_at lw_m3 37 rfl
theorem q145 : (Jvm.Cond.initialized "java/lang/System") ∈ lw_all := lw_g (lw_at lw_m1 25 rfl) rfl
theorem q419 : (Jvm.Cond.static ({ cls := "java/lang/System", name := "arraycopy", desc := "(Ljava/lang/Object;ILjava/lang/Object;II)V" } : Jvm.MethodName)) ∈ lw_all := lw_g (lw_at lw_m2 59 rfl) rfl
theorem q420 : (Jvm.Cond.native ({ cls := "java/lang/System", name := "arraycopy", desc := "(Ljava/lang/Object;ILjava/lang/Object;II)V" } : Jvm.MethodName)) ∈ lw_all := lw_g (lw_at lw_m2 60 rfl) rfl
theorem q357 : (Jvm.Cond.interfaceMethod "java/util/List" "java/util/List" "add" "(Ljava/lang/Object;)Z") ∈ lw_tbl := lw_at lw_m1 237 rfl
theorem q358 : (Jvm.Cond.declares ({ cls := "java/util/List", name := "add", desc := "(Ljava/lang/Object;)Z" } : Jvm.MethodName)) ∈ lw_tbl := lw_at lw_m1 238 rfl
theorem q425 : (Jvm.Cond.interfaceMethod "java/util/List" "java/util/List" "size" "()I") ∈ lw_tbl := lw_at lw_m2 65 rfl
theorem q426 : (Jvm.Cond.declares ({ cls := "java/util/List", name := "size", desc := "()I" } : Jvm.MethodName)) ∈ lw_tbl := lw_at lw_m2 66 rfl
theorem q434 : (Jvm.Cond.interfaceMethod "java/util/List" "java/util/List" "remove" "(I)Ljava/lang/Object;") ∈ lw_tbl := lw_at lw_m2 74 rfl
theorem q435 : (Jvm.Cond.declares ({ cls := "java/util/List", name := "remove", desc := "(I)Ljava/lang/Object;" } : Jvm.MethodName)) ∈ lw_tbl := lw_at lw_m2 75 rfl
theorem q478 : (Jvm.Cond.interfaceMethod "java/util/List" "java/util/List" "isEmpty" "()Z") ∈ lw_tbl := lw_at lw_m2 118 rfl
theorem q479 : (Jvm.Cond.declares ({ cls := "java/util/List", name := "isEmpty", desc := "()Z" } : Jvm.MethodName)) ∈ lw_tbl := lw_at lw_m2 119 rfl
theorem q489 : (Jvm.Cond.interfaceMethod "java/util/List" "java/util/List" "get" "(I)Ljava/lang/Object;") ∈ lw_tbl := lw_at lw_m2 129 rfl
theorem q490 : (Jvm.Cond.declares ({ cls := "java/util/List", name := "get", desc := "(I)Ljava/lang/Object;" } : Jvm.MethodName)) ∈ lw_tbl := lw_at lw_m2 130 rfl
theorem q519 : (Jvm.Cond.interfaceMethod "MouldVotes$Form" "MouldVotes$Form" "of" "([I)I") ∈ lw_tbl := lw_at lw_m2 159 rfl
theorem q520 : (Jvm.Cond.declares ({ cls := "MouldVotes$Form", name := "of", desc := "([I)I" } : Jvm.MethodName)) ∈ lw_tbl := lw_at lw_m2 160 rfl
theorem q707 : (Jvm.Cond.interfaceMethod "java/util/Collection" "java/util/Collection" "toArray" "()[Ljava/lang/Object;") ∈ lw_tbl := lw_at lw_m3 107 rfl
theorem q708 : (Jvm.Cond.declares ({ cls := "java/util/Collection", name := "toArray", desc := "()[Ljava/lang/Object;" } : Jvm.MethodName)) ∈ lw_tbl := lw_at lw_m3 108 rfl
theorem q717 : (Jvm.Cond.interfaceMethod "java/util/Collection" "java/lang/Object" "getClass" "()Ljava/lang/Class;") ∈ lw_tbl := lw_at lw_m3 117 rfl
theorem q1177 : (Jvm.Cond.sameMethod "[B" "java/lang/Object" "clone" "()Ljava/lang/Object;") ∈ lw_all := lw_g (lw_at lw_m5 97 rfl) rfl
theorem q1180 : (Jvm.Cond.selects "[B" ({ cls := "[B", name := "clone", desc := "()Ljava/lang/Object;" } : Jvm.MethodName) ({ cls := "java/lang/Object", name := "clone", desc := "()Ljava/lang/Object;" } : Jvm.MethodName)) ∈ lw_all := lw_g (lw_at lw_m5 100 rfl) rfl
theorem q1181 : (Jvm.Cond.castable "[B" "java/lang/Cloneable") ∈ lw_tbl := lw_at lw_m5 101 rfl
theorem q2257 : (Jvm.Cond.castable "[B" "java/lang/Object") ∈ lw_tbl := lw_at lw_m9 217 rfl
theorem q2254 : (Jvm.Cond.sameMethod "[Ljava/lang/Object;" "java/lang/Object" "getClass" "()Ljava/lang/Class;") ∈ lw_all := lw_g (lw_at lw_m9 214 rfl) rfl
theorem q2255 : (Jvm.Cond.selects "[Ljava/lang/Object;" ({ cls := "java/lang/Object", name := "getClass", desc := "()Ljava/lang/Class;" } : Jvm.MethodName) ({ cls := "java/lang/Object", name := "getClass", desc := "()Ljava/lang/Class;" } : Jvm.MethodName)) ∈ lw_all := lw_g (lw_at lw_m9 215 rfl) rfl
theorem q2258 : (Jvm.Cond.castable "[Ljava/lang/Object;" "java/lang/Object") ∈ lw_tbl := lw_at lw_m9 218 rfl
theorem q2256 : (Jvm.Cond.castable "[I" "java/lang/Object") ∈ lw_tbl := lw_at lw_m9 216 rfl
theorem q2259 : (Jvm.Cond.castable "[[I" "java/lang/Object") ∈ lw_tbl := lw_at lw_m9 219 rfl
theorem q2260 : (Jvm.Cond.castable "[Ljava/lang/String;" "java/lang/Object") ∈ lw_tbl := lw_at lw_m9 220 rfl
theorem q2261 : (Jvm.Cond.castable "[Z" "java/lang/Object") ∈ lw_tbl := lw_at lw_m9 221 rfl
theorem q2262 : (Jvm.Cond.castable "[J" "java/lang/Object") ∈ lw_tbl := lw_at lw_m9 222 rfl
