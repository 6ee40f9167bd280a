/-! the classes: by program out of claim/names -/
set_option maxRecDepth 100000
def RX1 : String := "PlugHall"
def TX1 : u_T := fun k => match k with
  | 0 => ("PlugHall", "tape", "[B", true)
  | 1 => ("PlugHall", "taped", "I", false)
  | 2 => ("PlugHall", "fault", "I", false)
  | 3 => ("PlugHall", "boxes", "[LPlugHall$Box;", true)
  | 4 => ("PlugHall", "board", "LPlugHall$Board;", false)
  | 5 => ("PlugHall", "machine", "LPlugHall$Machine;", true)
  | 6 => ("PlugHall", "latest", "LPlugHall$Outcome;", true)
  | 7 => ("PlugHall", "whole", "LPlugHall$Outcome;", true)
  | 8 => ("PlugHall", "trial", "LPlugHall$Outcome;", true)
  | 9 => ("PlugHall", "hasRun", "Z", false)
  | 10 => ("PlugHall", "found", "[I", true)
  | 11 => ("PlugHall", "foundMany", "I", false)
  | 12 => ("PlugHall", "testSet", "I", false)
  | 13 => ("PlugHall", "shown", "I", false)
  | 14 => ("PlugHall", "job", "LPlugHall$Job;", false)
  | 15 => ("PlugHall", "fewest", "[I", true)
  | 16 => ("PlugHall", "runOf", "[I", true)
  | 17 => ("PlugHall", "canBe", "[Z", true)
  | 18 => ("PlugHall", "runMany", "I", false)
  | 19 => ("PlugHall", "aim", "LPlugHall$Outcome;", true)
  | 20 => ("PlugHall", "wantedMany", "I", false)
  | 21 => ("PlugHall", "neededSet", "I", false)
  | 22 => ("PlugHall", "unseen", "[I", true)
  | 23 => ("PlugHall", "unseenMany", "I", false)
  | 24 => ("PlugHall", "moveWire", "[I", true)
  | 25 => ("PlugHall", "moveEnd", "[I", true)
  | 26 => ("PlugHall", "moveHub", "[I", true)
  | 27 => ("PlugHall", "moveMany", "I", false)
  | 28 => ("PlugHall", "bent", "LPlugHall$Board;", true)
  | 29 => ("PlugHall", "shelf", "[LPlugHall$Board;", true)
  | 30 => ("PlugHall", "plan", "[I", true)
  | 31 => ("PlugHall", "fridays", "[I", true)
  | 32 => ("PlugHall", "tried", "[I", true)
  | 33 => ("PlugHall", "setting", "[[I", true)
  | 34 => ("PlugHall", "planMany", "I", false)
  | _ => ("PlugHall", "planEnd", "I", false)
def tyX1 : Nat → FieldType := fun k => match k with
  | 0 => .array .byte
  | 1 => .int
  | 2 => .int
  | 3 => .array (.object "PlugHall$Box")
  | 4 => .object "PlugHall$Board"
  | 5 => .object "PlugHall$Machine"
  | 6 => .object "PlugHall$Outcome"
  | 7 => .object "PlugHall$Outcome"
  | 8 => .object "PlugHall$Outcome"
  | 9 => .boolean
  | 10 => .array .int
  | 11 => .int
  | 12 => .int
  | 13 => .int
  | 14 => .object "PlugHall$Job"
  | 15 => .array .int
  | 16 => .array .int
  | 17 => .array .boolean
  | 18 => .int
  | 19 => .object "PlugHall$Outcome"
  | 20 => .int
  | 21 => .int
  | 22 => .array .int
  | 23 => .int
  | 24 => .array .int
  | 25 => .array .int
  | 26 => .array .int
  | 27 => .int
  | 28 => .object "PlugHall$Board"
  | 29 => .array (.object "PlugHall$Board")
  | 30 => .array .int
  | 31 => .array .int
  | 32 => .array .int
  | 33 => .array (.array .int)
  | 34 => .int
  | _ => .int
abbrev wsX10 : List Cond := u_ws RX1 TX1 36
theorem nmX1 : ∀ a, a < 36 → ∀ b, b < 36 → a ≠ b → (TX1 a).2.1 ≠ (TX1 b).2.1 := by decide +kernel
theorem tyX1_ok : ∀ k, k < 36 → parseFieldDescriptor (TX1 k).2.2.1 = some (tyX1 k) := by decide +kernel
theorem in_X1 : ∀ w ∈ wsX10, w ∈ lw_all := lw_in wsX10 [371, 373, 375, 377, 379, 381, 383, 385, 387, 389, 391, 393, 395, 397, 399, 401, 403, 405, 407, 409, 411, 413, 415, 417, 419, 421, 423, 425, 427, 429, 431, 433, 435, 437, 439, 441] (by decide +kernel) (by decide +kernel)
def RX2 : String := "PlugHall$Board"
def TX2 : u_T := fun k => match k with
  | 0 => ("PlugHall$Board", "one", "[I", true)
  | 1 => ("PlugHall$Board", "other", "[I", true)
  | _ => ("PlugHall$Board", "wires", "I", false)
def tyX2 : Nat → FieldType := fun k => match k with
  | 0 => .array .int
  | 1 => .array .int
  | _ => .int
abbrev wsX20 : List Cond := u_ws RX2 TX2 3
theorem nmX2 : ∀ a, a < 3 → ∀ b, b < 3 → a ≠ b → (TX2 a).2.1 ≠ (TX2 b).2.1 := by decide +kernel
theorem tyX2_ok : ∀ k, k < 3 → parseFieldDescriptor (TX2 k).2.2.1 = some (tyX2 k) := by decide +kernel
theorem in_X2 : ∀ w ∈ wsX20, w ∈ lw_all := lw_in wsX20 [148, 150, 152] (by decide +kernel) (by decide +kernel)
def RX3 : String := "PlugHall$Machine"
def TX3 : u_T := fun k => match k with
  | 0 => ("PlugHall$Machine", "board", "LPlugHall$Board;", false)
  | 1 => ("PlugHall$Machine", "without", "I", false)
  | 2 => ("PlugHall$Machine", "picked", "I", false)
  | 3 => ("PlugHall$Machine", "room", "I", false)
  | 4 => ("PlugHall$Machine", "out", "LPlugHall$Outcome;", false)
  | 5 => ("PlugHall$Machine", "up", "[I", true)
  | 6 => ("PlugHall$Machine", "give", "[I", true)
  | 7 => ("PlugHall$Machine", "firstOf", "[I", true)
  | 8 => ("PlugHall$Machine", "jamOne", "I", false)
  | _ => ("PlugHall$Machine", "jamOther", "I", false)
def tyX3 : Nat → FieldType := fun k => match k with
  | 0 => .object "PlugHall$Board"
  | 1 => .int
  | 2 => .int
  | 3 => .int
  | 4 => .object "PlugHall$Outcome"
  | 5 => .array .int
  | 6 => .array .int
  | 7 => .array .int
  | 8 => .int
  | _ => .int
abbrev wsX30 : List Cond := u_ws RX3 TX3 10
theorem nmX3 : ∀ a, a < 10 → ∀ b, b < 10 → a ≠ b → (TX3 a).2.1 ≠ (TX3 b).2.1 := by decide +kernel
theorem tyX3_ok : ∀ k, k < 10 → parseFieldDescriptor (TX3 k).2.2.1 = some (tyX3 k) := by decide +kernel
theorem in_X3 : ∀ w ∈ wsX30, w ∈ lw_all := lw_in wsX30 [173, 175, 177, 179, 181, 183, 185, 187, 189, 191] (by decide +kernel) (by decide +kernel)
def RX4 : String := "PlugHall$Outcome"
def TX4 : u_T := fun k => match k with
  | 0 => ("PlugHall$Outcome", "end", "I", false)
  | 1 => ("PlugHall$Outcome", "cards", "I", false)
  | 2 => ("PlugHall$Outcome", "totals", "I", false)
  | 3 => ("PlugHall$Outcome", "lines", "I", false)
  | 4 => ("PlugHall$Outcome", "punched", "I", false)
  | 5 => ("PlugHall$Outcome", "overs", "I", false)
  | 6 => ("PlugHall$Outcome", "jamOne", "I", false)
  | 7 => ("PlugHall$Outcome", "jamOther", "I", false)
  | 8 => ("PlugHall$Outcome", "line", "[[B", true)
  | 9 => ("PlugHall$Outcome", "made", "[[B", true)
  | _ => ("PlugHall$Outcome", "wheel", "[I", true)
def tyX4 : Nat → FieldType := fun k => match k with
  | 0 => .int
  | 1 => .int
  | 2 => .int
  | 3 => .int
  | 4 => .int
  | 5 => .int
  | 6 => .int
  | 7 => .int
  | 8 => .array (.array .byte)
  | 9 => .array (.array .byte)
  | _ => .array .int
abbrev wsX40 : List Cond := u_ws RX4 TX4 11
theorem nmX4 : ∀ a, a < 11 → ∀ b, b < 11 → a ≠ b → (TX4 a).2.1 ≠ (TX4 b).2.1 := by decide +kernel
theorem tyX4_ok : ∀ k, k < 11 → parseFieldDescriptor (TX4 k).2.2.1 = some (tyX4 k) := by decide +kernel
theorem in_X4 : ∀ w ∈ wsX40, w ∈ lw_all := lw_in wsX40 [235, 237, 239, 241, 243, 245, 247, 249, 251, 253, 255] (by decide +kernel) (by decide +kernel)
def RX5 : String := "PlugHall$Job"
def TX5 : u_T := fun k => match k with
  | 0 => ("PlugHall$Job", "name", "[Ljava/lang/String;", true)
  | 1 => ("PlugHall$Job", "from", "[I", true)
  | 2 => ("PlugHall$Job", "to", "[I", true)
  | 3 => ("PlugHall$Job", "breaks", "[I", true)
  | 4 => ("PlugHall$Job", "field", "[I", true)
  | 5 => ("PlugHall$Job", "wide", "[I", true)
  | 6 => ("PlugHall$Job", "order", "[I", true)
  | 7 => ("PlugHall$Job", "over", "[I", true)
  | 8 => ("PlugHall$Job", "fields", "I", false)
  | _ => ("PlugHall$Job", "wants", "I", false)
def tyX5 : Nat → FieldType := fun k => match k with
  | 0 => .array (.object "java/lang/String")
  | 1 => .array .int
  | 2 => .array .int
  | 3 => .array .int
  | 4 => .array .int
  | 5 => .array .int
  | 6 => .array .int
  | 7 => .array .int
  | 8 => .int
  | _ => .int
abbrev wsX50 : List Cond := u_ws RX5 TX5 10
theorem nmX5 : ∀ a, a < 10 → ∀ b, b < 10 → a ≠ b → (TX5 a).2.1 ≠ (TX5 b).2.1 := by decide +kernel
theorem tyX5_ok : ∀ k, k < 10 → parseFieldDescriptor (TX5 k).2.2.1 = some (tyX5 k) := by decide +kernel
theorem in_X5 : ∀ w ∈ wsX50, w ∈ lw_all := lw_in wsX50 [296, 298, 300, 302, 304, 306, 308, 310, 312, 314] (by decide +kernel) (by decide +kernel)
def RX6 : String := "PlugHall$Box"
def TX6 : u_T := fun k => match k with
  | 0 => ("PlugHall$Box", "card", "[[B", true)
  | _ => ("PlugHall$Box", "many", "I", false)
def tyX6 : Nat → FieldType := fun k => match k with
  | 0 => .array (.array .byte)
  | _ => .int
abbrev wsX60 : List Cond := u_ws RX6 TX6 2
theorem nmX6 : ∀ a, a < 2 → ∀ b, b < 2 → a ≠ b → (TX6 a).2.1 ≠ (TX6 b).2.1 := by decide +kernel
theorem tyX6_ok : ∀ k, k < 2 → parseFieldDescriptor (TX6 k).2.2.1 = some (tyX6 k) := by decide +kernel
theorem in_X6 : ∀ w ∈ wsX60, w ∈ lw_all := lw_in wsX60 [329, 331] (by decide +kernel) (by decide +kernel)
def RX7 : String := "PlugHallModel"
def TX7 : u_T := fun k => match k with
  | 0 => ("PlugHallModel", "thrown", "I", false)
  | 1 => ("PlugHallModel", "tape", "[B", true)
  | 2 => ("PlugHallModel", "length", "I", false)
  | 3 => ("PlugHallModel", "size", "I", false)
  | 4 => ("PlugHallModel", "p", "I", false)
  | 5 => ("PlugHallModel", "cards", "[I", true)
  | 6 => ("PlugHallModel", "many", "[I", true)
  | 7 => ("PlugHallModel", "token", "I", false)
  | 8 => ("PlugHallModel", "at", "I", false)
  | 9 => ("PlugHallModel", "number", "I", false)
  | 10 => ("PlugHallModel", "fault", "I", false)
  | 11 => ("PlugHallModel", "faultAt", "I", false)
  | 12 => ("PlugHallModel", "limit", "I", false)
  | 13 => ("PlugHallModel", "word", "J", false)
  | 14 => ("PlugHallModel", "told", "I", false)
  | 15 => ("PlugHallModel", "one", "[I", true)
  | 16 => ("PlugHallModel", "two", "[I", true)
  | 17 => ("PlugHallModel", "wires", "[I", true)
  | 18 => ("PlugHallModel", "ends", "[I", true)
  | 19 => ("PlugHallModel", "isKept", "[Z", true)
  | 20 => ("PlugHallModel", "first", "I", false)
  | 21 => ("PlugHallModel", "reaches", "I", false)
  | 22 => ("PlugHallModel", "inner", "I", false)
  | 23 => ("PlugHallModel", "deck", "[I", true)
  | 24 => ("PlugHallModel", "gives", "[I", true)
  | 25 => ("PlugHallModel", "plain", "[I", true)
  | 26 => ("PlugHallModel", "label", "[I", true)
  | 27 => ("PlugHallModel", "firstOf", "[I", true)
  | 28 => ("PlugHallModel", "countOf", "[I", true)
  | 29 => ("PlugHallModel", "picked", "[Z", true)
  | 30 => ("PlugHallModel", "end", "[I", true)
  | 31 => ("PlugHallModel", "lines", "[I", true)
  | 32 => ("PlugHallModel", "punched", "[I", true)
  | 33 => ("PlugHallModel", "prints", "[I", true)
  | 34 => ("PlugHallModel", "wheels", "[I", true)
  | 35 => ("PlugHallModel", "punches", "[I", true)
  | 36 => ("PlugHallModel", "ranCards", "[I", true)
  | 37 => ("PlugHallModel", "ranTotals", "[I", true)
  | 38 => ("PlugHallModel", "overs", "[I", true)
  | 39 => ("PlugHallModel", "jamOne", "[I", true)
  | 40 => ("PlugHallModel", "jamTwo", "[I", true)
  | 41 => ("PlugHallModel", "deckMany", "I", false)
  | 42 => ("PlugHallModel", "without", "I", false)
  | 43 => ("PlugHallModel", "room", "I", false)
  | 44 => ("PlugHallModel", "wasRun", "Z", false)
  | 45 => ("PlugHallModel", "order", "[I", true)
  | 46 => ("PlugHallModel", "moved", "[I", true)
  | 47 => ("PlugHallModel", "passSet", "I", false)
  | 48 => ("PlugHallModel", "listed", "[I", true)
  | 49 => ("PlugHallModel", "unseenCards", "[I", true)
  | 50 => ("PlugHallModel", "wanted", "[I", true)
  | 51 => ("PlugHallModel", "sawMany", "[I", true)
  | 52 => ("PlugHallModel", "shows", "[J", true)
  | 53 => ("PlugHallModel", "listMany", "I", false)
  | 54 => ("PlugHallModel", "unseenMany", "I", false)
  | 55 => ("PlugHallModel", "wantMany", "I", false)
  | 56 => ("PlugHallModel", "testSet", "I", false)
  | 57 => ("PlugHallModel", "testShown", "I", false)
  | 58 => ("PlugHallModel", "moveWire", "[I", true)
  | 59 => ("PlugHallModel", "moveEnd", "[I", true)
  | 60 => ("PlugHallModel", "moveHub", "[I", true)
  | 61 => ("PlugHallModel", "moveMany", "I", false)
  | 62 => ("PlugHallModel", "fields", "[I", true)
  | 63 => ("PlugHallModel", "fieldFrom", "[I", true)
  | 64 => ("PlugHallModel", "fieldTo", "[I", true)
  | 65 => ("PlugHallModel", "breakAt", "[I", true)
  | 66 => ("PlugHallModel", "wantCount", "[I", true)
  | 67 => ("PlugHallModel", "wantField", "[I", true)
  | 68 => ("PlugHallModel", "wantDigits", "[I", true)
  | 69 => ("PlugHallModel", "wantOrder", "[I", true)
  | 70 => ("PlugHallModel", "wantOver", "[I", true)
  | 71 => ("PlugHallModel", "fieldName", "[J", true)
  | 72 => ("PlugHallModel", "madeOne", "[I", true)
  | 73 => ("PlugHallModel", "madeTwo", "[I", true)
  | 74 => ("PlugHallModel", "relayFor", "[I", true)
  | 75 => ("PlugHallModel", "relayPoints", "[I", true)
  | 76 => ("PlugHallModel", "parts", "[I", true)
  | 77 => ("PlugHallModel", "firstPart", "[I", true)
  | 78 => ("PlugHallModel", "fits", "[Z", true)
  | 79 => ("PlugHallModel", "madeMany", "I", false)
  | 80 => ("PlugHallModel", "relayMany", "I", false)
  | 81 => ("PlugHallModel", "tooMany", "Z", false)
  | 82 => ("PlugHallModel", "due", "[I", true)
  | 83 => ("PlugHallModel", "worth", "[I", true)
  | 84 => ("PlugHallModel", "dueMany", "I", false)
  | 85 => ("PlugHallModel", "dueAll", "I", false)
  | 86 => ("PlugHallModel", "wasWanted", "Z", false)
  | 87 => ("PlugHallModel", "kept", "[I", true)
  | 88 => ("PlugHallModel", "plays", "[I", true)
  | 89 => ("PlugHallModel", "best", "[I", true)
  | 90 => ("PlugHallModel", "bestMany", "I", false)
  | _ => ("PlugHallModel", "isPaired", "[Z", true)
def tyX7 : Nat → FieldType := fun k => match k with
  | 0 => .int
  | 1 => .array .byte
  | 2 => .int
  | 3 => .int
  | 4 => .int
  | 5 => .array .int
  | 6 => .array .int
  | 7 => .int
  | 8 => .int
  | 9 => .int
  | 10 => .int
  | 11 => .int
  | 12 => .int
  | 13 => .long
  | 14 => .int
  | 15 => .array .int
  | 16 => .array .int
  | 17 => .array .int
  | 18 => .array .int
  | 19 => .array .boolean
  | 20 => .int
  | 21 => .int
  | 22 => .int
  | 23 => .array .int
  | 24 => .array .int
  | 25 => .array .int
  | 26 => .array .int
  | 27 => .array .int
  | 28 => .array .int
  | 29 => .array .boolean
  | 30 => .array .int
  | 31 => .array .int
  | 32 => .array .int
  | 33 => .array .int
  | 34 => .array .int
  | 35 => .array .int
  | 36 => .array .int
  | 37 => .array .int
  | 38 => .array .int
  | 39 => .array .int
  | 40 => .array .int
  | 41 => .int
  | 42 => .int
  | 43 => .int
  | 44 => .boolean
  | 45 => .array .int
  | 46 => .array .int
  | 47 => .int
  | 48 => .array .int
  | 49 => .array .int
  | 50 => .array .int
  | 51 => .array .int
  | 52 => .array .long
  | 53 => .int
  | 54 => .int
  | 55 => .int
  | 56 => .int
  | 57 => .int
  | 58 => .array .int
  | 59 => .array .int
  | 60 => .array .int
  | 61 => .int
  | 62 => .array .int
  | 63 => .array .int
  | 64 => .array .int
  | 65 => .array .int
  | 66 => .array .int
  | 67 => .array .int
  | 68 => .array .int
  | 69 => .array .int
  | 70 => .array .int
  | 71 => .array .long
  | 72 => .array .int
  | 73 => .array .int
  | 74 => .array .int
  | 75 => .array .int
  | 76 => .array .int
  | 77 => .array .int
  | 78 => .array .boolean
  | 79 => .int
  | 80 => .int
  | 81 => .boolean
  | 82 => .array .int
  | 83 => .array .int
  | 84 => .int
  | 85 => .int
  | 86 => .boolean
  | 87 => .array .int
  | 88 => .array .int
  | 89 => .array .int
  | 90 => .int
  | _ => .array .boolean
abbrev wsX70 : List Cond := u_ws RX7 TX7 92
theorem nmX7 : ∀ a, a < 92 → ∀ b, b < 92 → a ≠ b → (TX7 a).2.1 ≠ (TX7 b).2.1 := by decide +kernel
theorem tyX7_ok : ∀ k, k < 92 → parseFieldDescriptor (TX7 k).2.2.1 = some (tyX7 k) := by decide +kernel
theorem in_X7 : ∀ w ∈ wsX70, w ∈ lw_all := lw_in wsX70 [1529, 1531, 1533, 1535, 1537, 1539, 1541, 1543, 1545, 1547, 1549, 1551, 1553, 1555, 1557, 1559, 1561, 1563, 1565, 1567, 1569, 1571, 1573, 1575, 1577, 1579, 1581, 1583, 1585, 1587, 1589, 1591, 1593, 1595, 1597, 1599, 1601, 1603, 1605, 1607, 1609, 1611, 1613, 1615, 1617, 1619, 1621, 1623, 1625, 1627, 1629, 1631, 1633, 1635, 1637, 1639, 1641, 1643, 1645, 1647, 1649, 1651, 1653, 1655, 1657, 1659, 1661, 1663, 1665, 1667, 1669, 1671, 1673, 1675, 1677, 1679, 1681, 1683, 1685, 1687, 1689, 1691, 1693, 1695, 1697, 1699, 1701, 1703, 1705, 1707, 1709, 1711] (by decide +kernel) (by decide +kernel)
def RX9 : String := "PlugHall$Reader"
def TX9 : u_T := fun k => match k with
  | 0 => ("PlugHall$Tokens", "tape", "[B", true)
  | 1 => ("PlugHall$Tokens", "size", "I", true)
  | 2 => ("PlugHall$Tokens", "limit", "I", true)
  | 3 => ("PlugHall$Tokens", "to", "I", false)
  | 4 => ("PlugHall$Tokens", "kind", "I", false)
  | 5 => ("PlugHall$Tokens", "from", "I", false)
  | 6 => ("PlugHall$Tokens", "number", "I", false)
  | 7 => ("PlugHall$Tokens", "sign", "I", false)
  | 8 => ("PlugHall$Tokens", "word", "Ljava/lang/String;", false)
  | 9 => ("PlugHall$Reader", "board", "LPlugHall$Board;", true)
  | _ => ("PlugHall$Reader", "many", "[I", true)
def tyX9 : Nat → FieldType := fun k => match k with
  | 0 => .array .byte
  | 1 => .int
  | 2 => .int
  | 3 => .int
  | 4 => .int
  | 5 => .int
  | 6 => .int
  | 7 => .int
  | 8 => .object "java/lang/String"
  | 9 => .object "PlugHall$Board"
  | _ => .array .int
abbrev wsX90 : List Cond := u_ws RX9 TX9 11
theorem nmX9 : ∀ a, a < 11 → ∀ b, b < 11 → a ≠ b → (TX9 a).2.1 ≠ (TX9 b).2.1 := by decide +kernel
theorem tyX9_ok : ∀ k, k < 11 → parseFieldDescriptor (TX9 k).2.2.1 = some (tyX9 k) := by decide +kernel
theorem in_X9 : ∀ w ∈ wsX90, w ∈ lw_all := lw_in wsX90 [541, 543, 545, 547, 549, 551, 553, 555, 557, 537, 539] (by decide +kernel) (by decide +kernel)
def RX10 : String := "PlugHall$Fault"
def TX10 : u_T := fun k => match k with
  | 0 => ("java/lang/Throwable", "cause", "Ljava/lang/Throwable;", false)
  | 1 => ("java/lang/Throwable", "stackTrace", "[Ljava/lang/StackTraceElement;", false)
  | 2 => ("java/lang/Throwable", "suppressedExceptions", "Ljava/util/List;", false)
  | 3 => ("java/lang/Throwable", "detailMessage", "Ljava/lang/String;", false)
  | 4 => ("java/lang/Throwable", "backtrace", "Ljava/lang/Object;", false)
  | 5 => ("java/lang/Throwable", "depth", "I", false)
  | 6 => ("PlugHall$Fault", "kind", "I", true)
  | _ => ("PlugHall$Fault", "place", "I", true)
def tyX10 : Nat → FieldType := fun k => match k with
  | 0 => .object "java/lang/Throwable"
  | 1 => .array (.object "java/lang/StackTraceElement")
  | 2 => .object "java/util/List"
  | 3 => .object "java/lang/String"
  | 4 => .object "java/lang/Object"
  | 5 => .int
  | 6 => .int
  | _ => .int
abbrev wsX100 : List Cond := u_ws RX10 TX10 8
theorem nmX10 : ∀ a, a < 8 → ∀ b, b < 8 → a ≠ b → (TX10 a).2.1 ≠ (TX10 b).2.1 := by decide +kernel
theorem tyX10_ok : ∀ k, k < 8 → parseFieldDescriptor (TX10 k).2.2.1 = some (tyX10 k) := by decide +kernel
theorem in_X10 : ∀ w ∈ wsX100, w ∈ lw_all := lw_in wsX100 [793, 795, 797, 799, 801, 845, 837, 839] (by decide +kernel) (by decide +kernel)
def RX11 : String := "PlugHall$JobReader"
def TX11 : u_T := fun k => match k with
  | 0 => ("PlugHall$Tokens", "tape", "[B", true)
  | 1 => ("PlugHall$Tokens", "size", "I", true)
  | 2 => ("PlugHall$Tokens", "limit", "I", true)
  | 3 => ("PlugHall$Tokens", "to", "I", false)
  | 4 => ("PlugHall$Tokens", "kind", "I", false)
  | 5 => ("PlugHall$Tokens", "from", "I", false)
  | 6 => ("PlugHall$Tokens", "number", "I", false)
  | 7 => ("PlugHall$Tokens", "sign", "I", false)
  | 8 => ("PlugHall$Tokens", "word", "Ljava/lang/String;", false)
  | _ => ("PlugHall$JobReader", "job", "LPlugHall$Job;", true)
def tyX11 : Nat → FieldType := fun k => match k with
  | 0 => .array .byte
  | 1 => .int
  | 2 => .int
  | 3 => .int
  | 4 => .int
  | 5 => .int
  | 6 => .int
  | 7 => .int
  | 8 => .object "java/lang/String"
  | _ => .object "PlugHall$Job"
abbrev wsX110 : List Cond := u_ws RX11 TX11 10
theorem nmX11 : ∀ a, a < 10 → ∀ b, b < 10 → a ≠ b → (TX11 a).2.1 ≠ (TX11 b).2.1 := by decide +kernel
theorem tyX11_ok : ∀ k, k < 10 → parseFieldDescriptor (TX11 k).2.2.1 = some (tyX11 k) := by decide +kernel
theorem in_X11 : ∀ w ∈ wsX110, w ∈ lw_all := lw_in wsX110 [1041, 1042, 1043, 1044, 1045, 1046, 1047, 1048, 1049, 1039] (by decide +kernel) (by decide +kernel)
def RX12 : String := "PlugHall$Maker"
def TX12 : u_T := fun k => match k with
  | 0 => ("PlugHall$Maker", "job", "LPlugHall$Job;", true)
  | 1 => ("PlugHall$Maker", "board", "LPlugHall$Board;", true)
  | 2 => ("PlugHall$Maker", "picker", "[I", true)
  | 3 => ("PlugHall$Maker", "points", "[I", true)
  | 4 => ("PlugHall$Maker", "relays", "I", false)
  | 5 => ("PlugHall$Maker", "bars", "I", false)
  | _ => ("PlugHall$Maker", "good", "Z", false)
def tyX12 : Nat → FieldType := fun k => match k with
  | 0 => .object "PlugHall$Job"
  | 1 => .object "PlugHall$Board"
  | 2 => .array .int
  | 3 => .array .int
  | 4 => .int
  | 5 => .int
  | _ => .boolean
abbrev wsX120 : List Cond := u_ws RX12 TX12 7
theorem nmX12 : ∀ a, a < 7 → ∀ b, b < 7 → a ≠ b → (TX12 a).2.1 ≠ (TX12 b).2.1 := by decide +kernel
theorem tyX12_ok : ∀ k, k < 7 → parseFieldDescriptor (TX12 k).2.2.1 = some (tyX12 k) := by decide +kernel
theorem in_X12 : ∀ w ∈ wsX120, w ∈ lw_all := lw_in wsX120 [1198, 1200, 1202, 1204, 1206, 1208, 1210] (by decide +kernel) (by decide +kernel)
def RJ5 : String := "java/util/NoSuchElementException"
def TJ5 : u_T := fun k => match k with
  | 0 => ("java/lang/Throwable", "cause", "Ljava/lang/Throwable;", false)
  | 1 => ("java/lang/Throwable", "stackTrace", "[Ljava/lang/StackTraceElement;", false)
  | 2 => ("java/lang/Throwable", "suppressedExceptions", "Ljava/util/List;", false)
  | 3 => ("java/lang/Throwable", "detailMessage", "Ljava/lang/String;", false)
  | 4 => ("java/lang/Throwable", "backtrace", "Ljava/lang/Object;", false)
  | _ => ("java/lang/Throwable", "depth", "I", false)
def tyJ5 : Nat → FieldType := fun k => match k with
  | 0 => .object "java/lang/Throwable"
  | 1 => .array (.object "java/lang/StackTraceElement")
  | 2 => .object "java/util/List"
  | 3 => .object "java/lang/String"
  | 4 => .object "java/lang/Object"
  | _ => .int
abbrev wsJ50 : List Cond := u_ws RJ5 TJ5 6
theorem nmJ5 : ∀ a, a < 6 → ∀ b, b < 6 → a ≠ b → (TJ5 a).2.1 ≠ (TJ5 b).2.1 := by decide +kernel
theorem tyJ5_ok : ∀ k, k < 6 → parseFieldDescriptor (TJ5 k).2.2.1 = some (tyJ5 k) := by decide +kernel
theorem in_J5 : ∀ w ∈ wsJ50, w ∈ lw_all := lw_in wsJ50 [1396, 1397, 1398, 1399, 1400, 1408] (by decide +kernel) (by decide +kernel)
def RJ7 : String := "java/lang/StringBuilder"
def TJ7 : u_T := fun k => match k with
  | 0 => ("java/lang/AbstractStringBuilder", "value", "[B", false)
  | 1 => ("java/lang/AbstractStringBuilder", "coder", "B", false)
  | 2 => ("java/lang/AbstractStringBuilder", "maybeLatin1", "Z", false)
  | _ => ("java/lang/AbstractStringBuilder", "count", "I", false)
def tyJ7 : Nat → FieldType := fun k => match k with
  | 0 => .array .byte
  | 1 => .byte
  | 2 => .boolean
  | _ => .int
abbrev wsJ70 : List Cond := u_ws RJ7 TJ7 4
theorem nmJ7 : ∀ a, a < 4 → ∀ b, b < 4 → a ≠ b → (TJ7 a).2.1 ≠ (TJ7 b).2.1 := by decide +kernel
theorem tyJ7_ok : ∀ k, k < 4 → parseFieldDescriptor (TJ7 k).2.2.1 = some (tyJ7 k) := by decide +kernel
theorem in_J7 : ∀ w ∈ wsJ70, w ∈ lw_all := lw_in wsJ70 [603, 605, 607, 609] (by decide +kernel) (by decide +kernel)
def RJ8 : String := "java/lang/String"
def TJ8 : u_T := fun k => match k with
  | 0 => ("java/lang/String", "value", "[B", true)
  | 1 => ("java/lang/String", "coder", "B", true)
  | 2 => ("java/lang/String", "hash", "I", false)
  | _ => ("java/lang/String", "hashIsZero", "Z", false)
def tyJ8 : Nat → FieldType := fun k => match k with
  | 0 => .array .byte
  | 1 => .byte
  | 2 => .int
  | _ => .boolean
abbrev wsJ80 : List Cond := u_ws RJ8 TJ8 4
theorem nmJ8 : ∀ a, a < 4 → ∀ b, b < 4 → a ≠ b → (TJ8 a).2.1 ≠ (TJ8 b).2.1 := by decide +kernel
theorem tyJ8_ok : ∀ k, k < 4 → parseFieldDescriptor (TJ8 k).2.2.1 = some (tyJ8 k) := by decide +kernel
theorem in_J8 : ∀ w ∈ wsJ80, w ∈ lw_all := lw_in wsJ80 [744, 746, 748, 750] (by decide +kernel) (by decide +kernel)
def RX0 : String := "PlugHallLaw"
def RX8 : String := "PlugHall$Tokens"
def RJ0 : String := "java/util/Arrays"
def RJ1 : String := "java/lang/Math"
def RJ2 : String := "java/lang/Throwable"
def RJ3 : String := "java/lang/Exception"
def RJ4 : String := "java/lang/RuntimeException"
def RJ6 : String := "java/lang/AbstractStringBuilder"
def RJ9 : String := "java/lang/StringUTF16"
def RJ10 : String := "jdk/internal/util/ArraysSupport"
def RJ11 : String := "java/lang/StringLatin1"
def RJ12 : String := "jdk/internal/util/Preconditions"
def RJ13 : String := "java/lang/Object"
def cls : List vw_C := [(RX1, TX1, 36), (RX2, TX2, 3), (RX3, TX3, 10), (RX4, TX4, 11), (RX5, TX5, 10), (RX6, TX6, 2), (RX7, TX7, 92), (RX9, TX9, 11), (RX10, TX10, 8), (RX11, TX11, 10), (RX12, TX12, 7), (RJ5, TJ5, 6), (RJ7, TJ7, 4), (RJ8, TJ8, 4)]
def tyN (t : Nat) : Nat → FieldType := match t with
  | 0 => tyX1
  | 1 => tyX2
  | 2 => tyX3
  | 3 => tyX4
  | 4 => tyX5
  | 5 => tyX6
  | 6 => tyX7
  | 7 => tyX9
  | 8 => tyX10
  | 9 => tyX11
  | 10 => tyX12
  | 11 => tyJ5
  | 12 => tyJ7
  | _ => tyJ8
theorem cls_X1 : cls[0]? = some (RX1, TX1, 36) := rfl
theorem cls_X2 : cls[1]? = some (RX2, TX2, 3) := rfl
theorem cls_X3 : cls[2]? = some (RX3, TX3, 10) := rfl
theorem cls_X4 : cls[3]? = some (RX4, TX4, 11) := rfl
theorem cls_X5 : cls[4]? = some (RX5, TX5, 10) := rfl
theorem cls_X6 : cls[5]? = some (RX6, TX6, 2) := rfl
theorem cls_X7 : cls[6]? = some (RX7, TX7, 92) := rfl
theorem cls_X9 : cls[7]? = some (RX9, TX9, 11) := rfl
theorem cls_X10 : cls[8]? = some (RX10, TX10, 8) := rfl
theorem cls_X11 : cls[9]? = some (RX11, TX11, 10) := rfl
theorem cls_X12 : cls[10]? = some (RX12, TX12, 7) := rfl
theorem cls_J5 : cls[11]? = some (RJ5, TJ5, 6) := rfl
theorem cls_J7 : cls[12]? = some (RJ7, TJ7, 4) := rfl
theorem cls_J8 : cls[13]? = some (RJ8, TJ8, 4) := rfl
