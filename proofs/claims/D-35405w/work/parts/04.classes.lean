/-! the classes that have objects: names, fields, types (kit: claim/names), and their list gCl -/
set_option maxRecDepth 100000
def RX3 : String := "WeavewordModel"
def TX3 : u_T := fun k => match k with
  | 0 => ("WeavewordModel", "draft", "[I", true)
  | 1 => ("WeavewordModel", "draftMany", "I", false)
  | 2 => ("WeavewordModel", "ownRank", "I", false)
  | 3 => ("WeavewordModel", "protections", "[I", true)
  | 4 => ("WeavewordModel", "queueRanks", "[I", true)
  | 5 => ("WeavewordModel", "clockNow", "I", false)
  | 6 => ("WeavewordModel", "pageAt", "[I", true)
  | 7 => ("WeavewordModel", "pageMany", "I", false)
  | 8 => ("WeavewordModel", "versionMany", "I", false)
  | 9 => ("WeavewordModel", "texts", "[I", true)
  | 10 => ("WeavewordModel", "textLengths", "[I", true)
  | 11 => ("WeavewordModel", "times", "[I", true)
  | 12 => ("WeavewordModel", "pageOf", "[I", true)
  | 13 => ("WeavewordModel", "approvalMany", "I", false)
  | 14 => ("WeavewordModel", "approvedPages", "[I", true)
  | 15 => ("WeavewordModel", "approvedTimes", "[I", true)
  | 16 => ("WeavewordModel", "approvedVersions", "[I", true)
  | 17 => ("WeavewordModel", "translations", "[I", true)
  | 18 => ("WeavewordModel", "madeOf", "[I", true)
  | 19 => ("WeavewordModel", "instructions", "[I", true)
  | 20 => ("WeavewordModel", "operands", "[I", true)
  | 21 => ("WeavewordModel", "instructionMany", "[I", true)
  | 22 => ("WeavewordModel", "tick", "I", false)
  | 23 => ("WeavewordModel", "titleTicks", "[I", true)
  | 24 => ("WeavewordModel", "categoryTicks", "[I", true)
  | 25 => ("WeavewordModel", "moduleTicks", "[I", true)
  | 26 => ("WeavewordModel", "presentWas", "[I", true)
  | 27 => ("WeavewordModel", "isRendered", "[Z", true)
  | 28 => ("WeavewordModel", "renderTicks", "[I", true)
  | 29 => ("WeavewordModel", "shownRows", "[I", true)
  | 30 => ("WeavewordModel", "shownMany", "[I", true)
  | 31 => ("WeavewordModel", "links", "[I", true)
  | 32 => ("WeavewordModel", "categories", "[I", true)
  | 33 => ("WeavewordModel", "reads", "[I", true)
  | 34 => ("WeavewordModel", "counted", "[I", true)
  | 35 => ("WeavewordModel", "used", "[I", true)
  | 36 => ("WeavewordModel", "thrown", "I", false)
  | 37 => ("WeavewordModel", "stack", "[I", true)
  | 38 => ("WeavewordModel", "opened", "[I", true)
  | 39 => ("WeavewordModel", "viewTime", "I", false)
  | 40 => ("WeavewordModel", "frameMany", "I", false)
  | 41 => ("WeavewordModel", "frameVersions", "[I", true)
  | 42 => ("WeavewordModel", "frameTitles", "[I", true)
  | 43 => ("WeavewordModel", "frameDepths", "[I", true)
  | 44 => ("WeavewordModel", "frameCallers", "[I", true)
  | 45 => ("WeavewordModel", "argumentFroms", "[I", true)
  | 46 => ("WeavewordModel", "argumentTos", "[I", true)
  | 47 => ("WeavewordModel", "argumentRows", "[I", true)
  | 48 => ("WeavewordModel", "rowMany", "I", false)
  | 49 => ("WeavewordModel", "rowLengths", "[I", true)
  | 50 => ("WeavewordModel", "rows", "[I", true)
  | 51 => ("WeavewordModel", "functionMany", "I", false)
  | 52 => ("WeavewordModel", "functionKinds", "[I", true)
  | 53 => ("WeavewordModel", "functionFrames", "[I", true)
  | 54 => ("WeavewordModel", "functionRows", "[I", true)
  | 55 => ("WeavewordModel", "partMany", "[I", true)
  | 56 => ("WeavewordModel", "partFroms", "[I", true)
  | 57 => ("WeavewordModel", "partTos", "[I", true)
  | 58 => ("WeavewordModel", "partRows", "[I", true)
  | 59 => ("WeavewordModel", "taskMany", "I", false)
  | 60 => ("WeavewordModel", "taskKinds", "[I", true)
  | 61 => ("WeavewordModel", "taskOnes", "[I", true)
  | 62 => ("WeavewordModel", "taskFroms", "[I", true)
  | 63 => ("WeavewordModel", "taskTos", "[I", true)
  | 64 => ("WeavewordModel", "taskRows", "[I", true)
  | 65 => ("WeavewordModel", "callMany", "I", false)
  | 66 => ("WeavewordModel", "linksNow", "I", false)
  | 67 => ("WeavewordModel", "categoriesNow", "I", false)
  | 68 => ("WeavewordModel", "readsNow", "I", false)
  | 69 => ("WeavewordModel", "countedNow", "I", false)
  | 70 => ("WeavewordModel", "usedNow", "I", false)
  | 71 => ("WeavewordModel", "lacking", "I", false)
  | 72 => ("WeavewordModel", "numbers", "[I", true)
  | 73 => ("WeavewordModel", "numberMany", "I", false)
  | 74 => ("WeavewordModel", "meant", "[I", true)
  | 75 => ("WeavewordModel", "meantMany", "I", false)
  | 76 => ("WeavewordModel", "result", "[I", true)
  | 77 => ("WeavewordModel", "resultMany", "I", false)
  | _ => ("WeavewordModel", "single", "[I", true)
def tyX3 : Nat → FieldType := fun k => match k with
  | 0 => .array .int
  | 1 => .int
  | 2 => .int
  | 3 => .array .int
  | 4 => .array .int
  | 5 => .int
  | 6 => .array .int
  | 7 => .int
  | 8 => .int
  | 9 => .array .int
  | 10 => .array .int
  | 11 => .array .int
  | 12 => .array .int
  | 13 => .int
  | 14 => .array .int
  | 15 => .array .int
  | 16 => .array .int
  | 17 => .array .int
  | 18 => .array .int
  | 19 => .array .int
  | 20 => .array .int
  | 21 => .array .int
  | 22 => .int
  | 23 => .array .int
  | 24 => .array .int
  | 25 => .array .int
  | 26 => .array .int
  | 27 => .array .boolean
  | 28 => .array .int
  | 29 => .array .int
  | 30 => .array .int
  | 31 => .array .int
  | 32 => .array .int
  | 33 => .array .int
  | 34 => .array .int
  | 35 => .array .int
  | 36 => .int
  | 37 => .array .int
  | 38 => .array .int
  | 39 => .int
  | 40 => .int
  | 41 => .array .int
  | 42 => .array .int
  | 43 => .array .int
  | 44 => .array .int
  | 45 => .array .int
  | 46 => .array .int
  | 47 => .array .int
  | 48 => .int
  | 49 => .array .int
  | 50 => .array .int
  | 51 => .int
  | 52 => .array .int
  | 53 => .array .int
  | 54 => .array .int
  | 55 => .array .int
  | 56 => .array .int
  | 57 => .array .int
  | 58 => .array .int
  | 59 => .int
  | 60 => .array .int
  | 61 => .array .int
  | 62 => .array .int
  | 63 => .array .int
  | 64 => .array .int
  | 65 => .int
  | 66 => .int
  | 67 => .int
  | 68 => .int
  | 69 => .int
  | 70 => .int
  | 71 => .int
  | 72 => .array .int
  | 73 => .int
  | 74 => .array .int
  | 75 => .int
  | 76 => .array .int
  | 77 => .int
  | _ => .array .int
abbrev wsX30 : List Cond := u_ws RX3 TX3 79
theorem nmX3 : ∀ a, a < 79 → ∀ b, b < 79 → a ≠ b → (TX3 a).2.1 ≠ (TX3 b).2.1 := by decide +kernel
theorem tyX3_ok : ∀ k, k < 79 → parseFieldDescriptor (TX3 k).2.2.1 = some (tyX3 k) := by decide +kernel
theorem in_X3 : ∀ w ∈ wsX30, w ∈ lw_all := lw_in wsX30 [1698, 1700, 1702, 1704, 1706, 1708, 1710, 1712, 1714, 1716, 1718, 1720, 1722, 1724, 1726, 1728, 1730, 1732, 1734, 1736, 1738, 1740, 1742, 1744, 1746, 1748, 1750, 1752, 1754, 1756, 1758, 1760, 1762, 1764, 1766, 1768, 1770, 1772, 1774, 1776, 1778, 1780, 1782, 1784, 1786, 1788, 1790, 1792, 1794, 1796, 1798, 1800, 1802, 1804, 1806, 1808, 1810, 1812, 1814, 1816, 1818, 1820, 1822, 1824, 1826, 1828, 1830, 1832, 1834, 1836, 1838, 1840, 1842, 1844, 1846, 1848, 1850, 1852, 1854] (by decide +kernel) (by decide +kernel)
def RX1 : String := "Weaveword"
def TX1 : u_T := fun k => match k with
  | 0 => ("Weaveword", "draft", "Ljava/util/List;", true)
  | 1 => ("Weaveword", "pages", "[LWeaveword$Page;", true)
  | 2 => ("Weaveword", "stored", "[LWeaveword$Stored;", true)
  | 3 => ("Weaveword", "modules", "Ljava/util/List;", true)
  | 4 => ("Weaveword", "translations", "[LWeaveword$Translation;", true)
  | 5 => ("Weaveword", "protections", "[I", true)
  | 6 => ("Weaveword", "ranks", "[I", true)
  | 7 => ("Weaveword", "acting", "I", false)
  | 8 => ("Weaveword", "clock", "I", false)
  | _ => ("Weaveword", "made", "I", false)
def tyX1 : Nat → FieldType := fun k => match k with
  | 0 => .object "java/util/List"
  | 1 => .array (.object "Weaveword$Page")
  | 2 => .array (.object "Weaveword$Stored")
  | 3 => .object "java/util/List"
  | 4 => .array (.object "Weaveword$Translation")
  | 5 => .array .int
  | 6 => .array .int
  | 7 => .int
  | 8 => .int
  | _ => .int
abbrev wsX10 : List Cond := u_ws RX1 TX1 10
theorem nmX1 : ∀ a, a < 10 → ∀ b, b < 10 → a ≠ b → (TX1 a).2.1 ≠ (TX1 b).2.1 := by decide +kernel
theorem tyX1_ok : ∀ k, k < 10 → parseFieldDescriptor (TX1 k).2.2.1 = some (tyX1 k) := by decide +kernel
theorem in_X1 : ∀ w ∈ wsX10, w ∈ lw_all := lw_in wsX10 [284, 286, 288, 290, 292, 294, 296, 298, 300, 302] (by decide +kernel) (by decide +kernel)
def RX4 : String := "Weaveword$Text"
def TX4 : u_T := fun k => match k with
  | _ => ("Weaveword$Text", "tokens", "[I", true)
def tyX4 : Nat → FieldType := fun k => match k with
  | _ => .array .int
abbrev wsX40 : List Cond := u_ws RX4 TX4 1
theorem nmX4 : ∀ a, a < 1 → ∀ b, b < 1 → a ≠ b → (TX4 a).2.1 ≠ (TX4 b).2.1 := by decide +kernel
theorem tyX4_ok : ∀ k, k < 1 → parseFieldDescriptor (TX4 k).2.2.1 = some (tyX4 k) := by decide +kernel
theorem in_X4 : ∀ w ∈ wsX40, w ∈ lw_all := lw_in wsX40 [827] (by decide +kernel) (by decide +kernel)
def RX5 : String := "Weaveword$Page"
def TX5 : u_T := fun k => match k with
  | 0 => ("Weaveword$Page", "versions", "Ljava/util/List;", true)
  | _ => ("Weaveword$Page", "approvals", "Ljava/util/List;", true)
def tyX5 : Nat → FieldType := fun k => match k with
  | 0 => .object "java/util/List"
  | _ => .object "java/util/List"
abbrev wsX50 : List Cond := u_ws RX5 TX5 2
theorem nmX5 : ∀ a, a < 2 → ∀ b, b < 2 → a ≠ b → (TX5 a).2.1 ≠ (TX5 b).2.1 := by decide +kernel
theorem tyX5_ok : ∀ k, k < 2 → parseFieldDescriptor (TX5 k).2.2.1 = some (tyX5 k) := by decide +kernel
theorem in_X5 : ∀ w ∈ wsX50, w ∈ lw_all := lw_in wsX50 [857, 859] (by decide +kernel) (by decide +kernel)
def RX6 : String := "Weaveword$Version"
def TX6 : u_T := fun k => match k with
  | 0 => ("Weaveword$Version", "number", "I", true)
  | 1 => ("Weaveword$Version", "time", "I", true)
  | _ => ("Weaveword$Version", "text", "LWeaveword$Text;", true)
def tyX6 : Nat → FieldType := fun k => match k with
  | 0 => .int
  | 1 => .int
  | _ => .object "Weaveword$Text"
abbrev wsX60 : List Cond := u_ws RX6 TX6 3
theorem nmX6 : ∀ a, a < 3 → ∀ b, b < 3 → a ≠ b → (TX6 a).2.1 ≠ (TX6 b).2.1 := by decide +kernel
theorem tyX6_ok : ∀ k, k < 3 → parseFieldDescriptor (TX6 k).2.2.1 = some (tyX6 k) := by decide +kernel
theorem in_X6 : ∀ w ∈ wsX60, w ∈ lw_all := lw_in wsX60 [884, 886, 888] (by decide +kernel) (by decide +kernel)
def RX7 : String := "Weaveword$Approval"
def TX7 : u_T := fun k => match k with
  | 0 => ("Weaveword$Approval", "version", "LWeaveword$Version;", true)
  | _ => ("Weaveword$Approval", "time", "I", true)
def tyX7 : Nat → FieldType := fun k => match k with
  | 0 => .object "Weaveword$Version"
  | _ => .int
abbrev wsX70 : List Cond := u_ws RX7 TX7 2
theorem nmX7 : ∀ a, a < 2 → ∀ b, b < 2 → a ≠ b → (TX7 a).2.1 ≠ (TX7 b).2.1 := by decide +kernel
theorem tyX7_ok : ∀ k, k < 2 → parseFieldDescriptor (TX7 k).2.2.1 = some (tyX7 k) := by decide +kernel
theorem in_X7 : ∀ w ∈ wsX70, w ∈ lw_all := lw_in wsX70 [1128, 1130] (by decide +kernel) (by decide +kernel)
def RX8 : String := "Weaveword$Translation"
def TX8 : u_T := fun k => match k with
  | 0 => ("Weaveword$Translation", "title", "I", true)
  | _ => ("Weaveword$Translation", "base", "I", true)
def tyX8 : Nat → FieldType := fun k => match k with
  | 0 => .int
  | _ => .int
abbrev wsX80 : List Cond := u_ws RX8 TX8 2
theorem nmX8 : ∀ a, a < 2 → ∀ b, b < 2 → a ≠ b → (TX8 a).2.1 ≠ (TX8 b).2.1 := by decide +kernel
theorem tyX8_ok : ∀ k, k < 2 → parseFieldDescriptor (TX8 k).2.2.1 = some (tyX8 k) := by decide +kernel
theorem in_X8 : ∀ w ∈ wsX80, w ∈ lw_all := lw_in wsX80 [1153, 1155] (by decide +kernel) (by decide +kernel)
def RX9 : String := "Weaveword$Stored"
def TX9 : u_T := fun k => match k with
  | 0 => ("Weaveword$Stored", "rendering", "LWeaveword$Rendering;", true)
  | _ => ("Weaveword$Stored", "isStale", "Z", false)
def tyX9 : Nat → FieldType := fun k => match k with
  | 0 => .object "Weaveword$Rendering"
  | _ => .boolean
abbrev wsX90 : List Cond := u_ws RX9 TX9 2
theorem nmX9 : ∀ a, a < 2 → ∀ b, b < 2 → a ≠ b → (TX9 a).2.1 ≠ (TX9 b).2.1 := by decide +kernel
theorem tyX9_ok : ∀ k, k < 2 → parseFieldDescriptor (TX9 k).2.2.1 = some (tyX9 k) := by decide +kernel
theorem in_X9 : ∀ w ∈ wsX90, w ∈ lw_all := lw_in wsX90 [1500, 1502] (by decide +kernel) (by decide +kernel)
def RX10 : String := "Weaveword$Rendering"
def TX10 : u_T := fun k => match k with
  | 0 => ("Weaveword$Rendering", "time", "I", true)
  | 1 => ("Weaveword$Rendering", "row", "LWeaveword$Row;", true)
  | 2 => ("Weaveword$Rendering", "nothing", "LWeaveword$Row;", true)
  | 3 => ("Weaveword$Rendering", "links", "I", false)
  | 4 => ("Weaveword$Rendering", "categories", "I", false)
  | 5 => ("Weaveword$Rendering", "titles", "I", false)
  | 6 => ("Weaveword$Rendering", "counted", "I", false)
  | 7 => ("Weaveword$Rendering", "used", "I", false)
  | 8 => ("Weaveword$Rendering", "calls", "I", false)
  | _ => ("Weaveword$Rendering", "this$0", "LWeaveword;", true)
def tyX10 : Nat → FieldType := fun k => match k with
  | 0 => .int
  | 1 => .object "Weaveword$Row"
  | 2 => .object "Weaveword$Row"
  | 3 => .int
  | 4 => .int
  | 5 => .int
  | 6 => .int
  | 7 => .int
  | 8 => .int
  | _ => .object "Weaveword"
abbrev wsX100 : List Cond := u_ws RX10 TX10 10
theorem nmX10 : ∀ a, a < 10 → ∀ b, b < 10 → a ≠ b → (TX10 a).2.1 ≠ (TX10 b).2.1 := by decide +kernel
theorem tyX10_ok : ∀ k, k < 10 → parseFieldDescriptor (TX10 k).2.2.1 = some (tyX10 k) := by decide +kernel
theorem in_X10 : ∀ w ∈ wsX100, w ∈ lw_all := lw_in wsX100 [1472, 1474, 1476, 1478, 1480, 1482, 1484, 1486, 1488, 1490] (by decide +kernel) (by decide +kernel)
def RX11 : String := "Weaveword$Row"
def TX11 : u_T := fun k => match k with
  | 0 => ("Weaveword$Row", "numbers", "[I", false)
  | _ => ("Weaveword$Row", "many", "I", false)
def tyX11 : Nat → FieldType := fun k => match k with
  | 0 => .array .int
  | _ => .int
abbrev wsX110 : List Cond := u_ws RX11 TX11 2
theorem nmX11 : ∀ a, a < 2 → ∀ b, b < 2 → a ≠ b → (TX11 a).2.1 ≠ (TX11 b).2.1 := by decide +kernel
theorem tyX11_ok : ∀ k, k < 2 → parseFieldDescriptor (TX11 k).2.2.1 = some (tyX11 k) := by decide +kernel
theorem in_X11 : ∀ w ∈ wsX110, w ∈ lw_all := lw_in wsX110 [1218, 1220] (by decide +kernel) (by decide +kernel)
def RX12 : String := "Weaveword$Frame"
def TX12 : u_T := fun k => match k with
  | 0 => ("Weaveword$Frame", "rendering", "LWeaveword$Rendering;", true)
  | 1 => ("Weaveword$Frame", "caller", "LWeaveword$Frame;", true)
  | 2 => ("Weaveword$Frame", "title", "I", true)
  | 3 => ("Weaveword$Frame", "depth", "I", true)
  | 4 => ("Weaveword$Frame", "text", "LWeaveword$Text;", true)
  | _ => ("Weaveword$Frame", "arguments", "[LWeaveword$Content;", true)
def tyX12 : Nat → FieldType := fun k => match k with
  | 0 => .object "Weaveword$Rendering"
  | 1 => .object "Weaveword$Frame"
  | 2 => .int
  | 3 => .int
  | 4 => .object "Weaveword$Text"
  | _ => .array (.object "Weaveword$Content")
abbrev wsX120 : List Cond := u_ws RX12 TX12 6
theorem nmX12 : ∀ a, a < 6 → ∀ b, b < 6 → a ≠ b → (TX12 a).2.1 ≠ (TX12 b).2.1 := by decide +kernel
theorem tyX12_ok : ∀ k, k < 6 → parseFieldDescriptor (TX12 k).2.2.1 = some (tyX12 k) := by decide +kernel
theorem in_X12 : ∀ w ∈ wsX120, w ∈ lw_all := lw_in wsX120 [1241, 1243, 1245, 1247, 1249, 1251] (by decide +kernel) (by decide +kernel)
def RX13 : String := "Weaveword$Parts"
def TX13 : u_T := fun k => match k with
  | 0 => ("Weaveword$Parts", "parts", "Ljava/util/List;", true)
  | _ => ("Weaveword$Parts", "nothing", "LWeaveword$Row;", true)
def tyX13 : Nat → FieldType := fun k => match k with
  | 0 => .object "java/util/List"
  | _ => .object "Weaveword$Row"
abbrev wsX130 : List Cond := u_ws RX13 TX13 2
theorem nmX13 : ∀ a, a < 2 → ∀ b, b < 2 → a ≠ b → (TX13 a).2.1 ≠ (TX13 b).2.1 := by decide +kernel
theorem tyX13_ok : ∀ k, k < 2 → parseFieldDescriptor (TX13 k).2.2.1 = some (tyX13 k) := by decide +kernel
theorem in_X13 : ∀ w ∈ wsX130, w ∈ lw_all := lw_in wsX130 [1320, 1322] (by decide +kernel) (by decide +kernel)
def RX14 : String := "Weaveword$Content"
def TX14 : u_T := fun k => match k with
  | 0 => ("Weaveword$Content", "frame", "LWeaveword$Frame;", true)
  | 1 => ("Weaveword$Content", "from", "I", true)
  | 2 => ("Weaveword$Content", "to", "I", true)
  | _ => ("Weaveword$Content", "row", "LWeaveword$Row;", false)
def tyX14 : Nat → FieldType := fun k => match k with
  | 0 => .object "Weaveword$Frame"
  | 1 => .int
  | 2 => .int
  | _ => .object "Weaveword$Row"
abbrev wsX140 : List Cond := u_ws RX14 TX14 4
theorem nmX14 : ∀ a, a < 4 → ∀ b, b < 4 → a ≠ b → (TX14 a).2.1 ≠ (TX14 b).2.1 := by decide +kernel
theorem tyX14_ok : ∀ k, k < 4 → parseFieldDescriptor (TX14 k).2.2.1 = some (tyX14 k) := by decide +kernel
theorem in_X14 : ∀ w ∈ wsX140, w ∈ lw_all := lw_in wsX140 [1336, 1338, 1340, 1342] (by decide +kernel) (by decide +kernel)
def RX2 : String := "Weaveword$Module"
def TX2 : u_T := fun k => match k with
  | _ => ("Weaveword$Module", "instructions", "Ljava/util/List;", true)
def tyX2 : Nat → FieldType := fun k => match k with
  | _ => .object "java/util/List"
abbrev wsX20 : List Cond := u_ws RX2 TX2 1
theorem nmX2 : ∀ a, a < 1 → ∀ b, b < 1 → a ≠ b → (TX2 a).2.1 ≠ (TX2 b).2.1 := by decide +kernel
theorem tyX2_ok : ∀ k, k < 1 → parseFieldDescriptor (TX2 k).2.2.1 = some (tyX2 k) := by decide +kernel
theorem in_X2 : ∀ w ∈ wsX20, w ∈ lw_all := lw_in wsX20 [192] (by decide +kernel) (by decide +kernel)
def RJ2 : String := "java/util/ArrayList"
def TJ2 : u_T := fun k => match k with
  | 0 => ("java/util/AbstractList", "modCount", "I", false)
  | 1 => ("java/util/ArrayList", "elementData", "[Ljava/lang/Object;", false)
  | _ => ("java/util/ArrayList", "size", "I", false)
def tyJ2 : Nat → FieldType := fun k => match k with
  | 0 => .int
  | 1 => .array (.object "java/lang/Object")
  | _ => .int
abbrev wsJ20 : List Cond := u_ws RJ2 TJ2 3
theorem nmJ2 : ∀ a, a < 3 → ∀ b, b < 3 → a ≠ b → (TJ2 a).2.1 ≠ (TJ2 b).2.1 := by decide +kernel
theorem tyJ2_ok : ∀ k, k < 3 → parseFieldDescriptor (TJ2 k).2.2.1 = some (tyJ2 k) := by decide +kernel
theorem in_J2 : ∀ w ∈ wsJ20, w ∈ lw_all := lw_in wsJ20 [173, 169, 171] (by decide +kernel) (by decide +kernel)
def RJ22 : String := "java/util/ArrayList$Itr"
def TJ22 : u_T := fun k => match k with
  | 0 => ("java/util/ArrayList$Itr", "cursor", "I", false)
  | 1 => ("java/util/ArrayList$Itr", "lastRet", "I", false)
  | 2 => ("java/util/ArrayList$Itr", "expectedModCount", "I", false)
  | _ => ("java/util/ArrayList$Itr", "this$0", "Ljava/util/ArrayList;", true)
def tyJ22 : Nat → FieldType := fun k => match k with
  | 0 => .int
  | 1 => .int
  | 2 => .int
  | _ => .object "java/util/ArrayList"
abbrev wsJ220 : List Cond := u_ws RJ22 TJ22 4
theorem nmJ22 : ∀ a, a < 4 → ∀ b, b < 4 → a ≠ b → (TJ22 a).2.1 ≠ (TJ22 b).2.1 := by decide +kernel
theorem tyJ22_ok : ∀ k, k < 4 → parseFieldDescriptor (TJ22 k).2.2.1 = some (tyJ22 k) := by decide +kernel
theorem in_J22 : ∀ w ∈ wsJ220, w ∈ lw_all := lw_in wsJ220 [998, 1000, 1002, 1004] (by decide +kernel) (by decide +kernel)
def RJ15 : String := "java/lang/Integer"
def TJ15 : u_T := fun k => match k with
  | _ => ("java/lang/Integer", "value", "I", true)
def tyJ15 : Nat → FieldType := fun k => match k with
  | _ => .int
abbrev wsJ150 : List Cond := u_ws RJ15 TJ15 1
theorem nmJ15 : ∀ a, a < 1 → ∀ b, b < 1 → a ≠ b → (TJ15 a).2.1 ≠ (TJ15 b).2.1 := by decide +kernel
theorem tyJ15_ok : ∀ k, k < 1 → parseFieldDescriptor (TJ15 k).2.2.1 = some (tyJ15 k) := by decide +kernel
theorem in_J15 : ∀ w ∈ wsJ150, w ∈ lw_all := lw_in wsJ150 [762] (by decide +kernel) (by decide +kernel)
def RJ12 : String := "java/lang/String"
def TJ12 : u_T := fun k => match k with
  | 0 => ("java/lang/String", "value", "[B", true)
  | 1 => ("java/lang/String", "coder", "B", true)
  | 2 => ("java/lang/String", "hash", "I", false)
  | _ => ("java/lang/String", "hashIsZero", "Z", false)
def tyJ12 : Nat → FieldType := fun k => match k with
  | 0 => .array .byte
  | 1 => .byte
  | 2 => .int
  | _ => .boolean
abbrev wsJ120 : List Cond := u_ws RJ12 TJ12 4
theorem nmJ12 : ∀ a, a < 4 → ∀ b, b < 4 → a ≠ b → (TJ12 a).2.1 ≠ (TJ12 b).2.1 := by decide +kernel
theorem tyJ12_ok : ∀ k, k < 4 → parseFieldDescriptor (TJ12 k).2.2.1 = some (tyJ12 k) := by decide +kernel
theorem in_J12 : ∀ w ∈ wsJ120, w ∈ lw_all := lw_in wsJ120 [655, 657, 659, 661] (by decide +kernel) (by decide +kernel)
def RJ11 : String := "java/lang/StringBuilder"
def TJ11 : u_T := fun k => match k with
  | 0 => ("java/lang/AbstractStringBuilder", "value", "[B", false)
  | 1 => ("java/lang/AbstractStringBuilder", "coder", "B", false)
  | 2 => ("java/lang/AbstractStringBuilder", "maybeLatin1", "Z", false)
  | _ => ("java/lang/AbstractStringBuilder", "count", "I", false)
def tyJ11 : Nat → FieldType := fun k => match k with
  | 0 => .array .byte
  | 1 => .byte
  | 2 => .boolean
  | _ => .int
abbrev wsJ110 : List Cond := u_ws RJ11 TJ11 4
theorem nmJ11 : ∀ a, a < 4 → ∀ b, b < 4 → a ≠ b → (TJ11 a).2.1 ≠ (TJ11 b).2.1 := by decide +kernel
theorem tyJ11_ok : ∀ k, k < 4 → parseFieldDescriptor (TJ11 k).2.2.1 = some (tyJ11 k) := by decide +kernel
theorem in_J11 : ∀ w ∈ wsJ110, w ∈ lw_all := lw_in wsJ110 [422, 424, 426, 428] (by decide +kernel) (by decide +kernel)
def RJ19 : String := "java/lang/IndexOutOfBoundsException"
def TJ19 : u_T := fun k => match k with
  | 0 => ("java/lang/Throwable", "cause", "Ljava/lang/Throwable;", false)
  | 1 => ("java/lang/Throwable", "stackTrace", "[Ljava/lang/StackTraceElement;", false)
  | 2 => ("java/lang/Throwable", "suppressedExceptions", "Ljava/util/List;", false)
  | 3 => ("java/lang/Throwable", "detailMessage", "Ljava/lang/String;", false)
  | 4 => ("java/lang/Throwable", "backtrace", "Ljava/lang/Object;", false)
  | _ => ("java/lang/Throwable", "depth", "I", false)
def tyJ19 : Nat → FieldType := fun k => match k with
  | 0 => .object "java/lang/Throwable"
  | 1 => .array (.object "java/lang/StackTraceElement")
  | 2 => .object "java/util/List"
  | 3 => .object "java/lang/String"
  | 4 => .object "java/lang/Object"
  | _ => .int
abbrev wsJ190 : List Cond := u_ws RJ19 TJ19 6
theorem nmJ19 : ∀ a, a < 6 → ∀ b, b < 6 → a ≠ b → (TJ19 a).2.1 ≠ (TJ19 b).2.1 := by decide +kernel
theorem tyJ19_ok : ∀ k, k < 6 → parseFieldDescriptor (TJ19 k).2.2.1 = some (tyJ19 k) := by decide +kernel
theorem in_J19 : ∀ w ∈ wsJ190, w ∈ lw_all := lw_in wsJ190 [369, 371, 373, 375, 377, 668] (by decide +kernel) (by decide +kernel)
def RJ9 : String := "java/lang/IllegalArgumentException"
def TJ9 : u_T := fun k => match k with
  | 0 => ("java/lang/Throwable", "cause", "Ljava/lang/Throwable;", false)
  | 1 => ("java/lang/Throwable", "stackTrace", "[Ljava/lang/StackTraceElement;", false)
  | 2 => ("java/lang/Throwable", "suppressedExceptions", "Ljava/util/List;", false)
  | 3 => ("java/lang/Throwable", "detailMessage", "Ljava/lang/String;", false)
  | 4 => ("java/lang/Throwable", "backtrace", "Ljava/lang/Object;", false)
  | _ => ("java/lang/Throwable", "depth", "I", false)
def tyJ9 : Nat → FieldType := fun k => match k with
  | 0 => .object "java/lang/Throwable"
  | 1 => .array (.object "java/lang/StackTraceElement")
  | 2 => .object "java/util/List"
  | 3 => .object "java/lang/String"
  | 4 => .object "java/lang/Object"
  | _ => .int
abbrev wsJ90 : List Cond := u_ws RJ9 TJ9 6
theorem nmJ9 : ∀ a, a < 6 → ∀ b, b < 6 → a ≠ b → (TJ9 a).2.1 ≠ (TJ9 b).2.1 := by decide +kernel
theorem tyJ9_ok : ∀ k, k < 6 → parseFieldDescriptor (TJ9 k).2.2.1 = some (tyJ9 k) := by decide +kernel
theorem in_J9 : ∀ w ∈ wsJ90, w ∈ lw_all := lw_in wsJ90 [604, 605, 606, 607, 608, 636] (by decide +kernel) (by decide +kernel)
def RJ18 : String := "java/lang/IllegalStateException"
def TJ18 : u_T := fun k => match k with
  | 0 => ("java/lang/Throwable", "cause", "Ljava/lang/Throwable;", false)
  | 1 => ("java/lang/Throwable", "stackTrace", "[Ljava/lang/StackTraceElement;", false)
  | 2 => ("java/lang/Throwable", "suppressedExceptions", "Ljava/util/List;", false)
  | 3 => ("java/lang/Throwable", "detailMessage", "Ljava/lang/String;", false)
  | 4 => ("java/lang/Throwable", "backtrace", "Ljava/lang/Object;", false)
  | _ => ("java/lang/Throwable", "depth", "I", false)
def tyJ18 : Nat → FieldType := fun k => match k with
  | 0 => .object "java/lang/Throwable"
  | 1 => .array (.object "java/lang/StackTraceElement")
  | 2 => .object "java/util/List"
  | 3 => .object "java/lang/String"
  | 4 => .object "java/lang/Object"
  | _ => .int
abbrev wsJ180 : List Cond := u_ws RJ18 TJ18 6
theorem nmJ18 : ∀ a, a < 6 → ∀ b, b < 6 → a ≠ b → (TJ18 a).2.1 ≠ (TJ18 b).2.1 := by decide +kernel
theorem tyJ18_ok : ∀ k, k < 6 → parseFieldDescriptor (TJ18 k).2.2.1 = some (tyJ18 k) := by decide +kernel
theorem in_J18 : ∀ w ∈ wsJ180, w ∈ lw_all := lw_in wsJ180 [734, 735, 736, 737, 738, 743] (by decide +kernel) (by decide +kernel)
def gCl : List vw_C := [(RX3, TX3, 79), (RX1, TX1, 10), (RX4, TX4, 1), (RX5, TX5, 2), (RX6, TX6, 3), (RX7, TX7, 2), (RX8, TX8, 2), (RX9, TX9, 2), (RX10, TX10, 10), (RX11, TX11, 2), (RX12, TX12, 6), (RX13, TX13, 2), (RX14, TX14, 4), (RX2, TX2, 1), (RJ2, TJ2, 3), (RJ22, TJ22, 4), (RJ15, TJ15, 1), (RJ12, TJ12, 4), (RJ11, TJ11, 4), (RJ19, TJ19, 6), (RJ9, TJ9, 6), (RJ18, TJ18, 6)]
def gTy : List (Nat → FieldType) := [tyX3, tyX1, tyX4, tyX5, tyX6, tyX7, tyX8, tyX9, tyX10, tyX11, tyX12, tyX13, tyX14, tyX2, tyJ2, tyJ22, tyJ15, tyJ12, tyJ11, tyJ19, tyJ9, tyJ18]
/-- words of the tables that no list carries: nest mates, castable, declares -/
def gNw : List Cond := [Jvm.Cond.castable "java/lang/StringBuilder" "java/lang/Object",
  Jvm.Cond.castable "java/lang/String" "java/lang/Object",
  Jvm.Cond.castable "java/lang/Integer" "java/lang/Object",
  Jvm.Cond.castable "java/lang/IllegalStateException" "java/lang/IllegalStateException",
  Jvm.Cond.castable "java/lang/IllegalStateException" "java/lang/Object",
  Jvm.Cond.castable "java/lang/IndexOutOfBoundsException" "java/lang/IndexOutOfBoundsException",
  Jvm.Cond.declares ({ cls := "java/lang/IndexOutOfBoundsException", name := "<init>", desc := "()V" } : Jvm.MethodName),
  Jvm.Cond.declares ({ cls := "java/lang/IndexOutOfBoundsException", name := "<init>", desc := "(Ljava/lang/String;)V" } : Jvm.MethodName),
  Jvm.Cond.castable "java/lang/IndexOutOfBoundsException" "java/lang/Object",
  Jvm.Cond.castable "java/util/ArrayList" "java/util/List",
  Jvm.Cond.castable "java/util/ArrayList" "java/lang/Object",
  Jvm.Cond.castable "java/lang/ArrayIndexOutOfBoundsException" "java/lang/ArrayIndexOutOfBoundsException",
  Jvm.Cond.castable "java/lang/ArrayIndexOutOfBoundsException" "java/lang/IndexOutOfBoundsException",
  Jvm.Cond.castable "java/lang/ArrayIndexOutOfBoundsException" "java/lang/Object",
  Jvm.Cond.fieldLinkNest "java/util/ArrayList$Itr" (28 : Nat) "java/util/ArrayList" "size" "I" "java/util/ArrayList",
  Jvm.Cond.castable "java/util/ArrayList$Itr" "java/util/Iterator",
  Jvm.Cond.castable "java/util/ArrayList$Itr" "java/lang/Object",
  Jvm.Cond.declares ({ cls := "java/lang/Object", name := "getClass", desc := "()Ljava/lang/Class;" } : Jvm.MethodName),
  Jvm.Cond.declares ({ cls := "java/lang/Throwable", name := "<init>", desc := "()V" } : Jvm.MethodName),
  Jvm.Cond.declares ({ cls := "java/lang/Throwable", name := "<init>", desc := "(Ljava/lang/String;)V" } : Jvm.MethodName),
  Jvm.Cond.castable "java/lang/Throwable" "java/lang/Object",
  Jvm.Cond.declares ({ cls := "java/lang/Exception", name := "<init>", desc := "()V" } : Jvm.MethodName),
  Jvm.Cond.declares ({ cls := "java/lang/Exception", name := "<init>", desc := "(Ljava/lang/String;)V" } : Jvm.MethodName),
  Jvm.Cond.declares ({ cls := "java/lang/RuntimeException", name := "<init>", desc := "()V" } : Jvm.MethodName),
  Jvm.Cond.declares ({ cls := "java/lang/RuntimeException", name := "<init>", desc := "(Ljava/lang/String;)V" } : Jvm.MethodName),
  Jvm.Cond.castable "java/lang/IllegalArgumentException" "java/lang/IllegalArgumentException",
  Jvm.Cond.castable "java/lang/IllegalArgumentException" "java/lang/Object",
  Jvm.Cond.methodLinkNest "Weaveword" (46 : Nat) ({ cls := "Weaveword$Module", name := "<init>", desc := "()V" } : Jvm.MethodName) "Weaveword",
  Jvm.Cond.fieldLinkNest "Weaveword" (336 : Nat) "Weaveword$Module" "instructions" "Ljava/util/List;" "Weaveword",
  Jvm.Cond.fieldLinkNest "Weaveword" (372 : Nat) "Weaveword$Text" "tokens" "[I" "Weaveword",
  Jvm.Cond.methodLinkNest "Weaveword" (223 : Nat) ({ cls := "Weaveword$Page", name := "<init>", desc := "()V" } : Jvm.MethodName) "Weaveword",
  Jvm.Cond.fieldLinkNest "Weaveword" (252 : Nat) "Weaveword$Page" "versions" "Ljava/util/List;" "Weaveword",
  Jvm.Cond.fieldLinkNest "Weaveword" (310 : Nat) "Weaveword$Page" "approvals" "Ljava/util/List;" "Weaveword",
  Jvm.Cond.fieldLinkNest "Weaveword" (261 : Nat) "Weaveword$Version" "number" "I" "Weaveword",
  Jvm.Cond.fieldLinkNest "Weaveword" (157 : Nat) "Weaveword$Version" "text" "LWeaveword$Text;" "Weaveword",
  Jvm.Cond.fieldLinkNest "Weaveword" (389 : Nat) "Weaveword$Approval" "version" "LWeaveword$Version;" "Weaveword",
  Jvm.Cond.fieldLinkNest "Weaveword" (386 : Nat) "Weaveword$Approval" "time" "I" "Weaveword",
  Jvm.Cond.fieldLinkNest "Weaveword" (325 : Nat) "Weaveword$Translation" "title" "I" "Weaveword",
  Jvm.Cond.fieldLinkNest "Weaveword" (405 : Nat) "Weaveword$Translation" "base" "I" "Weaveword",
  Jvm.Cond.fieldLinkNest "Weaveword" (359 : Nat) "Weaveword$Row" "many" "I" "Weaveword",
  Jvm.Cond.fieldLinkNest "Weaveword" (355 : Nat) "Weaveword$Rendering" "row" "LWeaveword$Row;" "Weaveword",
  Jvm.Cond.fieldLinkNest "Weaveword" (392 : Nat) "Weaveword$Rendering" "links" "I" "Weaveword",
  Jvm.Cond.fieldLinkNest "Weaveword" (143 : Nat) "Weaveword$Rendering" "categories" "I" "Weaveword",
  Jvm.Cond.fieldLinkNest "Weaveword" (128 : Nat) "Weaveword$Rendering" "titles" "I" "Weaveword",
  Jvm.Cond.fieldLinkNest "Weaveword" (137 : Nat) "Weaveword$Rendering" "counted" "I" "Weaveword",
  Jvm.Cond.fieldLinkNest "Weaveword" (140 : Nat) "Weaveword$Rendering" "used" "I" "Weaveword",
  Jvm.Cond.fieldLinkNest "Weaveword" (124 : Nat) "Weaveword$Stored" "rendering" "LWeaveword$Rendering;" "Weaveword",
  Jvm.Cond.fieldLinkNest "Weaveword" (120 : Nat) "Weaveword$Stored" "isStale" "Z" "Weaveword",
  Jvm.Cond.castable "Weaveword" "java/lang/Object",
  Jvm.Cond.fieldLinkNest "Weaveword$Rendering" (44 : Nat) "Weaveword" "pages" "[LWeaveword$Page;" "Weaveword",
  Jvm.Cond.fieldLinkNest "Weaveword$Rendering" (222 : Nat) "Weaveword" "modules" "Ljava/util/List;" "Weaveword",
  Jvm.Cond.fieldLinkNest "Weaveword$Rendering" (58 : Nat) "Weaveword$Version" "text" "LWeaveword$Text;" "Weaveword",
  Jvm.Cond.methodLinkNest "Weaveword$Rendering" (17 : Nat) ({ cls := "Weaveword$Row", name := "<init>", desc := "()V" } : Jvm.MethodName) "Weaveword",
  Jvm.Cond.fieldLinkNest "Weaveword$Rendering" (115 : Nat) "Weaveword$Frame" "depth" "I" "Weaveword",
  Jvm.Cond.fieldLinkNest "Weaveword$Rendering" (79 : Nat) "Weaveword$Frame" "text" "LWeaveword$Text;" "Weaveword",
  Jvm.Cond.fieldLinkNest "Weaveword$Rendering" (121 : Nat) "Weaveword$Frame" "arguments" "[LWeaveword$Content;" "Weaveword",
  Jvm.Cond.methodLinkNest "Weaveword$Rendering" (83 : Nat) ({ cls := "Weaveword$Text", name := "isOpening", desc := "(I)Z" } : Jvm.MethodName) "Weaveword",
  Jvm.Cond.fieldLinkNest "Weaveword$Rendering" (142 : Nat) "Weaveword$Parts" "parts" "Ljava/util/List;" "Weaveword",
  Jvm.Cond.fieldLinkNest "Weaveword$Rendering" (163 : Nat) "Weaveword$Content" "from" "I" "Weaveword",
  Jvm.Cond.castable "Weaveword$Rendering" "java/lang/Object",
  Jvm.Cond.castable "Weaveword$Row" "java/lang/Object",
  Jvm.Cond.castable "Weaveword$Frame" "java/lang/Object",
  Jvm.Cond.castable "Weaveword$Parts" "java/lang/Object",
  Jvm.Cond.fieldLinkNest "Weaveword$Content" (27 : Nat) "Weaveword$Frame" "rendering" "LWeaveword$Rendering;" "Weaveword",
  Jvm.Cond.methodLinkNest "Weaveword$Content" (26 : Nat) ({ cls := "Weaveword$Row", name := "<init>", desc := "()V" } : Jvm.MethodName) "Weaveword",
  Jvm.Cond.castable "Weaveword$Content" "java/lang/Object",
  Jvm.Cond.castable "Weaveword$Module" "java/lang/Object",
  Jvm.Cond.castable "WeavewordModel" "java/lang/Object",
  Jvm.Cond.castable "Weaveword$Text" "java/lang/Object",
  Jvm.Cond.fieldLinkNest "Weaveword$Page" (45 : Nat) "Weaveword$Version" "number" "I" "Weaveword",
  Jvm.Cond.fieldLinkNest "Weaveword$Page" (33 : Nat) "Weaveword$Version" "time" "I" "Weaveword",
  Jvm.Cond.fieldLinkNest "Weaveword$Page" (65 : Nat) "Weaveword$Approval" "version" "LWeaveword$Version;" "Weaveword",
  Jvm.Cond.fieldLinkNest "Weaveword$Page" (64 : Nat) "Weaveword$Approval" "time" "I" "Weaveword",
  Jvm.Cond.castable "Weaveword$Page" "java/lang/Object",
  Jvm.Cond.castable "Weaveword$Version" "java/lang/Object",
  Jvm.Cond.castable "Weaveword$Approval" "java/lang/Object",
  Jvm.Cond.castable "Weaveword$Translation" "java/lang/Object",
  Jvm.Cond.castable "Weaveword$Stored" "java/lang/Object",
  Jvm.Cond.castable "[B" "java/lang/Cloneable",
  Jvm.Cond.castable "[B" "java/lang/Object",
  Jvm.Cond.castable "[I" "java/lang/Object",
  Jvm.Cond.castable "[J" "java/lang/Object",
  Jvm.Cond.castable "[LWeaveword$Content;" "java/lang/Object",
  Jvm.Cond.castable "[LWeaveword$Page;" "java/lang/Object",
  Jvm.Cond.castable "[LWeaveword$Stored;" "java/lang/Object",
  Jvm.Cond.castable "[LWeaveword$Translation;" "java/lang/Object",
  Jvm.Cond.castable "[Ljava/lang/Object;" "java/lang/Object",
  Jvm.Cond.castable "[Z" "java/lang/Object",
  Jvm.Cond.declares ({ cls := "java/util/Iterator", name := "hasNext", desc := "()Z" } : Jvm.MethodName),
  Jvm.Cond.declares ({ cls := "java/util/Iterator", name := "next", desc := "()Ljava/lang/Object;" } : Jvm.MethodName),
  Jvm.Cond.declares ({ cls := "java/util/List", name := "add", desc := "(Ljava/lang/Object;)Z" } : Jvm.MethodName),
  Jvm.Cond.declares ({ cls := "java/util/List", name := "size", desc := "()I" } : Jvm.MethodName),
  Jvm.Cond.declares ({ cls := "java/util/List", name := "clear", desc := "()V" } : Jvm.MethodName),
  Jvm.Cond.declares ({ cls := "java/util/List", name := "get", desc := "(I)Ljava/lang/Object;" } : Jvm.MethodName),
  Jvm.Cond.declares ({ cls := "java/util/List", name := "add", desc := "(ILjava/lang/Object;)V" } : Jvm.MethodName),
  Jvm.Cond.declares ({ cls := "java/util/List", name := "set", desc := "(ILjava/lang/Object;)Ljava/lang/Object;" } : Jvm.MethodName),
  Jvm.Cond.declares ({ cls := "java/util/List", name := "iterator", desc := "()Ljava/util/Iterator;" } : Jvm.MethodName),
  Jvm.Cond.declares ({ cls := "java/util/List", name := "isEmpty", desc := "()Z" } : Jvm.MethodName)]
/-- interface calls: the receiver's class, the interface's method, its own -/
def gFw : List (String × MethodName × MethodName) := [("java/util/ArrayList", ⟨"java/util/List", "add", "(ILjava/lang/Object;)V"⟩, ⟨"java/util/ArrayList", "add", "(ILjava/lang/Object;)V"⟩),
  ("java/util/ArrayList", ⟨"java/util/List", "add", "(Ljava/lang/Object;)Z"⟩, ⟨"java/util/ArrayList", "add", "(Ljava/lang/Object;)Z"⟩),
  ("java/util/ArrayList", ⟨"java/util/List", "clear", "()V"⟩, ⟨"java/util/ArrayList", "clear", "()V"⟩),
  ("java/util/ArrayList", ⟨"java/util/List", "get", "(I)Ljava/lang/Object;"⟩, ⟨"java/util/ArrayList", "get", "(I)Ljava/lang/Object;"⟩),
  ("java/util/ArrayList", ⟨"java/util/List", "isEmpty", "()Z"⟩, ⟨"java/util/ArrayList", "isEmpty", "()Z"⟩),
  ("java/util/ArrayList", ⟨"java/util/List", "iterator", "()Ljava/util/Iterator;"⟩, ⟨"java/util/ArrayList", "iterator", "()Ljava/util/Iterator;"⟩),
  ("java/util/ArrayList", ⟨"java/util/List", "set", "(ILjava/lang/Object;)Ljava/lang/Object;"⟩, ⟨"java/util/ArrayList", "set", "(ILjava/lang/Object;)Ljava/lang/Object;"⟩),
  ("java/util/ArrayList", ⟨"java/util/List", "size", "()I"⟩, ⟨"java/util/ArrayList", "size", "()I"⟩),
  ("java/util/ArrayList$Itr", ⟨"java/util/Iterator", "hasNext", "()Z"⟩, ⟨"java/util/ArrayList$Itr", "hasNext", "()Z"⟩),
  ("java/util/ArrayList$Itr", ⟨"java/util/Iterator", "next", "()Ljava/lang/Object;"⟩, ⟨"java/util/ArrayList$Itr", "next", "()Ljava/lang/Object;"⟩)]
def gAO : List String := ["Weaveword$Page", "Weaveword$Stored", "Weaveword$Translation", "java/lang/Object", "Weaveword$Content"]
def gStr : List (String × Nat × String) := [("Weaveword", 58, "no "),
  ("Weaveword", 64, " "),
  ("Weaveword", 76, "title"),
  ("Weaveword", 86, "no page at "),
  ("Weaveword", 92, "no version "),
  ("Weaveword", 94, " of the page"),
  ("Weaveword", 96, "the index "),
  ("Weaveword", 98, " is below 0"),
  ("Weaveword", 102, " is not from "),
  ("Weaveword", 104, " to "),
  ("Weaveword", 114, "the rank is too low"),
  ("Weaveword", 177, "the draft has too many tokens"),
  ("Weaveword", 221, "no page can be made of the draft there"),
  ("Weaveword", 246, "no such version can be made"),
  ("Weaveword", 259, "section"),
  ("Weaveword", 271, "no version is ahead of "),
  ("Weaveword", 273, "the version cannot be undone"),
  ("Weaveword", 275, "the draft is no text, or there are too many versions"),
  ("Weaveword", 281, "there is a page at the title"),
  ("Weaveword", 283, "there are too many versions"),
  ("Weaveword", 292, "tree"),
  ("Weaveword", 298, "the tree has pages"),
  ("Weaveword", 304, "the tree has no page, or there are too many versions"),
  ("Weaveword", 321, "a title is not its own translation"),
  ("Weaveword", 327, "module"),
  ("Weaveword", 339, "the module has too many instructions"),
  ("Weaveword", 366, "version"),
  ("Weaveword", 395, "thing"),
  ("Weaveword", 400, "category"),
  ("java/util/ArrayList", 201, "Index: "),
  ("java/util/ArrayList", 203, ", Size: "),
  ("java/util/Arrays", 337, " > ")]
