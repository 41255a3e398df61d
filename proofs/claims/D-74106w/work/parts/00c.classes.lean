/-! Z 5: classes, their fields; old cells (written by gen/gen_classes.py out of claim/names) -/
set_option maxRecDepth 100000
def RX1 : String := "LinkTimes"
def TX1 : u_T := fun k => match k with
  | 0 => ("LinkTimes", "trouble", "I", false)
  | 1 => ("LinkTimes", "where", "I", false)
  | 2 => ("LinkTimes", "tape", "[B", true)
  | 3 => ("LinkTimes", "taped", "I", false)
  | 4 => ("LinkTimes", "fault", "I", false)
  | 5 => ("LinkTimes", "desk", "LLinkTimes$Desk;", false)
  | 6 => ("LinkTimes", "running", "Ljava/util/TreeSet;", true)
  | 7 => ("LinkTimes", "acts", "Ljava/util/ArrayDeque;", true)
  | 8 => ("LinkTimes", "search", "LLinkTimes$Search;", true)
  | 9 => ("LinkTimes", "tradeArrives", "[I", true)
  | 10 => ("LinkTimes", "tradeChanges", "[I", true)
  | 11 => ("LinkTimes", "stepLeaves", "[I", true)
  | 12 => ("LinkTimes", "stepArrives", "[I", true)
  | 13 => ("LinkTimes", "stepMany", "I", false)
  | 14 => ("LinkTimes", "otherArrives", "[I", true)
  | 15 => ("LinkTimes", "changesAt", "[I", true)
  | 16 => ("LinkTimes", "ridden", "[Z", true)
  | 17 => ("LinkTimes", "pairMany", "I", false)
  | _ => ("LinkTimes", "slow", "I", false)
def tyX1 : Nat → FieldType := fun k => match k with
  | 0 => .int
  | 1 => .int
  | 2 => .array .byte
  | 3 => .int
  | 4 => .int
  | 5 => .object "LinkTimes$Desk"
  | 6 => .object "java/util/TreeSet"
  | 7 => .object "java/util/ArrayDeque"
  | 8 => .object "LinkTimes$Search"
  | 9 => .array .int
  | 10 => .array .int
  | 11 => .array .int
  | 12 => .array .int
  | 13 => .int
  | 14 => .array .int
  | 15 => .array .int
  | 16 => .array .boolean
  | 17 => .int
  | _ => .int
abbrev wsX10 : List Cond := u_ws RX1 TX1 19
set_option maxRecDepth 100000 in
theorem nmX1 : ∀ a, a < 19 → ∀ b, b < 19 → a ≠ b → (TX1 a).2.1 ≠ (TX1 b).2.1 := by decide +kernel
set_option maxRecDepth 100000 in
theorem tyX1_ok : ∀ k, k < 19 → parseFieldDescriptor (TX1 k).2.2.1 = some (tyX1 k) := by decide +kernel
theorem in_X1 : ∀ w ∈ wsX10, w ∈ lw_all := lw_in wsX10 [322, 324, 326, 328, 330, 332, 334, 336, 338, 340, 342, 344, 346, 348, 350, 352, 354, 356, 358] (by decide +kernel) (by decide +kernel)
def RX3 : String := "LinkTimes$Search"
def TX3 : u_T := fun k => match k with
  | 0 => ("LinkTimes$Search", "row", "[LLinkTimes$Departure;", true)
  | 1 => ("LinkTimes$Search", "leaves", "[I", true)
  | 2 => ("LinkTimes$Search", "arrives", "[I", true)
  | 3 => ("LinkTimes$Search", "value", "[I", true)
  | 4 => ("LinkTimes$Search", "rides", "[I", true)
  | 5 => ("LinkTimes$Search", "next", "[I", true)
  | 6 => ("LinkTimes$Search", "many", "I", false)
  | 7 => ("LinkTimes$Search", "freedom", "I", false)
  | _ => ("LinkTimes$Search", "this$0", "LLinkTimes;", true)
def tyX3 : Nat → FieldType := fun k => match k with
  | 0 => .array (.object "LinkTimes$Departure")
  | 1 => .array .int
  | 2 => .array .int
  | 3 => .array .int
  | 4 => .array .int
  | 5 => .array .int
  | 6 => .int
  | 7 => .int
  | _ => .object "LinkTimes"
abbrev wsX30 : List Cond := u_ws RX3 TX3 9
theorem nmX3 : ∀ a, a < 9 → ∀ b, b < 9 → a ≠ b → (TX3 a).2.1 ≠ (TX3 b).2.1 := by decide +kernel
theorem tyX3_ok : ∀ k, k < 9 → parseFieldDescriptor (TX3 k).2.2.1 = some (tyX3 k) := by decide +kernel
theorem in_X3 : ∀ w ∈ wsX30, w ∈ lw_all := lw_in wsX30 [281, 283, 285, 287, 289, 291, 293, 295, 297] (by decide +kernel) (by decide +kernel)
def RX4 : String := "LinkTimesModel"
def TX4 : u_T := fun k => match k with
  | 0 => ("LinkTimesModel", "thrown", "I", false)
  | 1 => ("LinkTimesModel", "trouble", "I", false)
  | 2 => ("LinkTimesModel", "fault", "I", false)
  | 3 => ("LinkTimesModel", "where", "I", false)
  | 4 => ("LinkTimesModel", "tape", "[I", true)
  | 5 => ("LinkTimesModel", "taped", "I", false)
  | 6 => ("LinkTimesModel", "row", "[I", true)
  | 7 => ("LinkTimesModel", "read", "[I", true)
  | 8 => ("LinkTimesModel", "aside", "[I", true)
  | 9 => ("LinkTimesModel", "kept", "[I", true)
  | 10 => ("LinkTimesModel", "actMany", "I", false)
  | 11 => ("LinkTimesModel", "isTold", "Z", false)
  | 12 => ("LinkTimesModel", "textLong", "I", false)
  | 13 => ("LinkTimesModel", "place", "I", false)
  | 14 => ("LinkTimesModel", "spot", "I", false)
  | 15 => ("LinkTimesModel", "token", "I", false)
  | 16 => ("LinkTimesModel", "whole", "I", false)
  | 17 => ("LinkTimesModel", "readFault", "I", false)
  | 18 => ("LinkTimesModel", "readPlace", "I", false)
  | 19 => ("LinkTimesModel", "hasDesk", "Z", false)
  | 20 => ("LinkTimesModel", "spotNames", "[J", true)
  | 21 => ("LinkTimesModel", "lineNames", "[J", true)
  | 22 => ("LinkTimesModel", "link", "[I", true)
  | 23 => ("LinkTimesModel", "there", "[I", true)
  | 24 => ("LinkTimesModel", "changesBy", "[I", true)
  | 25 => ("LinkTimesModel", "ridesBy", "[I", true)
  | 26 => ("LinkTimesModel", "nextBy", "[I", true)
  | 27 => ("LinkTimesModel", "sorted", "[I", true)
  | 28 => ("LinkTimesModel", "sortedMany", "I", false)
  | 29 => ("LinkTimesModel", "thereBy", "[I", true)
  | 30 => ("LinkTimesModel", "tradeAt", "[I", true)
  | 31 => ("LinkTimesModel", "tradeChanges", "[I", true)
  | 32 => ("LinkTimesModel", "tradeMany", "I", false)
  | 33 => ("LinkTimesModel", "stepLeaves", "[I", true)
  | 34 => ("LinkTimesModel", "stepArrives", "[I", true)
  | 35 => ("LinkTimesModel", "stepChanges", "[I", true)
  | 36 => ("LinkTimesModel", "stepMany", "I", false)
  | 37 => ("LinkTimesModel", "otherAt", "[I", true)
  | 38 => ("LinkTimesModel", "otherMany", "I", false)
  | 39 => ("LinkTimesModel", "turnsAt", "[I", true)
  | 40 => ("LinkTimesModel", "pairMany", "I", false)
  | _ => ("LinkTimesModel", "longest", "I", false)
def tyX4 : Nat → FieldType := fun k => match k with
  | 0 => .int
  | 1 => .int
  | 2 => .int
  | 3 => .int
  | 4 => .array .int
  | 5 => .int
  | 6 => .array .int
  | 7 => .array .int
  | 8 => .array .int
  | 9 => .array .int
  | 10 => .int
  | 11 => .boolean
  | 12 => .int
  | 13 => .int
  | 14 => .int
  | 15 => .int
  | 16 => .int
  | 17 => .int
  | 18 => .int
  | 19 => .boolean
  | 20 => .array .long
  | 21 => .array .long
  | 22 => .array .int
  | 23 => .array .int
  | 24 => .array .int
  | 25 => .array .int
  | 26 => .array .int
  | 27 => .array .int
  | 28 => .int
  | 29 => .array .int
  | 30 => .array .int
  | 31 => .array .int
  | 32 => .int
  | 33 => .array .int
  | 34 => .array .int
  | 35 => .array .int
  | 36 => .int
  | 37 => .array .int
  | 38 => .int
  | 39 => .array .int
  | 40 => .int
  | _ => .int
abbrev wsX40 : List Cond := u_ws RX4 TX4 42
set_option maxRecDepth 100000 in
theorem nmX4 : ∀ a, a < 42 → ∀ b, b < 42 → a ≠ b → (TX4 a).2.1 ≠ (TX4 b).2.1 := by decide +kernel
set_option maxRecDepth 100000 in
theorem tyX4_ok : ∀ k, k < 42 → parseFieldDescriptor (TX4 k).2.2.1 = some (tyX4 k) := by decide +kernel
theorem in_X4 : ∀ w ∈ wsX40, w ∈ lw_all := lw_in wsX40 [1841, 1843, 1845, 1847, 1849, 1851, 1853, 1855, 1857, 1859, 1861, 1863, 1865, 1867, 1869, 1871, 1873, 1875, 1877, 1879, 1881, 1883, 1885, 1887, 1889, 1891, 1893, 1895, 1897, 1899, 1901, 1903, 1905, 1907, 1909, 1911, 1913, 1915, 1917, 1919, 1921, 1923] (by decide +kernel) (by decide +kernel)
def RX5 : String := "LinkTimes$Reader"
def TX5 : u_T := fun k => match k with
  | 0 => ("LinkTimes$Reader", "size", "I", true)
  | 1 => ("LinkTimes$Reader", "d", "LLinkTimes$Desk;", true)
  | 2 => ("LinkTimes$Reader", "to", "I", false)
  | 3 => ("LinkTimes$Reader", "from", "I", false)
  | 4 => ("LinkTimes$Reader", "sort", "I", false)
  | 5 => ("LinkTimes$Reader", "value", "I", false)
  | 6 => ("LinkTimes$Reader", "word", "J", false)
  | _ => ("LinkTimes$Reader", "this$0", "LLinkTimes;", true)
def tyX5 : Nat → FieldType := fun k => match k with
  | 0 => .int
  | 1 => .object "LinkTimes$Desk"
  | 2 => .int
  | 3 => .int
  | 4 => .int
  | 5 => .int
  | 6 => .long
  | _ => .object "LinkTimes"
abbrev wsX50 : List Cond := u_ws RX5 TX5 8
theorem nmX5 : ∀ a, a < 8 → ∀ b, b < 8 → a ≠ b → (TX5 a).2.1 ≠ (TX5 b).2.1 := by decide +kernel
theorem tyX5_ok : ∀ k, k < 8 → parseFieldDescriptor (TX5 k).2.2.1 = some (tyX5 k) := by decide +kernel
theorem in_X5 : ∀ w ∈ wsX50, w ∈ lw_all := lw_in wsX50 [451, 453, 455, 457, 459, 461, 463, 465] (by decide +kernel) (by decide +kernel)
def RX6 : String := "LinkTimes$Desk"
def TX6 : u_T := fun k => match k with
  | 0 => ("LinkTimes$Desk", "span", "I", false)
  | 1 => ("LinkTimes$Desk", "links", "I", false)
  | 2 => ("LinkTimes$Desk", "spots", "Ljava/util/ArrayList;", true)
  | 3 => ("LinkTimes$Desk", "lines", "Ljava/util/ArrayList;", true)
  | _ => ("LinkTimes$Desk", "departures", "Ljava/util/ArrayList;", true)
def tyX6 : Nat → FieldType := fun k => match k with
  | 0 => .int
  | 1 => .int
  | 2 => .object "java/util/ArrayList"
  | 3 => .object "java/util/ArrayList"
  | _ => .object "java/util/ArrayList"
abbrev wsX60 : List Cond := u_ws RX6 TX6 5
theorem nmX6 : ∀ a, a < 5 → ∀ b, b < 5 → a ≠ b → (TX6 a).2.1 ≠ (TX6 b).2.1 := by decide +kernel
theorem tyX6_ok : ∀ k, k < 5 → parseFieldDescriptor (TX6 k).2.2.1 = some (tyX6 k) := by decide +kernel
theorem in_X6 : ∀ w ∈ wsX60, w ∈ lw_all := lw_in wsX60 [432, 434, 436, 438, 440] (by decide +kernel) (by decide +kernel)
def RX10 : String := "LinkTimes$Spot"
def TX10 : u_T := fun k => match k with
  | 0 => ("LinkTimes$Spot", "name", "J", true)
  | 1 => ("LinkTimes$Spot", "change", "I", false)
  | _ => ("LinkTimes$Spot", "wait", "I", false)
def tyX10 : Nat → FieldType := fun k => match k with
  | 0 => .long
  | 1 => .int
  | _ => .int
abbrev wsX100 : List Cond := u_ws RX10 TX10 3
theorem nmX10 : ∀ a, a < 3 → ∀ b, b < 3 → a ≠ b → (TX10 a).2.1 ≠ (TX10 b).2.1 := by decide +kernel
theorem tyX10_ok : ∀ k, k < 3 → parseFieldDescriptor (TX10 k).2.2.1 = some (tyX10 k) := by decide +kernel
theorem in_X10 : ∀ w ∈ wsX100, w ∈ lw_all := lw_in wsX100 [732, 734, 736] (by decide +kernel) (by decide +kernel)
def RX11 : String := "LinkTimes$Departure"
def TX11 : u_T := fun k => match k with
  | 0 => ("LinkTimes$Departure", "number", "I", true)
  | 1 => ("LinkTimes$Departure", "link", "I", true)
  | 2 => ("LinkTimes$Departure", "line", "I", true)
  | 3 => ("LinkTimes$Departure", "from", "I", true)
  | 4 => ("LinkTimes$Departure", "to", "I", true)
  | 5 => ("LinkTimes$Departure", "told", "I", true)
  | 6 => ("LinkTimes$Departure", "takes", "I", true)
  | 7 => ("LinkTimes$Departure", "delay", "I", false)
  | _ => ("LinkTimes$Departure", "runs", "Z", false)
def tyX11 : Nat → FieldType := fun k => match k with
  | 0 => .int
  | 1 => .int
  | 2 => .int
  | 3 => .int
  | 4 => .int
  | 5 => .int
  | 6 => .int
  | 7 => .int
  | _ => .boolean
abbrev wsX110 : List Cond := u_ws RX11 TX11 9
theorem nmX11 : ∀ a, a < 9 → ∀ b, b < 9 → a ≠ b → (TX11 a).2.1 ≠ (TX11 b).2.1 := by decide +kernel
theorem tyX11_ok : ∀ k, k < 9 → parseFieldDescriptor (TX11 k).2.2.1 = some (tyX11 k) := by decide +kernel
theorem in_X11 : ∀ w ∈ wsX110, w ∈ lw_all := lw_in wsX110 [872, 874, 876, 878, 880, 882, 884, 886, 888] (by decide +kernel) (by decide +kernel)
def RX14 : String := "LinkTimes$Act"
def TX14 : u_T := fun k => match k with
  | 0 => ("LinkTimes$Act", "what", "I", true)
  | 1 => ("LinkTimes$Act", "which", "I", true)
  | _ => ("LinkTimes$Act", "had", "I", true)
def tyX14 : Nat → FieldType := fun k => match k with
  | 0 => .int
  | 1 => .int
  | _ => .int
abbrev wsX140 : List Cond := u_ws RX14 TX14 3
theorem nmX14 : ∀ a, a < 3 → ∀ b, b < 3 → a ≠ b → (TX14 a).2.1 ≠ (TX14 b).2.1 := by decide +kernel
theorem tyX14_ok : ∀ k, k < 3 → parseFieldDescriptor (TX14 k).2.2.1 = some (tyX14 k) := by decide +kernel
theorem in_X14 : ∀ w ∈ wsX140, w ∈ lw_all := lw_in wsX140 [1649, 1651, 1653] (by decide +kernel) (by decide +kernel)
def RX8 : String := "LinkTimes$Flaw"
def TX8 : u_T := fun k => match k with
  | 0 => ("LinkTimes$Trouble", "kind", "I", true)
  | 1 => ("LinkTimes$Trouble", "place", "I", true)
  | 2 => ("java/lang/Throwable", "cause", "Ljava/lang/Throwable;", false)
  | 3 => ("java/lang/Throwable", "stackTrace", "[Ljava/lang/StackTraceElement;", false)
  | 4 => ("java/lang/Throwable", "suppressedExceptions", "Ljava/util/List;", false)
  | 5 => ("java/lang/Throwable", "detailMessage", "Ljava/lang/String;", false)
  | 6 => ("java/lang/Throwable", "backtrace", "Ljava/lang/Object;", false)
  | _ => ("java/lang/Throwable", "depth", "I", false)
def tyX8 : Nat → FieldType := fun k => match k with
  | 0 => .int
  | 1 => .int
  | 2 => .object "java/lang/Throwable"
  | 3 => .array (.object "java/lang/StackTraceElement")
  | 4 => .object "java/util/List"
  | 5 => .object "java/lang/String"
  | 6 => .object "java/lang/Object"
  | _ => .int
abbrev wsX80 : List Cond := u_ws RX8 TX8 8
theorem nmX8 : ∀ a, a < 8 → ∀ b, b < 8 → a ≠ b → (TX8 a).2.1 ≠ (TX8 b).2.1 := by decide +kernel
theorem tyX8_ok : ∀ k, k < 8 → parseFieldDescriptor (TX8 k).2.2.1 = some (tyX8 k) := by decide +kernel
theorem in_X8 : ∀ w ∈ wsX80, w ∈ lw_all := lw_in wsX80 [625, 627, 572, 574, 576, 578, 580, 633] (by decide +kernel) (by decide +kernel)
def RX9 : String := "LinkTimes$Full"
def TX9 : u_T := fun k => match k with
  | 0 => ("LinkTimes$Trouble", "kind", "I", true)
  | 1 => ("LinkTimes$Trouble", "place", "I", true)
  | 2 => ("java/lang/Throwable", "cause", "Ljava/lang/Throwable;", false)
  | 3 => ("java/lang/Throwable", "stackTrace", "[Ljava/lang/StackTraceElement;", false)
  | 4 => ("java/lang/Throwable", "suppressedExceptions", "Ljava/util/List;", false)
  | 5 => ("java/lang/Throwable", "detailMessage", "Ljava/lang/String;", false)
  | 6 => ("java/lang/Throwable", "backtrace", "Ljava/lang/Object;", false)
  | _ => ("java/lang/Throwable", "depth", "I", false)
def tyX9 : Nat → FieldType := fun k => match k with
  | 0 => .int
  | 1 => .int
  | 2 => .object "java/lang/Throwable"
  | 3 => .array (.object "java/lang/StackTraceElement")
  | 4 => .object "java/util/List"
  | 5 => .object "java/lang/String"
  | 6 => .object "java/lang/Object"
  | _ => .int
abbrev wsX90 : List Cond := u_ws RX9 TX9 8
theorem nmX9 : ∀ a, a < 8 → ∀ b, b < 8 → a ≠ b → (TX9 a).2.1 ≠ (TX9 b).2.1 := by decide +kernel
theorem tyX9_ok : ∀ k, k < 8 → parseFieldDescriptor (TX9 k).2.2.1 = some (tyX9 k) := by decide +kernel
theorem in_X9 : ∀ w ∈ wsX90, w ∈ lw_all := lw_in wsX90 [675, 676, 666, 667, 668, 669, 670, 677] (by decide +kernel) (by decide +kernel)
def RX12 : String := "LinkTimes$BadLine"
def TX12 : u_T := fun k => match k with
  | 0 => ("java/lang/Throwable", "cause", "Ljava/lang/Throwable;", false)
  | 1 => ("java/lang/Throwable", "stackTrace", "[Ljava/lang/StackTraceElement;", false)
  | 2 => ("java/lang/Throwable", "suppressedExceptions", "Ljava/util/List;", false)
  | 3 => ("java/lang/Throwable", "detailMessage", "Ljava/lang/String;", false)
  | 4 => ("java/lang/Throwable", "backtrace", "Ljava/lang/Object;", false)
  | _ => ("java/lang/Throwable", "depth", "I", false)
def tyX12 : Nat → FieldType := fun k => match k with
  | 0 => .object "java/lang/Throwable"
  | 1 => .array (.object "java/lang/StackTraceElement")
  | 2 => .object "java/util/List"
  | 3 => .object "java/lang/String"
  | 4 => .object "java/lang/Object"
  | _ => .int
abbrev wsX120 : List Cond := u_ws RX12 TX12 6
theorem nmX12 : ∀ a, a < 6 → ∀ b, b < 6 → a ≠ b → (TX12 a).2.1 ≠ (TX12 b).2.1 := by decide +kernel
theorem tyX12_ok : ∀ k, k < 6 → parseFieldDescriptor (TX12 k).2.2.1 = some (tyX12 k) := by decide +kernel
theorem in_X12 : ∀ w ∈ wsX120, w ∈ lw_all := lw_in wsX120 [895, 896, 897, 898, 899, 904] (by decide +kernel) (by decide +kernel)
def RX13 : String := "LinkTimes$NoWay"
def TX13 : u_T := fun k => match k with
  | 0 => ("java/lang/Throwable", "cause", "Ljava/lang/Throwable;", false)
  | 1 => ("java/lang/Throwable", "stackTrace", "[Ljava/lang/StackTraceElement;", false)
  | 2 => ("java/lang/Throwable", "suppressedExceptions", "Ljava/util/List;", false)
  | 3 => ("java/lang/Throwable", "detailMessage", "Ljava/lang/String;", false)
  | 4 => ("java/lang/Throwable", "backtrace", "Ljava/lang/Object;", false)
  | 5 => ("java/lang/Throwable", "depth", "I", false)
  | _ => ("LinkTimes$NoWay", "reason", "I", true)
def tyX13 : Nat → FieldType := fun k => match k with
  | 0 => .object "java/lang/Throwable"
  | 1 => .array (.object "java/lang/StackTraceElement")
  | 2 => .object "java/util/List"
  | 3 => .object "java/lang/String"
  | 4 => .object "java/lang/Object"
  | 5 => .int
  | _ => .int
abbrev wsX130 : List Cond := u_ws RX13 TX13 7
theorem nmX13 : ∀ a, a < 7 → ∀ b, b < 7 → a ≠ b → (TX13 a).2.1 ≠ (TX13 b).2.1 := by decide +kernel
theorem tyX13_ok : ∀ k, k < 7 → parseFieldDescriptor (TX13 k).2.2.1 = some (tyX13 k) := by decide +kernel
theorem in_X13 : ∀ w ∈ wsX130, w ∈ lw_all := lw_in wsX130 [1586, 1587, 1588, 1589, 1590, 1599, 1597] (by decide +kernel) (by decide +kernel)
def RX2 : String := "LinkTimes$ByLeaves"
def TX2 : u_T := fun _ => ("", "", "", false)
def tyX2 : Nat → FieldType := fun _ => .int
abbrev wsX20 : List Cond := u_ws RX2 TX2 0
theorem in_X2 : ∀ w ∈ wsX20, w ∈ lw_all := fun w h => by cases h
theorem nmX2 : ∀ a, a < 0 → ∀ b, b < 0 → a ≠ b → (TX2 a).2.1 ≠ (TX2 b).2.1 := fun a h => absurd h (Nat.not_lt_zero a)
theorem tyX2_ok : ∀ k, k < 0 → parseFieldDescriptor (TX2 k).2.2.1 = some (tyX2 k) := fun a h => absurd h (Nat.not_lt_zero a)
def RJ7 : String := "java/util/ArrayList"
def TJ7 : u_T := fun k => match k with
  | 0 => ("java/util/AbstractList", "modCount", "I", false)
  | 1 => ("java/util/ArrayList", "elementData", "[Ljava/lang/Object;", false)
  | _ => ("java/util/ArrayList", "size", "I", false)
def tyJ7 : Nat → FieldType := fun k => match k with
  | 0 => .int
  | 1 => .array (.object "java/lang/Object")
  | _ => .int
abbrev wsJ70 : List Cond := u_ws RJ7 TJ7 3
theorem nmJ7 : ∀ a, a < 3 → ∀ b, b < 3 → a ≠ b → (TJ7 a).2.1 ≠ (TJ7 b).2.1 := by decide +kernel
theorem tyJ7_ok : ∀ k, k < 3 → parseFieldDescriptor (TJ7 k).2.2.1 = some (tyJ7 k) := by decide +kernel
theorem in_J7 : ∀ w ∈ wsJ70, w ∈ lw_all := lw_in wsJ70 [414, 410, 412] (by decide +kernel) (by decide +kernel)
def RJ5 : String := "java/util/ArrayDeque"
def TJ5 : u_T := fun k => match k with
  | 0 => ("java/util/ArrayDeque", "elements", "[Ljava/lang/Object;", false)
  | 1 => ("java/util/ArrayDeque", "head", "I", false)
  | _ => ("java/util/ArrayDeque", "tail", "I", false)
def tyJ5 : Nat → FieldType := fun k => match k with
  | 0 => .array (.object "java/lang/Object")
  | 1 => .int
  | _ => .int
abbrev wsJ50 : List Cond := u_ws RJ5 TJ5 3
theorem nmJ5 : ∀ a, a < 3 → ∀ b, b < 3 → a ≠ b → (TJ5 a).2.1 ≠ (TJ5 b).2.1 := by decide +kernel
theorem tyJ5_ok : ∀ k, k < 3 → parseFieldDescriptor (TJ5 k).2.2.1 = some (tyJ5 k) := by decide +kernel
theorem in_J5 : ∀ w ∈ wsJ50, w ∈ lw_all := lw_in wsJ50 [250, 252, 254] (by decide +kernel) (by decide +kernel)
def RJ2 : String := "java/util/TreeSet"
def TJ2 : u_T := fun k => match k with
  | _ => ("java/util/TreeSet", "m", "Ljava/util/NavigableMap;", false)
def tyJ2 : Nat → FieldType := fun k => match k with
  | _ => .object "java/util/NavigableMap"
abbrev wsJ20 : List Cond := u_ws RJ2 TJ2 1
theorem nmJ2 : ∀ a, a < 1 → ∀ b, b < 1 → a ≠ b → (TJ2 a).2.1 ≠ (TJ2 b).2.1 := by decide +kernel
theorem tyJ2_ok : ∀ k, k < 1 → parseFieldDescriptor (TJ2 k).2.2.1 = some (tyJ2 k) := by decide +kernel
theorem in_J2 : ∀ w ∈ wsJ20, w ∈ lw_all := lw_in wsJ20 [235] (by decide +kernel) (by decide +kernel)
def RJ4 : String := "java/util/TreeMap"
def TJ4 : u_T := fun k => match k with
  | 0 => ("java/util/AbstractMap", "keySet", "Ljava/util/Set;", false)
  | 1 => ("java/util/AbstractMap", "values", "Ljava/util/Collection;", false)
  | 2 => ("java/util/TreeMap", "comparator", "Ljava/util/Comparator;", true)
  | 3 => ("java/util/TreeMap", "root", "Ljava/util/TreeMap$Entry;", false)
  | 4 => ("java/util/TreeMap", "size", "I", false)
  | 5 => ("java/util/TreeMap", "modCount", "I", false)
  | 6 => ("java/util/TreeMap", "entrySet", "Ljava/util/TreeMap$EntrySet;", false)
  | 7 => ("java/util/TreeMap", "navigableKeySet", "Ljava/util/TreeMap$KeySet;", false)
  | _ => ("java/util/TreeMap", "descendingMap", "Ljava/util/NavigableMap;", false)
def tyJ4 : Nat → FieldType := fun k => match k with
  | 0 => .object "java/util/Set"
  | 1 => .object "java/util/Collection"
  | 2 => .object "java/util/Comparator"
  | 3 => .object "java/util/TreeMap$Entry"
  | 4 => .int
  | 5 => .int
  | 6 => .object "java/util/TreeMap$EntrySet"
  | 7 => .object "java/util/TreeMap$KeySet"
  | _ => .object "java/util/NavigableMap"
abbrev wsJ40 : List Cond := u_ws RJ4 TJ4 9
theorem nmJ4 : ∀ a, a < 9 → ∀ b, b < 9 → a ≠ b → (TJ4 a).2.1 ≠ (TJ4 b).2.1 := by decide +kernel
theorem tyJ4_ok : ∀ k, k < 9 → parseFieldDescriptor (TJ4 k).2.2.1 = some (tyJ4 k) := by decide +kernel
theorem in_J4 : ∀ w ∈ wsJ40, w ∈ lw_all := lw_in wsJ40 [219, 221, 205, 207, 209, 211, 213, 215, 217] (by decide +kernel) (by decide +kernel)
def RJ22 : String := "java/util/TreeMap$Entry"
def TJ22 : u_T := fun k => match k with
  | 0 => ("java/util/TreeMap$Entry", "key", "Ljava/lang/Object;", false)
  | 1 => ("java/util/TreeMap$Entry", "value", "Ljava/lang/Object;", false)
  | 2 => ("java/util/TreeMap$Entry", "left", "Ljava/util/TreeMap$Entry;", false)
  | 3 => ("java/util/TreeMap$Entry", "right", "Ljava/util/TreeMap$Entry;", false)
  | 4 => ("java/util/TreeMap$Entry", "parent", "Ljava/util/TreeMap$Entry;", false)
  | _ => ("java/util/TreeMap$Entry", "color", "Z", false)
def tyJ22 : Nat → FieldType := fun k => match k with
  | 0 => .object "java/lang/Object"
  | 1 => .object "java/lang/Object"
  | 2 => .object "java/util/TreeMap$Entry"
  | 3 => .object "java/util/TreeMap$Entry"
  | 4 => .object "java/util/TreeMap$Entry"
  | _ => .boolean
abbrev wsJ220 : List Cond := u_ws RJ22 TJ22 6
theorem nmJ22 : ∀ a, a < 6 → ∀ b, b < 6 → a ≠ b → (TJ22 a).2.1 ≠ (TJ22 b).2.1 := by decide +kernel
theorem tyJ22_ok : ∀ k, k < 6 → parseFieldDescriptor (TJ22 k).2.2.1 = some (tyJ22 k) := by decide +kernel
theorem in_J22 : ∀ w ∈ wsJ220, w ∈ lw_all := lw_in wsJ220 [1164, 1166, 1168, 1170, 1172, 1174] (by decide +kernel) (by decide +kernel)
def RJ19 : String := "java/lang/Long"
def TJ19 : u_T := fun k => match k with
  | _ => ("java/lang/Long", "value", "J", true)
def tyJ19 : Nat → FieldType := fun k => match k with
  | _ => .long
abbrev wsJ190 : List Cond := u_ws RJ19 TJ19 1
theorem nmJ19 : ∀ a, a < 1 → ∀ b, b < 1 → a ≠ b → (TJ19 a).2.1 ≠ (TJ19 b).2.1 := by decide +kernel
theorem tyJ19_ok : ∀ k, k < 1 → parseFieldDescriptor (TJ19 k).2.2.1 = some (tyJ19 k) := by decide +kernel
theorem in_J19 : ∀ w ∈ wsJ190, w ∈ lw_all := lw_in wsJ190 [827] (by decide +kernel) (by decide +kernel)
def RJ24 : String := "java/util/NoSuchElementException"
def TJ24 : u_T := fun k => match k with
  | 0 => ("java/lang/Throwable", "cause", "Ljava/lang/Throwable;", false)
  | 1 => ("java/lang/Throwable", "stackTrace", "[Ljava/lang/StackTraceElement;", false)
  | 2 => ("java/lang/Throwable", "suppressedExceptions", "Ljava/util/List;", false)
  | 3 => ("java/lang/Throwable", "detailMessage", "Ljava/lang/String;", false)
  | 4 => ("java/lang/Throwable", "backtrace", "Ljava/lang/Object;", false)
  | _ => ("java/lang/Throwable", "depth", "I", false)
def tyJ24 : Nat → FieldType := fun k => match k with
  | 0 => .object "java/lang/Throwable"
  | 1 => .array (.object "java/lang/StackTraceElement")
  | 2 => .object "java/util/List"
  | 3 => .object "java/lang/String"
  | 4 => .object "java/lang/Object"
  | _ => .int
abbrev wsJ240 : List Cond := u_ws RJ24 TJ24 6
theorem nmJ24 : ∀ a, a < 6 → ∀ b, b < 6 → a ≠ b → (TJ24 a).2.1 ≠ (TJ24 b).2.1 := by decide +kernel
theorem tyJ24_ok : ∀ k, k < 6 → parseFieldDescriptor (TJ24 k).2.2.1 = some (tyJ24 k) := by decide +kernel
theorem in_J24 : ∀ w ∈ wsJ240, w ∈ lw_all := lw_in wsJ240 [1293, 1294, 1295, 1296, 1297, 1308] (by decide +kernel) (by decide +kernel)
def RJ12 : String := "java/lang/Throwable"
def TJ12 : u_T := fun k => match k with
  | 0 => ("java/lang/Throwable", "cause", "Ljava/lang/Throwable;", false)
  | 1 => ("java/lang/Throwable", "stackTrace", "[Ljava/lang/StackTraceElement;", false)
  | 2 => ("java/lang/Throwable", "suppressedExceptions", "Ljava/util/List;", false)
  | 3 => ("java/lang/Throwable", "detailMessage", "Ljava/lang/String;", false)
  | _ => ("java/lang/Throwable", "backtrace", "Ljava/lang/Object;", false)
def tyJ12 : Nat → FieldType := fun k => match k with
  | 0 => .object "java/lang/Throwable"
  | 1 => .array (.object "java/lang/StackTraceElement")
  | 2 => .object "java/util/List"
  | 3 => .object "java/lang/String"
  | _ => .object "java/lang/Object"
abbrev wsJ120 : List Cond := u_ws RJ12 TJ12 5
theorem nmJ12 : ∀ a, a < 5 → ∀ b, b < 5 → a ≠ b → (TJ12 a).2.1 ≠ (TJ12 b).2.1 := by decide +kernel
theorem tyJ12_ok : ∀ k, k < 5 → parseFieldDescriptor (TJ12 k).2.2.1 = some (tyJ12 k) := by decide +kernel
theorem in_J12 : ∀ w ∈ wsJ120, w ∈ lw_all := lw_in wsJ120 [573, 575, 577, 579, 581] (by decide +kernel) (by decide +kernel)
abbrev zcl : List vw_C := [(RX1, TX1, 19), (RX3, TX3, 9), (RX4, TX4, 42), (RX5, TX5, 8), (RX6, TX6, 5), (RX10, TX10, 3), (RX11, TX11, 9), (RX14, TX14, 3), (RX8, TX8, 8), (RX9, TX9, 8), (RX12, TX12, 6), (RX13, TX13, 7), (RX2, TX2, 0), (RJ7, TJ7, 3), (RJ5, TJ5, 3), (RJ2, TJ2, 1), (RJ4, TJ4, 9), (RJ22, TJ22, 6), (RJ19, TJ19, 1), (RJ24, TJ24, 0), (RJ12, TJ12, 5)]
def zty : Nat → Nat → FieldType := fun c => match c with
  | 0 => tyX1
  | 1 => tyX3
  | 2 => tyX4
  | 3 => tyX5
  | 4 => tyX6
  | 5 => tyX10
  | 6 => tyX11
  | 7 => tyX14
  | 8 => tyX8
  | 9 => tyX9
  | 10 => tyX12
  | 11 => tyX13
  | 12 => tyX2
  | 13 => tyJ7
  | 14 => tyJ5
  | 15 => tyJ2
  | 16 => tyJ4
  | 17 => tyJ22
  | 18 => tyJ19
  | 19 => tyJ24
  | 20 => tyJ12
  | _ => fun _ => .int
/-- String constants: class, entry, text, number of the text -/
def zstrs : List (String × Nat × String × Nat) := [("LinkTimes$Reader", 102, "desk", 0), ("LinkTimes$Reader", 149, "span", 4), ("LinkTimes$Reader", 104, "spot", 1), ("LinkTimes$Reader", 106, "line", 2), ("LinkTimes$Reader", 108, "link", 3), ("LinkTimes$Reader", 167, "change", 5), ("LinkTimes$Reader", 171, "wait", 6), ("LinkTimes$Reader", 195, "from", 7), ("LinkTimes$Reader", 196, "till", 8), ("LinkTimes$Reader", 198, "every", 9), ("LinkTimes$Reader", 203, "takes", 10), ("LinkTimesModel", 148, "desk", 0), ("LinkTimesModel", 170, "span", 4), ("LinkTimesModel", 150, "spot", 1), ("LinkTimesModel", 151, "line", 2), ("LinkTimesModel", 153, "link", 3), ("LinkTimesModel", 184, "change", 5), ("LinkTimesModel", 186, "wait", 6), ("LinkTimesModel", 195, "from", 7), ("LinkTimesModel", 200, "till", 8), ("LinkTimesModel", 202, "every", 9), ("LinkTimesModel", 204, "takes", 10)]
def zslen : List Nat := [4, 4, 4, 4, 4, 6, 4, 4, 4, 5, 5]
def zsbyt : List (List Int32) := [[100, 101, 115, 107], [115, 112, 111, 116], [108, 105, 110, 101], [108, 105, 110, 107], [115, 112, 97, 110], [99, 104, 97, 110, 103, 101], [119, 97, 105, 116], [102, 114, 111, 109], [116, 105, 108, 108], [101, 118, 101, 114, 121], [116, 97, 107, 101, 115]]
