set_option maxRecDepth 100000
def RX0 : String := "LassoFinderLaw"
def RX1 : String := "LassoFinder"
def TX1 : u_T := fun k => match k with
  | 0 => ("LassoFinder", "text", "Ljava/lang/StringBuilder;", true)
  | 1 => ("LassoFinder", "model", "LLassoFinder$Model;", true)
  | 2 => ("LassoFinder", "models", "LLassoFinder$ModelReader;", true)
  | 3 => ("LassoFinder", "formulas", "LLassoFinder$FormulaReader;", true)
  | 4 => ("LassoFinder", "search", "LLassoFinder$Search;", true)
  | 5 => ("LassoFinder", "asked", "LLassoFinder$Formula;", false)
  | 6 => ("LassoFinder", "modelled", "Z", false)
  | 7 => ("LassoFinder", "found", "Z", false)
  | 8 => ("LassoFinder", "wrong", "I", false)
  | 9 => ("LassoFinder", "walked", "[I", true)
  | 10 => ("LassoFinder", "done", "I", false)
  | _ => ("LassoFinder", "now", "LLassoFinder$Moment;", true)
def tyX1 : Nat → FieldType := fun k => match k with
  | 0 => .object "java/lang/StringBuilder"
  | 1 => .object "LassoFinder$Model"
  | 2 => .object "LassoFinder$ModelReader"
  | 3 => .object "LassoFinder$FormulaReader"
  | 4 => .object "LassoFinder$Search"
  | 5 => .object "LassoFinder$Formula"
  | 6 => .boolean
  | 7 => .boolean
  | 8 => .int
  | 9 => .array .int
  | 10 => .int
  | _ => .object "LassoFinder$Moment"
abbrev wsX10 : List Cond := u_ws RX1 TX1 12
theorem nmX1 : ∀ a, a < 12 → ∀ b, b < 12 → a ≠ b → (TX1 a).2.1 ≠ (TX1 b).2.1 := by decide +kernel
theorem tyX1_ok : ∀ k, k < 12 → parseFieldDescriptor (TX1 k).2.2.1 = some (tyX1 k) := by decide +kernel
theorem in_X1 : ∀ w ∈ wsX10, w ∈ lw_all := lw_in wsX10 [853, 855, 857, 859, 861, 863, 865, 867, 869, 871, 873, 875] (by decide +kernel) (by decide +kernel)
def RJ0 : String := "java/lang/AbstractStringBuilder"
def RJ1 : String := "java/lang/StringBuilder"
def TJ1 : u_T := fun k => match k with
  | 0 => ("java/lang/AbstractStringBuilder", "value", "[B", false)
  | 1 => ("java/lang/AbstractStringBuilder", "coder", "B", false)
  | 2 => ("java/lang/AbstractStringBuilder", "maybeLatin1", "Z", false)
  | _ => ("java/lang/AbstractStringBuilder", "count", "I", false)
def tyJ1 : Nat → FieldType := fun k => match k with
  | 0 => .array .byte
  | 1 => .byte
  | 2 => .boolean
  | _ => .int
abbrev wsJ10 : List Cond := u_ws RJ1 TJ1 4
theorem nmJ1 : ∀ a, a < 4 → ∀ b, b < 4 → a ≠ b → (TJ1 a).2.1 ≠ (TJ1 b).2.1 := by decide +kernel
theorem tyJ1_ok : ∀ k, k < 4 → parseFieldDescriptor (TJ1 k).2.2.1 = some (tyJ1 k) := by decide +kernel
theorem in_J1 : ∀ w ∈ wsJ10, w ∈ lw_all := lw_in wsJ10 [177, 179, 181, 183] (by decide +kernel) (by decide +kernel)
def RJ2 : String := "java/lang/String"
def TJ2 : u_T := fun k => match k with
  | 0 => ("java/lang/String", "value", "[B", true)
  | 1 => ("java/lang/String", "coder", "B", true)
  | 2 => ("java/lang/String", "hash", "I", false)
  | _ => ("java/lang/String", "hashIsZero", "Z", false)
def tyJ2 : Nat → FieldType := fun k => match k with
  | 0 => .array .byte
  | 1 => .byte
  | 2 => .int
  | _ => .boolean
abbrev wsJ20 : List Cond := u_ws RJ2 TJ2 4
theorem nmJ2 : ∀ a, a < 4 → ∀ b, b < 4 → a ≠ b → (TJ2 a).2.1 ≠ (TJ2 b).2.1 := by decide +kernel
theorem tyJ2_ok : ∀ k, k < 4 → parseFieldDescriptor (TJ2 k).2.2.1 = some (tyJ2 k) := by decide +kernel
theorem in_J2 : ∀ w ∈ wsJ20, w ∈ lw_all := lw_in wsJ20 [664, 666, 668, 670] (by decide +kernel) (by decide +kernel)
def RJ3 : String := "java/lang/StringUTF16"
def RX2 : String := "LassoFinder$Model"
def TX2 : u_T := fun k => match k with
  | 0 => ("LassoFinder$Model", "sorts", "[I", true)
  | 1 => ("LassoFinder$Model", "firsts", "[I", true)
  | 2 => ("LassoFinder$Model", "variables", "I", false)
  | 3 => ("LassoFinder$Model", "channels", "I", false)
  | 4 => ("LassoFinder$Model", "processes", "I", false)
  | 5 => ("LassoFinder$Model", "basics", "I", false)
  | 6 => ("LassoFinder$Model", "routines", "[LLassoFinder$Routine;", true)
  | 7 => ("LassoFinder$Model", "statements", "[LLassoFinder$Statement;", true)
  | 8 => ("LassoFinder$Model", "owners", "[I", true)
  | 9 => ("LassoFinder$Model", "goals", "[I", true)
  | 10 => ("LassoFinder$Model", "holds", "[Z", true)
  | 11 => ("LassoFinder$Model", "here", "LLassoFinder$Moment;", true)
  | 12 => ("LassoFinder$Model", "next", "LLassoFinder$Moment;", true)
  | 13 => ("LassoFinder$Model", "states", "[J", true)
  | 14 => ("LassoFinder$Model", "table", "[I", true)
  | 15 => ("LassoFinder$Model", "heads", "[I", true)
  | 16 => ("LassoFinder$Model", "from", "[I", true)
  | 17 => ("LassoFinder$Model", "to", "[I", true)
  | 18 => ("LassoFinder$Model", "by", "[I", true)
  | 19 => ("LassoFinder$Model", "with", "[I", true)
  | 20 => ("LassoFinder$Model", "many", "I", false)
  | _ => ("LassoFinder$Model", "made", "I", false)
def tyX2 : Nat → FieldType := fun k => match k with
  | 0 => .array .int
  | 1 => .array .int
  | 2 => .int
  | 3 => .int
  | 4 => .int
  | 5 => .int
  | 6 => .array (.object "LassoFinder$Routine")
  | 7 => .array (.object "LassoFinder$Statement")
  | 8 => .array .int
  | 9 => .array .int
  | 10 => .array .boolean
  | 11 => .object "LassoFinder$Moment"
  | 12 => .object "LassoFinder$Moment"
  | 13 => .array .long
  | 14 => .array .int
  | 15 => .array .int
  | 16 => .array .int
  | 17 => .array .int
  | 18 => .array .int
  | 19 => .array .int
  | 20 => .int
  | _ => .int
abbrev wsX20 : List Cond := u_ws RX2 TX2 22
theorem nmX2 : ∀ a, a < 22 → ∀ b, b < 22 → a ≠ b → (TX2 a).2.1 ≠ (TX2 b).2.1 := by decide +kernel
theorem tyX2_ok : ∀ k, k < 22 → parseFieldDescriptor (TX2 k).2.2.1 = some (tyX2 k) := by decide +kernel
theorem in_X2 : ∀ w ∈ wsX20, w ∈ lw_all := lw_in wsX20 [318, 320, 322, 324, 326, 328, 330, 332, 334, 336, 338, 340, 342, 344, 346, 348, 350, 352, 354, 356, 358, 360] (by decide +kernel) (by decide +kernel)
def RX3 : String := "LassoFinder$Moment"
def TX3 : u_T := fun k => match k with
  | 0 => ("LassoFinder$Moment", "numbers", "[I", true)
  | 1 => ("LassoFinder$Moment", "queues", "[[I", true)
  | 2 => ("LassoFinder$Moment", "points", "[I", true)
  | _ => ("LassoFinder$Moment", "held", "I", false)
def tyX3 : Nat → FieldType := fun k => match k with
  | 0 => .array .int
  | 1 => .array (.array .int)
  | 2 => .array .int
  | _ => .int
abbrev wsX30 : List Cond := u_ws RX3 TX3 4
theorem nmX3 : ∀ a, a < 4 → ∀ b, b < 4 → a ≠ b → (TX3 a).2.1 ≠ (TX3 b).2.1 := by decide +kernel
theorem tyX3_ok : ∀ k, k < 4 → parseFieldDescriptor (TX3 k).2.2.1 = some (tyX3 k) := by decide +kernel
theorem in_X3 : ∀ w ∈ wsX30, w ∈ lw_all := lw_in wsX30 [219, 221, 223, 225] (by decide +kernel) (by decide +kernel)
def RX4 : String := "LassoFinder$Routine"
def TX4 : u_T := fun k => match k with
  | 0 => ("LassoFinder$Routine", "first", "LLassoFinder$Statement;", false)
  | 1 => ("LassoFinder$Routine", "points", "I", false)
  | 2 => ("LassoFinder$Routine", "start", "I", false)
  | 3 => ("LassoFinder$Routine", "set", "I", false)
  | 4 => ("LassoFinder$Routine", "labels", "[LLassoFinder$Statement;", true)
  | 5 => ("LassoFinder$Routine", "marks", "[I", true)
  | _ => ("LassoFinder$Routine", "basics", "[J", true)
def tyX4 : Nat → FieldType := fun k => match k with
  | 0 => .object "LassoFinder$Statement"
  | 1 => .int
  | 2 => .int
  | 3 => .int
  | 4 => .array (.object "LassoFinder$Statement")
  | 5 => .array .int
  | _ => .array .long
abbrev wsX40 : List Cond := u_ws RX4 TX4 7
theorem nmX4 : ∀ a, a < 7 → ∀ b, b < 7 → a ≠ b → (TX4 a).2.1 ≠ (TX4 b).2.1 := by decide +kernel
theorem tyX4_ok : ∀ k, k < 7 → parseFieldDescriptor (TX4 k).2.2.1 = some (tyX4 k) := by decide +kernel
theorem in_X4 : ∀ w ∈ wsX40, w ∈ lw_all := lw_in wsX40 [252, 254, 256, 258, 260, 262, 264] (by decide +kernel) (by decide +kernel)
def RX5 : String := "LassoFinder$Reader"
def RX6 : String := "LassoFinder$ModelReader"
def TX6 : u_T := fun k => match k with
  | 0 => ("LassoFinder$Reader", "model", "LLassoFinder$Model;", true)
  | 1 => ("LassoFinder$Reader", "text", "Ljava/lang/String;", false)
  | 2 => ("LassoFinder$Reader", "at", "I", false)
  | 3 => ("LassoFinder$Reader", "round", "I", false)
  | 4 => ("LassoFinder$Reader", "parts", "I", false)
  | 5 => ("LassoFinder$ModelReader", "pool", "Ljava/util/ArrayList;", true)
  | 6 => ("LassoFinder$ModelReader", "used", "I", false)
  | _ => ("LassoFinder$ModelReader", "routine", "LLassoFinder$Routine;", false)
def tyX6 : Nat → FieldType := fun k => match k with
  | 0 => .object "LassoFinder$Model"
  | 1 => .object "java/lang/String"
  | 2 => .int
  | 3 => .int
  | 4 => .int
  | 5 => .object "java/util/ArrayList"
  | 6 => .int
  | _ => .object "LassoFinder$Routine"
abbrev wsX60 : List Cond := u_ws RX6 TX6 8
theorem nmX6 : ∀ a, a < 8 → ∀ b, b < 8 → a ≠ b → (TX6 a).2.1 ≠ (TX6 b).2.1 := by decide +kernel
theorem tyX6_ok : ∀ k, k < 8 → parseFieldDescriptor (TX6 k).2.2.1 = some (tyX6 k) := by decide +kernel
theorem in_X6 : ∀ w ∈ wsX60, w ∈ lw_all := lw_in wsX60 [714, 716, 718, 720, 722, 708, 710, 712] (by decide +kernel) (by decide +kernel)
def RJ4 : String := "java/util/AbstractCollection"
def RJ5 : String := "java/util/AbstractList"
def RJ6 : String := "java/util/ArrayList"
def TJ6 : u_T := fun k => match k with
  | 0 => ("java/util/AbstractList", "modCount", "I", false)
  | 1 => ("java/util/ArrayList", "elementData", "[Ljava/lang/Object;", false)
  | _ => ("java/util/ArrayList", "size", "I", false)
def tyJ6 : Nat → FieldType := fun k => match k with
  | 0 => .int
  | 1 => .array (.object "java/lang/Object")
  | _ => .int
abbrev wsJ60 : List Cond := u_ws RJ6 TJ6 3
theorem nmJ6 : ∀ a, a < 3 → ∀ b, b < 3 → a ≠ b → (TJ6 a).2.1 ≠ (TJ6 b).2.1 := by decide +kernel
theorem tyJ6_ok : ∀ k, k < 3 → parseFieldDescriptor (TJ6 k).2.2.1 = some (tyJ6 k) := by decide +kernel
theorem in_J6 : ∀ w ∈ wsJ60, w ∈ lw_all := lw_in wsJ60 [683, 679, 681] (by decide +kernel) (by decide +kernel)
def RJ7 : String := "java/lang/Throwable"
def RJ8 : String := "java/lang/Exception"
def RJ9 : String := "java/lang/RuntimeException"
def RJ10 : String := "java/lang/IllegalArgumentException"
def RJ11 : String := "jdk/internal/util/ArraysSupport"
def RJ12 : String := "java/lang/Math"
def RJ13 : String := "java/util/Arrays"
def RJ14 : String := "jdk/internal/util/Preconditions"
def RJ15 : String := "java/lang/StringLatin1"
def RJ16 : String := "java/lang/Integer"
def RX7 : String := "LassoFinder$FormulaReader"
def TX7 : u_T := fun k => match k with
  | 0 => ("LassoFinder$Reader", "model", "LLassoFinder$Model;", true)
  | 1 => ("LassoFinder$Reader", "text", "Ljava/lang/String;", false)
  | 2 => ("LassoFinder$Reader", "at", "I", false)
  | 3 => ("LassoFinder$Reader", "round", "I", false)
  | 4 => ("LassoFinder$Reader", "parts", "I", false)
  | 5 => ("LassoFinder$FormulaReader", "temporals", "[LLassoFinder$Temporal;", true)
  | 6 => ("LassoFinder$FormulaReader", "claims", "[LLassoFinder$Claim;", true)
  | 7 => ("LassoFinder$FormulaReader", "said", "I", false)
  | 8 => ("LassoFinder$FormulaReader", "asked", "I", false)
  | _ => ("LassoFinder$FormulaReader", "begun", "I", false)
def tyX7 : Nat → FieldType := fun k => match k with
  | 0 => .object "LassoFinder$Model"
  | 1 => .object "java/lang/String"
  | 2 => .int
  | 3 => .int
  | 4 => .int
  | 5 => .array (.object "LassoFinder$Temporal")
  | 6 => .array (.object "LassoFinder$Claim")
  | 7 => .int
  | 8 => .int
  | _ => .int
abbrev wsX70 : List Cond := u_ws RX7 TX7 10
theorem nmX7 : ∀ a, a < 10 → ∀ b, b < 10 → a ≠ b → (TX7 a).2.1 ≠ (TX7 b).2.1 := by decide +kernel
theorem tyX7_ok : ∀ k, k < 10 → parseFieldDescriptor (TX7 k).2.2.1 = some (tyX7 k) := by decide +kernel
theorem in_X7 : ∀ w ∈ wsX70, w ∈ lw_all := lw_in wsX70 [753, 754, 755, 756, 757, 743, 745, 747, 749, 751] (by decide +kernel) (by decide +kernel)
def RX8 : String := "LassoFinder$Search"
def TX8 : u_T := fun k => match k with
  | 0 => ("LassoFinder$Search", "model", "LLassoFinder$Model;", true)
  | 1 => ("LassoFinder$Search", "said", "LLassoFinder$FormulaReader;", true)
  | 2 => ("LassoFinder$Search", "props", "[I", true)
  | 3 => ("LassoFinder$Search", "back", "[I", true)
  | 4 => ("LassoFinder$Search", "rests", "[I", true)
  | 5 => ("LassoFinder$Search", "into", "[I", true)
  | 6 => ("LassoFinder$Search", "other", "[I", true)
  | 7 => ("LassoFinder$Search", "order", "[I", true)
  | 8 => ("LassoFinder$Search", "low", "[I", true)
  | 9 => ("LassoFinder$Search", "cursor", "[I", true)
  | 10 => ("LassoFinder$Search", "stack", "[I", true)
  | 11 => ("LassoFinder$Search", "path", "[I", true)
  | 12 => ("LassoFinder$Search", "open", "[Z", true)
  | 13 => ("LassoFinder$Search", "clock", "I", false)
  | 14 => ("LassoFinder$Search", "height", "I", false)
  | 15 => ("LassoFinder$Search", "far", "[I", true)
  | 16 => ("LassoFinder$Search", "round", "[I", true)
  | 17 => ("LassoFinder$Search", "queue", "[I", true)
  | 18 => ("LassoFinder$Search", "stem", "[I", true)
  | 19 => ("LassoFinder$Search", "cycle", "[I", true)
  | 20 => ("LassoFinder$Search", "trial", "[I", true)
  | 21 => ("LassoFinder$Search", "stems", "I", false)
  | _ => ("LassoFinder$Search", "cycles", "I", false)
def tyX8 : Nat → FieldType := fun k => match k with
  | 0 => .object "LassoFinder$Model"
  | 1 => .object "LassoFinder$FormulaReader"
  | 2 => .array .int
  | 3 => .array .int
  | 4 => .array .int
  | 5 => .array .int
  | 6 => .array .int
  | 7 => .array .int
  | 8 => .array .int
  | 9 => .array .int
  | 10 => .array .int
  | 11 => .array .int
  | 12 => .array .boolean
  | 13 => .int
  | 14 => .int
  | 15 => .array .int
  | 16 => .array .int
  | 17 => .array .int
  | 18 => .array .int
  | 19 => .array .int
  | 20 => .array .int
  | 21 => .int
  | _ => .int
abbrev wsX80 : List Cond := u_ws RX8 TX8 23
theorem nmX8 : ∀ a, a < 23 → ∀ b, b < 23 → a ≠ b → (TX8 a).2.1 ≠ (TX8 b).2.1 := by decide +kernel
theorem tyX8_ok : ∀ k, k < 23 → parseFieldDescriptor (TX8 k).2.2.1 = some (tyX8 k) := by decide +kernel
theorem in_X8 : ∀ w ∈ wsX80, w ∈ lw_all := lw_in wsX80 [792, 794, 796, 798, 800, 802, 804, 806, 808, 810, 812, 814, 816, 818, 820, 822, 824, 826, 828, 830, 832, 834, 836] (by decide +kernel) (by decide +kernel)
def RX9 : String := "LassoFinderModel"
def TX9 : u_T := fun k => match k with
  | 0 => ("LassoFinderModel", "thrown", "I", false)
  | 1 => ("LassoFinderModel", "length", "I", false)
  | 2 => ("LassoFinderModel", "text", "[I", true)
  | 3 => ("LassoFinderModel", "at", "I", false)
  | 4 => ("LassoFinderModel", "bad", "I", false)
  | 5 => ("LassoFinderModel", "place", "I", false)
  | 6 => ("LassoFinderModel", "there", "Z", false)
  | 7 => ("LassoFinderModel", "vars", "I", false)
  | 8 => ("LassoFinderModel", "chans", "I", false)
  | 9 => ("LassoFinderModel", "var", "[I", true)
  | 10 => ("LassoFinderModel", "chan", "[I", true)
  | 11 => ("LassoFinderModel", "initial", "[I", true)
  | 12 => ("LassoFinderModel", "slots", "[I", true)
  | 13 => ("LassoFinderModel", "nodes", "I", false)
  | 14 => ("LassoFinderModel", "kind", "[I", true)
  | 15 => ("LassoFinderModel", "process", "[I", true)
  | 16 => ("LassoFinderModel", "parent", "[I", true)
  | 17 => ("LassoFinderModel", "sibling", "[I", true)
  | 18 => ("LassoFinderModel", "firstOf", "[Z", true)
  | 19 => ("LassoFinderModel", "atomic", "[I", true)
  | 20 => ("LassoFinderModel", "point", "[I", true)
  | 21 => ("LassoFinderModel", "arg", "[I", true)
  | 22 => ("LassoFinderModel", "into", "[I", true)
  | 23 => ("LassoFinderModel", "begin", "[I", true)
  | 24 => ("LassoFinderModel", "end", "[I", true)
  | 25 => ("LassoFinderModel", "where", "[I", true)
  | 26 => ("LassoFinderModel", "behind", "[I", true)
  | 27 => ("LassoFinderModel", "basics", "I", false)
  | 28 => ("LassoFinderModel", "basicNode", "[I", true)
  | 29 => ("LassoFinderModel", "basicOf", "[I", true)
  | 30 => ("LassoFinderModel", "processes", "I", false)
  | 31 => ("LassoFinderModel", "points", "[I", true)
  | 32 => ("LassoFinderModel", "firstNode", "[I", true)
  | 33 => ("LassoFinderModel", "labels", "[I", true)
  | 34 => ("LassoFinderModel", "nodeAt", "[I", true)
  | 35 => ("LassoFinderModel", "mask", "[J", true)
  | 36 => ("LassoFinderModel", "codes", "I", false)
  | 37 => ("LassoFinderModel", "code", "[I", true)
  | 38 => ("LassoFinderModel", "open", "I", false)
  | 39 => ("LassoFinderModel", "block", "[I", true)
  | 40 => ("LassoFinderModel", "blockNode", "[I", true)
  | 41 => ("LassoFinderModel", "latest", "[I", true)
  | 42 => ("LassoFinderModel", "waiting", "I", false)
  | 43 => ("LassoFinderModel", "signs", "[I", true)
  | 44 => ("LassoFinderModel", "states", "I", false)
  | 45 => ("LassoFinderModel", "steps", "I", false)
  | 46 => ("LassoFinderModel", "over", "Z", false)
  | 47 => ("LassoFinderModel", "key", "[J", true)
  | 48 => ("LassoFinderModel", "first", "[I", true)
  | 49 => ("LassoFinderModel", "target", "[I", true)
  | 50 => ("LassoFinderModel", "source", "[I", true)
  | 51 => ("LassoFinderModel", "doer", "[I", true)
  | 52 => ("LassoFinderModel", "receiver", "[I", true)
  | 53 => ("LassoFinderModel", "firstInto", "[I", true)
  | 54 => ("LassoFinderModel", "stepInto", "[I", true)
  | 55 => ("LassoFinderModel", "value", "[I", true)
  | 56 => ("LassoFinderModel", "many", "[I", true)
  | 57 => ("LassoFinderModel", "message", "[I", true)
  | 58 => ("LassoFinderModel", "stands", "[I", true)
  | 59 => ("LassoFinderModel", "holds", "I", false)
  | 60 => ("LassoFinderModel", "stack", "[I", true)
  | 61 => ("LassoFinderModel", "asked", "Z", false)
  | 62 => ("LassoFinderModel", "size", "I", false)
  | 63 => ("LassoFinderModel", "sign", "[I", true)
  | 64 => ("LassoFinderModel", "turns", "I", false)
  | 65 => ("LassoFinderModel", "met", "I", false)
  | 66 => ("LassoFinderModel", "kept", "[I", true)
  | 67 => ("LassoFinderModel", "modelCodes", "I", false)
  | 68 => ("LassoFinderModel", "turn", "[I", true)
  | 69 => ("LassoFinderModel", "atoms", "I", false)
  | 70 => ("LassoFinderModel", "atomProcess", "[I", true)
  | 71 => ("LassoFinderModel", "atomPoint", "[I", true)
  | 72 => ("LassoFinderModel", "atomBegin", "[I", true)
  | 73 => ("LassoFinderModel", "atomEnd", "[I", true)
  | 74 => ("LassoFinderModel", "look", "[I", true)
  | 75 => ("LassoFinderModel", "deep", "[I", true)
  | 76 => ("LassoFinderModel", "good", "[Z", true)
  | 77 => ("LassoFinderModel", "far", "[I", true)
  | 78 => ("LassoFinderModel", "stem", "I", false)
  | 79 => ("LassoFinderModel", "cycle", "I", false)
  | 80 => ("LassoFinderModel", "row", "[I", true)
  | 81 => ("LassoFinderModel", "tried", "[I", true)
  | 82 => ("LassoFinderModel", "walked", "I", false)
  | _ => ("LassoFinderModel", "path", "[I", true)
def tyX9 : Nat → FieldType := fun k => match k with
  | 0 => .int
  | 1 => .int
  | 2 => .array .int
  | 3 => .int
  | 4 => .int
  | 5 => .int
  | 6 => .boolean
  | 7 => .int
  | 8 => .int
  | 9 => .array .int
  | 10 => .array .int
  | 11 => .array .int
  | 12 => .array .int
  | 13 => .int
  | 14 => .array .int
  | 15 => .array .int
  | 16 => .array .int
  | 17 => .array .int
  | 18 => .array .boolean
  | 19 => .array .int
  | 20 => .array .int
  | 21 => .array .int
  | 22 => .array .int
  | 23 => .array .int
  | 24 => .array .int
  | 25 => .array .int
  | 26 => .array .int
  | 27 => .int
  | 28 => .array .int
  | 29 => .array .int
  | 30 => .int
  | 31 => .array .int
  | 32 => .array .int
  | 33 => .array .int
  | 34 => .array .int
  | 35 => .array .long
  | 36 => .int
  | 37 => .array .int
  | 38 => .int
  | 39 => .array .int
  | 40 => .array .int
  | 41 => .array .int
  | 42 => .int
  | 43 => .array .int
  | 44 => .int
  | 45 => .int
  | 46 => .boolean
  | 47 => .array .long
  | 48 => .array .int
  | 49 => .array .int
  | 50 => .array .int
  | 51 => .array .int
  | 52 => .array .int
  | 53 => .array .int
  | 54 => .array .int
  | 55 => .array .int
  | 56 => .array .int
  | 57 => .array .int
  | 58 => .array .int
  | 59 => .int
  | 60 => .array .int
  | 61 => .boolean
  | 62 => .int
  | 63 => .array .int
  | 64 => .int
  | 65 => .int
  | 66 => .array .int
  | 67 => .int
  | 68 => .array .int
  | 69 => .int
  | 70 => .array .int
  | 71 => .array .int
  | 72 => .array .int
  | 73 => .array .int
  | 74 => .array .int
  | 75 => .array .int
  | 76 => .array .boolean
  | 77 => .array .int
  | 78 => .int
  | 79 => .int
  | 80 => .array .int
  | 81 => .array .int
  | 82 => .int
  | _ => .array .int
abbrev wsX90 : List Cond := u_ws RX9 TX9 84
theorem nmX9 : ∀ a, a < 84 → ∀ b, b < 84 → a ≠ b → (TX9 a).2.1 ≠ (TX9 b).2.1 := by decide +kernel
theorem tyX9_ok : ∀ k, k < 84 → parseFieldDescriptor (TX9 k).2.2.1 = some (tyX9 k) := by decide +kernel
theorem in_X9 : ∀ w ∈ wsX90, w ∈ lw_all := lw_in wsX90 [1966, 1968, 1970, 1972, 1974, 1976, 1978, 1980, 1982, 1984, 1986, 1988, 1990, 1992, 1994, 1996, 1998, 2000, 2002, 2004, 2006, 2008, 2010, 2012, 2014, 2016, 2018, 2020, 2022, 2024, 2026, 2028, 2030, 2032, 2034, 2036, 2038, 2040, 2042, 2044, 2046, 2048, 2050, 2052, 2054, 2056, 2058, 2060, 2062, 2064, 2066, 2068, 2070, 2072, 2074, 2076, 2078, 2080, 2082, 2084, 2086, 2088, 2090, 2092, 2094, 2096, 2098, 2100, 2102, 2104, 2106, 2108, 2110, 2112, 2114, 2116, 2118, 2120, 2122, 2124, 2126, 2128, 2130, 2132] (by decide +kernel) (by decide +kernel)
def RJ17 : String := "java/lang/IndexOutOfBoundsException"
def RJ18 : String := "java/lang/StringIndexOutOfBoundsException"
def RJ19 : String := "java/lang/ArrayIndexOutOfBoundsException"
def RJ20 : String := "java/lang/Enum"
def RX10 : String := "LassoFinder$Kind"
def RX11 : String := "LassoFinder$Statement"
def TX11 : u_T := fun k => match k with
  | 0 => ("LassoFinder$Statement", "kind", "LLassoFinder$Kind;", false)
  | 1 => ("LassoFinder$Statement", "next", "LLassoFinder$Statement;", false)
  | 2 => ("LassoFinder$Statement", "up", "LLassoFinder$Statement;", false)
  | 3 => ("LassoFinder$Statement", "inner", "LLassoFinder$Statement;", false)
  | 4 => ("LassoFinder$Statement", "beside", "LLassoFinder$Statement;", false)
  | 5 => ("LassoFinder$Statement", "target", "LLassoFinder$Statement;", false)
  | 6 => ("LassoFinder$Statement", "place", "I", false)
  | 7 => ("LassoFinder$Statement", "name", "I", false)
  | 8 => ("LassoFinder$Statement", "other", "I", false)
  | 9 => ("LassoFinder$Statement", "number", "I", false)
  | 10 => ("LassoFinder$Statement", "point", "I", false)
  | _ => ("LassoFinder$Statement", "what", "LLassoFinder$Expression;", false)
def tyX11 : Nat → FieldType := fun k => match k with
  | 0 => .object "LassoFinder$Kind"
  | 1 => .object "LassoFinder$Statement"
  | 2 => .object "LassoFinder$Statement"
  | 3 => .object "LassoFinder$Statement"
  | 4 => .object "LassoFinder$Statement"
  | 5 => .object "LassoFinder$Statement"
  | 6 => .int
  | 7 => .int
  | 8 => .int
  | 9 => .int
  | 10 => .int
  | _ => .object "LassoFinder$Expression"
abbrev wsX110 : List Cond := u_ws RX11 TX11 12
theorem nmX11 : ∀ a, a < 12 → ∀ b, b < 12 → a ≠ b → (TX11 a).2.1 ≠ (TX11 b).2.1 := by decide +kernel
theorem tyX11_ok : ∀ k, k < 12 → parseFieldDescriptor (TX11 k).2.2.1 = some (tyX11 k) := by decide +kernel
theorem in_X11 : ∀ w ∈ wsX110, w ∈ lw_all := lw_in wsX110 [1182, 1184, 1186, 1188, 1190, 1192, 1194, 1196, 1198, 1200, 1202, 1204] (by decide +kernel) (by decide +kernel)
def RJ21 : String := "java/util/Objects"
def RJ22 : String := "java/lang/Record"
def RX12 : String := "LassoFinder$Digit"
def TX12 : u_T := fun k => match k with
  | _ => ("LassoFinder$Digit", "number", "I", true)
def tyX12 : Nat → FieldType := fun k => match k with
  | _ => .int
abbrev wsX120 : List Cond := u_ws RX12 TX12 1
theorem nmX12 : ∀ a, a < 1 → ∀ b, b < 1 → a ≠ b → (TX12 a).2.1 ≠ (TX12 b).2.1 := by decide +kernel
theorem tyX12_ok : ∀ k, k < 1 → parseFieldDescriptor (TX12 k).2.2.1 = some (tyX12 k) := by decide +kernel
theorem in_X12 : ∀ w ∈ wsX120, w ∈ lw_all := lw_in wsX120 [1342] (by decide +kernel) (by decide +kernel)
def RX13 : String := "LassoFinder$Name"
def TX13 : u_T := fun k => match k with
  | _ => ("LassoFinder$Name", "name", "I", true)
def tyX13 : Nat → FieldType := fun k => match k with
  | _ => .int
abbrev wsX130 : List Cond := u_ws RX13 TX13 1
theorem nmX13 : ∀ a, a < 1 → ∀ b, b < 1 → a ≠ b → (TX13 a).2.1 ≠ (TX13 b).2.1 := by decide +kernel
theorem tyX13_ok : ∀ k, k < 1 → parseFieldDescriptor (TX13 k).2.2.1 = some (tyX13 k) := by decide +kernel
theorem in_X13 : ∀ w ∈ wsX130, w ∈ lw_all := lw_in wsX130 [1352] (by decide +kernel) (by decide +kernel)
def RX14 : String := "LassoFinder$Operation"
def TX14 : u_T := fun k => match k with
  | 0 => ("LassoFinder$Operation", "sign", "C", true)
  | 1 => ("LassoFinder$Operation", "a", "LLassoFinder$Expression;", true)
  | _ => ("LassoFinder$Operation", "b", "LLassoFinder$Expression;", true)
def tyX14 : Nat → FieldType := fun k => match k with
  | 0 => .char
  | 1 => .object "LassoFinder$Expression"
  | _ => .object "LassoFinder$Expression"
abbrev wsX140 : List Cond := u_ws RX14 TX14 3
theorem nmX14 : ∀ a, a < 3 → ∀ b, b < 3 → a ≠ b → (TX14 a).2.1 ≠ (TX14 b).2.1 := by decide +kernel
theorem tyX14_ok : ∀ k, k < 3 → parseFieldDescriptor (TX14 k).2.2.1 = some (tyX14 k) := by decide +kernel
theorem in_X14 : ∀ w ∈ wsX140, w ∈ lw_all := lw_in wsX140 [1364, 1366, 1368] (by decide +kernel) (by decide +kernel)
def RJ23 : String := "java/lang/UnsupportedOperationException"
def RJ24 : String := "java/lang/IllegalStateException"
def RX15 : String := "LassoFinder$Claim"
def TX15 : u_T := fun k => match k with
  | 0 => ("LassoFinder$Claim", "what", "LLassoFinder$Expression;", true)
  | 1 => ("LassoFinder$Claim", "process", "I", true)
  | _ => ("LassoFinder$Claim", "spot", "I", true)
def tyX15 : Nat → FieldType := fun k => match k with
  | 0 => .object "LassoFinder$Expression"
  | 1 => .int
  | _ => .int
abbrev wsX150 : List Cond := u_ws RX15 TX15 3
theorem nmX15 : ∀ a, a < 3 → ∀ b, b < 3 → a ≠ b → (TX15 a).2.1 ≠ (TX15 b).2.1 := by decide +kernel
theorem tyX15_ok : ∀ k, k < 3 → parseFieldDescriptor (TX15 k).2.2.1 = some (tyX15 k) := by decide +kernel
theorem in_X15 : ∀ w ∈ wsX150, w ∈ lw_all := lw_in wsX150 [1590, 1592, 1594] (by decide +kernel) (by decide +kernel)
def RX16 : String := "LassoFinder$Proposition"
def TX16 : u_T := fun k => match k with
  | _ => ("LassoFinder$Proposition", "number", "I", true)
def tyX16 : Nat → FieldType := fun k => match k with
  | _ => .int
abbrev wsX160 : List Cond := u_ws RX16 TX16 1
theorem nmX16 : ∀ a, a < 1 → ∀ b, b < 1 → a ≠ b → (TX16 a).2.1 ≠ (TX16 b).2.1 := by decide +kernel
theorem tyX16_ok : ∀ k, k < 1 → parseFieldDescriptor (TX16 k).2.2.1 = some (tyX16 k) := by decide +kernel
theorem in_X16 : ∀ w ∈ wsX160, w ∈ lw_all := lw_in wsX160 [1610] (by decide +kernel) (by decide +kernel)
def RX17 : String := "LassoFinder$Not"
def TX17 : u_T := fun k => match k with
  | _ => ("LassoFinder$Not", "a", "LLassoFinder$Formula;", true)
def tyX17 : Nat → FieldType := fun k => match k with
  | _ => .object "LassoFinder$Formula"
abbrev wsX170 : List Cond := u_ws RX17 TX17 1
theorem nmX17 : ∀ a, a < 1 → ∀ b, b < 1 → a ≠ b → (TX17 a).2.1 ≠ (TX17 b).2.1 := by decide +kernel
theorem tyX17_ok : ∀ k, k < 1 → parseFieldDescriptor (TX17 k).2.2.1 = some (tyX17 k) := by decide +kernel
theorem in_X17 : ∀ w ∈ wsX170, w ∈ lw_all := lw_in wsX170 [1628] (by decide +kernel) (by decide +kernel)
def RX18 : String := "LassoFinder$Temporal"
def TX18 : u_T := fun k => match k with
  | 0 => ("LassoFinder$Temporal", "sign", "C", true)
  | 1 => ("LassoFinder$Temporal", "number", "I", true)
  | 2 => ("LassoFinder$Temporal", "a", "LLassoFinder$Formula;", true)
  | _ => ("LassoFinder$Temporal", "b", "LLassoFinder$Formula;", true)
def tyX18 : Nat → FieldType := fun k => match k with
  | 0 => .char
  | 1 => .int
  | 2 => .object "LassoFinder$Formula"
  | _ => .object "LassoFinder$Formula"
abbrev wsX180 : List Cond := u_ws RX18 TX18 4
theorem nmX18 : ∀ a, a < 4 → ∀ b, b < 4 → a ≠ b → (TX18 a).2.1 ≠ (TX18 b).2.1 := by decide +kernel
theorem tyX18_ok : ∀ k, k < 4 → parseFieldDescriptor (TX18 k).2.2.1 = some (tyX18 k) := by decide +kernel
theorem in_X18 : ∀ w ∈ wsX180, w ∈ lw_all := lw_in wsX180 [1644, 1646, 1648, 1650] (by decide +kernel) (by decide +kernel)
def RX19 : String := "LassoFinder$Both"
def TX19 : u_T := fun k => match k with
  | 0 => ("LassoFinder$Both", "sign", "C", true)
  | 1 => ("LassoFinder$Both", "a", "LLassoFinder$Formula;", true)
  | _ => ("LassoFinder$Both", "b", "LLassoFinder$Formula;", true)
def tyX19 : Nat → FieldType := fun k => match k with
  | 0 => .char
  | 1 => .object "LassoFinder$Formula"
  | _ => .object "LassoFinder$Formula"
abbrev wsX190 : List Cond := u_ws RX19 TX19 3
theorem nmX19 : ∀ a, a < 3 → ∀ b, b < 3 → a ≠ b → (TX19 a).2.1 ≠ (TX19 b).2.1 := by decide +kernel
theorem tyX19_ok : ∀ k, k < 3 → parseFieldDescriptor (TX19 k).2.2.1 = some (tyX19 k) := by decide +kernel
theorem in_X19 : ∀ w ∈ wsX190, w ∈ lw_all := lw_in wsX190 [1665, 1667, 1669] (by decide +kernel) (by decide +kernel)
def RJ25 : String := "java/lang/Object"
