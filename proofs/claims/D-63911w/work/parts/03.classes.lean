/-! L1: classes by number (tag = place + 1). Names, fields, types turned out of claim/names by gen_classes.py -/
def RX1 : String := "ConditionedProofs"
def TX1 : u_T := fun k => match k with
  | 0 => ("ConditionedProofs", "store", "LConditionedProofs$Store;", true)
  | 1 => ("ConditionedProofs", "reader", "LConditionedProofs$Reader;", true)
  | 2 => ("ConditionedProofs", "writer", "LConditionedProofs$Writer;", true)
  | 3 => ("ConditionedProofs", "runner", "LConditionedProofs$Runner;", true)
  | 4 => ("ConditionedProofs", "checker", "LConditionedProofs$Checker;", true)
  | 5 => ("ConditionedProofs", "kept", "LConditionedProofs$Heap;", true)
  | 6 => ("ConditionedProofs", "result", "LConditionedProofs$Value;", false)
  | _ => ("ConditionedProofs", "declared", "Ljava/lang/StringBuilder;", true)
def tyX1 : Nat → FieldType := fun k => match k with
  | 0 => .object "ConditionedProofs$Store"
  | 1 => .object "ConditionedProofs$Reader"
  | 2 => .object "ConditionedProofs$Writer"
  | 3 => .object "ConditionedProofs$Runner"
  | 4 => .object "ConditionedProofs$Checker"
  | 5 => .object "ConditionedProofs$Heap"
  | 6 => .object "ConditionedProofs$Value"
  | _ => .object "java/lang/StringBuilder"
theorem nmX1 : ∀ a, a < 8 → ∀ b, b < 8 → a ≠ b → (TX1 a).2.1 ≠ (TX1 b).2.1 := by decide +kernel
theorem tyX1_ok : ∀ k, k < 8 → parseFieldDescriptor (TX1 k).2.2.1 = some (tyX1 k) := by decide +kernel
set_option maxRecDepth 100000 in
theorem in_X1 : ∀ w ∈ u_ws RX1 TX1 8, w ∈ lw_all := lw_in (u_ws RX1 TX1 8) [425, 427, 429, 431, 433, 435, 437, 439] (by decide +kernel) (by decide +kernel)
def RX2 : String := "ConditionedProofs$Store"
def TX2 : u_T := fun k => match k with
  | 0 => ("ConditionedProofs$Store", "heap", "LConditionedProofs$Heap;", true)
  | _ => ("ConditionedProofs$Store", "meanings", "[LConditionedProofs$Meaning;", true)
def tyX2 : Nat → FieldType := fun k => match k with
  | 0 => .object "ConditionedProofs$Heap"
  | _ => .array (.object "ConditionedProofs$Meaning")
theorem nmX2 : ∀ a, a < 2 → ∀ b, b < 2 → a ≠ b → (TX2 a).2.1 ≠ (TX2 b).2.1 := by decide +kernel
theorem tyX2_ok : ∀ k, k < 2 → parseFieldDescriptor (TX2 k).2.2.1 = some (tyX2 k) := by decide +kernel
set_option maxRecDepth 100000 in
theorem in_X2 : ∀ w ∈ u_ws RX2 TX2 2, w ∈ lw_all := lw_in (u_ws RX2 TX2 2) [202, 204] (by decide +kernel) (by decide +kernel)
def RX3 : String := "ConditionedProofs$Heap"
def TX3 : u_T := fun k => match k with
  | 0 => ("ConditionedProofs$Heap", "values", "Ljava/util/ArrayList;", true)
  | 1 => ("ConditionedProofs$Heap", "links", "Ljava/util/ArrayList;", true)
  | 2 => ("ConditionedProofs$Heap", "scopes", "Ljava/util/ArrayList;", true)
  | 3 => ("ConditionedProofs$Heap", "valuesUsed", "I", false)
  | 4 => ("ConditionedProofs$Heap", "linksUsed", "I", false)
  | _ => ("ConditionedProofs$Heap", "scopesUsed", "I", false)
def tyX3 : Nat → FieldType := fun k => match k with
  | 0 => .object "java/util/ArrayList"
  | 1 => .object "java/util/ArrayList"
  | 2 => .object "java/util/ArrayList"
  | 3 => .int
  | 4 => .int
  | _ => .int
theorem nmX3 : ∀ a, a < 6 → ∀ b, b < 6 → a ≠ b → (TX3 a).2.1 ≠ (TX3 b).2.1 := by decide +kernel
theorem tyX3_ok : ∀ k, k < 6 → parseFieldDescriptor (TX3 k).2.2.1 = some (tyX3 k) := by decide +kernel
set_option maxRecDepth 100000 in
theorem in_X3 : ∀ w ∈ u_ws RX3 TX3 6, w ∈ lw_all := lw_in (u_ws RX3 TX3 6) [181, 183, 185, 187, 189, 191] (by decide +kernel) (by decide +kernel)
def RJ2 : String := "java/util/ArrayList"
def TJ2 : u_T := fun k => match k with
  | 0 => ("java/util/AbstractList", "modCount", "I", false)
  | 1 => ("java/util/ArrayList", "elementData", "[Ljava/lang/Object;", false)
  | _ => ("java/util/ArrayList", "size", "I", false)
def tyJ2 : Nat → FieldType := fun k => match k with
  | 0 => .int
  | 1 => .array (.object "java/lang/Object")
  | _ => .int
theorem nmJ2 : ∀ a, a < 3 → ∀ b, b < 3 → a ≠ b → (TJ2 a).2.1 ≠ (TJ2 b).2.1 := by decide +kernel
theorem tyJ2_ok : ∀ k, k < 3 → parseFieldDescriptor (TJ2 k).2.2.1 = some (tyJ2 k) := by decide +kernel
set_option maxRecDepth 100000 in
theorem in_J2 : ∀ w ∈ u_ws RJ2 TJ2 3, w ∈ lw_all := lw_in (u_ws RJ2 TJ2 3) [172, 168, 170] (by decide +kernel) (by decide +kernel)
def RX4 : String := "ConditionedProofs$Reader"
def TX4 : u_T := fun k => match k with
  | 0 => ("ConditionedProofs$Reader", "text", "Ljava/lang/StringBuilder;", true)
  | 1 => ("ConditionedProofs$Reader", "names", "Ljava/lang/StringBuilder;", true)
  | 2 => ("ConditionedProofs$Reader", "noTerms", "Ljava/util/ArrayList;", true)
  | 3 => ("ConditionedProofs$Reader", "noCodes", "Ljava/util/ArrayList;", true)
  | 4 => ("ConditionedProofs$Reader", "noCases", "Ljava/util/ArrayList;", true)
  | 5 => ("ConditionedProofs$Reader", "at", "I", false)
  | _ => ("ConditionedProofs$Reader", "holes", "Z", false)
def tyX4 : Nat → FieldType := fun k => match k with
  | 0 => .object "java/lang/StringBuilder"
  | 1 => .object "java/lang/StringBuilder"
  | 2 => .object "java/util/ArrayList"
  | 3 => .object "java/util/ArrayList"
  | 4 => .object "java/util/ArrayList"
  | 5 => .int
  | _ => .boolean
theorem nmX4 : ∀ a, a < 7 → ∀ b, b < 7 → a ≠ b → (TX4 a).2.1 ≠ (TX4 b).2.1 := by decide +kernel
theorem tyX4_ok : ∀ k, k < 7 → parseFieldDescriptor (TX4 k).2.2.1 = some (tyX4 k) := by decide +kernel
set_option maxRecDepth 100000 in
theorem in_X4 : ∀ w ∈ u_ws RX4 TX4 7, w ∈ lw_all := lw_in (u_ws RX4 TX4 7) [257, 259, 261, 263, 265, 267, 269] (by decide +kernel) (by decide +kernel)
def RJ4 : String := "java/lang/StringBuilder"
def TJ4 : u_T := fun k => match k with
  | 0 => ("java/lang/AbstractStringBuilder", "value", "[B", false)
  | 1 => ("java/lang/AbstractStringBuilder", "coder", "B", false)
  | 2 => ("java/lang/AbstractStringBuilder", "maybeLatin1", "Z", false)
  | _ => ("java/lang/AbstractStringBuilder", "count", "I", false)
def tyJ4 : Nat → FieldType := fun k => match k with
  | 0 => .array .byte
  | 1 => .byte
  | 2 => .boolean
  | _ => .int
theorem nmJ4 : ∀ a, a < 4 → ∀ b, b < 4 → a ≠ b → (TJ4 a).2.1 ≠ (TJ4 b).2.1 := by decide +kernel
theorem tyJ4_ok : ∀ k, k < 4 → parseFieldDescriptor (TJ4 k).2.2.1 = some (tyJ4 k) := by decide +kernel
set_option maxRecDepth 100000 in
theorem in_J4 : ∀ w ∈ u_ws RJ4 TJ4 4, w ∈ lw_all := lw_in (u_ws RJ4 TJ4 4) [236, 238, 240, 242] (by decide +kernel) (by decide +kernel)
def RX5 : String := "ConditionedProofs$Writer"
def TX5 : u_T := fun k => match k with
  | 0 => ("ConditionedProofs$Writer", "page", "Ljava/lang/StringBuilder;", true)
  | 1 => ("ConditionedProofs$Writer", "draft", "Ljava/lang/StringBuilder;", true)
  | _ => ("ConditionedProofs$Writer", "todo", "Ljava/util/ArrayList;", true)
def tyX5 : Nat → FieldType := fun k => match k with
  | 0 => .object "java/lang/StringBuilder"
  | 1 => .object "java/lang/StringBuilder"
  | _ => .object "java/util/ArrayList"
theorem nmX5 : ∀ a, a < 3 → ∀ b, b < 3 → a ≠ b → (TX5 a).2.1 ≠ (TX5 b).2.1 := by decide +kernel
theorem tyX5_ok : ∀ k, k < 3 → parseFieldDescriptor (TX5 k).2.2.1 = some (tyX5 k) := by decide +kernel
set_option maxRecDepth 100000 in
theorem in_X5 : ∀ w ∈ u_ws RX5 TX5 3, w ∈ lw_all := lw_in (u_ws RX5 TX5 3) [286, 288, 290] (by decide +kernel) (by decide +kernel)
def RX6 : String := "ConditionedProofs$Runner"
def TX6 : u_T := fun k => match k with
  | 0 => ("ConditionedProofs$Runner", "store", "LConditionedProofs$Store;", true)
  | 1 => ("ConditionedProofs$Runner", "walk", "LConditionedProofs$Walk;", true)
  | 2 => ("ConditionedProofs$Runner", "steps", "I", false)
  | _ => ("ConditionedProofs$Runner", "all", "I", false)
def tyX6 : Nat → FieldType := fun k => match k with
  | 0 => .object "ConditionedProofs$Store"
  | 1 => .object "ConditionedProofs$Walk"
  | 2 => .int
  | _ => .int
theorem nmX6 : ∀ a, a < 4 → ∀ b, b < 4 → a ≠ b → (TX6 a).2.1 ≠ (TX6 b).2.1 := by decide +kernel
theorem tyX6_ok : ∀ k, k < 4 → parseFieldDescriptor (TX6 k).2.2.1 = some (tyX6 k) := by decide +kernel
set_option maxRecDepth 100000 in
theorem in_X6 : ∀ w ∈ u_ws RX6 TX6 4, w ∈ lw_all := lw_in (u_ws RX6 TX6 4) [320, 322, 324, 326] (by decide +kernel) (by decide +kernel)
def RX7 : String := "ConditionedProofs$Walk"
def TX7 : u_T := fun k => match k with
  | 0 => ("ConditionedProofs$Walk", "todo", "Ljava/util/ArrayList;", true)
  | _ => ("ConditionedProofs$Walk", "others", "Ljava/util/ArrayList;", true)
def tyX7 : Nat → FieldType := fun k => match k with
  | 0 => .object "java/util/ArrayList"
  | _ => .object "java/util/ArrayList"
theorem nmX7 : ∀ a, a < 2 → ∀ b, b < 2 → a ≠ b → (TX7 a).2.1 ≠ (TX7 b).2.1 := by decide +kernel
theorem tyX7_ok : ∀ k, k < 2 → parseFieldDescriptor (TX7 k).2.2.1 = some (tyX7 k) := by decide +kernel
set_option maxRecDepth 100000 in
theorem in_X7 : ∀ w ∈ u_ws RX7 TX7 2, w ∈ lw_all := lw_in (u_ws RX7 TX7 2) [309, 311] (by decide +kernel) (by decide +kernel)
def RX8 : String := "ConditionedProofs$Checker"
def TX8 : u_T := fun k => match k with
  | 0 => ("ConditionedProofs$Checker", "store", "LConditionedProofs$Store;", true)
  | 1 => ("ConditionedProofs$Checker", "runner", "LConditionedProofs$Runner;", true)
  | 2 => ("ConditionedProofs$Checker", "pairs", "LConditionedProofs$Walk;", true)
  | 3 => ("ConditionedProofs$Checker", "inner", "LConditionedProofs$Walk;", true)
  | 4 => ("ConditionedProofs$Checker", "star", "LConditionedProofs$Value;", true)
  | 5 => ("ConditionedProofs$Checker", "numbers", "LConditionedProofs$Value;", true)
  | 6 => ("ConditionedProofs$Checker", "declaring", "Z", false)
  | _ => ("ConditionedProofs$Checker", "at", "I", false)
def tyX8 : Nat → FieldType := fun k => match k with
  | 0 => .object "ConditionedProofs$Store"
  | 1 => .object "ConditionedProofs$Runner"
  | 2 => .object "ConditionedProofs$Walk"
  | 3 => .object "ConditionedProofs$Walk"
  | 4 => .object "ConditionedProofs$Value"
  | 5 => .object "ConditionedProofs$Value"
  | 6 => .boolean
  | _ => .int
theorem nmX8 : ∀ a, a < 8 → ∀ b, b < 8 → a ≠ b → (TX8 a).2.1 ≠ (TX8 b).2.1 := by decide +kernel
theorem tyX8_ok : ∀ k, k < 8 → parseFieldDescriptor (TX8 k).2.2.1 = some (tyX8 k) := by decide +kernel
set_option maxRecDepth 100000 in
theorem in_X8 : ∀ w ∈ u_ws RX8 TX8 8, w ∈ lw_all := lw_in (u_ws RX8 TX8 8) [396, 398, 400, 402, 404, 406, 408, 410] (by decide +kernel) (by decide +kernel)
def RX9 : String := "ConditionedProofs$Value"
def TX9 : u_T := fun k => match k with
  | 0 => ("ConditionedProofs$Value", "sort", "LConditionedProofs$Sort;", false)
  | 1 => ("ConditionedProofs$Value", "number", "I", false)
  | 2 => ("ConditionedProofs$Value", "letter", "C", false)
  | 3 => ("ConditionedProofs$Value", "arguments", "LConditionedProofs$Link;", false)
  | _ => ("ConditionedProofs$Value", "filled", "LConditionedProofs$Value;", false)
def tyX9 : Nat → FieldType := fun k => match k with
  | 0 => .object "ConditionedProofs$Sort"
  | 1 => .int
  | 2 => .char
  | 3 => .object "ConditionedProofs$Link"
  | _ => .object "ConditionedProofs$Value"
theorem nmX9 : ∀ a, a < 5 → ∀ b, b < 5 → a ≠ b → (TX9 a).2.1 ≠ (TX9 b).2.1 := by decide +kernel
theorem tyX9_ok : ∀ k, k < 5 → parseFieldDescriptor (TX9 k).2.2.1 = some (tyX9 k) := by decide +kernel
set_option maxRecDepth 100000 in
theorem in_X9 : ∀ w ∈ u_ws RX9 TX9 5, w ∈ lw_all := lw_in (u_ws RX9 TX9 5) [370, 372, 374, 376, 378] (by decide +kernel) (by decide +kernel)
def RJ16 : String := "java/lang/IllegalArgumentException"
def TJ16 : u_T := fun _ => ("", "", "", false)
def tyJ16 : Nat → FieldType := fun _ => .int
theorem nmJ16 : ∀ a, a < 0 → ∀ b, b < 0 → a ≠ b → (TJ16 a).2.1 ≠ (TJ16 b).2.1 := by decide +kernel
theorem tyJ16_ok : ∀ k, k < 0 → parseFieldDescriptor (TJ16 k).2.2.1 = some (tyJ16 k) := by decide +kernel
theorem in_J16 : ∀ w ∈ u_ws RJ16 TJ16 0, w ∈ lw_all := fun w h => by cases h
def RJ5 : String := "java/lang/String"
def TJ5 : u_T := fun k => match k with
  | 0 => ("java/lang/String", "value", "[B", true)
  | 1 => ("java/lang/String", "coder", "B", true)
  | 2 => ("java/lang/String", "hash", "I", false)
  | _ => ("java/lang/String", "hashIsZero", "Z", false)
def tyJ5 : Nat → FieldType := fun k => match k with
  | 0 => .array .byte
  | 1 => .byte
  | 2 => .int
  | _ => .boolean
theorem nmJ5 : ∀ a, a < 4 → ∀ b, b < 4 → a ≠ b → (TJ5 a).2.1 ≠ (TJ5 b).2.1 := by decide +kernel
theorem tyJ5_ok : ∀ k, k < 4 → parseFieldDescriptor (TJ5 k).2.2.1 = some (tyJ5 k) := by decide +kernel
set_option maxRecDepth 100000 in
theorem in_J5 : ∀ w ∈ u_ws RJ5 TJ5 4, w ∈ lw_all := lw_in (u_ws RJ5 TJ5 4) [756, 758, 760, 762] (by decide +kernel) (by decide +kernel)
def RX11 : String := "ConditionedProofs$Term"
def TX11 : u_T := fun k => match k with
  | 0 => ("ConditionedProofs$Term", "form", "LConditionedProofs$Form;", true)
  | 1 => ("ConditionedProofs$Term", "place", "I", true)
  | 2 => ("ConditionedProofs$Term", "letter", "C", true)
  | 3 => ("ConditionedProofs$Term", "literal", "LConditionedProofs$Value;", true)
  | 4 => ("ConditionedProofs$Term", "arguments", "Ljava/util/ArrayList;", true)
  | _ => ("ConditionedProofs$Term", "hole", "LConditionedProofs$Value;", false)
def tyX11 : Nat → FieldType := fun k => match k with
  | 0 => .object "ConditionedProofs$Form"
  | 1 => .int
  | 2 => .char
  | 3 => .object "ConditionedProofs$Value"
  | 4 => .object "java/util/ArrayList"
  | _ => .object "ConditionedProofs$Value"
theorem nmX11 : ∀ a, a < 6 → ∀ b, b < 6 → a ≠ b → (TX11 a).2.1 ≠ (TX11 b).2.1 := by decide +kernel
theorem tyX11_ok : ∀ k, k < 6 → parseFieldDescriptor (TX11 k).2.2.1 = some (tyX11 k) := by decide +kernel
set_option maxRecDepth 100000 in
theorem in_X11 : ∀ w ∈ u_ws RX11 TX11 6, w ∈ lw_all := lw_in (u_ws RX11 TX11 6) [851, 853, 855, 857, 859, 861] (by decide +kernel) (by decide +kernel)
def RJ18 : String := "java/lang/IllegalStateException"
def TJ18 : u_T := fun _ => ("", "", "", false)
def tyJ18 : Nat → FieldType := fun _ => .int
theorem nmJ18 : ∀ a, a < 0 → ∀ b, b < 0 → a ≠ b → (TJ18 a).2.1 ≠ (TJ18 b).2.1 := by decide +kernel
theorem tyJ18_ok : ∀ k, k < 0 → parseFieldDescriptor (TJ18 k).2.2.1 = some (tyJ18 k) := by decide +kernel
theorem in_J18 : ∀ w ∈ u_ws RJ18 TJ18 0, w ∈ lw_all := fun w h => by cases h
def RX14 : String := "ConditionedProofs$Link"
def TX14 : u_T := fun k => match k with
  | 0 => ("ConditionedProofs$Link", "value", "LConditionedProofs$Value;", false)
  | _ => ("ConditionedProofs$Link", "next", "LConditionedProofs$Link;", false)
def tyX14 : Nat → FieldType := fun k => match k with
  | 0 => .object "ConditionedProofs$Value"
  | _ => .object "ConditionedProofs$Link"
theorem nmX14 : ∀ a, a < 2 → ∀ b, b < 2 → a ≠ b → (TX14 a).2.1 ≠ (TX14 b).2.1 := by decide +kernel
theorem tyX14_ok : ∀ k, k < 2 → parseFieldDescriptor (TX14 k).2.2.1 = some (tyX14 k) := by decide +kernel
set_option maxRecDepth 100000 in
theorem in_X14 : ∀ w ∈ u_ws RX14 TX14 2, w ∈ lw_all := lw_in (u_ws RX14 TX14 2) [1102, 1104] (by decide +kernel) (by decide +kernel)
def RX15 : String := "ConditionedProofs$Scope"
def TX15 : u_T := fun k => match k with
  | 0 => ("ConditionedProofs$Scope", "name", "C", false)
  | 1 => ("ConditionedProofs$Scope", "value", "LConditionedProofs$Value;", false)
  | _ => ("ConditionedProofs$Scope", "outer", "LConditionedProofs$Scope;", false)
def tyX15 : Nat → FieldType := fun k => match k with
  | 0 => .char
  | 1 => .object "ConditionedProofs$Value"
  | _ => .object "ConditionedProofs$Scope"
theorem nmX15 : ∀ a, a < 3 → ∀ b, b < 3 → a ≠ b → (TX15 a).2.1 ≠ (TX15 b).2.1 := by decide +kernel
theorem tyX15_ok : ∀ k, k < 3 → parseFieldDescriptor (TX15 k).2.2.1 = some (tyX15 k) := by decide +kernel
set_option maxRecDepth 100000 in
theorem in_X15 : ∀ w ∈ u_ws RX15 TX15 3, w ∈ lw_all := lw_in (u_ws RX15 TX15 3) [1137, 1139, 1141] (by decide +kernel) (by decide +kernel)
def RJ21 : String := "java/lang/UnsupportedOperationException"
def TJ21 : u_T := fun _ => ("", "", "", false)
def tyJ21 : Nat → FieldType := fun _ => .int
theorem nmJ21 : ∀ a, a < 0 → ∀ b, b < 0 → a ≠ b → (TJ21 a).2.1 ≠ (TJ21 b).2.1 := by decide +kernel
theorem tyJ21_ok : ∀ k, k < 0 → parseFieldDescriptor (TJ21 k).2.2.1 = some (tyJ21 k) := by decide +kernel
theorem in_J21 : ∀ w ∈ u_ws RJ21 TJ21 0, w ∈ lw_all := fun w h => by cases h
def RX16 : String := "ConditionedProofs$Named"
def TX16 : u_T := fun k => match k with
  | 0 => ("ConditionedProofs$Named", "name", "C", true)
  | 1 => ("ConditionedProofs$Named", "value", "LConditionedProofs$Value;", true)
  | 2 => ("ConditionedProofs$Named", "type", "LConditionedProofs$Value;", true)
  | _ => ("ConditionedProofs$Named", "outer", "LConditionedProofs$Named;", true)
def tyX16 : Nat → FieldType := fun k => match k with
  | 0 => .char
  | 1 => .object "ConditionedProofs$Value"
  | 2 => .object "ConditionedProofs$Value"
  | _ => .object "ConditionedProofs$Named"
theorem nmX16 : ∀ a, a < 4 → ∀ b, b < 4 → a ≠ b → (TX16 a).2.1 ≠ (TX16 b).2.1 := by decide +kernel
theorem tyX16_ok : ∀ k, k < 4 → parseFieldDescriptor (TX16 k).2.2.1 = some (tyX16 k) := by decide +kernel
set_option maxRecDepth 100000 in
theorem in_X16 : ∀ w ∈ u_ws RX16 TX16 4, w ∈ lw_all := lw_in (u_ws RX16 TX16 4) [1324, 1326, 1328, 1330] (by decide +kernel) (by decide +kernel)
def RX12 : String := "ConditionedProofs$Part"
def TX12 : u_T := fun k => match k with
  | 0 => ("ConditionedProofs$Part", "condition", "Z", true)
  | 1 => ("ConditionedProofs$Part", "place", "I", true)
  | 2 => ("ConditionedProofs$Part", "letter", "C", true)
  | 3 => ("ConditionedProofs$Part", "type", "LConditionedProofs$Term;", true)
  | _ => ("ConditionedProofs$Part", "terms", "Ljava/util/ArrayList;", true)
def tyX12 : Nat → FieldType := fun k => match k with
  | 0 => .boolean
  | 1 => .int
  | 2 => .char
  | 3 => .object "ConditionedProofs$Term"
  | _ => .object "java/util/ArrayList"
theorem nmX12 : ∀ a, a < 5 → ∀ b, b < 5 → a ≠ b → (TX12 a).2.1 ≠ (TX12 b).2.1 := by decide +kernel
theorem tyX12_ok : ∀ k, k < 5 → parseFieldDescriptor (TX12 k).2.2.1 = some (tyX12 k) := by decide +kernel
set_option maxRecDepth 100000 in
theorem in_X12 : ∀ w ∈ u_ws RX12 TX12 5, w ∈ lw_all := lw_in (u_ws RX12 TX12 5) [1454, 1456, 1458, 1460, 1462] (by decide +kernel) (by decide +kernel)
def RX13 : String := "ConditionedProofs$Constant"
def TX13 : u_T := fun k => match k with
  | 0 => ("ConditionedProofs$Constant", "parts", "Ljava/util/ArrayList;", true)
  | 1 => ("ConditionedProofs$Constant", "term", "LConditionedProofs$Term;", true)
  | 2 => ("ConditionedProofs$Constant", "fixed", "LConditionedProofs$Value;", true)
  | _ => ("ConditionedProofs$Constant", "conditions", "I", false)
def tyX13 : Nat → FieldType := fun k => match k with
  | 0 => .object "java/util/ArrayList"
  | 1 => .object "ConditionedProofs$Term"
  | 2 => .object "ConditionedProofs$Value"
  | _ => .int
theorem nmX13 : ∀ a, a < 4 → ∀ b, b < 4 → a ≠ b → (TX13 a).2.1 ≠ (TX13 b).2.1 := by decide +kernel
theorem tyX13_ok : ∀ k, k < 4 → parseFieldDescriptor (TX13 k).2.2.1 = some (tyX13 k) := by decide +kernel
set_option maxRecDepth 100000 in
theorem in_X13 : ∀ w ∈ u_ws RX13 TX13 4, w ∈ lw_all := lw_in (u_ws RX13 TX13 4) [1483, 1485, 1487, 1489] (by decide +kernel) (by decide +kernel)
def RX17 : String := "ConditionedProofs$Program"
def TX17 : u_T := fun k => match k with
  | 0 => ("ConditionedProofs$Program", "names", "Ljava/lang/String;", true)
  | _ => ("ConditionedProofs$Program", "body", "LConditionedProofs$Code;", true)
def tyX17 : Nat → FieldType := fun k => match k with
  | 0 => .object "java/lang/String"
  | _ => .object "ConditionedProofs$Code"
theorem nmX17 : ∀ a, a < 2 → ∀ b, b < 2 → a ≠ b → (TX17 a).2.1 ≠ (TX17 b).2.1 := by decide +kernel
theorem tyX17_ok : ∀ k, k < 2 → parseFieldDescriptor (TX17 k).2.2.1 = some (tyX17 k) := by decide +kernel
set_option maxRecDepth 100000 in
theorem in_X17 : ∀ w ∈ u_ws RX17 TX17 2, w ∈ lw_all := lw_in (u_ws RX17 TX17 2) [1628, 1630] (by decide +kernel) (by decide +kernel)
def RX18 : String := "ConditionedProofs$Code"
def TX18 : u_T := fun k => match k with
  | 0 => ("ConditionedProofs$Code", "act", "LConditionedProofs$Act;", true)
  | 1 => ("ConditionedProofs$Code", "place", "I", true)
  | 2 => ("ConditionedProofs$Code", "letter", "C", true)
  | 3 => ("ConditionedProofs$Code", "digit", "LConditionedProofs$Value;", true)
  | 4 => ("ConditionedProofs$Code", "parts", "Ljava/util/ArrayList;", true)
  | _ => ("ConditionedProofs$Code", "cases", "Ljava/util/ArrayList;", true)
def tyX18 : Nat → FieldType := fun k => match k with
  | 0 => .object "ConditionedProofs$Act"
  | 1 => .int
  | 2 => .char
  | 3 => .object "ConditionedProofs$Value"
  | 4 => .object "java/util/ArrayList"
  | _ => .object "java/util/ArrayList"
theorem nmX18 : ∀ a, a < 6 → ∀ b, b < 6 → a ≠ b → (TX18 a).2.1 ≠ (TX18 b).2.1 := by decide +kernel
theorem tyX18_ok : ∀ k, k < 6 → parseFieldDescriptor (TX18 k).2.2.1 = some (tyX18 k) := by decide +kernel
set_option maxRecDepth 100000 in
theorem in_X18 : ∀ w ∈ u_ws RX18 TX18 6, w ∈ lw_all := lw_in (u_ws RX18 TX18 6) [1553, 1555, 1557, 1559, 1561, 1563] (by decide +kernel) (by decide +kernel)
def RX19 : String := "ConditionedProofs$Case"
def TX19 : u_T := fun k => match k with
  | 0 => ("ConditionedProofs$Case", "place", "I", true)
  | 1 => ("ConditionedProofs$Case", "digit", "LConditionedProofs$Value;", true)
  | 2 => ("ConditionedProofs$Case", "letter", "C", true)
  | 3 => ("ConditionedProofs$Case", "names", "Ljava/lang/String;", true)
  | _ => ("ConditionedProofs$Case", "code", "LConditionedProofs$Code;", true)
def tyX19 : Nat → FieldType := fun k => match k with
  | 0 => .int
  | 1 => .object "ConditionedProofs$Value"
  | 2 => .char
  | 3 => .object "java/lang/String"
  | _ => .object "ConditionedProofs$Code"
theorem nmX19 : ∀ a, a < 5 → ∀ b, b < 5 → a ≠ b → (TX19 a).2.1 ≠ (TX19 b).2.1 := by decide +kernel
theorem tyX19_ok : ∀ k, k < 5 → parseFieldDescriptor (TX19 k).2.2.1 = some (tyX19 k) := by decide +kernel
set_option maxRecDepth 100000 in
theorem in_X19 : ∀ w ∈ u_ws RX19 TX19 5, w ∈ lw_all := lw_in (u_ws RX19 TX19 5) [1597, 1599, 1601, 1603, 1605] (by decide +kernel) (by decide +kernel)
def RX10 : String := "ConditionedProofsModel"
def TX10 : u_T := fun k => match k with
  | 0 => ("ConditionedProofsModel", "fault", "I", false)
  | 1 => ("ConditionedProofsModel", "typed", "I", false)
  | 2 => ("ConditionedProofsModel", "text", "[I", true)
  | 3 => ("ConditionedProofsModel", "written", "I", false)
  | 4 => ("ConditionedProofsModel", "page", "[I", true)
  | 5 => ("ConditionedProofsModel", "draft", "[I", true)
  | 6 => ("ConditionedProofsModel", "kinds", "[I", true)
  | 7 => ("ConditionedProofsModel", "many", "[I", true)
  | 8 => ("ConditionedProofsModel", "startNode", "[I", true)
  | 9 => ("ConditionedProofsModel", "startPart", "[I", true)
  | 10 => ("ConditionedProofsModel", "partsOf", "[I", true)
  | 11 => ("ConditionedProofsModel", "resultOf", "[I", true)
  | 12 => ("ConditionedProofsModel", "codeOf", "[I", true)
  | 13 => ("ConditionedProofsModel", "nameOf", "[I", true)
  | 14 => ("ConditionedProofsModel", "declared", "I", false)
  | 15 => ("ConditionedProofsModel", "sequence", "[I", true)
  | 16 => ("ConditionedProofsModel", "nodes", "I", false)
  | 17 => ("ConditionedProofsModel", "op", "[I", true)
  | 18 => ("ConditionedProofsModel", "val", "[I", true)
  | 19 => ("ConditionedProofsModel", "cnt", "[I", true)
  | 20 => ("ConditionedProofsModel", "readFrom", "I", false)
  | 21 => ("ConditionedProofsModel", "place", "[I", true)
  | 22 => ("ConditionedProofsModel", "holeAt", "[I", true)
  | 23 => ("ConditionedProofsModel", "parts", "I", false)
  | 24 => ("ConditionedProofsModel", "partKind", "[I", true)
  | 25 => ("ConditionedProofsModel", "partName", "[I", true)
  | 26 => ("ConditionedProofsModel", "partNode", "[I", true)
  | 27 => ("ConditionedProofsModel", "partTerms", "[I", true)
  | 28 => ("ConditionedProofsModel", "partPlace", "[I", true)
  | 29 => ("ConditionedProofsModel", "waiting", "I", false)
  | 30 => ("ConditionedProofsModel", "expect", "[I", true)
  | 31 => ("ConditionedProofsModel", "first", "[I", true)
  | 32 => ("ConditionedProofsModel", "second", "[I", true)
  | 33 => ("ConditionedProofsModel", "reading", "I", false)
  | 34 => ("ConditionedProofsModel", "names", "I", false)
  | 35 => ("ConditionedProofsModel", "values", "I", false)
  | 36 => ("ConditionedProofsModel", "form", "[I", true)
  | 37 => ("ConditionedProofsModel", "data", "[I", true)
  | 38 => ("ConditionedProofsModel", "from", "[I", true)
  | 39 => ("ConditionedProofsModel", "size", "[I", true)
  | 40 => ("ConditionedProofsModel", "cells", "I", false)
  | 41 => ("ConditionedProofsModel", "cell", "[I", true)
  | 42 => ("ConditionedProofsModel", "fillings", "I", false)
  | 43 => ("ConditionedProofsModel", "pile", "[I", true)
  | 44 => ("ConditionedProofsModel", "pairs", "I", false)
  | 45 => ("ConditionedProofsModel", "pairOne", "[I", true)
  | 46 => ("ConditionedProofsModel", "pairTwo", "[I", true)
  | 47 => ("ConditionedProofsModel", "pairNext", "[I", true)
  | 48 => ("ConditionedProofsModel", "onWay", "[I", true)
  | 49 => ("ConditionedProofsModel", "wayNext", "[I", true)
  | 50 => ("ConditionedProofsModel", "named", "[I", true)
  | 51 => ("ConditionedProofsModel", "typeOfName", "[I", true)
  | 52 => ("ConditionedProofsModel", "atNode", "[I", true)
  | 53 => ("ConditionedProofsModel", "atPart", "[I", true)
  | 54 => ("ConditionedProofsModel", "atArgument", "[I", true)
  | 55 => ("ConditionedProofsModel", "valuesThen", "[I", true)
  | 56 => ("ConditionedProofsModel", "cellsThen", "[I", true)
  | 57 => ("ConditionedProofsModel", "fillingsThen", "[I", true)
  | 58 => ("ConditionedProofsModel", "declares", "Z", false)
  | 59 => ("ConditionedProofsModel", "wrongAt", "I", false)
  | 60 => ("ConditionedProofsModel", "steps", "I", false)
  | 61 => ("ConditionedProofsModel", "own", "I", false)
  | 62 => ("ConditionedProofsModel", "depth", "I", false)
  | 63 => ("ConditionedProofsModel", "failed", "Z", false)
  | 64 => ("ConditionedProofsModel", "outcome", "I", false)
  | 65 => ("ConditionedProofsModel", "given", "[I", true)
  | 66 => ("ConditionedProofsModel", "waitNode", "[I", true)
  | 67 => ("ConditionedProofsModel", "waitState", "[I", true)
  | 68 => ("ConditionedProofsModel", "waitNames", "[I", true)
  | 69 => ("ConditionedProofsModel", "got", "[I", true)
  | 70 => ("ConditionedProofsModel", "bound", "I", false)
  | 71 => ("ConditionedProofsModel", "boundName", "[I", true)
  | 72 => ("ConditionedProofsModel", "boundValue", "[I", true)
  | 73 => ("ConditionedProofsModel", "boundNext", "[I", true)
  | 74 => ("ConditionedProofsModel", "hasOpen", "Z", false)
  | 75 => ("ConditionedProofsModel", "rows", "I", false)
  | 76 => ("ConditionedProofsModel", "rowOp", "[I", true)
  | 77 => ("ConditionedProofsModel", "rowVal", "[I", true)
  | 78 => ("ConditionedProofsModel", "rowCnt", "[I", true)
  | 79 => ("ConditionedProofsModel", "hasResult", "Z", false)
  | 80 => ("ConditionedProofsModel", "isStar", "Z", false)
  | 81 => ("ConditionedProofsModel", "isOpen", "Z", false)
  | 82 => ("ConditionedProofsModel", "resultNodes", "I", false)
  | 83 => ("ConditionedProofsModel", "resultOp", "[I", true)
  | 84 => ("ConditionedProofsModel", "resultVal", "[I", true)
  | _ => ("ConditionedProofsModel", "resultCnt", "[I", true)
def tyX10 : Nat → FieldType := fun k => match k with
  | 0 => .int
  | 1 => .int
  | 2 => .array .int
  | 3 => .int
  | 4 => .array .int
  | 5 => .array .int
  | 6 => .array .int
  | 7 => .array .int
  | 8 => .array .int
  | 9 => .array .int
  | 10 => .array .int
  | 11 => .array .int
  | 12 => .array .int
  | 13 => .array .int
  | 14 => .int
  | 15 => .array .int
  | 16 => .int
  | 17 => .array .int
  | 18 => .array .int
  | 19 => .array .int
  | 20 => .int
  | 21 => .array .int
  | 22 => .array .int
  | 23 => .int
  | 24 => .array .int
  | 25 => .array .int
  | 26 => .array .int
  | 27 => .array .int
  | 28 => .array .int
  | 29 => .int
  | 30 => .array .int
  | 31 => .array .int
  | 32 => .array .int
  | 33 => .int
  | 34 => .int
  | 35 => .int
  | 36 => .array .int
  | 37 => .array .int
  | 38 => .array .int
  | 39 => .array .int
  | 40 => .int
  | 41 => .array .int
  | 42 => .int
  | 43 => .array .int
  | 44 => .int
  | 45 => .array .int
  | 46 => .array .int
  | 47 => .array .int
  | 48 => .array .int
  | 49 => .array .int
  | 50 => .array .int
  | 51 => .array .int
  | 52 => .array .int
  | 53 => .array .int
  | 54 => .array .int
  | 55 => .array .int
  | 56 => .array .int
  | 57 => .array .int
  | 58 => .boolean
  | 59 => .int
  | 60 => .int
  | 61 => .int
  | 62 => .int
  | 63 => .boolean
  | 64 => .int
  | 65 => .array .int
  | 66 => .array .int
  | 67 => .array .int
  | 68 => .array .int
  | 69 => .array .int
  | 70 => .int
  | 71 => .array .int
  | 72 => .array .int
  | 73 => .array .int
  | 74 => .boolean
  | 75 => .int
  | 76 => .array .int
  | 77 => .array .int
  | 78 => .array .int
  | 79 => .boolean
  | 80 => .boolean
  | 81 => .boolean
  | 82 => .int
  | 83 => .array .int
  | 84 => .array .int
  | _ => .array .int
theorem nmX10 : ∀ a, a < 86 → ∀ b, b < 86 → a ≠ b → (TX10 a).2.1 ≠ (TX10 b).2.1 := by decide +kernel
theorem tyX10_ok : ∀ k, k < 86 → parseFieldDescriptor (TX10 k).2.2.1 = some (tyX10 k) := by decide +kernel
set_option maxRecDepth 100000 in
theorem in_X10 : ∀ w ∈ u_ws RX10 TX10 86, w ∈ lw_all := lw_in (u_ws RX10 TX10 86) [1785, 1787, 1789, 1791, 1793, 1795, 1797, 1799, 1801, 1803, 1805, 1807, 1809, 1811, 1813, 1815, 1817, 1819, 1821, 1823, 1825, 1827, 1829, 1831, 1833, 1835, 1837, 1839, 1841, 1843, 1845, 1847, 1849, 1851, 1853, 1855, 1857, 1859, 1861, 1863, 1865, 1867, 1869, 1871, 1873, 1875, 1877, 1879, 1881, 1883, 1885, 1887, 1889, 1891, 1893, 1895, 1897, 1899, 1901, 1903, 1905, 1907, 1909, 1911, 1913, 1915, 1917, 1919, 1921, 1923, 1925, 1927, 1929, 1931, 1933, 1935, 1937, 1939, 1941, 1943, 1945, 1947, 1949, 1951, 1953, 1955] (by decide +kernel) (by decide +kernel)
abbrev KC : Type := String × u_T × Nat × (Nat → FieldType) × Nat
def clsL : List KC := [(RX1, TX1, 8, tyX1, 8), (RX2, TX2, 2, tyX2, 2), (RX3, TX3, 6, tyX3, 6), (RJ2, TJ2, 3, tyJ2, 3), (RX4, TX4, 7, tyX4, 7), (RJ4, TJ4, 4, tyJ4, 4), (RX5, TX5, 3, tyX5, 3), (RX6, TX6, 4, tyX6, 4), (RX7, TX7, 2, tyX7, 2), (RX8, TX8, 8, tyX8, 8), (RX9, TX9, 5, tyX9, 5), (RJ16, TJ16, 0, tyJ16, 6), (RJ5, TJ5, 4, tyJ5, 4), (RX11, TX11, 6, tyX11, 6), (RJ18, TJ18, 0, tyJ18, 6), (RX14, TX14, 2, tyX14, 2), (RX15, TX15, 3, tyX15, 3), (RJ21, TJ21, 0, tyJ21, 6), (RX16, TX16, 4, tyX16, 4), (RX12, TX12, 5, tyX12, 5), (RX13, TX13, 4, tyX13, 4), (RX17, TX17, 2, tyX17, 2), (RX18, TX18, 6, tyX18, 6), (RX19, TX19, 5, tyX19, 5), (RX10, TX10, 86, tyX10, 86)]
def clsOK (r : KC) : Prop := (∀ a, a < r.2.2.1 → ∀ b, b < r.2.2.1 → a ≠ b → (r.2.1 a).2.1 ≠ (r.2.1 b).2.1) ∧ (∀ k, k < r.2.2.1 → parseFieldDescriptor (r.2.1 k).2.2.1 = some (r.2.2.2.1 k)) ∧ (∀ w ∈ u_ws r.1 r.2.1 r.2.2.1, w ∈ lw_all)
theorem clsL_ok : ∀ r ∈ clsL, clsOK r := by
  intro r hr
  simp only [clsL, List.mem_cons, List.not_mem_nil, or_false] at hr
  rcases hr with rfl | rfl | rfl | rfl | rfl | rfl | rfl | rfl | rfl | rfl | rfl | rfl | rfl | rfl | rfl | rfl | rfl | rfl | rfl | rfl | rfl | rfl | rfl | rfl | rfl
  · exact ⟨nmX1, tyX1_ok, in_X1⟩
  · exact ⟨nmX2, tyX2_ok, in_X2⟩
  · exact ⟨nmX3, tyX3_ok, in_X3⟩
  · exact ⟨nmJ2, tyJ2_ok, in_J2⟩
  · exact ⟨nmX4, tyX4_ok, in_X4⟩
  · exact ⟨nmJ4, tyJ4_ok, in_J4⟩
  · exact ⟨nmX5, tyX5_ok, in_X5⟩
  · exact ⟨nmX6, tyX6_ok, in_X6⟩
  · exact ⟨nmX7, tyX7_ok, in_X7⟩
  · exact ⟨nmX8, tyX8_ok, in_X8⟩
  · exact ⟨nmX9, tyX9_ok, in_X9⟩
  · exact ⟨nmJ16, tyJ16_ok, in_J16⟩
  · exact ⟨nmJ5, tyJ5_ok, in_J5⟩
  · exact ⟨nmX11, tyX11_ok, in_X11⟩
  · exact ⟨nmJ18, tyJ18_ok, in_J18⟩
  · exact ⟨nmX14, tyX14_ok, in_X14⟩
  · exact ⟨nmX15, tyX15_ok, in_X15⟩
  · exact ⟨nmJ21, tyJ21_ok, in_J21⟩
  · exact ⟨nmX16, tyX16_ok, in_X16⟩
  · exact ⟨nmX12, tyX12_ok, in_X12⟩
  · exact ⟨nmX13, tyX13_ok, in_X13⟩
  · exact ⟨nmX17, tyX17_ok, in_X17⟩
  · exact ⟨nmX18, tyX18_ok, in_X18⟩
  · exact ⟨nmX19, tyX19_ok, in_X19⟩
  · exact ⟨nmX10, tyX10_ok, in_X10⟩
def arrT (t : Nat) : Option FieldType := match t with
  | 1 => some .int
  | 2 => some .byte
  | 3 => some .long
  | 4 => some (.object "java/lang/Object")
  | 5 => some (.object "ConditionedProofs$Meaning")
  | _ => none
