def RX1 : String := "BeadChains"
def TX1 : u_T := fun k => match k with
  | 0 => ("BeadChains", "tape", "[B", true)
  | 1 => ("BeadChains", "taped", "I", false)
  | 2 => ("BeadChains", "fault", "I", false)
  | 3 => ("BeadChains", "faultPlace", "I", false)
  | 4 => ("BeadChains", "box", "LBeadChains$Box;", false)
  | 5 => ("BeadChains", "ways", "[J", true)
  | 6 => ("BeadChains", "whole", "I", false)
  | 7 => ("BeadChains", "crumbs", "I", false)
  | 8 => ("BeadChains", "struck", "I", false)
  | 9 => ("BeadChains", "seen", "I", false)
  | 10 => ("BeadChains", "crumbKind", "[I", true)
  | 11 => ("BeadChains", "crumbWeight", "[I", true)
  | 12 => ("BeadChains", "isFresh", "Z", false)
  | 13 => ("BeadChains", "isSpent", "Z", false)
  | 14 => ("BeadChains", "found", "I", false)
  | 15 => ("BeadChains", "looked", "I", false)
  | 16 => ("BeadChains", "growing", "LBeadChains$Row;", true)
  | 17 => ("BeadChains", "judged", "LBeadChains$Row;", true)
  | 18 => ("BeadChains", "kept", "[LBeadChains$Row;", true)
  | 19 => ("BeadChains", "ranks", "[I", true)
  | 20 => ("BeadChains", "scores", "[J", true)
  | 21 => ("BeadChains", "scene", "LBeadChains$Scene;", true)
  | 22 => ("BeadChains", "drawn", "J", false)
  | 23 => ("BeadChains", "hasImage", "Z", false)
  | 24 => ("BeadChains", "imageWhole", "I", false)
  | 25 => ("BeadChains", "imageCrumbs", "I", false)
  | 26 => ("BeadChains", "imageStruck", "I", false)
  | 27 => ("BeadChains", "imageSeen", "I", false)
  | 28 => ("BeadChains", "imageKind", "[I", true)
  | _ => ("BeadChains", "imageWeight", "[I", true)
def tyX1 : Nat → FieldType := fun k => match k with
  | 0 => .array .byte
  | 1 => .int
  | 2 => .int
  | 3 => .int
  | 4 => .object "BeadChains$Box"
  | 5 => .array .long
  | 6 => .int
  | 7 => .int
  | 8 => .int
  | 9 => .int
  | 10 => .array .int
  | 11 => .array .int
  | 12 => .boolean
  | 13 => .boolean
  | 14 => .int
  | 15 => .int
  | 16 => .object "BeadChains$Row"
  | 17 => .object "BeadChains$Row"
  | 18 => .array (.object "BeadChains$Row")
  | 19 => .array .int
  | 20 => .array .long
  | 21 => .object "BeadChains$Scene"
  | 22 => .long
  | 23 => .boolean
  | 24 => .int
  | 25 => .int
  | 26 => .int
  | 27 => .int
  | 28 => .array .int
  | _ => .array .int
abbrev wsX10 : List Cond := u_ws RX1 TX1 30
theorem nmX1 : ∀ a, a < 30 → ∀ b, b < 30 → a ≠ b → (TX1 a).2.1 ≠ (TX1 b).2.1 := by decide +kernel
theorem tyX1_ok : ∀ k, k < 30 → parseFieldDescriptor (TX1 k).2.2.1 = some (tyX1 k) := by decide +kernel
def RX2 : String := "BeadChains$Box"
def TX2 : u_T := fun k => match k with
  | 0 => ("BeadChains$Box", "beads", "Ljava/util/ArrayList;", true)
  | 1 => ("BeadChains$Box", "dusts", "Ljava/util/ArrayList;", true)
  | 2 => ("BeadChains$Box", "letters", "Ljava/util/ArrayList;", true)
  | 3 => ("BeadChains$Box", "apart", "[I", true)
  | 4 => ("BeadChains$Box", "aparts", "I", false)
  | 5 => ("BeadChains$Box", "left", "I", false)
  | 6 => ("BeadChains$Box", "right", "I", false)
  | 7 => ("BeadChains$Box", "scale", "I", false)
  | 8 => ("BeadChains$Box", "noise", "I", false)
  | 9 => ("BeadChains$Box", "dusty", "I", false)
  | 10 => ("BeadChains$Box", "knots", "I", false)
  | 11 => ("BeadChains$Box", "lines", "I", false)
  | 12 => ("BeadChains$Box", "hasEnds", "Z", false)
  | 13 => ("BeadChains$Box", "hasScale", "Z", false)
  | 14 => ("BeadChains$Box", "hasNoise", "Z", false)
  | 15 => ("BeadChains$Box", "hasDusty", "Z", false)
  | 16 => ("BeadChains$Box", "ring", "Z", false)
  | _ => ("BeadChains$Box", "score", "LBeadChains$Node;", false)
def tyX2 : Nat → FieldType := fun k => match k with
  | 0 => .object "java/util/ArrayList"
  | 1 => .object "java/util/ArrayList"
  | 2 => .object "java/util/ArrayList"
  | 3 => .array .int
  | 4 => .int
  | 5 => .int
  | 6 => .int
  | 7 => .int
  | 8 => .int
  | 9 => .int
  | 10 => .int
  | 11 => .int
  | 12 => .boolean
  | 13 => .boolean
  | 14 => .boolean
  | 15 => .boolean
  | 16 => .boolean
  | _ => .object "BeadChains$Node"
abbrev wsX20 : List Cond := u_ws RX2 TX2 18
theorem nmX2 : ∀ a, a < 18 → ∀ b, b < 18 → a ≠ b → (TX2 a).2.1 ≠ (TX2 b).2.1 := by decide +kernel
theorem tyX2_ok : ∀ k, k < 18 → parseFieldDescriptor (TX2 k).2.2.1 = some (tyX2 k) := by decide +kernel
def RX3 : String := "BeadChains$Row"
def TX3 : u_T := fun k => match k with
  | 0 => ("BeadChains$Row", "letters", "[I", true)
  | 1 => ("BeadChains$Row", "sums", "[I", true)
  | 2 => ("BeadChains$Row", "size", "I", false)
  | 3 => ("BeadChains$Row", "dusty", "I", false)
  | _ => ("BeadChains$Row", "this$0", "LBeadChains;", true)
def tyX3 : Nat → FieldType := fun k => match k with
  | 0 => .array .int
  | 1 => .array .int
  | 2 => .int
  | 3 => .int
  | _ => .object "BeadChains"
abbrev wsX30 : List Cond := u_ws RX3 TX3 5
theorem nmX3 : ∀ a, a < 5 → ∀ b, b < 5 → a ≠ b → (TX3 a).2.1 ≠ (TX3 b).2.1 := by decide +kernel
theorem tyX3_ok : ∀ k, k < 5 → parseFieldDescriptor (TX3 k).2.2.1 = some (tyX3 k) := by decide +kernel
def RX4 : String := "BeadChains$Scene"
def TX4 : u_T := fun k => match k with
  | 0 => ("BeadChains$Scene", "names", "[J", true)
  | _ => ("BeadChains$Scene", "error", "Z", false)
def tyX4 : Nat → FieldType := fun k => match k with
  | 0 => .array .long
  | _ => .boolean
abbrev wsX40 : List Cond := u_ws RX4 TX4 2
theorem nmX4 : ∀ a, a < 2 → ∀ b, b < 2 → a ≠ b → (TX4 a).2.1 ≠ (TX4 b).2.1 := by decide +kernel
theorem tyX4_ok : ∀ k, k < 2 → parseFieldDescriptor (TX4 k).2.2.1 = some (tyX4 k) := by decide +kernel
def RX5 : String := "BeadChainsModel"
def TX5 : u_T := fun k => match k with
  | 0 => ("BeadChainsModel", "thrown", "I", false)
  | 1 => ("BeadChainsModel", "tape", "[I", true)
  | 2 => ("BeadChainsModel", "taped", "I", false)
  | 3 => ("BeadChainsModel", "number", "[I", true)
  | 4 => ("BeadChainsModel", "beadName", "[I", true)
  | 5 => ("BeadChainsModel", "beadWeight", "[I", true)
  | 6 => ("BeadChainsModel", "dustName", "[I", true)
  | 7 => ("BeadChainsModel", "dustWeight", "[I", true)
  | 8 => ("BeadChainsModel", "stainedBead", "[I", true)
  | 9 => ("BeadChainsModel", "stainedDust", "[I", true)
  | 10 => ("BeadChainsModel", "apart", "[I", true)
  | 11 => ("BeadChainsModel", "knotSort", "[I", true)
  | 12 => ("BeadChainsModel", "knotValue", "[I", true)
  | 13 => ("BeadChainsModel", "told", "I", false)
  | 14 => ("BeadChainsModel", "lines", "I", false)
  | 15 => ("BeadChainsModel", "size", "I", false)
  | 16 => ("BeadChainsModel", "at", "I", false)
  | 17 => ("BeadChainsModel", "place", "I", false)
  | 18 => ("BeadChainsModel", "sort", "I", false)
  | 19 => ("BeadChainsModel", "value", "I", false)
  | 20 => ("BeadChainsModel", "fault", "I", false)
  | 21 => ("BeadChainsModel", "faultPlace", "I", false)
  | 22 => ("BeadChainsModel", "lastFault", "I", false)
  | 23 => ("BeadChainsModel", "lastPlace", "I", false)
  | 24 => ("BeadChainsModel", "open", "I", false)
  | 25 => ("BeadChainsModel", "counted", "I", false)
  | 26 => ("BeadChainsModel", "letters", "I", false)
  | 27 => ("BeadChainsModel", "letterWeight", "[I", true)
  | 28 => ("BeadChainsModel", "letterBead", "[I", true)
  | 29 => ("BeadChainsModel", "letterDust", "[I", true)
  | 30 => ("BeadChainsModel", "table", "[J", true)
  | 31 => ("BeadChainsModel", "whole", "I", false)
  | 32 => ("BeadChainsModel", "crumbs", "I", false)
  | 33 => ("BeadChainsModel", "knownBy", "I", false)
  | 34 => ("BeadChainsModel", "kindOf", "[I", true)
  | 35 => ("BeadChainsModel", "weightOf", "[I", true)
  | 36 => ("BeadChainsModel", "isStruck", "[Z", true)
  | 37 => ("BeadChainsModel", "hasImage", "Z", false)
  | 38 => ("BeadChainsModel", "imageWhole", "I", false)
  | 39 => ("BeadChainsModel", "imageCrumbs", "I", false)
  | 40 => ("BeadChainsModel", "imageKnown", "I", false)
  | 41 => ("BeadChainsModel", "imageKind", "[I", true)
  | 42 => ("BeadChainsModel", "imageWeight", "[I", true)
  | 43 => ("BeadChainsModel", "imageStruck", "[Z", true)
  | 44 => ("BeadChainsModel", "row", "[I", true)
  | 45 => ("BeadChainsModel", "rowMany", "I", false)
  | 46 => ("BeadChainsModel", "side", "I", false)
  | 47 => ("BeadChainsModel", "begin", "I", false)
  | 48 => ("BeadChainsModel", "howMany", "I", false)
  | 49 => ("BeadChainsModel", "firstStray", "I", false)
  | 50 => ("BeadChainsModel", "foundMany", "I", false)
  | 51 => ("BeadChainsModel", "lookMany", "I", false)
  | 52 => ("BeadChainsModel", "isSpent", "Z", false)
  | 53 => ("BeadChainsModel", "isTooMany", "Z", false)
  | 54 => ("BeadChainsModel", "foundRow", "[I", true)
  | 55 => ("BeadChainsModel", "foundLength", "[I", true)
  | 56 => ("BeadChainsModel", "names", "[J", true)
  | 57 => ("BeadChainsModel", "worked", "[J", true)
  | 58 => ("BeadChainsModel", "workedMany", "I", false)
  | 59 => ("BeadChainsModel", "scores", "[J", true)
  | 60 => ("BeadChainsModel", "outcome", "[I", true)
  | 61 => ("BeadChainsModel", "firstWeighing", "I", false)
  | _ => ("BeadChainsModel", "drawn", "I", false)
def tyX5 : Nat → FieldType := fun k => match k with
  | 0 => .int
  | 1 => .array .int
  | 2 => .int
  | 3 => .array .int
  | 4 => .array .int
  | 5 => .array .int
  | 6 => .array .int
  | 7 => .array .int
  | 8 => .array .int
  | 9 => .array .int
  | 10 => .array .int
  | 11 => .array .int
  | 12 => .array .int
  | 13 => .int
  | 14 => .int
  | 15 => .int
  | 16 => .int
  | 17 => .int
  | 18 => .int
  | 19 => .int
  | 20 => .int
  | 21 => .int
  | 22 => .int
  | 23 => .int
  | 24 => .int
  | 25 => .int
  | 26 => .int
  | 27 => .array .int
  | 28 => .array .int
  | 29 => .array .int
  | 30 => .array .long
  | 31 => .int
  | 32 => .int
  | 33 => .int
  | 34 => .array .int
  | 35 => .array .int
  | 36 => .array .boolean
  | 37 => .boolean
  | 38 => .int
  | 39 => .int
  | 40 => .int
  | 41 => .array .int
  | 42 => .array .int
  | 43 => .array .boolean
  | 44 => .array .int
  | 45 => .int
  | 46 => .int
  | 47 => .int
  | 48 => .int
  | 49 => .int
  | 50 => .int
  | 51 => .int
  | 52 => .boolean
  | 53 => .boolean
  | 54 => .array .int
  | 55 => .array .int
  | 56 => .array .long
  | 57 => .array .long
  | 58 => .int
  | 59 => .array .long
  | 60 => .array .int
  | 61 => .int
  | _ => .int
abbrev wsX50 : List Cond := u_ws RX5 TX5 63
theorem nmX5 : ∀ a, a < 63 → ∀ b, b < 63 → a ≠ b → (TX5 a).2.1 ≠ (TX5 b).2.1 := by decide +kernel
theorem tyX5_ok : ∀ k, k < 63 → parseFieldDescriptor (TX5 k).2.2.1 = some (tyX5 k) := by decide +kernel
def RX6 : String := "BeadChains$Reader"
def TX6 : u_T := fun k => match k with
  | 0 => ("BeadChains$Reader", "size", "I", true)
  | 1 => ("BeadChains$Reader", "v", "LBeadChains$Box;", true)
  | 2 => ("BeadChains$Reader", "next", "I", false)
  | 3 => ("BeadChains$Reader", "kind", "I", false)
  | 4 => ("BeadChains$Reader", "which", "I", false)
  | 5 => ("BeadChains$Reader", "place", "I", false)
  | 6 => ("BeadChains$Reader", "open", "I", false)
  | _ => ("BeadChains$Reader", "this$0", "LBeadChains;", true)
def tyX6 : Nat → FieldType := fun k => match k with
  | 0 => .int
  | 1 => .object "BeadChains$Box"
  | 2 => .int
  | 3 => .int
  | 4 => .int
  | 5 => .int
  | 6 => .int
  | _ => .object "BeadChains"
abbrev wsX60 : List Cond := u_ws RX6 TX6 8
theorem nmX6 : ∀ a, a < 8 → ∀ b, b < 8 → a ≠ b → (TX6 a).2.1 ≠ (TX6 b).2.1 := by decide +kernel
theorem tyX6_ok : ∀ k, k < 8 → parseFieldDescriptor (TX6 k).2.2.1 = some (tyX6 k) := by decide +kernel
def RX7 : String := "BeadChains$Fault"
def TX7 : u_T := fun k => match k with
  | 0 => ("java/lang/Throwable", "cause", "Ljava/lang/Throwable;", false)
  | 1 => ("java/lang/Throwable", "stackTrace", "[Ljava/lang/StackTraceElement;", false)
  | 2 => ("java/lang/Throwable", "suppressedExceptions", "Ljava/util/List;", false)
  | 3 => ("java/lang/Throwable", "detailMessage", "Ljava/lang/String;", false)
  | 4 => ("java/lang/Throwable", "backtrace", "Ljava/lang/Object;", false)
  | 5 => ("java/lang/Throwable", "depth", "I", false)
  | 6 => ("BeadChains$Fault", "kind", "I", true)
  | _ => ("BeadChains$Fault", "place", "I", true)
def tyX7 : Nat → FieldType := fun k => match k with
  | 0 => .object "java/lang/Throwable"
  | 1 => .array (.object "java/lang/StackTraceElement")
  | 2 => .object "java/util/List"
  | 3 => .object "java/lang/String"
  | 4 => .object "java/lang/Object"
  | 5 => .int
  | 6 => .int
  | _ => .int
abbrev wsX70 : List Cond := u_ws RX7 TX7 8
theorem nmX7 : ∀ a, a < 8 → ∀ b, b < 8 → a ≠ b → (TX7 a).2.1 ≠ (TX7 b).2.1 := by decide +kernel
theorem tyX7_ok : ∀ k, k < 8 → parseFieldDescriptor (TX7 k).2.2.1 = some (tyX7 k) := by decide +kernel
def RX8 : String := "BeadChains$Bead"
def TX8 : u_T := fun k => match k with
  | 0 => ("BeadChains$Bead", "name", "I", true)
  | _ => ("BeadChains$Bead", "weight", "I", true)
def tyX8 : Nat → FieldType := fun k => match k with
  | 0 => .int
  | _ => .int
abbrev wsX80 : List Cond := u_ws RX8 TX8 2
theorem nmX8 : ∀ a, a < 2 → ∀ b, b < 2 → a ≠ b → (TX8 a).2.1 ≠ (TX8 b).2.1 := by decide +kernel
theorem tyX8_ok : ∀ k, k < 2 → parseFieldDescriptor (TX8 k).2.2.1 = some (tyX8 k) := by decide +kernel
def RX9 : String := "BeadChains$Letter"
def TX9 : u_T := fun k => match k with
  | 0 => ("BeadChains$Letter", "weight", "I", true)
  | 1 => ("BeadChains$Letter", "bead", "I", true)
  | _ => ("BeadChains$Letter", "dust", "I", true)
def tyX9 : Nat → FieldType := fun k => match k with
  | 0 => .int
  | 1 => .int
  | _ => .int
abbrev wsX90 : List Cond := u_ws RX9 TX9 3
theorem nmX9 : ∀ a, a < 3 → ∀ b, b < 3 → a ≠ b → (TX9 a).2.1 ≠ (TX9 b).2.1 := by decide +kernel
theorem tyX9_ok : ∀ k, k < 3 → parseFieldDescriptor (TX9 k).2.2.1 = some (tyX9 k) := by decide +kernel
def RX10 : String := "BeadChains$Dust"
def TX10 : u_T := fun k => match k with
  | 0 => ("BeadChains$Dust", "name", "I", true)
  | _ => ("BeadChains$Dust", "weight", "I", true)
def tyX10 : Nat → FieldType := fun k => match k with
  | 0 => .int
  | _ => .int
abbrev wsX100 : List Cond := u_ws RX10 TX10 2
theorem nmX10 : ∀ a, a < 2 → ∀ b, b < 2 → a ≠ b → (TX10 a).2.1 ≠ (TX10 b).2.1 := by decide +kernel
theorem tyX10_ok : ∀ k, k < 2 → parseFieldDescriptor (TX10 k).2.2.1 = some (tyX10 k) := by decide +kernel
def RX11 : String := "BeadChains$Name"
def TX11 : u_T := fun k => match k with
  | _ => ("BeadChains$Name", "which", "I", true)
def tyX11 : Nat → FieldType := fun k => match k with
  | _ => .int
abbrev wsX110 : List Cond := u_ws RX11 TX11 1
theorem nmX11 : ∀ a, a < 1 → ∀ b, b < 1 → a ≠ b → (TX11 a).2.1 ≠ (TX11 b).2.1 := by decide +kernel
theorem tyX11_ok : ∀ k, k < 1 → parseFieldDescriptor (TX11 k).2.2.1 = some (tyX11 k) := by decide +kernel
def RX12 : String := "BeadChains$Constant"
def TX12 : u_T := fun k => match k with
  | _ => ("BeadChains$Constant", "number", "J", true)
def tyX12 : Nat → FieldType := fun k => match k with
  | _ => .long
abbrev wsX120 : List Cond := u_ws RX12 TX12 1
theorem nmX12 : ∀ a, a < 1 → ∀ b, b < 1 → a ≠ b → (TX12 a).2.1 ≠ (TX12 b).2.1 := by decide +kernel
theorem tyX12_ok : ∀ k, k < 1 → parseFieldDescriptor (TX12 k).2.2.1 = some (tyX12 k) := by decide +kernel
def RX14 : String := "BeadChains$Worked"
def TX14 : u_T := fun k => match k with
  | 0 => ("BeadChains$Two", "one", "LBeadChains$Node;", true)
  | 1 => ("BeadChains$Two", "other", "LBeadChains$Node;", true)
  | _ => ("BeadChains$Worked", "sign", "I", true)
def tyX14 : Nat → FieldType := fun k => match k with
  | 0 => .object "BeadChains$Node"
  | 1 => .object "BeadChains$Node"
  | _ => .int
abbrev wsX140 : List Cond := u_ws RX14 TX14 3
theorem nmX14 : ∀ a, a < 3 → ∀ b, b < 3 → a ≠ b → (TX14 a).2.1 ≠ (TX14 b).2.1 := by decide +kernel
theorem tyX14_ok : ∀ k, k < 3 → parseFieldDescriptor (TX14 k).2.2.1 = some (tyX14 k) := by decide +kernel
def RX15 : String := "BeadChains$Compared"
def TX15 : u_T := fun k => match k with
  | 0 => ("BeadChains$Two", "one", "LBeadChains$Node;", true)
  | 1 => ("BeadChains$Two", "other", "LBeadChains$Node;", true)
  | _ => ("BeadChains$Compared", "sign", "I", true)
def tyX15 : Nat → FieldType := fun k => match k with
  | 0 => .object "BeadChains$Node"
  | 1 => .object "BeadChains$Node"
  | _ => .int
abbrev wsX150 : List Cond := u_ws RX15 TX15 3
theorem nmX15 : ∀ a, a < 3 → ∀ b, b < 3 → a ≠ b → (TX15 a).2.1 ≠ (TX15 b).2.1 := by decide +kernel
theorem tyX15_ok : ∀ k, k < 3 → parseFieldDescriptor (TX15 k).2.2.1 = some (tyX15 k) := by decide +kernel
def RX16 : String := "BeadChains$Not"
def TX16 : u_T := fun k => match k with
  | _ => ("BeadChains$Not", "of", "LBeadChains$Node;", true)
def tyX16 : Nat → FieldType := fun k => match k with
  | _ => .object "BeadChains$Node"
abbrev wsX160 : List Cond := u_ws RX16 TX16 1
theorem nmX16 : ∀ a, a < 1 → ∀ b, b < 1 → a ≠ b → (TX16 a).2.1 ≠ (TX16 b).2.1 := by decide +kernel
theorem tyX16_ok : ∀ k, k < 1 → parseFieldDescriptor (TX16 k).2.2.1 = some (tyX16 k) := by decide +kernel
def RX17 : String := "BeadChains$Choice"
def TX17 : u_T := fun k => match k with
  | 0 => ("BeadChains$Two", "one", "LBeadChains$Node;", true)
  | 1 => ("BeadChains$Two", "other", "LBeadChains$Node;", true)
  | _ => ("BeadChains$Choice", "both", "Z", true)
def tyX17 : Nat → FieldType := fun k => match k with
  | 0 => .object "BeadChains$Node"
  | 1 => .object "BeadChains$Node"
  | _ => .boolean
abbrev wsX170 : List Cond := u_ws RX17 TX17 3
theorem nmX17 : ∀ a, a < 3 → ∀ b, b < 3 → a ≠ b → (TX17 a).2.1 ≠ (TX17 b).2.1 := by decide +kernel
theorem tyX17_ok : ∀ k, k < 3 → parseFieldDescriptor (TX17 k).2.2.1 = some (tyX17 k) := by decide +kernel
def RJ2 : String := "java/util/ArrayList"
def TJ2 : u_T := fun k => match k with
  | 0 => ("java/util/AbstractList", "modCount", "I", false)
  | 1 => ("java/util/ArrayList", "elementData", "[Ljava/lang/Object;", false)
  | _ => ("java/util/ArrayList", "size", "I", false)
def tyJ2 : Nat → FieldType := fun k => match k with
  | 0 => .int
  | 1 => .array (.object "java/lang/Object")
  | _ => .int
abbrev wsJ20 : List Cond := u_ws RJ2 TJ2 3
theorem nmJ2 : ∀ a, a < 3 → ∀ b, b < 3 → a ≠ b → (TJ2 a).2.1 ≠ (TJ2 b).2.1 := by decide +kernel
theorem tyJ2_ok : ∀ k, k < 3 → parseFieldDescriptor (TJ2 k).2.2.1 = some (tyJ2 k) := by decide +kernel
def RJ5 : String := "java/lang/String"
def TJ5 : u_T := fun k => match k with
  | 0 => ("java/lang/String", "value", "[B", true)
  | _ => ("java/lang/String", "coder", "B", true)
def tyJ5 : Nat → FieldType := fun k => match k with
  | 0 => .array .byte
  | _ => .byte
abbrev wsJ50 : List Cond := u_ws RJ5 TJ5 2
theorem nmJ5 : ∀ a, a < 2 → ∀ b, b < 2 → a ≠ b → (TJ5 a).2.1 ≠ (TJ5 b).2.1 := by decide +kernel
theorem tyJ5_ok : ∀ k, k < 2 → parseFieldDescriptor (TJ5 k).2.2.1 = some (tyJ5 k) := by decide +kernel
def RJ10 : String := "java/lang/Throwable"
def TJ10 : u_T := fun k => match k with
  | 0 => ("java/lang/Throwable", "cause", "Ljava/lang/Throwable;", false)
  | 1 => ("java/lang/Throwable", "stackTrace", "[Ljava/lang/StackTraceElement;", false)
  | 2 => ("java/lang/Throwable", "suppressedExceptions", "Ljava/util/List;", false)
  | 3 => ("java/lang/Throwable", "detailMessage", "Ljava/lang/String;", false)
  | _ => ("java/lang/Throwable", "backtrace", "Ljava/lang/Object;", false)
def tyJ10 : Nat → FieldType := fun k => match k with
  | 0 => .object "java/lang/Throwable"
  | 1 => .array (.object "java/lang/StackTraceElement")
  | 2 => .object "java/util/List"
  | 3 => .object "java/lang/String"
  | _ => .object "java/lang/Object"
abbrev wsJ100 : List Cond := u_ws RJ10 TJ10 5
theorem nmJ10 : ∀ a, a < 5 → ∀ b, b < 5 → a ≠ b → (TJ10 a).2.1 ≠ (TJ10 b).2.1 := by decide +kernel
theorem tyJ10_ok : ∀ k, k < 5 → parseFieldDescriptor (TJ10 k).2.2.1 = some (tyJ10 k) := by decide +kernel
def RJ16 : String := "java/lang/IndexOutOfBoundsException"
def TJ16 : u_T := fun k => match k with
  | 0 => ("java/lang/Throwable", "cause", "Ljava/lang/Throwable;", false)
  | 1 => ("java/lang/Throwable", "stackTrace", "[Ljava/lang/StackTraceElement;", false)
  | 2 => ("java/lang/Throwable", "suppressedExceptions", "Ljava/util/List;", false)
  | 3 => ("java/lang/Throwable", "detailMessage", "Ljava/lang/String;", false)
  | 4 => ("java/lang/Throwable", "backtrace", "Ljava/lang/Object;", false)
  | _ => ("java/lang/Throwable", "depth", "I", false)
def tyJ16 : Nat → FieldType := fun k => match k with
  | 0 => .object "java/lang/Throwable"
  | 1 => .array (.object "java/lang/StackTraceElement")
  | 2 => .object "java/util/List"
  | 3 => .object "java/lang/String"
  | 4 => .object "java/lang/Object"
  | _ => .int
abbrev wsJ160 : List Cond := u_ws RJ16 TJ16 6
theorem nmJ16 : ∀ a, a < 6 → ∀ b, b < 6 → a ≠ b → (TJ16 a).2.1 ≠ (TJ16 b).2.1 := by decide +kernel
theorem tyJ16_ok : ∀ k, k < 6 → parseFieldDescriptor (TJ16 k).2.2.1 = some (tyJ16 k) := by decide +kernel
def RJ17 : String := "java/lang/ArrayIndexOutOfBoundsException"
def TJ17 : u_T := fun k => match k with
  | 0 => ("java/lang/Throwable", "backtrace", "Ljava/lang/Object;", false)
  | 1 => ("java/lang/Throwable", "detailMessage", "Ljava/lang/String;", false)
  | 2 => ("java/lang/Throwable", "cause", "Ljava/lang/Throwable;", false)
  | 3 => ("java/lang/Throwable", "stackTrace", "[Ljava/lang/StackTraceElement;", false)
  | 4 => ("java/lang/Throwable", "depth", "I", false)
  | _ => ("java/lang/Throwable", "suppressedExceptions", "Ljava/util/List;", false)
def tyJ17 : Nat → FieldType := fun k => match k with
  | 0 => .object "java/lang/Object"
  | 1 => .object "java/lang/String"
  | 2 => .object "java/lang/Throwable"
  | 3 => .array (.object "java/lang/StackTraceElement")
  | 4 => .int
  | _ => .object "java/util/List"
abbrev wsJ170 : List Cond := u_ws RJ17 TJ17 6
theorem nmJ17 : ∀ a, a < 6 → ∀ b, b < 6 → a ≠ b → (TJ17 a).2.1 ≠ (TJ17 b).2.1 := by decide +kernel
theorem tyJ17_ok : ∀ k, k < 6 → parseFieldDescriptor (TJ17 k).2.2.1 = some (tyJ17 k) := by decide +kernel
def RJ18 : String := "java/util/NoSuchElementException"
def TJ18 : u_T := fun k => match k with
  | 0 => ("java/lang/Throwable", "cause", "Ljava/lang/Throwable;", false)
  | 1 => ("java/lang/Throwable", "stackTrace", "[Ljava/lang/StackTraceElement;", false)
  | 2 => ("java/lang/Throwable", "suppressedExceptions", "Ljava/util/List;", false)
  | 3 => ("java/lang/Throwable", "detailMessage", "Ljava/lang/String;", false)
  | 4 => ("java/lang/Throwable", "backtrace", "Ljava/lang/Object;", false)
  | _ => ("java/lang/Throwable", "depth", "I", false)
def tyJ18 : Nat → FieldType := fun k => match k with
  | 0 => .object "java/lang/Throwable"
  | 1 => .array (.object "java/lang/StackTraceElement")
  | 2 => .object "java/util/List"
  | 3 => .object "java/lang/String"
  | 4 => .object "java/lang/Object"
  | _ => .int
abbrev wsJ180 : List Cond := u_ws RJ18 TJ18 6
theorem nmJ18 : ∀ a, a < 6 → ∀ b, b < 6 → a ≠ b → (TJ18 a).2.1 ≠ (TJ18 b).2.1 := by decide +kernel
theorem tyJ18_ok : ∀ k, k < 6 → parseFieldDescriptor (TJ18 k).2.2.1 = some (tyJ18 k) := by decide +kernel
def bc_cls : Nat → Option vw_C
  | 2 => some (RX1, TX1, 30)
  | 3 => some (RX2, TX2, 18)
  | 4 => some (RX3, TX3, 5)
  | 5 => some (RX4, TX4, 2)
  | 6 => some (RX5, TX5, 63)
  | 7 => some (RX6, TX6, 8)
  | 8 => some (RX7, TX7, 8)
  | 9 => some (RX8, TX8, 2)
  | 10 => some (RX9, TX9, 3)
  | 11 => some (RX10, TX10, 2)
  | 12 => some (RX11, TX11, 1)
  | 13 => some (RX12, TX12, 1)
  | 15 => some (RX14, TX14, 3)
  | 16 => some (RX15, TX15, 3)
  | 17 => some (RX16, TX16, 1)
  | 18 => some (RX17, TX17, 3)
  | 21 => some (RJ2, TJ2, 3)
  | 24 => some (RJ5, TJ5, 2)
  | 29 => some (RJ10, TJ10, 5)
  | 35 => some (RJ16, TJ16, 6)
  | 36 => some (RJ17, TJ17, 6)
  | 37 => some (RJ18, TJ18, 6)
  | _ => none
