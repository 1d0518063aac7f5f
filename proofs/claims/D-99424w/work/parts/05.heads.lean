/-! heads of the classes: names, fields, types; the list of classes -/
set_option maxRecDepth 100000
def RX1 : String := "LuckCrates"
def TX1 : u_T := fun k => match k with
  | 0 => ("LuckCrates", "values", "[I", true)
  | 1 => ("LuckCrates", "province", "LLuckCrates$Province;", false)
  | 2 => ("LuckCrates", "coast", "LLuckCrates$Coast;", false)
  | 3 => ("LuckCrates", "tape", "[B", true)
  | 4 => ("LuckCrates", "taped", "I", false)
  | 5 => ("LuckCrates", "faultPlace", "I", false)
  | 6 => ("LuckCrates", "refused", "[I", true)
  | 7 => ("LuckCrates", "acts", "Ljava/util/List;", false)
  | 8 => ("LuckCrates", "seen", "Ljava/util/List;", false)
  | 9 => ("LuckCrates", "coastThen", "LLuckCrates$Coast;", false)
  | 10 => ("LuckCrates", "actsThen", "Ljava/util/List;", false)
  | 11 => ("LuckCrates", "seenThen", "Ljava/util/List;", false)
  | 12 => ("LuckCrates", "tried", "LLuckCrates$Coast;", true)
  | 13 => ("LuckCrates", "lucks", "[I", true)
  | _ => ("LuckCrates", "seed", "I", false)
def tyX1 : Nat → FieldType := fun k => match k with
  | 0 => .array .int
  | 1 => .object "LuckCrates$Province"
  | 2 => .object "LuckCrates$Coast"
  | 3 => .array .byte
  | 4 => .int
  | 5 => .int
  | 6 => .array .int
  | 7 => .object "java/util/List"
  | 8 => .object "java/util/List"
  | 9 => .object "LuckCrates$Coast"
  | 10 => .object "java/util/List"
  | 11 => .object "java/util/List"
  | 12 => .object "LuckCrates$Coast"
  | 13 => .array .int
  | _ => .int
abbrev wsX10 : List Cond := u_ws RX1 TX1 15
theorem nmX1 : ∀ a, a < 15 → ∀ b, b < 15 → a ≠ b → (TX1 a).2.1 ≠ (TX1 b).2.1 := by decide +kernel
theorem tyX1_ok : ∀ k, k < 15 → parseFieldDescriptor (TX1 k).2.2.1 = some (tyX1 k) := by decide +kernel
def RX2 : String := "LuckCrates$Province"
def TX2 : u_T := fun k => match k with
  | 0 => ("LuckCrates$Province", "makes", "Ljava/util/List;", true)
  | 1 => ("LuckCrates$Province", "stakes", "Ljava/util/List;", true)
  | 2 => ("LuckCrates$Province", "ways", "Ljava/util/List;", true)
  | 3 => ("LuckCrates$Province", "crates", "I", false)
  | _ => ("LuckCrates$Province", "odds", "LLuckCrates$Form;", false)
def tyX2 : Nat → FieldType := fun k => match k with
  | 0 => .object "java/util/List"
  | 1 => .object "java/util/List"
  | 2 => .object "java/util/List"
  | 3 => .int
  | _ => .object "LuckCrates$Form"
abbrev wsX20 : List Cond := u_ws RX2 TX2 5
theorem nmX2 : ∀ a, a < 5 → ∀ b, b < 5 → a ≠ b → (TX2 a).2.1 ≠ (TX2 b).2.1 := by decide +kernel
theorem tyX2_ok : ∀ k, k < 5 → parseFieldDescriptor (TX2 k).2.2.1 = some (tyX2 k) := by decide +kernel
def RX3 : String := "LuckCrates$Coast"
def TX3 : u_T := fun k => match k with
  | 0 => ("LuckCrates$Coast", "luck", "[I", true)
  | 1 => ("LuckCrates$Coast", "bad", "[I", true)
  | 2 => ("LuckCrates$Coast", "won", "[I", true)
  | 3 => ("LuckCrates$Coast", "grains", "[I", true)
  | 4 => ("LuckCrates$Coast", "sort", "[I", true)
  | 5 => ("LuckCrates$Coast", "cat", "[I", true)
  | 6 => ("LuckCrates$Coast", "town", "[I", true)
  | 7 => ("LuckCrates$Coast", "toGo", "[I", true)
  | 8 => ("LuckCrates$Coast", "leak", "[I", true)
  | 9 => ("LuckCrates$Coast", "day", "I", false)
  | 10 => ("LuckCrates$Coast", "losers", "I", false)
  | _ => ("LuckCrates$Coast", "this$0", "LLuckCrates;", true)
def tyX3 : Nat → FieldType := fun k => match k with
  | 0 => .array .int
  | 1 => .array .int
  | 2 => .array .int
  | 3 => .array .int
  | 4 => .array .int
  | 5 => .array .int
  | 6 => .array .int
  | 7 => .array .int
  | 8 => .array .int
  | 9 => .int
  | 10 => .int
  | _ => .object "LuckCrates"
abbrev wsX30 : List Cond := u_ws RX3 TX3 12
theorem nmX3 : ∀ a, a < 12 → ∀ b, b < 12 → a ≠ b → (TX3 a).2.1 ≠ (TX3 b).2.1 := by decide +kernel
theorem tyX3_ok : ∀ k, k < 12 → parseFieldDescriptor (TX3 k).2.2.1 = some (tyX3 k) := by decide +kernel
def RX4 : String := "LuckCratesModel"
def TX4 : u_T := fun k => match k with
  | 0 => ("LuckCratesModel", "thrown", "I", false)
  | 1 => ("LuckCratesModel", "towns", "I", false)
  | 2 => ("LuckCratesModel", "ways", "I", false)
  | 3 => ("LuckCratesModel", "crates", "I", false)
  | 4 => ("LuckCratesModel", "oddsAt", "I", false)
  | 5 => ("LuckCratesModel", "makes", "[I", true)
  | 6 => ("LuckCratesModel", "stake", "[I", true)
  | 7 => ("LuckCratesModel", "wayA", "[I", true)
  | 8 => ("LuckCratesModel", "wayB", "[I", true)
  | 9 => ("LuckCratesModel", "wayDays", "[I", true)
  | 10 => ("LuckCratesModel", "wayLeak", "[I", true)
  | 11 => ("LuckCratesModel", "code", "[I", true)
  | 12 => ("LuckCratesModel", "tape", "[I", true)
  | 13 => ("LuckCratesModel", "taped", "I", false)
  | 14 => ("LuckCratesModel", "faultKind", "I", false)
  | 15 => ("LuckCratesModel", "faultPlace", "I", false)
  | 16 => ("LuckCratesModel", "refused", "[I", true)
  | 17 => ("LuckCratesModel", "long1", "I", false)
  | 18 => ("LuckCratesModel", "next0", "I", false)
  | 19 => ("LuckCratesModel", "sort", "I", false)
  | 20 => ("LuckCratesModel", "place", "I", false)
  | 21 => ("LuckCratesModel", "long0", "I", false)
  | 22 => ("LuckCratesModel", "value", "I", false)
  | 23 => ("LuckCratesModel", "sign", "I", false)
  | 24 => ("LuckCratesModel", "word", "J", false)
  | 25 => ("LuckCratesModel", "newTowns", "I", false)
  | 26 => ("LuckCratesModel", "newWays", "I", false)
  | 27 => ("LuckCratesModel", "newCrates", "I", false)
  | 28 => ("LuckCratesModel", "newOddsAt", "I", false)
  | 29 => ("LuckCratesModel", "top", "I", false)
  | 30 => ("LuckCratesModel", "waiting", "I", false)
  | 31 => ("LuckCratesModel", "depth", "I", false)
  | 32 => ("LuckCratesModel", "newMakes", "[I", true)
  | 33 => ("LuckCratesModel", "newStake", "[I", true)
  | 34 => ("LuckCratesModel", "newWayA", "[I", true)
  | 35 => ("LuckCratesModel", "newWayB", "[I", true)
  | 36 => ("LuckCratesModel", "newWayDays", "[I", true)
  | 37 => ("LuckCratesModel", "newWayLeak", "[I", true)
  | 38 => ("LuckCratesModel", "newRow", "[I", true)
  | 39 => ("LuckCratesModel", "readCode", "[I", true)
  | 40 => ("LuckCratesModel", "waits", "[I", true)
  | 41 => ("LuckCratesModel", "tested", "[Z", true)
  | 42 => ("LuckCratesModel", "rows", "[I", true)
  | 43 => ("LuckCratesModel", "ahead", "[I", true)
  | 44 => ("LuckCratesModel", "acts", "I", false)
  | 45 => ("LuckCratesModel", "told", "[I", true)
  | 46 => ("LuckCratesModel", "pile", "[I", true)
  | 47 => ("LuckCratesModel", "winners", "I", false)
  | 48 => ("LuckCratesModel", "farOf", "[I", true)
  | 49 => ("LuckCratesModel", "leakOf", "[I", true)
  | 50 => ("LuckCratesModel", "harm", "[I", true)
  | 51 => ("LuckCratesModel", "likely", "[I", true)
  | 52 => ("LuckCratesModel", "seenMany", "I", false)
  | 53 => ("LuckCratesModel", "seen", "[I", true)
  | 54 => ("LuckCratesModel", "lucks", "[I", true)
  | 55 => ("LuckCratesModel", "lucksAll", "[I", true)
  | 56 => ("LuckCratesModel", "its", "I", false)
  | 57 => ("LuckCratesModel", "hasImage", "Z", false)
  | 58 => ("LuckCratesModel", "imageActs", "I", false)
  | 59 => ("LuckCratesModel", "imageSeen", "I", false)
  | 60 => ("LuckCratesModel", "imageRow", "[I", true)
  | 61 => ("LuckCratesModel", "imageAhead", "[I", true)
  | _ => ("LuckCratesModel", "imageSees", "[I", true)
def tyX4 : Nat → FieldType := fun k => match k with
  | 0 => .int
  | 1 => .int
  | 2 => .int
  | 3 => .int
  | 4 => .int
  | 5 => .array .int
  | 6 => .array .int
  | 7 => .array .int
  | 8 => .array .int
  | 9 => .array .int
  | 10 => .array .int
  | 11 => .array .int
  | 12 => .array .int
  | 13 => .int
  | 14 => .int
  | 15 => .int
  | 16 => .array .int
  | 17 => .int
  | 18 => .int
  | 19 => .int
  | 20 => .int
  | 21 => .int
  | 22 => .int
  | 23 => .int
  | 24 => .long
  | 25 => .int
  | 26 => .int
  | 27 => .int
  | 28 => .int
  | 29 => .int
  | 30 => .int
  | 31 => .int
  | 32 => .array .int
  | 33 => .array .int
  | 34 => .array .int
  | 35 => .array .int
  | 36 => .array .int
  | 37 => .array .int
  | 38 => .array .int
  | 39 => .array .int
  | 40 => .array .int
  | 41 => .array .boolean
  | 42 => .array .int
  | 43 => .array .int
  | 44 => .int
  | 45 => .array .int
  | 46 => .array .int
  | 47 => .int
  | 48 => .array .int
  | 49 => .array .int
  | 50 => .array .int
  | 51 => .array .int
  | 52 => .int
  | 53 => .array .int
  | 54 => .array .int
  | 55 => .array .int
  | 56 => .int
  | 57 => .boolean
  | 58 => .int
  | 59 => .int
  | 60 => .array .int
  | 61 => .array .int
  | _ => .array .int
abbrev wsX40 : List Cond := u_ws RX4 TX4 63
theorem nmX4 : ∀ a, a < 63 → ∀ b, b < 63 → a ≠ b → (TX4 a).2.1 ≠ (TX4 b).2.1 := by decide +kernel
theorem tyX4_ok : ∀ k, k < 63 → parseFieldDescriptor (TX4 k).2.2.1 = some (tyX4 k) := by decide +kernel
def RX5 : String := "LuckCrates$Reader"
def TX5 : u_T := fun k => match k with
  | 0 => ("LuckCrates$Reader", "size", "I", true)
  | 1 => ("LuckCrates$Reader", "made", "LLuckCrates$Province;", true)
  | 2 => ("LuckCrates$Reader", "begun", "LLuckCrates$Coast;", true)
  | 3 => ("LuckCrates$Reader", "names", "[Ljava/lang/String;", true)
  | 4 => ("LuckCrates$Reader", "at", "I", false)
  | 5 => ("LuckCrates$Reader", "token", "I", false)
  | 6 => ("LuckCrates$Reader", "begins", "I", false)
  | 7 => ("LuckCrates$Reader", "ends", "I", false)
  | 8 => ("LuckCrates$Reader", "number", "I", false)
  | _ => ("LuckCrates$Reader", "this$0", "LLuckCrates;", true)
def tyX5 : Nat → FieldType := fun k => match k with
  | 0 => .int
  | 1 => .object "LuckCrates$Province"
  | 2 => .object "LuckCrates$Coast"
  | 3 => .array (.object "java/lang/String")
  | 4 => .int
  | 5 => .int
  | 6 => .int
  | 7 => .int
  | 8 => .int
  | _ => .object "LuckCrates"
abbrev wsX50 : List Cond := u_ws RX5 TX5 10
theorem nmX5 : ∀ a, a < 10 → ∀ b, b < 10 → a ≠ b → (TX5 a).2.1 ≠ (TX5 b).2.1 := by decide +kernel
theorem tyX5_ok : ∀ k, k < 10 → parseFieldDescriptor (TX5 k).2.2.1 = some (tyX5 k) := by decide +kernel
def RX6 : String := "LuckCrates$Wrong"
def TX6 : u_T := fun k => match k with
  | 0 => ("java/lang/Throwable", "cause", "Ljava/lang/Throwable;", false)
  | 1 => ("java/lang/Throwable", "stackTrace", "[Ljava/lang/StackTraceElement;", false)
  | 2 => ("java/lang/Throwable", "suppressedExceptions", "Ljava/util/List;", false)
  | 3 => ("java/lang/Throwable", "detailMessage", "Ljava/lang/String;", false)
  | 4 => ("java/lang/Throwable", "backtrace", "Ljava/lang/Object;", false)
  | 5 => ("java/lang/Throwable", "depth", "I", false)
  | _ => ("LuckCrates$Wrong", "kind", "I", true)
def tyX6 : Nat → FieldType := fun k => match k with
  | 0 => .object "java/lang/Throwable"
  | 1 => .array (.object "java/lang/StackTraceElement")
  | 2 => .object "java/util/List"
  | 3 => .object "java/lang/String"
  | 4 => .object "java/lang/Object"
  | 5 => .int
  | _ => .int
abbrev wsX60 : List Cond := u_ws RX6 TX6 7
theorem nmX6 : ∀ a, a < 7 → ∀ b, b < 7 → a ≠ b → (TX6 a).2.1 ≠ (TX6 b).2.1 := by decide +kernel
theorem tyX6_ok : ∀ k, k < 7 → parseFieldDescriptor (TX6 k).2.2.1 = some (tyX6 k) := by decide +kernel
def RX7 : String := "LuckCrates$Way"
def TX7 : u_T := fun k => match k with
  | 0 => ("LuckCrates$Way", "a", "I", true)
  | 1 => ("LuckCrates$Way", "b", "I", true)
  | 2 => ("LuckCrates$Way", "days", "I", true)
  | _ => ("LuckCrates$Way", "leak", "I", true)
def tyX7 : Nat → FieldType := fun k => match k with
  | 0 => .int
  | 1 => .int
  | 2 => .int
  | _ => .int
abbrev wsX70 : List Cond := u_ws RX7 TX7 4
theorem nmX7 : ∀ a, a < 4 → ∀ b, b < 4 → a ≠ b → (TX7 a).2.1 ≠ (TX7 b).2.1 := by decide +kernel
theorem tyX7_ok : ∀ k, k < 4 → parseFieldDescriptor (TX7 k).2.2.1 = some (tyX7 k) := by decide +kernel
def RX8 : String := "LuckCrates$Chain"
def TX8 : u_T := fun k => match k with
  | 0 => ("LuckCrates$Chain", "forms", "Ljava/util/List;", true)
  | _ => ("LuckCrates$Chain", "signs", "Ljava/lang/StringBuilder;", true)
def tyX8 : Nat → FieldType := fun k => match k with
  | 0 => .object "java/util/List"
  | _ => .object "java/lang/StringBuilder"
abbrev wsX80 : List Cond := u_ws RX8 TX8 2
theorem nmX8 : ∀ a, a < 2 → ∀ b, b < 2 → a ≠ b → (TX8 a).2.1 ≠ (TX8 b).2.1 := by decide +kernel
theorem tyX8_ok : ∀ k, k < 2 → parseFieldDescriptor (TX8 k).2.2.1 = some (tyX8 k) := by decide +kernel
def RX9 : String := "LuckCrates$Number"
def TX9 : u_T := fun k => match k with
  | _ => ("LuckCrates$Number", "value", "I", true)
def tyX9 : Nat → FieldType := fun k => match k with
  | _ => .int
abbrev wsX90 : List Cond := u_ws RX9 TX9 1
theorem nmX9 : ∀ a, a < 1 → ∀ b, b < 1 → a ≠ b → (TX9 a).2.1 ≠ (TX9 b).2.1 := by decide +kernel
theorem tyX9_ok : ∀ k, k < 1 → parseFieldDescriptor (TX9 k).2.2.1 = some (tyX9 k) := by decide +kernel
def RX10 : String := "LuckCrates$Value"
def TX10 : u_T := fun k => match k with
  | _ => ("LuckCrates$Value", "which", "I", true)
def tyX10 : Nat → FieldType := fun k => match k with
  | _ => .int
abbrev wsX100 : List Cond := u_ws RX10 TX10 1
theorem nmX10 : ∀ a, a < 1 → ∀ b, b < 1 → a ≠ b → (TX10 a).2.1 ≠ (TX10 b).2.1 := by decide +kernel
theorem tyX10_ok : ∀ k, k < 1 → parseFieldDescriptor (TX10 k).2.2.1 = some (tyX10 k) := by decide +kernel
def RX11 : String := "LuckCrates$Not"
def TX11 : u_T := fun k => match k with
  | _ => ("LuckCrates$Not", "form", "LLuckCrates$Form;", true)
def tyX11 : Nat → FieldType := fun k => match k with
  | _ => .object "LuckCrates$Form"
abbrev wsX110 : List Cond := u_ws RX11 TX11 1
theorem nmX11 : ∀ a, a < 1 → ∀ b, b < 1 → a ≠ b → (TX11 a).2.1 ≠ (TX11 b).2.1 := by decide +kernel
theorem tyX11_ok : ∀ k, k < 1 → parseFieldDescriptor (TX11 k).2.2.1 = some (tyX11 k) := by decide +kernel
def RJ2 : String := "java/util/ArrayList"
def TJ2 : u_T := fun k => match k with
  | 0 => ("java/util/AbstractList", "modCount", "I", false)
  | 1 => ("java/util/ArrayList", "elementData", "[Ljava/lang/Object;", false)
  | _ => ("java/util/ArrayList", "size", "I", false)
def tyJ2 : Nat → FieldType := fun k => match k with
  | 0 => .int
  | 1 => .array (.object "java/lang/Object")
  | _ => .int
abbrev wsJ20 : List Cond := u_ws RJ2 TJ2 3
theorem nmJ2 : ∀ a, a < 3 → ∀ b, b < 3 → a ≠ b → (TJ2 a).2.1 ≠ (TJ2 b).2.1 := by decide +kernel
theorem tyJ2_ok : ∀ k, k < 3 → parseFieldDescriptor (TJ2 k).2.2.1 = some (tyJ2 k) := by decide +kernel
def RJ14 : String := "java/lang/Integer"
def TJ14 : u_T := fun k => match k with
  | _ => ("java/lang/Integer", "value", "I", true)
def tyJ14 : Nat → FieldType := fun k => match k with
  | _ => .int
abbrev wsJ140 : List Cond := u_ws RJ14 TJ14 1
theorem nmJ14 : ∀ a, a < 1 → ∀ b, b < 1 → a ≠ b → (TJ14 a).2.1 ≠ (TJ14 b).2.1 := by decide +kernel
theorem tyJ14_ok : ∀ k, k < 1 → parseFieldDescriptor (TJ14 k).2.2.1 = some (tyJ14 k) := by decide +kernel
def RJ19 : String := "java/lang/StringBuilder"
def TJ19 : u_T := fun k => match k with
  | 0 => ("java/lang/AbstractStringBuilder", "value", "[B", false)
  | 1 => ("java/lang/AbstractStringBuilder", "coder", "B", false)
  | 2 => ("java/lang/AbstractStringBuilder", "maybeLatin1", "Z", false)
  | _ => ("java/lang/AbstractStringBuilder", "count", "I", false)
def tyJ19 : Nat → FieldType := fun k => match k with
  | 0 => .array .byte
  | 1 => .byte
  | 2 => .boolean
  | _ => .int
abbrev wsJ190 : List Cond := u_ws RJ19 TJ19 4
theorem nmJ19 : ∀ a, a < 4 → ∀ b, b < 4 → a ≠ b → (TJ19 a).2.1 ≠ (TJ19 b).2.1 := by decide +kernel
theorem tyJ19_ok : ∀ k, k < 4 → parseFieldDescriptor (TJ19 k).2.2.1 = some (tyJ19 k) := by decide +kernel
def RJ8 : String := "java/lang/String"
def TJ8 : u_T := fun k => match k with
  | 0 => ("java/lang/String", "value", "[B", true)
  | _ => ("java/lang/String", "coder", "B", true)
abbrev vv_cl : List vw_C := [(RX1, TX1, 15), (RX2, TX2, 5), (RX3, TX3, 12), (RX4, TX4, 63), (RX5, TX5, 10), (RX6, TX6, 7), (RX7, TX7, 4), (RX8, TX8, 2), (RX9, TX9, 1), (RX10, TX10, 1), (RX11, TX11, 1), (RJ2, TJ2, 3), (RJ14, TJ14, 1), (RJ19, TJ19, 4), (RJ8, TJ8, 2)]
abbrev vv_tys : List FieldType := [.int, .byte, .boolean, .long, .object "java/lang/Object", .object "java/lang/String", .array .int, .object "java/lang/Integer"]
def vv_gok (G : vv_G) : Prop := G.1 = vv_cl ∧ G.2.2.2.1 = vv_tys
