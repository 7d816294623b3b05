/-! the classes of objects: names, fields, their words; printed by gen_classes.py out of claim/names -/
set_option maxRecDepth 100000
/-! OtherTown -/
def RX1 : String := "OtherTown"
def TX1 : u_T := fun k => match k with
  | 0 => ("OtherTown", "tape", "[B", true)
  | 1 => ("OtherTown", "taped", "I", false)
  | 2 => ("OtherTown", "fault", "I", false)
  | 3 => ("OtherTown", "where", "I", false)
  | 4 => ("OtherTown", "trouble", "I", false)
  | 5 => ("OtherTown", "towns", "LOtherTown$Towns;", false)
  | 6 => ("OtherTown", "state", "LOtherTown$State;", false)
  | 7 => ("OtherTown", "tried", "LOtherTown$State;", false)
  | 8 => ("OtherTown", "past", "Ljava/util/ArrayList;", true)
  | 9 => ("OtherTown", "images", "Ljava/util/ArrayList;", true)
  | 10 => ("OtherTown", "did", "[Z", true)
  | _ => ("OtherTown", "otherDid", "[Z", true)
def tyX1 : Nat → FieldType := fun k => match k with
  | 0 => .array .byte
  | 1 => .int
  | 2 => .int
  | 3 => .int
  | 4 => .int
  | 5 => .object "OtherTown$Towns"
  | 6 => .object "OtherTown$State"
  | 7 => .object "OtherTown$State"
  | 8 => .object "java/util/ArrayList"
  | 9 => .object "java/util/ArrayList"
  | 10 => .array .boolean
  | _ => .array .boolean
abbrev wsX10 : List Cond := u_ws RX1 TX1 12
theorem nmX1 : ∀ a, a < 12 → ∀ b, b < 12 → a ≠ b → (TX1 a).2.1 ≠ (TX1 b).2.1 := by decide +kernel
theorem tyX1_ok : ∀ k, k < 12 → parseFieldDescriptor (TX1 k).2.2.1 = some (tyX1 k) := by decide +kernel
theorem in_X1 : ∀ w ∈ wsX10, w ∈ lw_all := lw_in wsX10 [213, 215, 217, 219, 221, 223, 225, 227, 229, 231, 233, 235] (by decide +kernel) (by decide +kernel)
/-! OtherTownModel -/
def RX2 : String := "OtherTownModel"
def TX2 : u_T := fun k => match k with
  | 0 => ("OtherTownModel", "thrown", "I", false)
  | 1 => ("OtherTownModel", "tape", "[I", true)
  | 2 => ("OtherTownModel", "taped", "I", false)
  | 3 => ("OtherTownModel", "size", "I", false)
  | 4 => ("OtherTownModel", "at", "I", false)
  | 5 => ("OtherTownModel", "end", "I", false)
  | 6 => ("OtherTownModel", "token", "I", false)
  | 7 => ("OtherTownModel", "whole", "I", false)
  | 8 => ("OtherTownModel", "nameSize", "I", false)
  | 9 => ("OtherTownModel", "fault", "I", false)
  | 10 => ("OtherTownModel", "place", "I", false)
  | 11 => ("OtherTownModel", "trouble", "I", false)
  | 12 => ("OtherTownModel", "letters", "[I", true)
  | 13 => ("OtherTownModel", "failed", "Z", false)
  | 14 => ("OtherTownModel", "hasTowns", "Z", false)
  | 15 => ("OtherTownModel", "\x72", "[I", true)
  | 16 => ("OtherTownModel", "fresh", "[I", true)
  | 17 => ("OtherTownModel", "st", "[I", true)
  | 18 => ("OtherTownModel", "saved", "[I", true)
  | 19 => ("OtherTownModel", "undone", "[I", true)
  | 20 => ("OtherTownModel", "kept", "[I", true)
  | 21 => ("OtherTownModel", "undos", "I", false)
  | 22 => ("OtherTownModel", "images", "I", false)
  | 23 => ("OtherTownModel", "beds", "[I", true)
  | 24 => ("OtherTownModel", "byClues", "Z", false)
  | 25 => ("OtherTownModel", "rowSide", "I", false)
  | 26 => ("OtherTownModel", "rowMany", "I", false)
  | 27 => ("OtherTownModel", "bestChurch", "I", false)
  | 28 => ("OtherTownModel", "bestTurns", "I", false)
  | 29 => ("OtherTownModel", "bestWorth", "I", false)
  | 30 => ("OtherTownModel", "bestBeds", "[I", true)
  | 31 => ("OtherTownModel", "withIn", "[I", true)
  | 32 => ("OtherTownModel", "some", "[I", true)
  | 33 => ("OtherTownModel", "hears", "[I", true)
  | 34 => ("OtherTownModel", "walkers", "[I", true)
  | 35 => ("OtherTownModel", "lane", "[I", true)
  | 36 => ("OtherTownModel", "way", "[I", true)
  | 37 => ("OtherTownModel", "lanes", "[I", true)
  | 38 => ("OtherTownModel", "walking", "I", false)
  | 39 => ("OtherTownModel", "waited", "I", false)
  | _ => ("OtherTownModel", "lastWho", "I", false)
def tyX2 : Nat → FieldType := fun k => match k with
  | 0 => .int
  | 1 => .array .int
  | 2 => .int
  | 3 => .int
  | 4 => .int
  | 5 => .int
  | 6 => .int
  | 7 => .int
  | 8 => .int
  | 9 => .int
  | 10 => .int
  | 11 => .int
  | 12 => .array .int
  | 13 => .boolean
  | 14 => .boolean
  | 15 => .array .int
  | 16 => .array .int
  | 17 => .array .int
  | 18 => .array .int
  | 19 => .array .int
  | 20 => .array .int
  | 21 => .int
  | 22 => .int
  | 23 => .array .int
  | 24 => .boolean
  | 25 => .int
  | 26 => .int
  | 27 => .int
  | 28 => .int
  | 29 => .int
  | 30 => .array .int
  | 31 => .array .int
  | 32 => .array .int
  | 33 => .array .int
  | 34 => .array .int
  | 35 => .array .int
  | 36 => .array .int
  | 37 => .array .int
  | 38 => .int
  | 39 => .int
  | _ => .int
abbrev wsX20 : List Cond := u_ws RX2 TX2 41
set_option maxRecDepth 100000 in
theorem nmX2 : ∀ a, a < 41 → ∀ b, b < 41 → a ≠ b → (TX2 a).2.1 ≠ (TX2 b).2.1 := by decide +kernel
set_option maxRecDepth 100000 in
theorem tyX2_ok : ∀ k, k < 41 → parseFieldDescriptor (TX2 k).2.2.1 = some (tyX2 k) := by decide +kernel
theorem in_X2 : ∀ w ∈ wsX20, w ∈ lw_all := lw_in wsX20 [1962, 1964, 1966, 1968, 1970, 1972, 1974, 1976, 1978, 1980, 1982, 1984, 1986, 1988, 1990, 1992, 1994, 1996, 1998, 2000, 2002, 2004, 2006, 2008, 2010, 2012, 2014, 2016, 2018, 2020, 2022, 2024, 2026, 2028, 2030, 2032, 2034, 2036, 2038, 2040, 2042] (by decide +kernel) (by decide +kernel)
/-! OtherTown$Reader -/
def RX3 : String := "OtherTown$Reader"
def TX3 : u_T := fun k => match k with
  | 0 => ("OtherTown$Reader", "tokens", "LOtherTown$Tokens;", true)
  | 1 => ("OtherTown$Reader", "towns", "LOtherTown$Towns;", true)
  | 2 => ("OtherTown$Reader", "now", "LOtherTown$Token;", false)
  | 3 => ("OtherTown$Reader", "fault", "I", false)
  | _ => ("OtherTown$Reader", "place", "I", false)
def tyX3 : Nat → FieldType := fun k => match k with
  | 0 => .object "OtherTown$Tokens"
  | 1 => .object "OtherTown$Towns"
  | 2 => .object "OtherTown$Token"
  | 3 => .int
  | _ => .int
abbrev wsX30 : List Cond := u_ws RX3 TX3 5
theorem nmX3 : ∀ a, a < 5 → ∀ b, b < 5 → a ≠ b → (TX3 a).2.1 ≠ (TX3 b).2.1 := by decide +kernel
theorem tyX3_ok : ∀ k, k < 5 → parseFieldDescriptor (TX3 k).2.2.1 = some (tyX3 k) := by decide +kernel
theorem in_X3 : ∀ w ∈ wsX30, w ∈ lw_all := lw_in wsX30 [587, 589, 591, 593, 595] (by decide +kernel) (by decide +kernel)
/-! OtherTown$Tokens -/
def RX4 : String := "OtherTown$Tokens"
def TX4 : u_T := fun k => match k with
  | 0 => ("OtherTown$Tokens", "text", "[B", true)
  | 1 => ("OtherTown$Tokens", "size", "I", true)
  | _ => ("OtherTown$Tokens", "at", "I", false)
def tyX4 : Nat → FieldType := fun k => match k with
  | 0 => .array .byte
  | 1 => .int
  | _ => .int
abbrev wsX40 : List Cond := u_ws RX4 TX4 3
theorem nmX4 : ∀ a, a < 3 → ∀ b, b < 3 → a ≠ b → (TX4 a).2.1 ≠ (TX4 b).2.1 := by decide +kernel
theorem tyX4_ok : ∀ k, k < 3 → parseFieldDescriptor (TX4 k).2.2.1 = some (tyX4 k) := by decide +kernel
theorem in_X4 : ∀ w ∈ wsX40, w ∈ lw_all := lw_in wsX40 [265, 267, 269] (by decide +kernel) (by decide +kernel)
/-! OtherTown$Towns -/
def RX5 : String := "OtherTown$Towns"
def TX5 : u_T := fun k => match k with
  | 0 => ("OtherTown$Towns", "vow", "I", false)
  | 1 => ("OtherTown$Towns", "month", "I", false)
  | 2 => ("OtherTown$Towns", "wide", "I", false)
  | 3 => ("OtherTown$Towns", "turn", "I", false)
  | 4 => ("OtherTown$Towns", "beds", "I", false)
  | 5 => ("OtherTown$Towns", "ill", "I", false)
  | 6 => ("OtherTown$Towns", "houses", "Ljava/util/ArrayList;", true)
  | 7 => ("OtherTown$Towns", "people", "Ljava/util/ArrayList;", true)
  | 8 => ("OtherTown$Towns", "clues", "Ljava/util/ArrayList;", true)
  | 9 => ("OtherTown$Towns", "wants", "[I", true)
  | 10 => ("OtherTown$Towns", "houseOf", "[I", true)
  | 11 => ("OtherTown$Towns", "foes", "I", false)
  | _ => ("OtherTown$Towns", "wanted", "I", false)
def tyX5 : Nat → FieldType := fun k => match k with
  | 0 => .int
  | 1 => .int
  | 2 => .int
  | 3 => .int
  | 4 => .int
  | 5 => .int
  | 6 => .object "java/util/ArrayList"
  | 7 => .object "java/util/ArrayList"
  | 8 => .object "java/util/ArrayList"
  | 9 => .array .int
  | 10 => .array .int
  | 11 => .int
  | _ => .int
abbrev wsX50 : List Cond := u_ws RX5 TX5 13
set_option maxRecDepth 100000 in
theorem nmX5 : ∀ a, a < 13 → ∀ b, b < 13 → a ≠ b → (TX5 a).2.1 ≠ (TX5 b).2.1 := by decide +kernel
set_option maxRecDepth 100000 in
theorem tyX5_ok : ∀ k, k < 13 → parseFieldDescriptor (TX5 k).2.2.1 = some (tyX5 k) := by decide +kernel
theorem in_X5 : ∀ w ∈ wsX50, w ∈ lw_all := lw_in wsX50 [330, 332, 334, 336, 338, 340, 342, 344, 346, 348, 350, 352, 354] (by decide +kernel) (by decide +kernel)
/-! OtherTown$Token -/
def RX6 : String := "OtherTown$Token"
def TX6 : u_T := fun k => match k with
  | 0 => ("OtherTown$Token", "sort", "I", true)
  | 1 => ("OtherTown$Token", "place", "I", true)
  | 2 => ("OtherTown$Token", "number", "I", true)
  | _ => ("OtherTown$Token", "word", "Ljava/lang/String;", true)
def tyX6 : Nat → FieldType := fun k => match k with
  | 0 => .int
  | 1 => .int
  | 2 => .int
  | _ => .object "java/lang/String"
abbrev wsX60 : List Cond := u_ws RX6 TX6 4
theorem nmX6 : ∀ a, a < 4 → ∀ b, b < 4 → a ≠ b → (TX6 a).2.1 ≠ (TX6 b).2.1 := by decide +kernel
theorem tyX6_ok : ∀ k, k < 4 → parseFieldDescriptor (TX6 k).2.2.1 = some (tyX6 k) := by decide +kernel
theorem in_X6 : ∀ w ∈ wsX60, w ∈ lw_all := lw_in wsX60 [381, 383, 385, 387] (by decide +kernel) (by decide +kernel)
/-! OtherTown$House -/
def RX7 : String := "OtherTown$House"
def TX7 : u_T := fun k => match k with
  | 0 => ("OtherTown$House", "name", "Ljava/lang/String;", true)
  | 1 => ("OtherTown$House", "side", "I", true)
  | 2 => ("OtherTown$House", "beds", "I", true)
  | 3 => ("OtherTown$House", "first", "I", true)
  | _ => ("OtherTown$House", "keeps", "[I", false)
def tyX7 : Nat → FieldType := fun k => match k with
  | 0 => .object "java/lang/String"
  | 1 => .int
  | 2 => .int
  | 3 => .int
  | _ => .array .int
abbrev wsX70 : List Cond := u_ws RX7 TX7 5
theorem nmX7 : ∀ a, a < 5 → ∀ b, b < 5 → a ≠ b → (TX7 a).2.1 ≠ (TX7 b).2.1 := by decide +kernel
theorem tyX7_ok : ∀ k, k < 5 → parseFieldDescriptor (TX7 k).2.2.1 = some (tyX7 k) := by decide +kernel
theorem in_X7 : ∀ w ∈ wsX70, w ∈ lw_all := lw_in wsX70 [806, 808, 810, 812, 814] (by decide +kernel) (by decide +kernel)
/-! OtherTown$Sleeper -/
def RX8 : String := "OtherTown$Sleeper"
def TX8 : u_T := fun k => match k with
  | 0 => ("OtherTown$Sleeper", "name", "Ljava/lang/String;", true)
  | 1 => ("OtherTown$Sleeper", "home", "I", false)
  | 2 => ("OtherTown$Sleeper", "side", "I", false)
  | 3 => ("OtherTown$Sleeper", "walks", "I", false)
  | 4 => ("OtherTown$Sleeper", "kin", "I", false)
  | _ => ("OtherTown$Sleeper", "foes", "I", false)
def tyX8 : Nat → FieldType := fun k => match k with
  | 0 => .object "java/lang/String"
  | 1 => .int
  | 2 => .int
  | 3 => .int
  | 4 => .int
  | _ => .int
abbrev wsX80 : List Cond := u_ws RX8 TX8 6
theorem nmX8 : ∀ a, a < 6 → ∀ b, b < 6 → a ≠ b → (TX8 a).2.1 ≠ (TX8 b).2.1 := by decide +kernel
theorem tyX8_ok : ∀ k, k < 6 → parseFieldDescriptor (TX8 k).2.2.1 = some (tyX8 k) := by decide +kernel
theorem in_X8 : ∀ w ∈ wsX80, w ∈ lw_all := lw_in wsX80 [916, 918, 920, 922, 924, 926] (by decide +kernel) (by decide +kernel)
/-! OtherTown$Snorer -/
def RX9 : String := "OtherTown$Snorer"
def TX9 : u_T := fun k => match k with
  | 0 => ("OtherTown$Sleeper", "name", "Ljava/lang/String;", true)
  | 1 => ("OtherTown$Sleeper", "home", "I", false)
  | 2 => ("OtherTown$Sleeper", "side", "I", false)
  | 3 => ("OtherTown$Sleeper", "walks", "I", false)
  | 4 => ("OtherTown$Sleeper", "kin", "I", false)
  | _ => ("OtherTown$Sleeper", "foes", "I", false)
def tyX9 : Nat → FieldType := fun k => match k with
  | 0 => .object "java/lang/String"
  | 1 => .int
  | 2 => .int
  | 3 => .int
  | 4 => .int
  | _ => .int
abbrev wsX90 : List Cond := u_ws RX9 TX9 6
theorem nmX9 : ∀ a, a < 6 → ∀ b, b < 6 → a ≠ b → (TX9 a).2.1 ≠ (TX9 b).2.1 := by decide +kernel
theorem tyX9_ok : ∀ k, k < 6 → parseFieldDescriptor (TX9 k).2.2.1 = some (tyX9 k) := by decide +kernel
theorem in_X9 : ∀ w ∈ wsX90, w ∈ lw_all := lw_in wsX90 [935, 936, 937, 938, 939, 940] (by decide +kernel) (by decide +kernel)
/-! OtherTown$Light -/
def RX10 : String := "OtherTown$Light"
def TX10 : u_T := fun k => match k with
  | 0 => ("OtherTown$Sleeper", "name", "Ljava/lang/String;", true)
  | 1 => ("OtherTown$Sleeper", "home", "I", false)
  | 2 => ("OtherTown$Sleeper", "side", "I", false)
  | 3 => ("OtherTown$Sleeper", "walks", "I", false)
  | 4 => ("OtherTown$Sleeper", "kin", "I", false)
  | _ => ("OtherTown$Sleeper", "foes", "I", false)
def tyX10 : Nat → FieldType := fun k => match k with
  | 0 => .object "java/lang/String"
  | 1 => .int
  | 2 => .int
  | 3 => .int
  | 4 => .int
  | _ => .int
abbrev wsX100 : List Cond := u_ws RX10 TX10 6
theorem nmX10 : ∀ a, a < 6 → ∀ b, b < 6 → a ≠ b → (TX10 a).2.1 ≠ (TX10 b).2.1 := by decide +kernel
theorem tyX10_ok : ∀ k, k < 6 → parseFieldDescriptor (TX10 k).2.2.1 = some (tyX10 k) := by decide +kernel
theorem in_X10 : ∀ w ∈ wsX100, w ∈ lw_all := lw_in wsX100 [948, 949, 950, 951, 952, 953] (by decide +kernel) (by decide +kernel)
/-! OtherTown$Child -/
def RX11 : String := "OtherTown$Child"
def TX11 : u_T := fun k => match k with
  | 0 => ("OtherTown$Sleeper", "name", "Ljava/lang/String;", true)
  | 1 => ("OtherTown$Sleeper", "home", "I", false)
  | 2 => ("OtherTown$Sleeper", "side", "I", false)
  | 3 => ("OtherTown$Sleeper", "walks", "I", false)
  | 4 => ("OtherTown$Sleeper", "kin", "I", false)
  | _ => ("OtherTown$Sleeper", "foes", "I", false)
def tyX11 : Nat → FieldType := fun k => match k with
  | 0 => .object "java/lang/String"
  | 1 => .int
  | 2 => .int
  | 3 => .int
  | 4 => .int
  | _ => .int
abbrev wsX110 : List Cond := u_ws RX11 TX11 6
theorem nmX11 : ∀ a, a < 6 → ∀ b, b < 6 → a ≠ b → (TX11 a).2.1 ≠ (TX11 b).2.1 := by decide +kernel
theorem tyX11_ok : ∀ k, k < 6 → parseFieldDescriptor (TX11 k).2.2.1 = some (tyX11 k) := by decide +kernel
theorem in_X11 : ∀ w ∈ wsX110, w ∈ lw_all := lw_in wsX110 [961, 962, 963, 964, 965, 966] (by decide +kernel) (by decide +kernel)
/-! OtherTown$Clue -/
def RX12 : String := "OtherTown$Clue"
def TX12 : u_T := fun k => match k with
  | 0 => ("OtherTown$Clue", "person", "I", true)
  | _ => ("OtherTown$Clue", "at", "I", true)
def tyX12 : Nat → FieldType := fun k => match k with
  | 0 => .int
  | _ => .int
abbrev wsX120 : List Cond := u_ws RX12 TX12 2
theorem nmX12 : ∀ a, a < 2 → ∀ b, b < 2 → a ≠ b → (TX12 a).2.1 ≠ (TX12 b).2.1 := by decide +kernel
theorem tyX12_ok : ∀ k, k < 2 → parseFieldDescriptor (TX12 k).2.2.1 = some (tyX12 k) := by decide +kernel
theorem in_X12 : ∀ w ∈ wsX120, w ∈ lw_all := lw_in wsX120 [1027, 1029] (by decide +kernel) (by decide +kernel)
/-! OtherTown$State -/
def RX13 : String := "OtherTown$State"
def TX13 : u_T := fun k => match k with
  | 0 => ("OtherTown$State", "towns", "LOtherTown$Towns;", true)
  | 1 => ("OtherTown$State", "bed", "[I", true)
  | 2 => ("OtherTown$State", "turns", "[I", true)
  | 3 => ("OtherTown$State", "slept", "[I", true)
  | 4 => ("OtherTown$State", "knows", "[I", true)
  | 5 => ("OtherTown$State", "together", "[I", true)
  | 6 => ("OtherTown$State", "last", "[I", true)
  | 7 => ("OtherTown$State", "ill", "I", false)
  | 8 => ("OtherTown$State", "nights", "I", false)
  | _ => ("OtherTown$State", "seed", "I", false)
def tyX13 : Nat → FieldType := fun k => match k with
  | 0 => .object "OtherTown$Towns"
  | 1 => .array .int
  | 2 => .array .int
  | 3 => .array .int
  | 4 => .array .int
  | 5 => .array .int
  | 6 => .array .int
  | 7 => .int
  | 8 => .int
  | _ => .int
abbrev wsX130 : List Cond := u_ws RX13 TX13 10
theorem nmX13 : ∀ a, a < 10 → ∀ b, b < 10 → a ≠ b → (TX13 a).2.1 ≠ (TX13 b).2.1 := by decide +kernel
theorem tyX13_ok : ∀ k, k < 10 → parseFieldDescriptor (TX13 k).2.2.1 = some (tyX13 k) := by decide +kernel
theorem in_X13 : ∀ w ∈ wsX130, w ∈ lw_all := lw_in wsX130 [1075, 1077, 1079, 1081, 1083, 1085, 1087, 1089, 1091, 1093] (by decide +kernel) (by decide +kernel)
/-! OtherTown$Count -/
def RX15 : String := "OtherTown$Count"
def TX15 : u_T := fun k => match k with
  | 0 => ("OtherTown$Search", "towns", "LOtherTown$Towns;", true)
  | 1 => ("OtherTown$Search", "state", "LOtherTown$State;", true)
  | 2 => ("OtherTown$Search", "side", "I", true)
  | 3 => ("OtherTown$Search", "row", "[I", true)
  | _ => ("OtherTown$Count", "many", "I", false)
def tyX15 : Nat → FieldType := fun k => match k with
  | 0 => .object "OtherTown$Towns"
  | 1 => .object "OtherTown$State"
  | 2 => .int
  | 3 => .array .int
  | _ => .int
abbrev wsX150 : List Cond := u_ws RX15 TX15 5
theorem nmX15 : ∀ a, a < 5 → ∀ b, b < 5 → a ≠ b → (TX15 a).2.1 ≠ (TX15 b).2.1 := by decide +kernel
theorem tyX15_ok : ∀ k, k < 5 → parseFieldDescriptor (TX15 k).2.2.1 = some (tyX15 k) := by decide +kernel
theorem in_X15 : ∀ w ∈ wsX150, w ∈ lw_all := lw_in wsX150 [1370, 1372, 1374, 1376, 1368] (by decide +kernel) (by decide +kernel)
/-! OtherTown$Best -/
def RX16 : String := "OtherTown$Best"
def TX16 : u_T := fun k => match k with
  | 0 => ("OtherTown$Search", "towns", "LOtherTown$Towns;", true)
  | 1 => ("OtherTown$Search", "state", "LOtherTown$State;", true)
  | 2 => ("OtherTown$Search", "side", "I", true)
  | 3 => ("OtherTown$Search", "row", "[I", true)
  | 4 => ("OtherTown$Best", "best", "[I", true)
  | 5 => ("OtherTown$Best", "church", "I", false)
  | 6 => ("OtherTown$Best", "turns", "I", false)
  | _ => ("OtherTown$Best", "worth", "I", false)
def tyX16 : Nat → FieldType := fun k => match k with
  | 0 => .object "OtherTown$Towns"
  | 1 => .object "OtherTown$State"
  | 2 => .int
  | 3 => .array .int
  | 4 => .array .int
  | 5 => .int
  | 6 => .int
  | _ => .int
abbrev wsX160 : List Cond := u_ws RX16 TX16 8
theorem nmX16 : ∀ a, a < 8 → ∀ b, b < 8 → a ≠ b → (TX16 a).2.1 ≠ (TX16 b).2.1 := by decide +kernel
theorem tyX16_ok : ∀ k, k < 8 → parseFieldDescriptor (TX16 k).2.2.1 = some (tyX16 k) := by decide +kernel
theorem in_X16 : ∀ w ∈ wsX160, w ∈ lw_all := lw_in wsX160 [1414, 1415, 1416, 1417, 1406, 1408, 1410, 1412] (by decide +kernel) (by decide +kernel)
/-! OtherTown$Fits -/
def RX23 : String := "OtherTown$Fits"
def TX23 : u_T := fun k => match k with
  | 0 => ("OtherTown$Search", "towns", "LOtherTown$Towns;", true)
  | 1 => ("OtherTown$Search", "state", "LOtherTown$State;", true)
  | 2 => ("OtherTown$Search", "side", "I", true)
  | 3 => ("OtherTown$Search", "row", "[I", true)
  | 4 => ("OtherTown$Fits", "could", "[I", true)
  | 5 => ("OtherTown$Fits", "inBed", "[I", true)
  | 6 => ("OtherTown$Fits", "churched", "[I", true)
  | 7 => ("OtherTown$Fits", "with", "[I", true)
  | _ => ("OtherTown$Fits", "many", "I", false)
def tyX23 : Nat → FieldType := fun k => match k with
  | 0 => .object "OtherTown$Towns"
  | 1 => .object "OtherTown$State"
  | 2 => .int
  | 3 => .array .int
  | 4 => .array .int
  | 5 => .array .int
  | 6 => .array .int
  | 7 => .array .int
  | _ => .int
abbrev wsX230 : List Cond := u_ws RX23 TX23 9
theorem nmX23 : ∀ a, a < 9 → ∀ b, b < 9 → a ≠ b → (TX23 a).2.1 ≠ (TX23 b).2.1 := by decide +kernel
theorem tyX23_ok : ∀ k, k < 9 → parseFieldDescriptor (TX23 k).2.2.1 = some (tyX23 k) := by decide +kernel
theorem in_X23 : ∀ w ∈ wsX230, w ∈ lw_all := lw_in wsX230 [1731, 1732, 1733, 1734, 1721, 1723, 1725, 1727, 1729] (by decide +kernel) (by decide +kernel)
/-! OtherTown$Bridge -/
def RX17 : String := "OtherTown$Bridge"
def TX17 : u_T := fun k => match k with
  | 0 => ("OtherTown$Bridge", "towns", "LOtherTown$Towns;", true)
  | 1 => ("OtherTown$Bridge", "walker", "[I", true)
  | 2 => ("OtherTown$Bridge", "busy", "[I", true)
  | 3 => ("OtherTown$Bridge", "way", "[I", true)
  | 4 => ("OtherTown$Bridge", "bySide", "[I", true)
  | 5 => ("OtherTown$Bridge", "many", "I", false)
  | 6 => ("OtherTown$Bridge", "over", "I", false)
  | 7 => ("OtherTown$Bridge", "waits", "I", false)
  | _ => ("OtherTown$Bridge", "last", "I", false)
def tyX17 : Nat → FieldType := fun k => match k with
  | 0 => .object "OtherTown$Towns"
  | 1 => .array .int
  | 2 => .array .int
  | 3 => .array .int
  | 4 => .array .int
  | 5 => .int
  | 6 => .int
  | 7 => .int
  | _ => .int
abbrev wsX170 : List Cond := u_ws RX17 TX17 9
theorem nmX17 : ∀ a, a < 9 → ∀ b, b < 9 → a ≠ b → (TX17 a).2.1 ≠ (TX17 b).2.1 := by decide +kernel
theorem tyX17_ok : ∀ k, k < 9 → parseFieldDescriptor (TX17 k).2.2.1 = some (tyX17 k) := by decide +kernel
theorem in_X17 : ∀ w ∈ wsX170, w ∈ lw_all := lw_in wsX170 [1561, 1563, 1565, 1567, 1569, 1571, 1573, 1575, 1577] (by decide +kernel) (by decide +kernel)
/-! OtherTown$Keeper -/
def RX18 : String := "OtherTown$Keeper"
def TX18 : u_T := fun _ => ("", "", "I", false)
abbrev wsX180 : List Cond := u_ws RX18 TX18 0
def tyX18 : Nat → FieldType := fun _ => .int
theorem nmX18 : ∀ a, a < 0 → ∀ b, b < 0 → a ≠ b → (TX18 a).2.1 ≠ (TX18 b).2.1 := fun a h => absurd h (Nat.not_lt_zero a)
theorem tyX18_ok : ∀ k, k < 0 → parseFieldDescriptor (TX18 k).2.2.1 = some (tyX18 k) := fun a h => absurd h (Nat.not_lt_zero a)
theorem in_X18 : ∀ w ∈ wsX180, w ∈ lw_all := fun w h => by cases h
/-! OtherTown$Never -/
def RX19 : String := "OtherTown$Never"
def TX19 : u_T := fun _ => ("", "", "I", false)
abbrev wsX190 : List Cond := u_ws RX19 TX19 0
def tyX19 : Nat → FieldType := fun _ => .int
theorem nmX19 : ∀ a, a < 0 → ∀ b, b < 0 → a ≠ b → (TX19 a).2.1 ≠ (TX19 b).2.1 := fun a h => absurd h (Nat.not_lt_zero a)
theorem tyX19_ok : ∀ k, k < 0 → parseFieldDescriptor (TX19 k).2.2.1 = some (tyX19 k) := fun a h => absurd h (Nat.not_lt_zero a)
theorem in_X19 : ∀ w ∈ wsX190, w ∈ lw_all := fun w h => by cases h
/-! OtherTown$Alike -/
def RX20 : String := "OtherTown$Alike"
def TX20 : u_T := fun _ => ("", "", "I", false)
abbrev wsX200 : List Cond := u_ws RX20 TX20 0
def tyX20 : Nat → FieldType := fun _ => .int
theorem nmX20 : ∀ a, a < 0 → ∀ b, b < 0 → a ≠ b → (TX20 a).2.1 ≠ (TX20 b).2.1 := fun a h => absurd h (Nat.not_lt_zero a)
theorem tyX20_ok : ∀ k, k < 0 → parseFieldDescriptor (TX20 k).2.2.1 = some (tyX20 k) := fun a h => absurd h (Nat.not_lt_zero a)
theorem in_X20 : ∀ w ∈ wsX200, w ∈ lw_all := fun w h => by cases h
/-! OtherTown$Stern -/
def RX21 : String := "OtherTown$Stern"
def TX21 : u_T := fun _ => ("", "", "I", false)
abbrev wsX210 : List Cond := u_ws RX21 TX21 0
def tyX21 : Nat → FieldType := fun _ => .int
theorem nmX21 : ∀ a, a < 0 → ∀ b, b < 0 → a ≠ b → (TX21 a).2.1 ≠ (TX21 b).2.1 := fun a h => absurd h (Nat.not_lt_zero a)
theorem tyX21_ok : ∀ k, k < 0 → parseFieldDescriptor (TX21 k).2.2.1 = some (tyX21 k) := fun a h => absurd h (Nat.not_lt_zero a)
theorem in_X21 : ∀ w ∈ wsX210, w ∈ lw_all := fun w h => by cases h
/-! OtherTown$Second -/
def RX22 : String := "OtherTown$Second"
def TX22 : u_T := fun _ => ("", "", "I", false)
abbrev wsX220 : List Cond := u_ws RX22 TX22 0
def tyX22 : Nat → FieldType := fun _ => .int
theorem nmX22 : ∀ a, a < 0 → ∀ b, b < 0 → a ≠ b → (TX22 a).2.1 ≠ (TX22 b).2.1 := fun a h => absurd h (Nat.not_lt_zero a)
theorem tyX22_ok : ∀ k, k < 0 → parseFieldDescriptor (TX22 k).2.2.1 = some (tyX22 k) := fun a h => absurd h (Nat.not_lt_zero a)
theorem in_X22 : ∀ w ∈ wsX220, w ∈ lw_all := fun w h => by cases h
/-! java/util/ArrayList -/
def RJ2 : String := "java/util/ArrayList"
def TJ2 : u_T := fun k => match k with
  | 0 => ("java/util/AbstractList", "modCount", "I", false)
  | 1 => ("java/util/ArrayList", "elementData", "[Ljava/lang/Object;", false)
  | _ => ("java/util/ArrayList", "size", "I", false)
def tyJ2 : Nat → FieldType := fun k => match k with
  | 0 => .int
  | 1 => .array (.object "java/lang/Object")
  | _ => .int
abbrev wsJ20 : List Cond := u_ws RJ2 TJ2 3
theorem nmJ2 : ∀ a, a < 3 → ∀ b, b < 3 → a ≠ b → (TJ2 a).2.1 ≠ (TJ2 b).2.1 := by decide +kernel
theorem tyJ2_ok : ∀ k, k < 3 → parseFieldDescriptor (TJ2 k).2.2.1 = some (tyJ2 k) := by decide +kernel
theorem in_J2 : ∀ w ∈ wsJ20, w ∈ lw_all := lw_in wsJ20 [197, 193, 195] (by decide +kernel) (by decide +kernel)
/-! java/lang/StringBuilder -/
def RJ4 : String := "java/lang/StringBuilder"
def TJ4 : u_T := fun k => match k with
  | 0 => ("java/lang/AbstractStringBuilder", "value", "[B", false)
  | 1 => ("java/lang/AbstractStringBuilder", "coder", "B", false)
  | 2 => ("java/lang/AbstractStringBuilder", "maybeLatin1", "Z", false)
  | _ => ("java/lang/AbstractStringBuilder", "count", "I", false)
def tyJ4 : Nat → FieldType := fun k => match k with
  | 0 => .array .byte
  | 1 => .byte
  | 2 => .boolean
  | _ => .int
abbrev wsJ40 : List Cond := u_ws RJ4 TJ4 4
theorem nmJ4 : ∀ a, a < 4 → ∀ b, b < 4 → a ≠ b → (TJ4 a).2.1 ≠ (TJ4 b).2.1 := by decide +kernel
theorem tyJ4_ok : ∀ k, k < 4 → parseFieldDescriptor (TJ4 k).2.2.1 = some (tyJ4 k) := by decide +kernel
theorem in_J4 : ∀ w ∈ wsJ40, w ∈ lw_all := lw_in wsJ40 [413, 415, 417, 419] (by decide +kernel) (by decide +kernel)
/-! java/lang/String -/
def RJ5 : String := "java/lang/String"
def TJ5 : u_T := fun k => match k with
  | 0 => ("java/lang/String", "value", "[B", true)
  | 1 => ("java/lang/String", "coder", "B", true)
  | 2 => ("java/lang/String", "hash", "I", false)
  | _ => ("java/lang/String", "hashIsZero", "Z", false)
def tyJ5 : Nat → FieldType := fun k => match k with
  | 0 => .array .byte
  | 1 => .byte
  | 2 => .int
  | _ => .boolean
abbrev wsJ50 : List Cond := u_ws RJ5 TJ5 4
theorem nmJ5 : ∀ a, a < 4 → ∀ b, b < 4 → a ≠ b → (TJ5 a).2.1 ≠ (TJ5 b).2.1 := by decide +kernel
theorem tyJ5_ok : ∀ k, k < 4 → parseFieldDescriptor (TJ5 k).2.2.1 = some (tyJ5 k) := by decide +kernel
theorem in_J5 : ∀ w ∈ wsJ50, w ∈ lw_all := lw_in wsJ50 [571, 573, 575, 577] (by decide +kernel) (by decide +kernel)
/-! java/util/NoSuchElementException -/
def RJ16 : String := "java/util/NoSuchElementException"
def TJ16 : u_T := fun k => match k with
  | 0 => ("java/lang/Throwable", "cause", "Ljava/lang/Throwable;", false)
  | 1 => ("java/lang/Throwable", "stackTrace", "[Ljava/lang/StackTraceElement;", false)
  | 2 => ("java/lang/Throwable", "suppressedExceptions", "Ljava/util/List;", false)
  | 3 => ("java/lang/Throwable", "detailMessage", "Ljava/lang/String;", false)
  | 4 => ("java/lang/Throwable", "backtrace", "Ljava/lang/Object;", false)
  | _ => ("java/lang/Throwable", "depth", "I", false)
def tyJ16 : Nat → FieldType := fun k => match k with
  | 0 => .object "java/lang/Throwable"
  | 1 => .array (.object "java/lang/StackTraceElement")
  | 2 => .object "java/util/List"
  | 3 => .object "java/lang/String"
  | 4 => .object "java/lang/Object"
  | _ => .int
abbrev wsJ160 : List Cond := u_ws RJ16 TJ16 6
theorem nmJ16 : ∀ a, a < 6 → ∀ b, b < 6 → a ≠ b → (TJ16 a).2.1 ≠ (TJ16 b).2.1 := by decide +kernel
theorem tyJ16_ok : ∀ k, k < 6 → parseFieldDescriptor (TJ16 k).2.2.1 = some (tyJ16 k) := by decide +kernel
theorem in_J16 : ∀ w ∈ wsJ160, w ∈ lw_all := lw_in wsJ160 [1865, 1867, 1869, 1871, 1873, 1911] (by decide +kernel) (by decide +kernel)
abbrev vwCl : List vw_C := [(RX1, TX1, 12), (RX2, TX2, 41), (RX3, TX3, 5), (RX4, TX4, 3), (RX5, TX5, 13), (RX6, TX6, 4), (RX7, TX7, 5), (RX8, TX8, 6), (RX9, TX9, 6), (RX10, TX10, 6), (RX11, TX11, 6), (RX12, TX12, 2), (RX13, TX13, 10), (RX15, TX15, 5), (RX16, TX16, 8), (RX23, TX23, 9), (RX17, TX17, 9), (RX18, TX18, 0), (RX19, TX19, 0), (RX20, TX20, 0), (RX21, TX21, 0), (RX22, TX22, 0), (RJ2, TJ2, 3), (RJ4, TJ4, 4), (RJ5, TJ5, 4), (RJ16, TJ16, 6)]
/-- what a class's words say -/
def CLSOK (q : vw_C) : Prop := (∀ w ∈ u_ws q.1 q.2.1 q.2.2, w ∈ lw_all) ∧ ∃ ty : Nat → FieldType, (∀ k, k < q.2.2 → parseFieldDescriptor (q.2.1 k).2.2.1 = some (ty k)) ∧ (∀ a, a < q.2.2 → ∀ b, b < q.2.2 → a ≠ b → (q.2.1 a).2.1 ≠ (q.2.1 b).2.1)
theorem cls_ok : ∀ q ∈ vwCl, CLSOK q := List.forall_mem_cons.mpr ⟨⟨in_X1, tyX1, tyX1_ok, nmX1⟩, List.forall_mem_cons.mpr ⟨⟨in_X2, tyX2, tyX2_ok, nmX2⟩, List.forall_mem_cons.mpr ⟨⟨in_X3, tyX3, tyX3_ok, nmX3⟩, List.forall_mem_cons.mpr ⟨⟨in_X4, tyX4, tyX4_ok, nmX4⟩, List.forall_mem_cons.mpr ⟨⟨in_X5, tyX5, tyX5_ok, nmX5⟩, List.forall_mem_cons.mpr ⟨⟨in_X6, tyX6, tyX6_ok, nmX6⟩, List.forall_mem_cons.mpr ⟨⟨in_X7, tyX7, tyX7_ok, nmX7⟩, List.forall_mem_cons.mpr ⟨⟨in_X8, tyX8, tyX8_ok, nmX8⟩, List.forall_mem_cons.mpr ⟨⟨in_X9, tyX9, tyX9_ok, nmX9⟩, List.forall_mem_cons.mpr ⟨⟨in_X10, tyX10, tyX10_ok, nmX10⟩, List.forall_mem_cons.mpr ⟨⟨in_X11, tyX11, tyX11_ok, nmX11⟩, List.forall_mem_cons.mpr ⟨⟨in_X12, tyX12, tyX12_ok, nmX12⟩, List.forall_mem_cons.mpr ⟨⟨in_X13, tyX13, tyX13_ok, nmX13⟩, List.forall_mem_cons.mpr ⟨⟨in_X15, tyX15, tyX15_ok, nmX15⟩, List.forall_mem_cons.mpr ⟨⟨in_X16, tyX16, tyX16_ok, nmX16⟩, List.forall_mem_cons.mpr ⟨⟨in_X23, tyX23, tyX23_ok, nmX23⟩, List.forall_mem_cons.mpr ⟨⟨in_X17, tyX17, tyX17_ok, nmX17⟩, List.forall_mem_cons.mpr ⟨⟨in_X18, tyX18, tyX18_ok, nmX18⟩, List.forall_mem_cons.mpr ⟨⟨in_X19, tyX19, tyX19_ok, nmX19⟩, List.forall_mem_cons.mpr ⟨⟨in_X20, tyX20, tyX20_ok, nmX20⟩, List.forall_mem_cons.mpr ⟨⟨in_X21, tyX21, tyX21_ok, nmX21⟩, List.forall_mem_cons.mpr ⟨⟨in_X22, tyX22, tyX22_ok, nmX22⟩, List.forall_mem_cons.mpr ⟨⟨in_J2, tyJ2, tyJ2_ok, nmJ2⟩, List.forall_mem_cons.mpr ⟨⟨in_J4, tyJ4, tyJ4_ok, nmJ4⟩, List.forall_mem_cons.mpr ⟨⟨in_J5, tyJ5, tyJ5_ok, nmJ5⟩, List.forall_mem_cons.mpr ⟨⟨in_J16, tyJ16, tyJ16_ok, nmJ16⟩, fun _ h => absurd h List.not_mem_nil⟩⟩⟩⟩⟩⟩⟩⟩⟩⟩⟩⟩⟩⟩⟩⟩⟩⟩⟩⟩⟩⟩⟩⟩⟩⟩
