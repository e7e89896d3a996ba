/-! VillageHallsModel -/
set_option maxRecDepth 100000
def RX3 : String := "VillageHallsModel"
def TX3 : u_T := fun k => match k with
  | 0 => ("VillageHallsModel", "thrown", "I", false)
  | 1 => ("VillageHallsModel", "status", "I", false)
  | 2 => ("VillageHallsModel", "setup", "[I", true)
  | 3 => ("VillageHallsModel", "licences", "[I", true)
  | 4 => ("VillageHallsModel", "late", "[I", true)
  | 5 => ("VillageHallsModel", "forfeit", "[I", true)
  | 6 => ("VillageHallsModel", "fire", "[I", true)
  | 7 => ("VillageHallsModel", "rate", "[I", true)
  | 8 => ("VillageHallsModel", "rank", "[I", true)
  | 9 => ("VillageHallsModel", "lane", "[I", true)
  | 10 => ("VillageHallsModel", "many", "[I", true)
  | 11 => ("VillageHallsModel", "item", "[I", true)
  | 12 => ("VillageHallsModel", "tape", "[I", true)
  | 13 => ("VillageHallsModel", "taped", "I", false)
  | 14 => ("VillageHallsModel", "latest", "I", false)
  | 15 => ("VillageHallsModel", "size", "I", false)
  | 16 => ("VillageHallsModel", "cursor", "I", false)
  | 17 => ("VillageHallsModel", "token", "I", false)
  | 18 => ("VillageHallsModel", "from", "I", false)
  | 19 => ("VillageHallsModel", "till", "I", false)
  | 20 => ("VillageHallsModel", "fault", "I", false)
  | 21 => ("VillageHallsModel", "faultAt", "I", false)
  | 22 => ("VillageHallsModel", "isDone", "Z", false)
  | 23 => ("VillageHallsModel", "ruled", "I", false)
  | 24 => ("VillageHallsModel", "bookings", "I", false)
  | 25 => ("VillageHallsModel", "row", "[I", true)
  | 26 => ("VillageHallsModel", "cancelled", "[I", true)
  | 27 => ("VillageHallsModel", "theDay", "I", false)
  | 28 => ("VillageHallsModel", "isWell", "[Z", true)
  | 29 => ("VillageHallsModel", "worth", "[I", true)
  | 30 => ("VillageHallsModel", "against", "[I", true)
  | 31 => ("VillageHallsModel", "movedTo", "[I", true)
  | 32 => ("VillageHallsModel", "toMove", "I", false)
  | 33 => ("VillageHallsModel", "coins", "I", false)
  | 34 => ("VillageHallsModel", "coinHall", "[I", true)
  | 35 => ("VillageHallsModel", "coinAt", "[I", true)
  | 36 => ("VillageHallsModel", "coinMinutes", "[I", true)
  | 37 => ("VillageHallsModel", "gives", "I", false)
  | 38 => ("VillageHallsModel", "giveKey", "[I", true)
  | 39 => ("VillageHallsModel", "giveFrom", "[I", true)
  | 40 => ("VillageHallsModel", "giveTo", "[I", true)
  | 41 => ("VillageHallsModel", "giveDay", "[I", true)
  | 42 => ("VillageHallsModel", "looks", "I", false)
  | 43 => ("VillageHallsModel", "lookHall", "[I", true)
  | 44 => ("VillageHallsModel", "lookAt", "[I", true)
  | 45 => ("VillageHallsModel", "lookDamage", "[I", true)
  | 46 => ("VillageHallsModel", "meetings", "I", false)
  | 47 => ("VillageHallsModel", "members", "[I", true)
  | 48 => ("VillageHallsModel", "yes", "[I", true)
  | 49 => ("VillageHallsModel", "no", "[I", true)
  | 50 => ("VillageHallsModel", "quorum", "[I", true)
  | 51 => ("VillageHallsModel", "hangs", "[I", true)
  | 52 => ("VillageHallsModel", "trace", "[I", true)
  | _ => ("VillageHallsModel", "traced", "I", false)
def tyX3 : Nat → FieldType := fun k => match k with
  | 0 => .int
  | 1 => .int
  | 2 => .array .int
  | 3 => .array .int
  | 4 => .array .int
  | 5 => .array .int
  | 6 => .array .int
  | 7 => .array .int
  | 8 => .array .int
  | 9 => .array .int
  | 10 => .array .int
  | 11 => .array .int
  | 12 => .array .int
  | 13 => .int
  | 14 => .int
  | 15 => .int
  | 16 => .int
  | 17 => .int
  | 18 => .int
  | 19 => .int
  | 20 => .int
  | 21 => .int
  | 22 => .boolean
  | 23 => .int
  | 24 => .int
  | 25 => .array .int
  | 26 => .array .int
  | 27 => .int
  | 28 => .array .boolean
  | 29 => .array .int
  | 30 => .array .int
  | 31 => .array .int
  | 32 => .int
  | 33 => .int
  | 34 => .array .int
  | 35 => .array .int
  | 36 => .array .int
  | 37 => .int
  | 38 => .array .int
  | 39 => .array .int
  | 40 => .array .int
  | 41 => .array .int
  | 42 => .int
  | 43 => .array .int
  | 44 => .array .int
  | 45 => .array .int
  | 46 => .int
  | 47 => .array .int
  | 48 => .array .int
  | 49 => .array .int
  | 50 => .array .int
  | 51 => .array .int
  | 52 => .array .int
  | _ => .int
abbrev wsX30 : List Cond := u_ws RX3 TX3 54
set_option maxRecDepth 100000 in
theorem nmX3 : ∀ a, a < 54 → ∀ b, b < 54 → a ≠ b → (TX3 a).2.1 ≠ (TX3 b).2.1 := by decide +kernel
set_option maxRecDepth 100000 in
theorem tyX3_ok : ∀ k, k < 54 → parseFieldDescriptor (TX3 k).2.2.1 = some (tyX3 k) := by decide +kernel
abbrev cX3_init : ByteArray := prog_19_method_1_code
def yX3_init : MethodName := ⟨RX3, "<init>", "()V"⟩
def dkwX3_init_26 : List UInt8 := [42, 16, 16, 188, 10, 181, 0, 108, 177]
abbrev dktX3_init_26 : List UInt8 := dkwX3_init_26 ++ []
def dkwX3_init_25 : List UInt8 := [42, 16, 10, 188, 10, 181, 0, 99, 42, 16, 10, 188, 10, 181, 0, 102, 42, 16, 10, 188, 10, 181, 0, 105]
abbrev dktX3_init_25 : List UInt8 := dkwX3_init_25 ++ dktX3_init_26
def dkwX3_init_24 : List UInt8 := [42, 16, 40, 188, 10, 181, 0, 90, 42, 16, 10, 188, 10, 181, 0, 93, 42, 16, 10, 188, 10, 181, 0, 96]
abbrev dktX3_init_24 : List UInt8 := dkwX3_init_24 ++ dktX3_init_25
def dkwX3_init_23 : List UInt8 := [42, 16, 40, 188, 10, 181, 0, 81, 42, 16, 40, 188, 10, 181, 0, 84, 42, 16, 40, 188, 10, 181, 0, 87]
abbrev dktX3_init_23 : List UInt8 := dkwX3_init_23 ++ dktX3_init_24
def dkwX3_init_22 : List UInt8 := [42, 16, 40, 188, 10, 181, 0, 72, 42, 16, 40, 188, 10, 181, 0, 75, 42, 16, 40, 188, 10, 181, 0, 78]
abbrev dktX3_init_22 : List UInt8 := dkwX3_init_22 ++ dktX3_init_23
def dkwX3_init_21 : List UInt8 := [42, 16, 40, 188, 10, 181, 0, 63, 42, 16, 40, 188, 10, 181, 0, 66, 42, 16, 40, 188, 10, 181, 0, 69]
abbrev dktX3_init_21 : List UInt8 := dkwX3_init_21 ++ dktX3_init_22
def dkwX3_init_20 : List UInt8 := [42, 18, 49, 188, 10, 181, 0, 54, 42, 16, 16, 188, 10, 181, 0, 57, 42, 16, 16, 188, 10, 181, 0, 60]
abbrev dktX3_init_20 : List UInt8 := dkwX3_init_20 ++ dktX3_init_21
def dkwX3_init_19 : List UInt8 := [17, 0, 144, 188, 10, 181, 0, 43, 42, 16, 16, 188, 10, 181, 0, 46, 42, 18, 49, 188, 4, 181, 0, 50]
abbrev dktX3_init_19 : List UInt8 := dkwX3_init_19 ++ dktX3_init_20
def dkwX3_init_18 : List UInt8 := [181, 0, 34, 42, 17, 1, 224, 188, 10, 181, 0, 37, 42, 17, 1, 144, 188, 10, 181, 0, 40, 42]
abbrev dktX3_init_18 : List UInt8 := dkwX3_init_18 ++ dktX3_init_19
def dkwX3_init_17 : List UInt8 := [89, 8, 2, 79, 89, 16, 6, 2, 79, 89, 16, 7, 2, 79, 181, 0, 31, 42, 16, 8, 188, 10]
abbrev dktX3_init_17 : List UInt8 := dkwX3_init_17 ++ dktX3_init_18
def dkwX3_init_16 : List UInt8 := [16, 8, 188, 10, 89, 3, 2, 79, 89, 4, 2, 79, 89, 5, 2, 79, 89, 6, 2, 79, 89, 7, 2, 79]
abbrev dktX3_init_16 : List UInt8 := dkwX3_init_16 ++ dktX3_init_17
def dkwX3_init_15 : List UInt8 := [89, 16, 16, 4, 79, 89, 16, 17, 5, 79, 89, 16, 18, 6, 79, 89, 16, 19, 7, 79, 181, 0, 28, 42]
abbrev dktX3_init_15 : List UInt8 := dkwX3_init_15 ++ dktX3_init_16
def dkwX3_init_14 : List UInt8 := [16, 11, 4, 79, 89, 16, 12, 5, 79, 89, 16, 13, 6, 79, 89, 16, 14, 7, 79, 89, 16, 15, 3, 79]
abbrev dktX3_init_14 : List UInt8 := dkwX3_init_14 ++ dktX3_init_15
def dkwX3_init_13 : List UInt8 := [4, 79, 89, 16, 7, 5, 79, 89, 16, 8, 6, 79, 89, 16, 9, 7, 79, 89, 16, 10, 3, 79, 89]
abbrev dktX3_init_13 : List UInt8 := dkwX3_init_13 ++ dktX3_init_14
def dkwX3_init_12 : List UInt8 := [79, 89, 4, 4, 79, 89, 5, 5, 79, 89, 6, 6, 79, 89, 7, 7, 79, 89, 8, 3, 79, 89, 16, 6]
abbrev dktX3_init_12 : List UInt8 := dkwX3_init_12 ++ dktX3_init_13
def dkwX3_init_11 : List UInt8 := [79, 89, 16, 18, 16, 10, 79, 89, 16, 19, 16, 10, 79, 181, 0, 25, 42, 16, 20, 188, 10, 89, 3, 3]
abbrev dktX3_init_11 : List UInt8 := dkwX3_init_11 ++ dktX3_init_12
def dkwX3_init_10 : List UInt8 := [79, 89, 16, 14, 16, 10, 79, 89, 16, 15, 16, 10, 79, 89, 16, 16, 16, 10, 79, 89, 16, 17, 16, 10]
abbrev dktX3_init_10 : List UInt8 := dkwX3_init_10 ++ dktX3_init_11
def dkwX3_init_9 : List UInt8 := [79, 89, 16, 10, 16, 10, 79, 89, 16, 11, 16, 10, 79, 89, 16, 12, 16, 10, 79, 89, 16, 13, 16, 10]
abbrev dktX3_init_9 : List UInt8 := dkwX3_init_9 ++ dktX3_init_10
def dkwX3_init_8 : List UInt8 := [79, 89, 16, 6, 16, 10, 79, 89, 16, 7, 16, 10, 79, 89, 16, 8, 16, 10, 79, 89, 16, 9, 16, 10]
abbrev dktX3_init_8 : List UInt8 := dkwX3_init_8 ++ dktX3_init_9
def dkwX3_init_7 : List UInt8 := [89, 4, 16, 10, 79, 89, 5, 16, 10, 79, 89, 6, 16, 10, 79, 89, 7, 16, 10, 79, 89, 8, 16, 10]
abbrev dktX3_init_7 : List UInt8 := dkwX3_init_7 ++ dktX3_init_8
def dkwX3_init_6 : List UInt8 := [16, 6, 16, 100, 79, 89, 16, 7, 16, 100, 79, 181, 0, 22, 42, 16, 20, 188, 10, 89, 3, 16, 10, 79]
abbrev dktX3_init_6 : List UInt8 := dkwX3_init_6 ++ dktX3_init_7
def dkwX3_init_5 : List UInt8 := [16, 100, 79, 89, 5, 16, 100, 79, 89, 6, 16, 100, 79, 89, 7, 16, 100, 79, 89, 8, 16, 100, 79, 89]
abbrev dktX3_init_5 : List UInt8 := dkwX3_init_5 ++ dktX3_init_6
def dkwX3_init_4 : List UInt8 := [5, 16, 50, 79, 89, 6, 16, 50, 79, 181, 0, 19, 42, 16, 8, 188, 10, 89, 3, 16, 100, 79, 89, 4]
abbrev dktX3_init_4 : List UInt8 := dkwX3_init_4 ++ dktX3_init_5
def dkwX3_init_3 : List UInt8 := [79, 89, 6, 16, 7, 79, 181, 0, 16, 42, 7, 188, 10, 89, 3, 16, 50, 79, 89, 4, 16, 50, 79, 89]
abbrev dktX3_init_3 : List UInt8 := dkwX3_init_3 ++ dktX3_init_4
def dkwX3_init_2 : List UInt8 := [16, 12, 79, 181, 0, 13, 42, 7, 188, 10, 89, 3, 16, 7, 79, 89, 4, 16, 7, 79, 89, 5, 16, 7]
abbrev dktX3_init_2 : List UInt8 := dkwX3_init_2 ++ dktX3_init_3
def dkwX3_init_1 : List UInt8 := [181, 0, 7, 42, 7, 188, 10, 89, 3, 16, 12, 79, 89, 4, 16, 12, 79, 89, 5, 16, 12, 79, 89, 6]
abbrev dktX3_init_1 : List UInt8 := dkwX3_init_1 ++ dktX3_init_2
def dkwX3_init_0 : List UInt8 := [42, 183, 0, 1, 42, 7, 188, 10, 89, 3, 5, 79, 89, 4, 5, 79, 89, 5, 5, 79, 89, 6, 5, 79]
abbrev dktX3_init_0 : List UInt8 := dkwX3_init_0 ++ dktX3_init_1
theorem dksX3_init_0 : cX3_init.data.toList.drop 0 = dktX3_init_0 := by decide +kernel
theorem dksX3_init_1 : cX3_init.data.toList.drop 24 = dktX3_init_1 := dk_seg dksX3_init_0 24 rfl rfl
theorem dksX3_init_2 : cX3_init.data.toList.drop 48 = dktX3_init_2 := dk_seg dksX3_init_1 24 rfl rfl
theorem dksX3_init_3 : cX3_init.data.toList.drop 72 = dktX3_init_3 := dk_seg dksX3_init_2 24 rfl rfl
theorem dksX3_init_4 : cX3_init.data.toList.drop 96 = dktX3_init_4 := dk_seg dksX3_init_3 24 rfl rfl
theorem dksX3_init_5 : cX3_init.data.toList.drop 120 = dktX3_init_5 := dk_seg dksX3_init_4 24 rfl rfl
theorem dksX3_init_6 : cX3_init.data.toList.drop 144 = dktX3_init_6 := dk_seg dksX3_init_5 24 rfl rfl
theorem dksX3_init_7 : cX3_init.data.toList.drop 168 = dktX3_init_7 := dk_seg dksX3_init_6 24 rfl rfl
theorem dksX3_init_8 : cX3_init.data.toList.drop 192 = dktX3_init_8 := dk_seg dksX3_init_7 24 rfl rfl
theorem dksX3_init_9 : cX3_init.data.toList.drop 216 = dktX3_init_9 := dk_seg dksX3_init_8 24 rfl rfl
theorem dksX3_init_10 : cX3_init.data.toList.drop 240 = dktX3_init_10 := dk_seg dksX3_init_9 24 rfl rfl
theorem dksX3_init_11 : cX3_init.data.toList.drop 264 = dktX3_init_11 := dk_seg dksX3_init_10 24 rfl rfl
theorem dksX3_init_12 : cX3_init.data.toList.drop 288 = dktX3_init_12 := dk_seg dksX3_init_11 24 rfl rfl
theorem dksX3_init_13 : cX3_init.data.toList.drop 312 = dktX3_init_13 := dk_seg dksX3_init_12 24 rfl rfl
theorem dksX3_init_14 : cX3_init.data.toList.drop 335 = dktX3_init_14 := dk_seg dksX3_init_13 23 rfl rfl
theorem dksX3_init_15 : cX3_init.data.toList.drop 359 = dktX3_init_15 := dk_seg dksX3_init_14 24 rfl rfl
theorem dksX3_init_16 : cX3_init.data.toList.drop 383 = dktX3_init_16 := dk_seg dksX3_init_15 24 rfl rfl
theorem dksX3_init_17 : cX3_init.data.toList.drop 407 = dktX3_init_17 := dk_seg dksX3_init_16 24 rfl rfl
theorem dksX3_init_18 : cX3_init.data.toList.drop 429 = dktX3_init_18 := dk_seg dksX3_init_17 22 rfl rfl
theorem dksX3_init_19 : cX3_init.data.toList.drop 451 = dktX3_init_19 := dk_seg dksX3_init_18 22 rfl rfl
theorem dksX3_init_20 : cX3_init.data.toList.drop 475 = dktX3_init_20 := dk_seg dksX3_init_19 24 rfl rfl
theorem dksX3_init_21 : cX3_init.data.toList.drop 499 = dktX3_init_21 := dk_seg dksX3_init_20 24 rfl rfl
theorem dksX3_init_22 : cX3_init.data.toList.drop 523 = dktX3_init_22 := dk_seg dksX3_init_21 24 rfl rfl
theorem dksX3_init_23 : cX3_init.data.toList.drop 547 = dktX3_init_23 := dk_seg dksX3_init_22 24 rfl rfl
theorem dksX3_init_24 : cX3_init.data.toList.drop 571 = dktX3_init_24 := dk_seg dksX3_init_23 24 rfl rfl
theorem dksX3_init_25 : cX3_init.data.toList.drop 595 = dktX3_init_25 := dk_seg dksX3_init_24 24 rfl rfl
theorem dksX3_init_26 : cX3_init.data.toList.drop 619 = dktX3_init_26 := dk_seg dksX3_init_25 24 rfl rfl
theorem dX3_init_0 : decode cX3_init 0 = .ok (.aload_n 0, 1) := dk_42 (dk_at dksX3_init_0 0 rfl rfl)
theorem dX3_init_1 : decode cX3_init 1 = .ok (.invokespecial 1, 3) := dk_183 0 1 (dk_at dksX3_init_0 1 rfl rfl)
theorem dX3_init_4 : decode cX3_init 4 = .ok (.aload_n 0, 1) := dk_42 (dk_at dksX3_init_0 4 rfl rfl)
theorem dX3_init_5 : decode cX3_init 5 = .ok (.iconst 4, 1) := dk_7 (dk_at dksX3_init_0 5 rfl rfl)
theorem dX3_init_6 : decode cX3_init 6 = .ok (.newarray .int, 2) := dk_188_10 (dk_at dksX3_init_0 6 rfl rfl)
theorem dX3_init_8 : decode cX3_init 8 = .ok (.dup, 1) := dk_89 (dk_at dksX3_init_0 8 rfl rfl)
theorem dX3_init_9 : decode cX3_init 9 = .ok (.iconst 0, 1) := dk_3 (dk_at dksX3_init_0 9 rfl rfl)
theorem dX3_init_10 : decode cX3_init 10 = .ok (.iconst 2, 1) := dk_5 (dk_at dksX3_init_0 10 rfl rfl)
theorem dX3_init_11 : decode cX3_init 11 = .ok (.iastore, 1) := dk_79 (dk_at dksX3_init_0 11 rfl rfl)
theorem dX3_init_12 : decode cX3_init 12 = .ok (.dup, 1) := dk_89 (dk_at dksX3_init_0 12 rfl rfl)
theorem dX3_init_13 : decode cX3_init 13 = .ok (.iconst 1, 1) := dk_4 (dk_at dksX3_init_0 13 rfl rfl)
theorem dX3_init_14 : decode cX3_init 14 = .ok (.iconst 2, 1) := dk_5 (dk_at dksX3_init_0 14 rfl rfl)
theorem dX3_init_15 : decode cX3_init 15 = .ok (.iastore, 1) := dk_79 (dk_at dksX3_init_0 15 rfl rfl)
theorem dX3_init_16 : decode cX3_init 16 = .ok (.dup, 1) := dk_89 (dk_at dksX3_init_0 16 rfl rfl)
theorem dX3_init_17 : decode cX3_init 17 = .ok (.iconst 2, 1) := dk_5 (dk_at dksX3_init_0 17 rfl rfl)
theorem dX3_init_18 : decode cX3_init 18 = .ok (.iconst 2, 1) := dk_5 (dk_at dksX3_init_0 18 rfl rfl)
theorem dX3_init_19 : decode cX3_init 19 = .ok (.iastore, 1) := dk_79 (dk_at dksX3_init_0 19 rfl rfl)
theorem dX3_init_20 : decode cX3_init 20 = .ok (.dup, 1) := dk_89 (dk_at dksX3_init_0 20 rfl rfl)
theorem dX3_init_21 : decode cX3_init 21 = .ok (.iconst 3, 1) := dk_6 (dk_at dksX3_init_0 21 rfl rfl)
theorem dX3_init_22 : decode cX3_init 22 = .ok (.iconst 2, 1) := dk_5 (dk_at dksX3_init_0 22 rfl rfl)
theorem dX3_init_23 : decode cX3_init 23 = .ok (.iastore, 1) := dk_79 (dk_at dksX3_init_0 23 rfl rfl)
theorem dX3_init_24 : decode cX3_init 24 = .ok (.putfield 7, 3) := dk_181 0 7 (dk_at dksX3_init_1 0 rfl rfl)
theorem dX3_init_27 : decode cX3_init 27 = .ok (.aload_n 0, 1) := dk_42 (dk_at dksX3_init_1 3 rfl rfl)
theorem dX3_init_28 : decode cX3_init 28 = .ok (.iconst 4, 1) := dk_7 (dk_at dksX3_init_1 4 rfl rfl)
theorem dX3_init_29 : decode cX3_init 29 = .ok (.newarray .int, 2) := dk_188_10 (dk_at dksX3_init_1 5 rfl rfl)
theorem dX3_init_31 : decode cX3_init 31 = .ok (.dup, 1) := dk_89 (dk_at dksX3_init_1 7 rfl rfl)
theorem dX3_init_32 : decode cX3_init 32 = .ok (.iconst 0, 1) := dk_3 (dk_at dksX3_init_1 8 rfl rfl)
theorem dX3_init_33 : decode cX3_init 33 = .ok (.bipush 12, 2) := dk_16 12 (dk_at dksX3_init_1 9 rfl rfl)
theorem dX3_init_35 : decode cX3_init 35 = .ok (.iastore, 1) := dk_79 (dk_at dksX3_init_1 11 rfl rfl)
theorem dX3_init_36 : decode cX3_init 36 = .ok (.dup, 1) := dk_89 (dk_at dksX3_init_1 12 rfl rfl)
theorem dX3_init_37 : decode cX3_init 37 = .ok (.iconst 1, 1) := dk_4 (dk_at dksX3_init_1 13 rfl rfl)
theorem dX3_init_38 : decode cX3_init 38 = .ok (.bipush 12, 2) := dk_16 12 (dk_at dksX3_init_1 14 rfl rfl)
theorem dX3_init_40 : decode cX3_init 40 = .ok (.iastore, 1) := dk_79 (dk_at dksX3_init_1 16 rfl rfl)
theorem dX3_init_41 : decode cX3_init 41 = .ok (.dup, 1) := dk_89 (dk_at dksX3_init_1 17 rfl rfl)
theorem dX3_init_42 : decode cX3_init 42 = .ok (.iconst 2, 1) := dk_5 (dk_at dksX3_init_1 18 rfl rfl)
theorem dX3_init_43 : decode cX3_init 43 = .ok (.bipush 12, 2) := dk_16 12 (dk_at dksX3_init_1 19 rfl rfl)
theorem dX3_init_45 : decode cX3_init 45 = .ok (.iastore, 1) := dk_79 (dk_at dksX3_init_1 21 rfl rfl)
theorem dX3_init_46 : decode cX3_init 46 = .ok (.dup, 1) := dk_89 (dk_at dksX3_init_1 22 rfl rfl)
theorem dX3_init_47 : decode cX3_init 47 = .ok (.iconst 3, 1) := dk_6 (dk_at dksX3_init_1 23 rfl rfl)
theorem dX3_init_48 : decode cX3_init 48 = .ok (.bipush 12, 2) := dk_16 12 (dk_at dksX3_init_2 0 rfl rfl)
theorem dX3_init_50 : decode cX3_init 50 = .ok (.iastore, 1) := dk_79 (dk_at dksX3_init_2 2 rfl rfl)
theorem dX3_init_51 : decode cX3_init 51 = .ok (.putfield 13, 3) := dk_181 0 13 (dk_at dksX3_init_2 3 rfl rfl)
theorem dX3_init_54 : decode cX3_init 54 = .ok (.aload_n 0, 1) := dk_42 (dk_at dksX3_init_2 6 rfl rfl)
theorem dX3_init_55 : decode cX3_init 55 = .ok (.iconst 4, 1) := dk_7 (dk_at dksX3_init_2 7 rfl rfl)
theorem dX3_init_56 : decode cX3_init 56 = .ok (.newarray .int, 2) := dk_188_10 (dk_at dksX3_init_2 8 rfl rfl)
theorem dX3_init_58 : decode cX3_init 58 = .ok (.dup, 1) := dk_89 (dk_at dksX3_init_2 10 rfl rfl)
theorem dX3_init_59 : decode cX3_init 59 = .ok (.iconst 0, 1) := dk_3 (dk_at dksX3_init_2 11 rfl rfl)
theorem dX3_init_60 : decode cX3_init 60 = .ok (.bipush 7, 2) := dk_16 7 (dk_at dksX3_init_2 12 rfl rfl)
theorem dX3_init_62 : decode cX3_init 62 = .ok (.iastore, 1) := dk_79 (dk_at dksX3_init_2 14 rfl rfl)
theorem dX3_init_63 : decode cX3_init 63 = .ok (.dup, 1) := dk_89 (dk_at dksX3_init_2 15 rfl rfl)
theorem dX3_init_64 : decode cX3_init 64 = .ok (.iconst 1, 1) := dk_4 (dk_at dksX3_init_2 16 rfl rfl)
theorem dX3_init_65 : decode cX3_init 65 = .ok (.bipush 7, 2) := dk_16 7 (dk_at dksX3_init_2 17 rfl rfl)
theorem dX3_init_67 : decode cX3_init 67 = .ok (.iastore, 1) := dk_79 (dk_at dksX3_init_2 19 rfl rfl)
theorem dX3_init_68 : decode cX3_init 68 = .ok (.dup, 1) := dk_89 (dk_at dksX3_init_2 20 rfl rfl)
theorem dX3_init_69 : decode cX3_init 69 = .ok (.iconst 2, 1) := dk_5 (dk_at dksX3_init_2 21 rfl rfl)
theorem dX3_init_70 : decode cX3_init 70 = .ok (.bipush 7, 2) := dk_16 7 (dk_at dksX3_init_2 22 rfl rfl)
theorem dX3_init_72 : decode cX3_init 72 = .ok (.iastore, 1) := dk_79 (dk_at dksX3_init_3 0 rfl rfl)
theorem dX3_init_73 : decode cX3_init 73 = .ok (.dup, 1) := dk_89 (dk_at dksX3_init_3 1 rfl rfl)
theorem dX3_init_74 : decode cX3_init 74 = .ok (.iconst 3, 1) := dk_6 (dk_at dksX3_init_3 2 rfl rfl)
theorem dX3_init_75 : decode cX3_init 75 = .ok (.bipush 7, 2) := dk_16 7 (dk_at dksX3_init_3 3 rfl rfl)
theorem dX3_init_77 : decode cX3_init 77 = .ok (.iastore, 1) := dk_79 (dk_at dksX3_init_3 5 rfl rfl)
theorem dX3_init_78 : decode cX3_init 78 = .ok (.putfield 16, 3) := dk_181 0 16 (dk_at dksX3_init_3 6 rfl rfl)
theorem dX3_init_81 : decode cX3_init 81 = .ok (.aload_n 0, 1) := dk_42 (dk_at dksX3_init_3 9 rfl rfl)
theorem dX3_init_82 : decode cX3_init 82 = .ok (.iconst 4, 1) := dk_7 (dk_at dksX3_init_3 10 rfl rfl)
theorem dX3_init_83 : decode cX3_init 83 = .ok (.newarray .int, 2) := dk_188_10 (dk_at dksX3_init_3 11 rfl rfl)
theorem dX3_init_85 : decode cX3_init 85 = .ok (.dup, 1) := dk_89 (dk_at dksX3_init_3 13 rfl rfl)
theorem dX3_init_86 : decode cX3_init 86 = .ok (.iconst 0, 1) := dk_3 (dk_at dksX3_init_3 14 rfl rfl)
theorem dX3_init_87 : decode cX3_init 87 = .ok (.bipush 50, 2) := dk_16 50 (dk_at dksX3_init_3 15 rfl rfl)
theorem dX3_init_89 : decode cX3_init 89 = .ok (.iastore, 1) := dk_79 (dk_at dksX3_init_3 17 rfl rfl)
theorem dX3_init_90 : decode cX3_init 90 = .ok (.dup, 1) := dk_89 (dk_at dksX3_init_3 18 rfl rfl)
theorem dX3_init_91 : decode cX3_init 91 = .ok (.iconst 1, 1) := dk_4 (dk_at dksX3_init_3 19 rfl rfl)
theorem dX3_init_92 : decode cX3_init 92 = .ok (.bipush 50, 2) := dk_16 50 (dk_at dksX3_init_3 20 rfl rfl)
theorem dX3_init_94 : decode cX3_init 94 = .ok (.iastore, 1) := dk_79 (dk_at dksX3_init_3 22 rfl rfl)
theorem dX3_init_95 : decode cX3_init 95 = .ok (.dup, 1) := dk_89 (dk_at dksX3_init_3 23 rfl rfl)
theorem dX3_init_96 : decode cX3_init 96 = .ok (.iconst 2, 1) := dk_5 (dk_at dksX3_init_4 0 rfl rfl)
theorem dX3_init_97 : decode cX3_init 97 = .ok (.bipush 50, 2) := dk_16 50 (dk_at dksX3_init_4 1 rfl rfl)
theorem dX3_init_99 : decode cX3_init 99 = .ok (.iastore, 1) := dk_79 (dk_at dksX3_init_4 3 rfl rfl)
theorem dX3_init_100 : decode cX3_init 100 = .ok (.dup, 1) := dk_89 (dk_at dksX3_init_4 4 rfl rfl)
theorem dX3_init_101 : decode cX3_init 101 = .ok (.iconst 3, 1) := dk_6 (dk_at dksX3_init_4 5 rfl rfl)
theorem dX3_init_102 : decode cX3_init 102 = .ok (.bipush 50, 2) := dk_16 50 (dk_at dksX3_init_4 6 rfl rfl)
theorem dX3_init_104 : decode cX3_init 104 = .ok (.iastore, 1) := dk_79 (dk_at dksX3_init_4 8 rfl rfl)
theorem dX3_init_105 : decode cX3_init 105 = .ok (.putfield 19, 3) := dk_181 0 19 (dk_at dksX3_init_4 9 rfl rfl)
theorem dX3_init_108 : decode cX3_init 108 = .ok (.aload_n 0, 1) := dk_42 (dk_at dksX3_init_4 12 rfl rfl)
theorem dX3_init_109 : decode cX3_init 109 = .ok (.bipush 8, 2) := dk_16 8 (dk_at dksX3_init_4 13 rfl rfl)
theorem dX3_init_111 : decode cX3_init 111 = .ok (.newarray .int, 2) := dk_188_10 (dk_at dksX3_init_4 15 rfl rfl)
theorem dX3_init_113 : decode cX3_init 113 = .ok (.dup, 1) := dk_89 (dk_at dksX3_init_4 17 rfl rfl)
theorem dX3_init_114 : decode cX3_init 114 = .ok (.iconst 0, 1) := dk_3 (dk_at dksX3_init_4 18 rfl rfl)
theorem dX3_init_115 : decode cX3_init 115 = .ok (.bipush 100, 2) := dk_16 100 (dk_at dksX3_init_4 19 rfl rfl)
theorem dX3_init_117 : decode cX3_init 117 = .ok (.iastore, 1) := dk_79 (dk_at dksX3_init_4 21 rfl rfl)
theorem dX3_init_118 : decode cX3_init 118 = .ok (.dup, 1) := dk_89 (dk_at dksX3_init_4 22 rfl rfl)
theorem dX3_init_119 : decode cX3_init 119 = .ok (.iconst 1, 1) := dk_4 (dk_at dksX3_init_4 23 rfl rfl)
theorem dX3_init_120 : decode cX3_init 120 = .ok (.bipush 100, 2) := dk_16 100 (dk_at dksX3_init_5 0 rfl rfl)
theorem dX3_init_122 : decode cX3_init 122 = .ok (.iastore, 1) := dk_79 (dk_at dksX3_init_5 2 rfl rfl)
theorem dX3_init_123 : decode cX3_init 123 = .ok (.dup, 1) := dk_89 (dk_at dksX3_init_5 3 rfl rfl)
theorem dX3_init_124 : decode cX3_init 124 = .ok (.iconst 2, 1) := dk_5 (dk_at dksX3_init_5 4 rfl rfl)
theorem dX3_init_125 : decode cX3_init 125 = .ok (.bipush 100, 2) := dk_16 100 (dk_at dksX3_init_5 5 rfl rfl)
theorem dX3_init_127 : decode cX3_init 127 = .ok (.iastore, 1) := dk_79 (dk_at dksX3_init_5 7 rfl rfl)
theorem dX3_init_128 : decode cX3_init 128 = .ok (.dup, 1) := dk_89 (dk_at dksX3_init_5 8 rfl rfl)
theorem dX3_init_129 : decode cX3_init 129 = .ok (.iconst 3, 1) := dk_6 (dk_at dksX3_init_5 9 rfl rfl)
theorem dX3_init_130 : decode cX3_init 130 = .ok (.bipush 100, 2) := dk_16 100 (dk_at dksX3_init_5 10 rfl rfl)
theorem dX3_init_132 : decode cX3_init 132 = .ok (.iastore, 1) := dk_79 (dk_at dksX3_init_5 12 rfl rfl)
theorem dX3_init_133 : decode cX3_init 133 = .ok (.dup, 1) := dk_89 (dk_at dksX3_init_5 13 rfl rfl)
theorem dX3_init_134 : decode cX3_init 134 = .ok (.iconst 4, 1) := dk_7 (dk_at dksX3_init_5 14 rfl rfl)
theorem dX3_init_135 : decode cX3_init 135 = .ok (.bipush 100, 2) := dk_16 100 (dk_at dksX3_init_5 15 rfl rfl)
theorem dX3_init_137 : decode cX3_init 137 = .ok (.iastore, 1) := dk_79 (dk_at dksX3_init_5 17 rfl rfl)
theorem dX3_init_138 : decode cX3_init 138 = .ok (.dup, 1) := dk_89 (dk_at dksX3_init_5 18 rfl rfl)
theorem dX3_init_139 : decode cX3_init 139 = .ok (.iconst 5, 1) := dk_8 (dk_at dksX3_init_5 19 rfl rfl)
theorem dX3_init_140 : decode cX3_init 140 = .ok (.bipush 100, 2) := dk_16 100 (dk_at dksX3_init_5 20 rfl rfl)
theorem dX3_init_142 : decode cX3_init 142 = .ok (.iastore, 1) := dk_79 (dk_at dksX3_init_5 22 rfl rfl)
theorem dX3_init_143 : decode cX3_init 143 = .ok (.dup, 1) := dk_89 (dk_at dksX3_init_5 23 rfl rfl)
theorem dX3_init_144 : decode cX3_init 144 = .ok (.bipush 6, 2) := dk_16 6 (dk_at dksX3_init_6 0 rfl rfl)
theorem dX3_init_146 : decode cX3_init 146 = .ok (.bipush 100, 2) := dk_16 100 (dk_at dksX3_init_6 2 rfl rfl)
theorem dX3_init_148 : decode cX3_init 148 = .ok (.iastore, 1) := dk_79 (dk_at dksX3_init_6 4 rfl rfl)
theorem dX3_init_149 : decode cX3_init 149 = .ok (.dup, 1) := dk_89 (dk_at dksX3_init_6 5 rfl rfl)
theorem dX3_init_150 : decode cX3_init 150 = .ok (.bipush 7, 2) := dk_16 7 (dk_at dksX3_init_6 6 rfl rfl)
theorem dX3_init_152 : decode cX3_init 152 = .ok (.bipush 100, 2) := dk_16 100 (dk_at dksX3_init_6 8 rfl rfl)
theorem dX3_init_154 : decode cX3_init 154 = .ok (.iastore, 1) := dk_79 (dk_at dksX3_init_6 10 rfl rfl)
theorem dX3_init_155 : decode cX3_init 155 = .ok (.putfield 22, 3) := dk_181 0 22 (dk_at dksX3_init_6 11 rfl rfl)
theorem dX3_init_158 : decode cX3_init 158 = .ok (.aload_n 0, 1) := dk_42 (dk_at dksX3_init_6 14 rfl rfl)
theorem dX3_init_159 : decode cX3_init 159 = .ok (.bipush 20, 2) := dk_16 20 (dk_at dksX3_init_6 15 rfl rfl)
theorem dX3_init_161 : decode cX3_init 161 = .ok (.newarray .int, 2) := dk_188_10 (dk_at dksX3_init_6 17 rfl rfl)
theorem dX3_init_163 : decode cX3_init 163 = .ok (.dup, 1) := dk_89 (dk_at dksX3_init_6 19 rfl rfl)
theorem dX3_init_164 : decode cX3_init 164 = .ok (.iconst 0, 1) := dk_3 (dk_at dksX3_init_6 20 rfl rfl)
theorem dX3_init_165 : decode cX3_init 165 = .ok (.bipush 10, 2) := dk_16 10 (dk_at dksX3_init_6 21 rfl rfl)
theorem dX3_init_167 : decode cX3_init 167 = .ok (.iastore, 1) := dk_79 (dk_at dksX3_init_6 23 rfl rfl)
theorem dX3_init_168 : decode cX3_init 168 = .ok (.dup, 1) := dk_89 (dk_at dksX3_init_7 0 rfl rfl)
theorem dX3_init_169 : decode cX3_init 169 = .ok (.iconst 1, 1) := dk_4 (dk_at dksX3_init_7 1 rfl rfl)
theorem dX3_init_170 : decode cX3_init 170 = .ok (.bipush 10, 2) := dk_16 10 (dk_at dksX3_init_7 2 rfl rfl)
theorem dX3_init_172 : decode cX3_init 172 = .ok (.iastore, 1) := dk_79 (dk_at dksX3_init_7 4 rfl rfl)
theorem dX3_init_173 : decode cX3_init 173 = .ok (.dup, 1) := dk_89 (dk_at dksX3_init_7 5 rfl rfl)
theorem dX3_init_174 : decode cX3_init 174 = .ok (.iconst 2, 1) := dk_5 (dk_at dksX3_init_7 6 rfl rfl)
theorem dX3_init_175 : decode cX3_init 175 = .ok (.bipush 10, 2) := dk_16 10 (dk_at dksX3_init_7 7 rfl rfl)
theorem dX3_init_177 : decode cX3_init 177 = .ok (.iastore, 1) := dk_79 (dk_at dksX3_init_7 9 rfl rfl)
theorem dX3_init_178 : decode cX3_init 178 = .ok (.dup, 1) := dk_89 (dk_at dksX3_init_7 10 rfl rfl)
theorem dX3_init_179 : decode cX3_init 179 = .ok (.iconst 3, 1) := dk_6 (dk_at dksX3_init_7 11 rfl rfl)
theorem dX3_init_180 : decode cX3_init 180 = .ok (.bipush 10, 2) := dk_16 10 (dk_at dksX3_init_7 12 rfl rfl)
theorem dX3_init_182 : decode cX3_init 182 = .ok (.iastore, 1) := dk_79 (dk_at dksX3_init_7 14 rfl rfl)
theorem dX3_init_183 : decode cX3_init 183 = .ok (.dup, 1) := dk_89 (dk_at dksX3_init_7 15 rfl rfl)
theorem dX3_init_184 : decode cX3_init 184 = .ok (.iconst 4, 1) := dk_7 (dk_at dksX3_init_7 16 rfl rfl)
theorem dX3_init_185 : decode cX3_init 185 = .ok (.bipush 10, 2) := dk_16 10 (dk_at dksX3_init_7 17 rfl rfl)
theorem dX3_init_187 : decode cX3_init 187 = .ok (.iastore, 1) := dk_79 (dk_at dksX3_init_7 19 rfl rfl)
theorem dX3_init_188 : decode cX3_init 188 = .ok (.dup, 1) := dk_89 (dk_at dksX3_init_7 20 rfl rfl)
theorem dX3_init_189 : decode cX3_init 189 = .ok (.iconst 5, 1) := dk_8 (dk_at dksX3_init_7 21 rfl rfl)
theorem dX3_init_190 : decode cX3_init 190 = .ok (.bipush 10, 2) := dk_16 10 (dk_at dksX3_init_7 22 rfl rfl)
theorem dX3_init_192 : decode cX3_init 192 = .ok (.iastore, 1) := dk_79 (dk_at dksX3_init_8 0 rfl rfl)
theorem dX3_init_193 : decode cX3_init 193 = .ok (.dup, 1) := dk_89 (dk_at dksX3_init_8 1 rfl rfl)
theorem dX3_init_194 : decode cX3_init 194 = .ok (.bipush 6, 2) := dk_16 6 (dk_at dksX3_init_8 2 rfl rfl)
theorem dX3_init_196 : decode cX3_init 196 = .ok (.bipush 10, 2) := dk_16 10 (dk_at dksX3_init_8 4 rfl rfl)
theorem dX3_init_198 : decode cX3_init 198 = .ok (.iastore, 1) := dk_79 (dk_at dksX3_init_8 6 rfl rfl)
theorem dX3_init_199 : decode cX3_init 199 = .ok (.dup, 1) := dk_89 (dk_at dksX3_init_8 7 rfl rfl)
theorem dX3_init_200 : decode cX3_init 200 = .ok (.bipush 7, 2) := dk_16 7 (dk_at dksX3_init_8 8 rfl rfl)
theorem dX3_init_202 : decode cX3_init 202 = .ok (.bipush 10, 2) := dk_16 10 (dk_at dksX3_init_8 10 rfl rfl)
theorem dX3_init_204 : decode cX3_init 204 = .ok (.iastore, 1) := dk_79 (dk_at dksX3_init_8 12 rfl rfl)
theorem dX3_init_205 : decode cX3_init 205 = .ok (.dup, 1) := dk_89 (dk_at dksX3_init_8 13 rfl rfl)
theorem dX3_init_206 : decode cX3_init 206 = .ok (.bipush 8, 2) := dk_16 8 (dk_at dksX3_init_8 14 rfl rfl)
theorem dX3_init_208 : decode cX3_init 208 = .ok (.bipush 10, 2) := dk_16 10 (dk_at dksX3_init_8 16 rfl rfl)
theorem dX3_init_210 : decode cX3_init 210 = .ok (.iastore, 1) := dk_79 (dk_at dksX3_init_8 18 rfl rfl)
theorem dX3_init_211 : decode cX3_init 211 = .ok (.dup, 1) := dk_89 (dk_at dksX3_init_8 19 rfl rfl)
theorem dX3_init_212 : decode cX3_init 212 = .ok (.bipush 9, 2) := dk_16 9 (dk_at dksX3_init_8 20 rfl rfl)
theorem dX3_init_214 : decode cX3_init 214 = .ok (.bipush 10, 2) := dk_16 10 (dk_at dksX3_init_8 22 rfl rfl)
theorem dX3_init_216 : decode cX3_init 216 = .ok (.iastore, 1) := dk_79 (dk_at dksX3_init_9 0 rfl rfl)
theorem dX3_init_217 : decode cX3_init 217 = .ok (.dup, 1) := dk_89 (dk_at dksX3_init_9 1 rfl rfl)
theorem dX3_init_218 : decode cX3_init 218 = .ok (.bipush 10, 2) := dk_16 10 (dk_at dksX3_init_9 2 rfl rfl)
theorem dX3_init_220 : decode cX3_init 220 = .ok (.bipush 10, 2) := dk_16 10 (dk_at dksX3_init_9 4 rfl rfl)
theorem dX3_init_222 : decode cX3_init 222 = .ok (.iastore, 1) := dk_79 (dk_at dksX3_init_9 6 rfl rfl)
theorem dX3_init_223 : decode cX3_init 223 = .ok (.dup, 1) := dk_89 (dk_at dksX3_init_9 7 rfl rfl)
theorem dX3_init_224 : decode cX3_init 224 = .ok (.bipush 11, 2) := dk_16 11 (dk_at dksX3_init_9 8 rfl rfl)
theorem dX3_init_226 : decode cX3_init 226 = .ok (.bipush 10, 2) := dk_16 10 (dk_at dksX3_init_9 10 rfl rfl)
theorem dX3_init_228 : decode cX3_init 228 = .ok (.iastore, 1) := dk_79 (dk_at dksX3_init_9 12 rfl rfl)
theorem dX3_init_229 : decode cX3_init 229 = .ok (.dup, 1) := dk_89 (dk_at dksX3_init_9 13 rfl rfl)
theorem dX3_init_230 : decode cX3_init 230 = .ok (.bipush 12, 2) := dk_16 12 (dk_at dksX3_init_9 14 rfl rfl)
theorem dX3_init_232 : decode cX3_init 232 = .ok (.bipush 10, 2) := dk_16 10 (dk_at dksX3_init_9 16 rfl rfl)
theorem dX3_init_234 : decode cX3_init 234 = .ok (.iastore, 1) := dk_79 (dk_at dksX3_init_9 18 rfl rfl)
theorem dX3_init_235 : decode cX3_init 235 = .ok (.dup, 1) := dk_89 (dk_at dksX3_init_9 19 rfl rfl)
theorem dX3_init_236 : decode cX3_init 236 = .ok (.bipush 13, 2) := dk_16 13 (dk_at dksX3_init_9 20 rfl rfl)
theorem dX3_init_238 : decode cX3_init 238 = .ok (.bipush 10, 2) := dk_16 10 (dk_at dksX3_init_9 22 rfl rfl)
theorem dX3_init_240 : decode cX3_init 240 = .ok (.iastore, 1) := dk_79 (dk_at dksX3_init_10 0 rfl rfl)
theorem dX3_init_241 : decode cX3_init 241 = .ok (.dup, 1) := dk_89 (dk_at dksX3_init_10 1 rfl rfl)
theorem dX3_init_242 : decode cX3_init 242 = .ok (.bipush 14, 2) := dk_16 14 (dk_at dksX3_init_10 2 rfl rfl)
theorem dX3_init_244 : decode cX3_init 244 = .ok (.bipush 10, 2) := dk_16 10 (dk_at dksX3_init_10 4 rfl rfl)
theorem dX3_init_246 : decode cX3_init 246 = .ok (.iastore, 1) := dk_79 (dk_at dksX3_init_10 6 rfl rfl)
theorem dX3_init_247 : decode cX3_init 247 = .ok (.dup, 1) := dk_89 (dk_at dksX3_init_10 7 rfl rfl)
theorem dX3_init_248 : decode cX3_init 248 = .ok (.bipush 15, 2) := dk_16 15 (dk_at dksX3_init_10 8 rfl rfl)
theorem dX3_init_250 : decode cX3_init 250 = .ok (.bipush 10, 2) := dk_16 10 (dk_at dksX3_init_10 10 rfl rfl)
theorem dX3_init_252 : decode cX3_init 252 = .ok (.iastore, 1) := dk_79 (dk_at dksX3_init_10 12 rfl rfl)
theorem dX3_init_253 : decode cX3_init 253 = .ok (.dup, 1) := dk_89 (dk_at dksX3_init_10 13 rfl rfl)
theorem dX3_init_254 : decode cX3_init 254 = .ok (.bipush 16, 2) := dk_16 16 (dk_at dksX3_init_10 14 rfl rfl)
theorem dX3_init_256 : decode cX3_init 256 = .ok (.bipush 10, 2) := dk_16 10 (dk_at dksX3_init_10 16 rfl rfl)
theorem dX3_init_258 : decode cX3_init 258 = .ok (.iastore, 1) := dk_79 (dk_at dksX3_init_10 18 rfl rfl)
theorem dX3_init_259 : decode cX3_init 259 = .ok (.dup, 1) := dk_89 (dk_at dksX3_init_10 19 rfl rfl)
theorem dX3_init_260 : decode cX3_init 260 = .ok (.bipush 17, 2) := dk_16 17 (dk_at dksX3_init_10 20 rfl rfl)
theorem dX3_init_262 : decode cX3_init 262 = .ok (.bipush 10, 2) := dk_16 10 (dk_at dksX3_init_10 22 rfl rfl)
theorem dX3_init_264 : decode cX3_init 264 = .ok (.iastore, 1) := dk_79 (dk_at dksX3_init_11 0 rfl rfl)
theorem dX3_init_265 : decode cX3_init 265 = .ok (.dup, 1) := dk_89 (dk_at dksX3_init_11 1 rfl rfl)
theorem dX3_init_266 : decode cX3_init 266 = .ok (.bipush 18, 2) := dk_16 18 (dk_at dksX3_init_11 2 rfl rfl)
theorem dX3_init_268 : decode cX3_init 268 = .ok (.bipush 10, 2) := dk_16 10 (dk_at dksX3_init_11 4 rfl rfl)
theorem dX3_init_270 : decode cX3_init 270 = .ok (.iastore, 1) := dk_79 (dk_at dksX3_init_11 6 rfl rfl)
theorem dX3_init_271 : decode cX3_init 271 = .ok (.dup, 1) := dk_89 (dk_at dksX3_init_11 7 rfl rfl)
theorem dX3_init_272 : decode cX3_init 272 = .ok (.bipush 19, 2) := dk_16 19 (dk_at dksX3_init_11 8 rfl rfl)
theorem dX3_init_274 : decode cX3_init 274 = .ok (.bipush 10, 2) := dk_16 10 (dk_at dksX3_init_11 10 rfl rfl)
theorem dX3_init_276 : decode cX3_init 276 = .ok (.iastore, 1) := dk_79 (dk_at dksX3_init_11 12 rfl rfl)
theorem dX3_init_277 : decode cX3_init 277 = .ok (.putfield 25, 3) := dk_181 0 25 (dk_at dksX3_init_11 13 rfl rfl)
theorem dX3_init_280 : decode cX3_init 280 = .ok (.aload_n 0, 1) := dk_42 (dk_at dksX3_init_11 16 rfl rfl)
theorem dX3_init_281 : decode cX3_init 281 = .ok (.bipush 20, 2) := dk_16 20 (dk_at dksX3_init_11 17 rfl rfl)
theorem dX3_init_283 : decode cX3_init 283 = .ok (.newarray .int, 2) := dk_188_10 (dk_at dksX3_init_11 19 rfl rfl)
theorem dX3_init_285 : decode cX3_init 285 = .ok (.dup, 1) := dk_89 (dk_at dksX3_init_11 21 rfl rfl)
theorem dX3_init_286 : decode cX3_init 286 = .ok (.iconst 0, 1) := dk_3 (dk_at dksX3_init_11 22 rfl rfl)
theorem dX3_init_287 : decode cX3_init 287 = .ok (.iconst 0, 1) := dk_3 (dk_at dksX3_init_11 23 rfl rfl)
theorem dX3_init_288 : decode cX3_init 288 = .ok (.iastore, 1) := dk_79 (dk_at dksX3_init_12 0 rfl rfl)
theorem dX3_init_289 : decode cX3_init 289 = .ok (.dup, 1) := dk_89 (dk_at dksX3_init_12 1 rfl rfl)
theorem dX3_init_290 : decode cX3_init 290 = .ok (.iconst 1, 1) := dk_4 (dk_at dksX3_init_12 2 rfl rfl)
theorem dX3_init_291 : decode cX3_init 291 = .ok (.iconst 1, 1) := dk_4 (dk_at dksX3_init_12 3 rfl rfl)
theorem dX3_init_292 : decode cX3_init 292 = .ok (.iastore, 1) := dk_79 (dk_at dksX3_init_12 4 rfl rfl)
theorem dX3_init_293 : decode cX3_init 293 = .ok (.dup, 1) := dk_89 (dk_at dksX3_init_12 5 rfl rfl)
theorem dX3_init_294 : decode cX3_init 294 = .ok (.iconst 2, 1) := dk_5 (dk_at dksX3_init_12 6 rfl rfl)
theorem dX3_init_295 : decode cX3_init 295 = .ok (.iconst 2, 1) := dk_5 (dk_at dksX3_init_12 7 rfl rfl)
theorem dX3_init_296 : decode cX3_init 296 = .ok (.iastore, 1) := dk_79 (dk_at dksX3_init_12 8 rfl rfl)
theorem dX3_init_297 : decode cX3_init 297 = .ok (.dup, 1) := dk_89 (dk_at dksX3_init_12 9 rfl rfl)
theorem dX3_init_298 : decode cX3_init 298 = .ok (.iconst 3, 1) := dk_6 (dk_at dksX3_init_12 10 rfl rfl)
theorem dX3_init_299 : decode cX3_init 299 = .ok (.iconst 3, 1) := dk_6 (dk_at dksX3_init_12 11 rfl rfl)
theorem dX3_init_300 : decode cX3_init 300 = .ok (.iastore, 1) := dk_79 (dk_at dksX3_init_12 12 rfl rfl)
theorem dX3_init_301 : decode cX3_init 301 = .ok (.dup, 1) := dk_89 (dk_at dksX3_init_12 13 rfl rfl)
theorem dX3_init_302 : decode cX3_init 302 = .ok (.iconst 4, 1) := dk_7 (dk_at dksX3_init_12 14 rfl rfl)
theorem dX3_init_303 : decode cX3_init 303 = .ok (.iconst 4, 1) := dk_7 (dk_at dksX3_init_12 15 rfl rfl)
theorem dX3_init_304 : decode cX3_init 304 = .ok (.iastore, 1) := dk_79 (dk_at dksX3_init_12 16 rfl rfl)
theorem dX3_init_305 : decode cX3_init 305 = .ok (.dup, 1) := dk_89 (dk_at dksX3_init_12 17 rfl rfl)
theorem dX3_init_306 : decode cX3_init 306 = .ok (.iconst 5, 1) := dk_8 (dk_at dksX3_init_12 18 rfl rfl)
theorem dX3_init_307 : decode cX3_init 307 = .ok (.iconst 0, 1) := dk_3 (dk_at dksX3_init_12 19 rfl rfl)
theorem dX3_init_308 : decode cX3_init 308 = .ok (.iastore, 1) := dk_79 (dk_at dksX3_init_12 20 rfl rfl)
theorem dX3_init_309 : decode cX3_init 309 = .ok (.dup, 1) := dk_89 (dk_at dksX3_init_12 21 rfl rfl)
theorem dX3_init_310 : decode cX3_init 310 = .ok (.bipush 6, 2) := dk_16 6 (dk_at dksX3_init_12 22 rfl rfl)
theorem dX3_init_312 : decode cX3_init 312 = .ok (.iconst 1, 1) := dk_4 (dk_at dksX3_init_13 0 rfl rfl)
theorem dX3_init_313 : decode cX3_init 313 = .ok (.iastore, 1) := dk_79 (dk_at dksX3_init_13 1 rfl rfl)
theorem dX3_init_314 : decode cX3_init 314 = .ok (.dup, 1) := dk_89 (dk_at dksX3_init_13 2 rfl rfl)
theorem dX3_init_315 : decode cX3_init 315 = .ok (.bipush 7, 2) := dk_16 7 (dk_at dksX3_init_13 3 rfl rfl)
theorem dX3_init_317 : decode cX3_init 317 = .ok (.iconst 2, 1) := dk_5 (dk_at dksX3_init_13 5 rfl rfl)
theorem dX3_init_318 : decode cX3_init 318 = .ok (.iastore, 1) := dk_79 (dk_at dksX3_init_13 6 rfl rfl)
theorem dX3_init_319 : decode cX3_init 319 = .ok (.dup, 1) := dk_89 (dk_at dksX3_init_13 7 rfl rfl)
theorem dX3_init_320 : decode cX3_init 320 = .ok (.bipush 8, 2) := dk_16 8 (dk_at dksX3_init_13 8 rfl rfl)
theorem dX3_init_322 : decode cX3_init 322 = .ok (.iconst 3, 1) := dk_6 (dk_at dksX3_init_13 10 rfl rfl)
theorem dX3_init_323 : decode cX3_init 323 = .ok (.iastore, 1) := dk_79 (dk_at dksX3_init_13 11 rfl rfl)
theorem dX3_init_324 : decode cX3_init 324 = .ok (.dup, 1) := dk_89 (dk_at dksX3_init_13 12 rfl rfl)
theorem dX3_init_325 : decode cX3_init 325 = .ok (.bipush 9, 2) := dk_16 9 (dk_at dksX3_init_13 13 rfl rfl)
theorem dX3_init_327 : decode cX3_init 327 = .ok (.iconst 4, 1) := dk_7 (dk_at dksX3_init_13 15 rfl rfl)
theorem dX3_init_328 : decode cX3_init 328 = .ok (.iastore, 1) := dk_79 (dk_at dksX3_init_13 16 rfl rfl)
theorem dX3_init_329 : decode cX3_init 329 = .ok (.dup, 1) := dk_89 (dk_at dksX3_init_13 17 rfl rfl)
theorem dX3_init_330 : decode cX3_init 330 = .ok (.bipush 10, 2) := dk_16 10 (dk_at dksX3_init_13 18 rfl rfl)
theorem dX3_init_332 : decode cX3_init 332 = .ok (.iconst 0, 1) := dk_3 (dk_at dksX3_init_13 20 rfl rfl)
theorem dX3_init_333 : decode cX3_init 333 = .ok (.iastore, 1) := dk_79 (dk_at dksX3_init_13 21 rfl rfl)
theorem dX3_init_334 : decode cX3_init 334 = .ok (.dup, 1) := dk_89 (dk_at dksX3_init_13 22 rfl rfl)
theorem dX3_init_335 : decode cX3_init 335 = .ok (.bipush 11, 2) := dk_16 11 (dk_at dksX3_init_14 0 rfl rfl)
theorem dX3_init_337 : decode cX3_init 337 = .ok (.iconst 1, 1) := dk_4 (dk_at dksX3_init_14 2 rfl rfl)
theorem dX3_init_338 : decode cX3_init 338 = .ok (.iastore, 1) := dk_79 (dk_at dksX3_init_14 3 rfl rfl)
theorem dX3_init_339 : decode cX3_init 339 = .ok (.dup, 1) := dk_89 (dk_at dksX3_init_14 4 rfl rfl)
theorem dX3_init_340 : decode cX3_init 340 = .ok (.bipush 12, 2) := dk_16 12 (dk_at dksX3_init_14 5 rfl rfl)
theorem dX3_init_342 : decode cX3_init 342 = .ok (.iconst 2, 1) := dk_5 (dk_at dksX3_init_14 7 rfl rfl)
theorem dX3_init_343 : decode cX3_init 343 = .ok (.iastore, 1) := dk_79 (dk_at dksX3_init_14 8 rfl rfl)
theorem dX3_init_344 : decode cX3_init 344 = .ok (.dup, 1) := dk_89 (dk_at dksX3_init_14 9 rfl rfl)
theorem dX3_init_345 : decode cX3_init 345 = .ok (.bipush 13, 2) := dk_16 13 (dk_at dksX3_init_14 10 rfl rfl)
theorem dX3_init_347 : decode cX3_init 347 = .ok (.iconst 3, 1) := dk_6 (dk_at dksX3_init_14 12 rfl rfl)
theorem dX3_init_348 : decode cX3_init 348 = .ok (.iastore, 1) := dk_79 (dk_at dksX3_init_14 13 rfl rfl)
theorem dX3_init_349 : decode cX3_init 349 = .ok (.dup, 1) := dk_89 (dk_at dksX3_init_14 14 rfl rfl)
theorem dX3_init_350 : decode cX3_init 350 = .ok (.bipush 14, 2) := dk_16 14 (dk_at dksX3_init_14 15 rfl rfl)
theorem dX3_init_352 : decode cX3_init 352 = .ok (.iconst 4, 1) := dk_7 (dk_at dksX3_init_14 17 rfl rfl)
theorem dX3_init_353 : decode cX3_init 353 = .ok (.iastore, 1) := dk_79 (dk_at dksX3_init_14 18 rfl rfl)
theorem dX3_init_354 : decode cX3_init 354 = .ok (.dup, 1) := dk_89 (dk_at dksX3_init_14 19 rfl rfl)
theorem dX3_init_355 : decode cX3_init 355 = .ok (.bipush 15, 2) := dk_16 15 (dk_at dksX3_init_14 20 rfl rfl)
theorem dX3_init_357 : decode cX3_init 357 = .ok (.iconst 0, 1) := dk_3 (dk_at dksX3_init_14 22 rfl rfl)
theorem dX3_init_358 : decode cX3_init 358 = .ok (.iastore, 1) := dk_79 (dk_at dksX3_init_14 23 rfl rfl)
theorem dX3_init_359 : decode cX3_init 359 = .ok (.dup, 1) := dk_89 (dk_at dksX3_init_15 0 rfl rfl)
theorem dX3_init_360 : decode cX3_init 360 = .ok (.bipush 16, 2) := dk_16 16 (dk_at dksX3_init_15 1 rfl rfl)
theorem dX3_init_362 : decode cX3_init 362 = .ok (.iconst 1, 1) := dk_4 (dk_at dksX3_init_15 3 rfl rfl)
theorem dX3_init_363 : decode cX3_init 363 = .ok (.iastore, 1) := dk_79 (dk_at dksX3_init_15 4 rfl rfl)
theorem dX3_init_364 : decode cX3_init 364 = .ok (.dup, 1) := dk_89 (dk_at dksX3_init_15 5 rfl rfl)
theorem dX3_init_365 : decode cX3_init 365 = .ok (.bipush 17, 2) := dk_16 17 (dk_at dksX3_init_15 6 rfl rfl)
theorem dX3_init_367 : decode cX3_init 367 = .ok (.iconst 2, 1) := dk_5 (dk_at dksX3_init_15 8 rfl rfl)
theorem dX3_init_368 : decode cX3_init 368 = .ok (.iastore, 1) := dk_79 (dk_at dksX3_init_15 9 rfl rfl)
theorem dX3_init_369 : decode cX3_init 369 = .ok (.dup, 1) := dk_89 (dk_at dksX3_init_15 10 rfl rfl)
theorem dX3_init_370 : decode cX3_init 370 = .ok (.bipush 18, 2) := dk_16 18 (dk_at dksX3_init_15 11 rfl rfl)
theorem dX3_init_372 : decode cX3_init 372 = .ok (.iconst 3, 1) := dk_6 (dk_at dksX3_init_15 13 rfl rfl)
theorem dX3_init_373 : decode cX3_init 373 = .ok (.iastore, 1) := dk_79 (dk_at dksX3_init_15 14 rfl rfl)
theorem dX3_init_374 : decode cX3_init 374 = .ok (.dup, 1) := dk_89 (dk_at dksX3_init_15 15 rfl rfl)
theorem dX3_init_375 : decode cX3_init 375 = .ok (.bipush 19, 2) := dk_16 19 (dk_at dksX3_init_15 16 rfl rfl)
theorem dX3_init_377 : decode cX3_init 377 = .ok (.iconst 4, 1) := dk_7 (dk_at dksX3_init_15 18 rfl rfl)
theorem dX3_init_378 : decode cX3_init 378 = .ok (.iastore, 1) := dk_79 (dk_at dksX3_init_15 19 rfl rfl)
theorem dX3_init_379 : decode cX3_init 379 = .ok (.putfield 28, 3) := dk_181 0 28 (dk_at dksX3_init_15 20 rfl rfl)
theorem dX3_init_382 : decode cX3_init 382 = .ok (.aload_n 0, 1) := dk_42 (dk_at dksX3_init_15 23 rfl rfl)
theorem dX3_init_383 : decode cX3_init 383 = .ok (.bipush 8, 2) := dk_16 8 (dk_at dksX3_init_16 0 rfl rfl)
theorem dX3_init_385 : decode cX3_init 385 = .ok (.newarray .int, 2) := dk_188_10 (dk_at dksX3_init_16 2 rfl rfl)
theorem dX3_init_387 : decode cX3_init 387 = .ok (.dup, 1) := dk_89 (dk_at dksX3_init_16 4 rfl rfl)
theorem dX3_init_388 : decode cX3_init 388 = .ok (.iconst 0, 1) := dk_3 (dk_at dksX3_init_16 5 rfl rfl)
theorem dX3_init_389 : decode cX3_init 389 = .ok (.iconst (-1), 1) := dk_2 (dk_at dksX3_init_16 6 rfl rfl)
theorem dX3_init_390 : decode cX3_init 390 = .ok (.iastore, 1) := dk_79 (dk_at dksX3_init_16 7 rfl rfl)
theorem dX3_init_391 : decode cX3_init 391 = .ok (.dup, 1) := dk_89 (dk_at dksX3_init_16 8 rfl rfl)
theorem dX3_init_392 : decode cX3_init 392 = .ok (.iconst 1, 1) := dk_4 (dk_at dksX3_init_16 9 rfl rfl)
theorem dX3_init_393 : decode cX3_init 393 = .ok (.iconst (-1), 1) := dk_2 (dk_at dksX3_init_16 10 rfl rfl)
theorem dX3_init_394 : decode cX3_init 394 = .ok (.iastore, 1) := dk_79 (dk_at dksX3_init_16 11 rfl rfl)
theorem dX3_init_395 : decode cX3_init 395 = .ok (.dup, 1) := dk_89 (dk_at dksX3_init_16 12 rfl rfl)
theorem dX3_init_396 : decode cX3_init 396 = .ok (.iconst 2, 1) := dk_5 (dk_at dksX3_init_16 13 rfl rfl)
theorem dX3_init_397 : decode cX3_init 397 = .ok (.iconst (-1), 1) := dk_2 (dk_at dksX3_init_16 14 rfl rfl)
theorem dX3_init_398 : decode cX3_init 398 = .ok (.iastore, 1) := dk_79 (dk_at dksX3_init_16 15 rfl rfl)
theorem dX3_init_399 : decode cX3_init 399 = .ok (.dup, 1) := dk_89 (dk_at dksX3_init_16 16 rfl rfl)
theorem dX3_init_400 : decode cX3_init 400 = .ok (.iconst 3, 1) := dk_6 (dk_at dksX3_init_16 17 rfl rfl)
theorem dX3_init_401 : decode cX3_init 401 = .ok (.iconst (-1), 1) := dk_2 (dk_at dksX3_init_16 18 rfl rfl)
theorem dX3_init_402 : decode cX3_init 402 = .ok (.iastore, 1) := dk_79 (dk_at dksX3_init_16 19 rfl rfl)
theorem dX3_init_403 : decode cX3_init 403 = .ok (.dup, 1) := dk_89 (dk_at dksX3_init_16 20 rfl rfl)
theorem dX3_init_404 : decode cX3_init 404 = .ok (.iconst 4, 1) := dk_7 (dk_at dksX3_init_16 21 rfl rfl)
theorem dX3_init_405 : decode cX3_init 405 = .ok (.iconst (-1), 1) := dk_2 (dk_at dksX3_init_16 22 rfl rfl)
theorem dX3_init_406 : decode cX3_init 406 = .ok (.iastore, 1) := dk_79 (dk_at dksX3_init_16 23 rfl rfl)
theorem dX3_init_407 : decode cX3_init 407 = .ok (.dup, 1) := dk_89 (dk_at dksX3_init_17 0 rfl rfl)
theorem dX3_init_408 : decode cX3_init 408 = .ok (.iconst 5, 1) := dk_8 (dk_at dksX3_init_17 1 rfl rfl)
theorem dX3_init_409 : decode cX3_init 409 = .ok (.iconst (-1), 1) := dk_2 (dk_at dksX3_init_17 2 rfl rfl)
theorem dX3_init_410 : decode cX3_init 410 = .ok (.iastore, 1) := dk_79 (dk_at dksX3_init_17 3 rfl rfl)
theorem dX3_init_411 : decode cX3_init 411 = .ok (.dup, 1) := dk_89 (dk_at dksX3_init_17 4 rfl rfl)
theorem dX3_init_412 : decode cX3_init 412 = .ok (.bipush 6, 2) := dk_16 6 (dk_at dksX3_init_17 5 rfl rfl)
theorem dX3_init_414 : decode cX3_init 414 = .ok (.iconst (-1), 1) := dk_2 (dk_at dksX3_init_17 7 rfl rfl)
theorem dX3_init_415 : decode cX3_init 415 = .ok (.iastore, 1) := dk_79 (dk_at dksX3_init_17 8 rfl rfl)
theorem dX3_init_416 : decode cX3_init 416 = .ok (.dup, 1) := dk_89 (dk_at dksX3_init_17 9 rfl rfl)
theorem dX3_init_417 : decode cX3_init 417 = .ok (.bipush 7, 2) := dk_16 7 (dk_at dksX3_init_17 10 rfl rfl)
theorem dX3_init_419 : decode cX3_init 419 = .ok (.iconst (-1), 1) := dk_2 (dk_at dksX3_init_17 12 rfl rfl)
theorem dX3_init_420 : decode cX3_init 420 = .ok (.iastore, 1) := dk_79 (dk_at dksX3_init_17 13 rfl rfl)
theorem dX3_init_421 : decode cX3_init 421 = .ok (.putfield 31, 3) := dk_181 0 31 (dk_at dksX3_init_17 14 rfl rfl)
theorem dX3_init_424 : decode cX3_init 424 = .ok (.aload_n 0, 1) := dk_42 (dk_at dksX3_init_17 17 rfl rfl)
theorem dX3_init_425 : decode cX3_init 425 = .ok (.bipush 8, 2) := dk_16 8 (dk_at dksX3_init_17 18 rfl rfl)
theorem dX3_init_427 : decode cX3_init 427 = .ok (.newarray .int, 2) := dk_188_10 (dk_at dksX3_init_17 20 rfl rfl)
theorem dX3_init_429 : decode cX3_init 429 = .ok (.putfield 34, 3) := dk_181 0 34 (dk_at dksX3_init_18 0 rfl rfl)
theorem dX3_init_432 : decode cX3_init 432 = .ok (.aload_n 0, 1) := dk_42 (dk_at dksX3_init_18 3 rfl rfl)
theorem dX3_init_433 : decode cX3_init 433 = .ok (.sipush 480, 3) := dk_17 1 224 (dk_at dksX3_init_18 4 rfl rfl)
theorem dX3_init_436 : decode cX3_init 436 = .ok (.newarray .int, 2) := dk_188_10 (dk_at dksX3_init_18 7 rfl rfl)
theorem dX3_init_438 : decode cX3_init 438 = .ok (.putfield 37, 3) := dk_181 0 37 (dk_at dksX3_init_18 9 rfl rfl)
theorem dX3_init_441 : decode cX3_init 441 = .ok (.aload_n 0, 1) := dk_42 (dk_at dksX3_init_18 12 rfl rfl)
theorem dX3_init_442 : decode cX3_init 442 = .ok (.sipush 400, 3) := dk_17 1 144 (dk_at dksX3_init_18 13 rfl rfl)
theorem dX3_init_445 : decode cX3_init 445 = .ok (.newarray .int, 2) := dk_188_10 (dk_at dksX3_init_18 16 rfl rfl)
theorem dX3_init_447 : decode cX3_init 447 = .ok (.putfield 40, 3) := dk_181 0 40 (dk_at dksX3_init_18 18 rfl rfl)
theorem dX3_init_450 : decode cX3_init 450 = .ok (.aload_n 0, 1) := dk_42 (dk_at dksX3_init_18 21 rfl rfl)
theorem dX3_init_451 : decode cX3_init 451 = .ok (.sipush 144, 3) := dk_17 0 144 (dk_at dksX3_init_19 0 rfl rfl)
theorem dX3_init_454 : decode cX3_init 454 = .ok (.newarray .int, 2) := dk_188_10 (dk_at dksX3_init_19 3 rfl rfl)
theorem dX3_init_456 : decode cX3_init 456 = .ok (.putfield 43, 3) := dk_181 0 43 (dk_at dksX3_init_19 5 rfl rfl)
theorem dX3_init_459 : decode cX3_init 459 = .ok (.aload_n 0, 1) := dk_42 (dk_at dksX3_init_19 8 rfl rfl)
theorem dX3_init_460 : decode cX3_init 460 = .ok (.bipush 16, 2) := dk_16 16 (dk_at dksX3_init_19 9 rfl rfl)
theorem dX3_init_462 : decode cX3_init 462 = .ok (.newarray .int, 2) := dk_188_10 (dk_at dksX3_init_19 11 rfl rfl)
theorem dX3_init_464 : decode cX3_init 464 = .ok (.putfield 46, 3) := dk_181 0 46 (dk_at dksX3_init_19 13 rfl rfl)
theorem dX3_init_467 : decode cX3_init 467 = .ok (.aload_n 0, 1) := dk_42 (dk_at dksX3_init_19 16 rfl rfl)
theorem dX3_init_468 : decode cX3_init 468 = .ok (.ldc 49, 2) := dk_18 49 (dk_at dksX3_init_19 17 rfl rfl)
theorem dX3_init_470 : decode cX3_init 470 = .ok (.newarray .boolean, 2) := dk_188_4 (dk_at dksX3_init_19 19 rfl rfl)
theorem dX3_init_472 : decode cX3_init 472 = .ok (.putfield 50, 3) := dk_181 0 50 (dk_at dksX3_init_19 21 rfl rfl)
theorem dX3_init_475 : decode cX3_init 475 = .ok (.aload_n 0, 1) := dk_42 (dk_at dksX3_init_20 0 rfl rfl)
theorem dX3_init_476 : decode cX3_init 476 = .ok (.ldc 49, 2) := dk_18 49 (dk_at dksX3_init_20 1 rfl rfl)
theorem dX3_init_478 : decode cX3_init 478 = .ok (.newarray .int, 2) := dk_188_10 (dk_at dksX3_init_20 3 rfl rfl)
theorem dX3_init_480 : decode cX3_init 480 = .ok (.putfield 54, 3) := dk_181 0 54 (dk_at dksX3_init_20 5 rfl rfl)
theorem dX3_init_483 : decode cX3_init 483 = .ok (.aload_n 0, 1) := dk_42 (dk_at dksX3_init_20 8 rfl rfl)
theorem dX3_init_484 : decode cX3_init 484 = .ok (.bipush 16, 2) := dk_16 16 (dk_at dksX3_init_20 9 rfl rfl)
theorem dX3_init_486 : decode cX3_init 486 = .ok (.newarray .int, 2) := dk_188_10 (dk_at dksX3_init_20 11 rfl rfl)
theorem dX3_init_488 : decode cX3_init 488 = .ok (.putfield 57, 3) := dk_181 0 57 (dk_at dksX3_init_20 13 rfl rfl)
theorem dX3_init_491 : decode cX3_init 491 = .ok (.aload_n 0, 1) := dk_42 (dk_at dksX3_init_20 16 rfl rfl)
theorem dX3_init_492 : decode cX3_init 492 = .ok (.bipush 16, 2) := dk_16 16 (dk_at dksX3_init_20 17 rfl rfl)
theorem dX3_init_494 : decode cX3_init 494 = .ok (.newarray .int, 2) := dk_188_10 (dk_at dksX3_init_20 19 rfl rfl)
theorem dX3_init_496 : decode cX3_init 496 = .ok (.putfield 60, 3) := dk_181 0 60 (dk_at dksX3_init_20 21 rfl rfl)
theorem dX3_init_499 : decode cX3_init 499 = .ok (.aload_n 0, 1) := dk_42 (dk_at dksX3_init_21 0 rfl rfl)
theorem dX3_init_500 : decode cX3_init 500 = .ok (.bipush 40, 2) := dk_16 40 (dk_at dksX3_init_21 1 rfl rfl)
theorem dX3_init_502 : decode cX3_init 502 = .ok (.newarray .int, 2) := dk_188_10 (dk_at dksX3_init_21 3 rfl rfl)
theorem dX3_init_504 : decode cX3_init 504 = .ok (.putfield 63, 3) := dk_181 0 63 (dk_at dksX3_init_21 5 rfl rfl)
theorem dX3_init_507 : decode cX3_init 507 = .ok (.aload_n 0, 1) := dk_42 (dk_at dksX3_init_21 8 rfl rfl)
theorem dX3_init_508 : decode cX3_init 508 = .ok (.bipush 40, 2) := dk_16 40 (dk_at dksX3_init_21 9 rfl rfl)
theorem dX3_init_510 : decode cX3_init 510 = .ok (.newarray .int, 2) := dk_188_10 (dk_at dksX3_init_21 11 rfl rfl)
theorem dX3_init_512 : decode cX3_init 512 = .ok (.putfield 66, 3) := dk_181 0 66 (dk_at dksX3_init_21 13 rfl rfl)
theorem dX3_init_515 : decode cX3_init 515 = .ok (.aload_n 0, 1) := dk_42 (dk_at dksX3_init_21 16 rfl rfl)
theorem dX3_init_516 : decode cX3_init 516 = .ok (.bipush 40, 2) := dk_16 40 (dk_at dksX3_init_21 17 rfl rfl)
theorem dX3_init_518 : decode cX3_init 518 = .ok (.newarray .int, 2) := dk_188_10 (dk_at dksX3_init_21 19 rfl rfl)
theorem dX3_init_520 : decode cX3_init 520 = .ok (.putfield 69, 3) := dk_181 0 69 (dk_at dksX3_init_21 21 rfl rfl)
theorem dX3_init_523 : decode cX3_init 523 = .ok (.aload_n 0, 1) := dk_42 (dk_at dksX3_init_22 0 rfl rfl)
theorem dX3_init_524 : decode cX3_init 524 = .ok (.bipush 40, 2) := dk_16 40 (dk_at dksX3_init_22 1 rfl rfl)
theorem dX3_init_526 : decode cX3_init 526 = .ok (.newarray .int, 2) := dk_188_10 (dk_at dksX3_init_22 3 rfl rfl)
theorem dX3_init_528 : decode cX3_init 528 = .ok (.putfield 72, 3) := dk_181 0 72 (dk_at dksX3_init_22 5 rfl rfl)
theorem dX3_init_531 : decode cX3_init 531 = .ok (.aload_n 0, 1) := dk_42 (dk_at dksX3_init_22 8 rfl rfl)
theorem dX3_init_532 : decode cX3_init 532 = .ok (.bipush 40, 2) := dk_16 40 (dk_at dksX3_init_22 9 rfl rfl)
theorem dX3_init_534 : decode cX3_init 534 = .ok (.newarray .int, 2) := dk_188_10 (dk_at dksX3_init_22 11 rfl rfl)
theorem dX3_init_536 : decode cX3_init 536 = .ok (.putfield 75, 3) := dk_181 0 75 (dk_at dksX3_init_22 13 rfl rfl)
theorem dX3_init_539 : decode cX3_init 539 = .ok (.aload_n 0, 1) := dk_42 (dk_at dksX3_init_22 16 rfl rfl)
theorem dX3_init_540 : decode cX3_init 540 = .ok (.bipush 40, 2) := dk_16 40 (dk_at dksX3_init_22 17 rfl rfl)
theorem dX3_init_542 : decode cX3_init 542 = .ok (.newarray .int, 2) := dk_188_10 (dk_at dksX3_init_22 19 rfl rfl)
theorem dX3_init_544 : decode cX3_init 544 = .ok (.putfield 78, 3) := dk_181 0 78 (dk_at dksX3_init_22 21 rfl rfl)
theorem dX3_init_547 : decode cX3_init 547 = .ok (.aload_n 0, 1) := dk_42 (dk_at dksX3_init_23 0 rfl rfl)
theorem dX3_init_548 : decode cX3_init 548 = .ok (.bipush 40, 2) := dk_16 40 (dk_at dksX3_init_23 1 rfl rfl)
theorem dX3_init_550 : decode cX3_init 550 = .ok (.newarray .int, 2) := dk_188_10 (dk_at dksX3_init_23 3 rfl rfl)
theorem dX3_init_552 : decode cX3_init 552 = .ok (.putfield 81, 3) := dk_181 0 81 (dk_at dksX3_init_23 5 rfl rfl)
theorem dX3_init_555 : decode cX3_init 555 = .ok (.aload_n 0, 1) := dk_42 (dk_at dksX3_init_23 8 rfl rfl)
theorem dX3_init_556 : decode cX3_init 556 = .ok (.bipush 40, 2) := dk_16 40 (dk_at dksX3_init_23 9 rfl rfl)
theorem dX3_init_558 : decode cX3_init 558 = .ok (.newarray .int, 2) := dk_188_10 (dk_at dksX3_init_23 11 rfl rfl)
theorem dX3_init_560 : decode cX3_init 560 = .ok (.putfield 84, 3) := dk_181 0 84 (dk_at dksX3_init_23 13 rfl rfl)
theorem dX3_init_563 : decode cX3_init 563 = .ok (.aload_n 0, 1) := dk_42 (dk_at dksX3_init_23 16 rfl rfl)
theorem dX3_init_564 : decode cX3_init 564 = .ok (.bipush 40, 2) := dk_16 40 (dk_at dksX3_init_23 17 rfl rfl)
theorem dX3_init_566 : decode cX3_init 566 = .ok (.newarray .int, 2) := dk_188_10 (dk_at dksX3_init_23 19 rfl rfl)
theorem dX3_init_568 : decode cX3_init 568 = .ok (.putfield 87, 3) := dk_181 0 87 (dk_at dksX3_init_23 21 rfl rfl)
theorem dX3_init_571 : decode cX3_init 571 = .ok (.aload_n 0, 1) := dk_42 (dk_at dksX3_init_24 0 rfl rfl)
theorem dX3_init_572 : decode cX3_init 572 = .ok (.bipush 40, 2) := dk_16 40 (dk_at dksX3_init_24 1 rfl rfl)
theorem dX3_init_574 : decode cX3_init 574 = .ok (.newarray .int, 2) := dk_188_10 (dk_at dksX3_init_24 3 rfl rfl)
theorem dX3_init_576 : decode cX3_init 576 = .ok (.putfield 90, 3) := dk_181 0 90 (dk_at dksX3_init_24 5 rfl rfl)
theorem dX3_init_579 : decode cX3_init 579 = .ok (.aload_n 0, 1) := dk_42 (dk_at dksX3_init_24 8 rfl rfl)
theorem dX3_init_580 : decode cX3_init 580 = .ok (.bipush 10, 2) := dk_16 10 (dk_at dksX3_init_24 9 rfl rfl)
theorem dX3_init_582 : decode cX3_init 582 = .ok (.newarray .int, 2) := dk_188_10 (dk_at dksX3_init_24 11 rfl rfl)
theorem dX3_init_584 : decode cX3_init 584 = .ok (.putfield 93, 3) := dk_181 0 93 (dk_at dksX3_init_24 13 rfl rfl)
theorem dX3_init_587 : decode cX3_init 587 = .ok (.aload_n 0, 1) := dk_42 (dk_at dksX3_init_24 16 rfl rfl)
theorem dX3_init_588 : decode cX3_init 588 = .ok (.bipush 10, 2) := dk_16 10 (dk_at dksX3_init_24 17 rfl rfl)
theorem dX3_init_590 : decode cX3_init 590 = .ok (.newarray .int, 2) := dk_188_10 (dk_at dksX3_init_24 19 rfl rfl)
theorem dX3_init_592 : decode cX3_init 592 = .ok (.putfield 96, 3) := dk_181 0 96 (dk_at dksX3_init_24 21 rfl rfl)
theorem dX3_init_595 : decode cX3_init 595 = .ok (.aload_n 0, 1) := dk_42 (dk_at dksX3_init_25 0 rfl rfl)
theorem dX3_init_596 : decode cX3_init 596 = .ok (.bipush 10, 2) := dk_16 10 (dk_at dksX3_init_25 1 rfl rfl)
theorem dX3_init_598 : decode cX3_init 598 = .ok (.newarray .int, 2) := dk_188_10 (dk_at dksX3_init_25 3 rfl rfl)
theorem dX3_init_600 : decode cX3_init 600 = .ok (.putfield 99, 3) := dk_181 0 99 (dk_at dksX3_init_25 5 rfl rfl)
theorem dX3_init_603 : decode cX3_init 603 = .ok (.aload_n 0, 1) := dk_42 (dk_at dksX3_init_25 8 rfl rfl)
theorem dX3_init_604 : decode cX3_init 604 = .ok (.bipush 10, 2) := dk_16 10 (dk_at dksX3_init_25 9 rfl rfl)
theorem dX3_init_606 : decode cX3_init 606 = .ok (.newarray .int, 2) := dk_188_10 (dk_at dksX3_init_25 11 rfl rfl)
theorem dX3_init_608 : decode cX3_init 608 = .ok (.putfield 102, 3) := dk_181 0 102 (dk_at dksX3_init_25 13 rfl rfl)
theorem dX3_init_611 : decode cX3_init 611 = .ok (.aload_n 0, 1) := dk_42 (dk_at dksX3_init_25 16 rfl rfl)
theorem dX3_init_612 : decode cX3_init 612 = .ok (.bipush 10, 2) := dk_16 10 (dk_at dksX3_init_25 17 rfl rfl)
theorem dX3_init_614 : decode cX3_init 614 = .ok (.newarray .int, 2) := dk_188_10 (dk_at dksX3_init_25 19 rfl rfl)
theorem dX3_init_616 : decode cX3_init 616 = .ok (.putfield 105, 3) := dk_181 0 105 (dk_at dksX3_init_25 21 rfl rfl)
theorem dX3_init_619 : decode cX3_init 619 = .ok (.aload_n 0, 1) := dk_42 (dk_at dksX3_init_26 0 rfl rfl)
theorem dX3_init_620 : decode cX3_init 620 = .ok (.bipush 16, 2) := dk_16 16 (dk_at dksX3_init_26 1 rfl rfl)
theorem dX3_init_622 : decode cX3_init 622 = .ok (.newarray .int, 2) := dk_188_10 (dk_at dksX3_init_26 3 rfl rfl)
theorem dX3_init_624 : decode cX3_init 624 = .ok (.putfield 108, 3) := dk_181 0 108 (dk_at dksX3_init_26 5 rfl rfl)
theorem dX3_init_627 : decode cX3_init 627 = .ok (.return_, 1) := dk_177 (dk_at dksX3_init_26 8 rfl rfl)
abbrev cX3_sheet : ByteArray := prog_19_method_6_code
def yX3_sheet : MethodName := ⟨RX3, "sheet", "(III)I"⟩
def dkwX3_sheet_3 : List UInt8 := [42, 180, 0, 37, 16, 60, 27, 104, 21, 4, 96, 3, 79, 132, 4, 1, 167, 255, 233, 29, 172]
abbrev dktX3_sheet_3 : List UInt8 := dkwX3_sheet_3 ++ []
def dkwX3_sheet_2 : List UInt8 := [42, 180, 0, 31, 27, 28, 79, 42, 180, 0, 34, 27, 29, 79, 3, 54, 4, 21, 4, 16, 60, 162, 0, 22]
abbrev dktX3_sheet_2 : List UInt8 := dkwX3_sheet_2 ++ dktX3_sheet_3
def dkwX3_sheet_1 : List UInt8 := [29, 16, 60, 164, 0, 6, 18, 131, 172, 42, 3, 181, 0, 115, 29, 156, 0, 9, 42, 7, 182, 0, 132, 172]
abbrev dktX3_sheet_1 : List UInt8 := dkwX3_sheet_1 ++ dktX3_sheet_2
def dkwX3_sheet_0 : List UInt8 := [42, 3, 181, 0, 111, 27, 184, 0, 125, 153, 0, 21, 28, 133, 9, 20, 0, 129, 184, 0, 121, 153, 0, 9]
abbrev dktX3_sheet_0 : List UInt8 := dkwX3_sheet_0 ++ dktX3_sheet_1
theorem dksX3_sheet_0 : cX3_sheet.data.toList.drop 0 = dktX3_sheet_0 := by decide +kernel
theorem dksX3_sheet_1 : cX3_sheet.data.toList.drop 24 = dktX3_sheet_1 := dk_seg dksX3_sheet_0 24 rfl rfl
theorem dksX3_sheet_2 : cX3_sheet.data.toList.drop 48 = dktX3_sheet_2 := dk_seg dksX3_sheet_1 24 rfl rfl
theorem dksX3_sheet_3 : cX3_sheet.data.toList.drop 72 = dktX3_sheet_3 := dk_seg dksX3_sheet_2 24 rfl rfl
theorem dX3_sheet_0 : decode cX3_sheet 0 = .ok (.aload_n 0, 1) := dk_42 (dk_at dksX3_sheet_0 0 rfl rfl)
theorem dX3_sheet_1 : decode cX3_sheet 1 = .ok (.iconst 0, 1) := dk_3 (dk_at dksX3_sheet_0 1 rfl rfl)
theorem dX3_sheet_2 : decode cX3_sheet 2 = .ok (.putfield 111, 3) := dk_181 0 111 (dk_at dksX3_sheet_0 2 rfl rfl)
theorem dX3_sheet_5 : decode cX3_sheet 5 = .ok (.iload_n 1, 1) := dk_27 (dk_at dksX3_sheet_0 5 rfl rfl)
theorem dX3_sheet_6 : decode cX3_sheet 6 = .ok (.invokestatic 125, 3) := dk_184 0 125 (dk_at dksX3_sheet_0 6 rfl rfl)
theorem dX3_sheet_9 : decode cX3_sheet 9 = .ok (.ifCond .eq 21, 3) := dk_153 0 21 (dk_at dksX3_sheet_0 9 rfl rfl)
theorem dX3_sheet_12 : decode cX3_sheet 12 = .ok (.iload_n 2, 1) := dk_28 (dk_at dksX3_sheet_0 12 rfl rfl)
theorem dX3_sheet_13 : decode cX3_sheet 13 = .ok (.i2l, 1) := dk_133 (dk_at dksX3_sheet_0 13 rfl rfl)
theorem dX3_sheet_14 : decode cX3_sheet 14 = .ok (.lconst 0, 1) := dk_9 (dk_at dksX3_sheet_0 14 rfl rfl)
theorem dX3_sheet_15 : decode cX3_sheet 15 = .ok (.ldc2_w 129, 3) := dk_20 0 129 (dk_at dksX3_sheet_0 15 rfl rfl)
theorem dX3_sheet_18 : decode cX3_sheet 18 = .ok (.invokestatic 121, 3) := dk_184 0 121 (dk_at dksX3_sheet_0 18 rfl rfl)
theorem dX3_sheet_21 : decode cX3_sheet 21 = .ok (.ifCond .eq 9, 3) := dk_153 0 9 (dk_at dksX3_sheet_0 21 rfl rfl)
theorem dX3_sheet_24 : decode cX3_sheet 24 = .ok (.iload_n 3, 1) := dk_29 (dk_at dksX3_sheet_1 0 rfl rfl)
theorem dX3_sheet_25 : decode cX3_sheet 25 = .ok (.bipush 60, 2) := dk_16 60 (dk_at dksX3_sheet_1 1 rfl rfl)
theorem dX3_sheet_27 : decode cX3_sheet 27 = .ok (.if_icmp .le 6, 3) := dk_164 0 6 (dk_at dksX3_sheet_1 3 rfl rfl)
theorem dX3_sheet_30 : decode cX3_sheet 30 = .ok (.ldc 131, 2) := dk_18 131 (dk_at dksX3_sheet_1 6 rfl rfl)
theorem dX3_sheet_32 : decode cX3_sheet 32 = .ok (.ireturn, 1) := dk_172 (dk_at dksX3_sheet_1 8 rfl rfl)
theorem dX3_sheet_33 : decode cX3_sheet 33 = .ok (.aload_n 0, 1) := dk_42 (dk_at dksX3_sheet_1 9 rfl rfl)
theorem dX3_sheet_34 : decode cX3_sheet 34 = .ok (.iconst 0, 1) := dk_3 (dk_at dksX3_sheet_1 10 rfl rfl)
theorem dX3_sheet_35 : decode cX3_sheet 35 = .ok (.putfield 115, 3) := dk_181 0 115 (dk_at dksX3_sheet_1 11 rfl rfl)
theorem dX3_sheet_38 : decode cX3_sheet 38 = .ok (.iload_n 3, 1) := dk_29 (dk_at dksX3_sheet_1 14 rfl rfl)
theorem dX3_sheet_39 : decode cX3_sheet 39 = .ok (.ifCond .ge 9, 3) := dk_156 0 9 (dk_at dksX3_sheet_1 15 rfl rfl)
theorem dX3_sheet_42 : decode cX3_sheet 42 = .ok (.aload_n 0, 1) := dk_42 (dk_at dksX3_sheet_1 18 rfl rfl)
theorem dX3_sheet_43 : decode cX3_sheet 43 = .ok (.iconst 4, 1) := dk_7 (dk_at dksX3_sheet_1 19 rfl rfl)
theorem dX3_sheet_44 : decode cX3_sheet 44 = .ok (.invokevirtual 132, 3) := dk_182 0 132 (dk_at dksX3_sheet_1 20 rfl rfl)
theorem dX3_sheet_47 : decode cX3_sheet 47 = .ok (.ireturn, 1) := dk_172 (dk_at dksX3_sheet_1 23 rfl rfl)
theorem dX3_sheet_48 : decode cX3_sheet 48 = .ok (.aload_n 0, 1) := dk_42 (dk_at dksX3_sheet_2 0 rfl rfl)
theorem dX3_sheet_49 : decode cX3_sheet 49 = .ok (.getfield 31, 3) := dk_180 0 31 (dk_at dksX3_sheet_2 1 rfl rfl)
theorem dX3_sheet_52 : decode cX3_sheet 52 = .ok (.iload_n 1, 1) := dk_27 (dk_at dksX3_sheet_2 4 rfl rfl)
theorem dX3_sheet_53 : decode cX3_sheet 53 = .ok (.iload_n 2, 1) := dk_28 (dk_at dksX3_sheet_2 5 rfl rfl)
theorem dX3_sheet_54 : decode cX3_sheet 54 = .ok (.iastore, 1) := dk_79 (dk_at dksX3_sheet_2 6 rfl rfl)
theorem dX3_sheet_55 : decode cX3_sheet 55 = .ok (.aload_n 0, 1) := dk_42 (dk_at dksX3_sheet_2 7 rfl rfl)
theorem dX3_sheet_56 : decode cX3_sheet 56 = .ok (.getfield 34, 3) := dk_180 0 34 (dk_at dksX3_sheet_2 8 rfl rfl)
theorem dX3_sheet_59 : decode cX3_sheet 59 = .ok (.iload_n 1, 1) := dk_27 (dk_at dksX3_sheet_2 11 rfl rfl)
theorem dX3_sheet_60 : decode cX3_sheet 60 = .ok (.iload_n 3, 1) := dk_29 (dk_at dksX3_sheet_2 12 rfl rfl)
theorem dX3_sheet_61 : decode cX3_sheet 61 = .ok (.iastore, 1) := dk_79 (dk_at dksX3_sheet_2 13 rfl rfl)
theorem dX3_sheet_62 : decode cX3_sheet 62 = .ok (.iconst 0, 1) := dk_3 (dk_at dksX3_sheet_2 14 rfl rfl)
theorem dX3_sheet_63 : decode cX3_sheet 63 = .ok (.istore 4, 2) := dk_54 4 (dk_at dksX3_sheet_2 15 rfl rfl)
theorem dX3_sheet_65 : decode cX3_sheet 65 = .ok (.iload 4, 2) := dk_21 4 (dk_at dksX3_sheet_2 17 rfl rfl)
theorem dX3_sheet_67 : decode cX3_sheet 67 = .ok (.bipush 60, 2) := dk_16 60 (dk_at dksX3_sheet_2 19 rfl rfl)
theorem dX3_sheet_69 : decode cX3_sheet 69 = .ok (.if_icmp .ge 22, 3) := dk_162 0 22 (dk_at dksX3_sheet_2 21 rfl rfl)
theorem dX3_sheet_72 : decode cX3_sheet 72 = .ok (.aload_n 0, 1) := dk_42 (dk_at dksX3_sheet_3 0 rfl rfl)
theorem dX3_sheet_73 : decode cX3_sheet 73 = .ok (.getfield 37, 3) := dk_180 0 37 (dk_at dksX3_sheet_3 1 rfl rfl)
theorem dX3_sheet_76 : decode cX3_sheet 76 = .ok (.bipush 60, 2) := dk_16 60 (dk_at dksX3_sheet_3 4 rfl rfl)
theorem dX3_sheet_78 : decode cX3_sheet 78 = .ok (.iload_n 1, 1) := dk_27 (dk_at dksX3_sheet_3 6 rfl rfl)
theorem dX3_sheet_79 : decode cX3_sheet 79 = .ok (.imul, 1) := dk_104 (dk_at dksX3_sheet_3 7 rfl rfl)
theorem dX3_sheet_80 : decode cX3_sheet 80 = .ok (.iload 4, 2) := dk_21 4 (dk_at dksX3_sheet_3 8 rfl rfl)
theorem dX3_sheet_82 : decode cX3_sheet 82 = .ok (.iadd, 1) := dk_96 (dk_at dksX3_sheet_3 10 rfl rfl)
theorem dX3_sheet_83 : decode cX3_sheet 83 = .ok (.iconst 0, 1) := dk_3 (dk_at dksX3_sheet_3 11 rfl rfl)
theorem dX3_sheet_84 : decode cX3_sheet 84 = .ok (.iastore, 1) := dk_79 (dk_at dksX3_sheet_3 12 rfl rfl)
theorem dX3_sheet_85 : decode cX3_sheet 85 = .ok (.iinc 4 1, 3) := dk_132 4 1 (dk_at dksX3_sheet_3 13 rfl rfl)
theorem dX3_sheet_88 : decode cX3_sheet 88 = .ok (.goto (-23), 3) := dk_167 255 233 (dk_at dksX3_sheet_3 16 rfl rfl)
theorem dX3_sheet_91 : decode cX3_sheet 91 = .ok (.iload_n 3, 1) := dk_29 (dk_at dksX3_sheet_3 19 rfl rfl)
theorem dX3_sheet_92 : decode cX3_sheet 92 = .ok (.ireturn, 1) := dk_172 (dk_at dksX3_sheet_3 20 rfl rfl)
abbrev cX3_isSheet : ByteArray := prog_19_method_5_code
def yX3_isSheet : MethodName := ⟨RX3, "isSheet", "(I)Z"⟩
def dkwX3_isSheet_0 : List UInt8 := [26, 133, 9, 20, 0, 119, 184, 0, 121, 172]
abbrev dktX3_isSheet_0 : List UInt8 := dkwX3_isSheet_0 ++ []
theorem dksX3_isSheet_0 : cX3_isSheet.data.toList.drop 0 = dktX3_isSheet_0 := by decide +kernel
theorem dX3_isSheet_0 : decode cX3_isSheet 0 = .ok (.iload_n 0, 1) := dk_26 (dk_at dksX3_isSheet_0 0 rfl rfl)
theorem dX3_isSheet_1 : decode cX3_isSheet 1 = .ok (.i2l, 1) := dk_133 (dk_at dksX3_isSheet_0 1 rfl rfl)
theorem dX3_isSheet_2 : decode cX3_isSheet 2 = .ok (.lconst 0, 1) := dk_9 (dk_at dksX3_isSheet_0 2 rfl rfl)
theorem dX3_isSheet_3 : decode cX3_isSheet 3 = .ok (.ldc2_w 119, 3) := dk_20 0 119 (dk_at dksX3_isSheet_0 3 rfl rfl)
theorem dX3_isSheet_6 : decode cX3_isSheet 6 = .ok (.invokestatic 121, 3) := dk_184 0 121 (dk_at dksX3_isSheet_0 6 rfl rfl)
theorem dX3_isSheet_9 : decode cX3_isSheet 9 = .ok (.ireturn, 1) := dk_172 (dk_at dksX3_isSheet_0 9 rfl rfl)
abbrev cX3_in : ByteArray := prog_19_method_3_code
def yX3_in : MethodName := ⟨RX3, "in", "(JJJ)Z"⟩
def dkwX3_in_0 : List UInt8 := [30, 32, 148, 155, 0, 14, 30, 22, 4, 148, 157, 0, 7, 4, 167, 0, 4, 3, 172]
abbrev dktX3_in_0 : List UInt8 := dkwX3_in_0 ++ []
theorem dksX3_in_0 : cX3_in.data.toList.drop 0 = dktX3_in_0 := by decide +kernel
theorem dX3_in_0 : decode cX3_in 0 = .ok (.lload_n 0, 1) := dk_30 (dk_at dksX3_in_0 0 rfl rfl)
theorem dX3_in_1 : decode cX3_in 1 = .ok (.lload_n 2, 1) := dk_32 (dk_at dksX3_in_0 1 rfl rfl)
theorem dX3_in_2 : decode cX3_in 2 = .ok (.lcmp, 1) := dk_148 (dk_at dksX3_in_0 2 rfl rfl)
theorem dX3_in_3 : decode cX3_in 3 = .ok (.ifCond .lt 14, 3) := dk_155 0 14 (dk_at dksX3_in_0 3 rfl rfl)
theorem dX3_in_6 : decode cX3_in 6 = .ok (.lload_n 0, 1) := dk_30 (dk_at dksX3_in_0 6 rfl rfl)
theorem dX3_in_7 : decode cX3_in 7 = .ok (.lload 4, 2) := dk_22 4 (dk_at dksX3_in_0 7 rfl rfl)
theorem dX3_in_9 : decode cX3_in 9 = .ok (.lcmp, 1) := dk_148 (dk_at dksX3_in_0 9 rfl rfl)
theorem dX3_in_10 : decode cX3_in 10 = .ok (.ifCond .gt 7, 3) := dk_157 0 7 (dk_at dksX3_in_0 10 rfl rfl)
theorem dX3_in_13 : decode cX3_in 13 = .ok (.iconst 1, 1) := dk_4 (dk_at dksX3_in_0 13 rfl rfl)
theorem dX3_in_14 : decode cX3_in 14 = .ok (.goto 4, 3) := dk_167 0 4 (dk_at dksX3_in_0 14 rfl rfl)
theorem dX3_in_17 : decode cX3_in 17 = .ok (.iconst 0, 1) := dk_3 (dk_at dksX3_in_0 17 rfl rfl)
theorem dX3_in_18 : decode cX3_in 18 = .ok (.ireturn, 1) := dk_172 (dk_at dksX3_in_0 18 rfl rfl)
abbrev cX3_finding : ByteArray := prog_19_method_4_code
def yX3_finding : MethodName := ⟨RX3, "finding", "(I)I"⟩
def dkwX3_finding_0 : List UInt8 := [42, 27, 181, 0, 115, 18, 118, 27, 100, 172]
abbrev dktX3_finding_0 : List UInt8 := dkwX3_finding_0 ++ []
theorem dksX3_finding_0 : cX3_finding.data.toList.drop 0 = dktX3_finding_0 := by decide +kernel
theorem dX3_finding_0 : decode cX3_finding 0 = .ok (.aload_n 0, 1) := dk_42 (dk_at dksX3_finding_0 0 rfl rfl)
theorem dX3_finding_1 : decode cX3_finding 1 = .ok (.iload_n 1, 1) := dk_27 (dk_at dksX3_finding_0 1 rfl rfl)
theorem dX3_finding_2 : decode cX3_finding 2 = .ok (.putfield 115, 3) := dk_181 0 115 (dk_at dksX3_finding_0 2 rfl rfl)
theorem dX3_finding_5 : decode cX3_finding 5 = .ok (.ldc 118, 2) := dk_18 118 (dk_at dksX3_finding_0 5 rfl rfl)
theorem dX3_finding_7 : decode cX3_finding 7 = .ok (.iload_n 1, 1) := dk_27 (dk_at dksX3_finding_0 7 rfl rfl)
theorem dX3_finding_8 : decode cX3_finding 8 = .ok (.isub, 1) := dk_100 (dk_at dksX3_finding_0 8 rfl rfl)
theorem dX3_finding_9 : decode cX3_finding 9 = .ok (.ireturn, 1) := dk_172 (dk_at dksX3_finding_0 9 rfl rfl)
abbrev cX3_set : ByteArray := prog_19_method_7_code
def yX3_set : MethodName := ⟨RX3, "set", "(III)I"⟩
def dkwX3_set_4 : List UInt8 := [147, 167, 0, 4, 29, 79, 42, 180, 0, 37, 16, 60, 27, 104, 28, 96, 46, 172]
abbrev dktX3_set_4 : List UInt8 := dkwX3_set_4 ++ []
def dkwX3_set_3 : List UInt8 := [180, 0, 31, 27, 46, 154, 0, 8, 29, 145, 167, 0, 19, 42, 180, 0, 31, 27, 46, 4, 160, 0, 8, 29]
abbrev dktX3_set_3 : List UInt8 := dkwX3_set_3 ++ dktX3_set_4
def dkwX3_set_2 : List UInt8 := [184, 0, 121, 154, 0, 9, 42, 5, 182, 0, 132, 172, 42, 180, 0, 37, 16, 60, 27, 104, 28, 96, 42]
abbrev dktX3_set_2 : List UInt8 := dkwX3_set_2 ++ dktX3_set_3
def dkwX3_set_1 : List UInt8 := [27, 46, 156, 0, 9, 42, 4, 182, 0, 132, 172, 28, 133, 9, 42, 180, 0, 34, 27, 46, 4, 100, 133]
abbrev dktX3_set_1 : List UInt8 := dkwX3_set_1 ++ dktX3_set_2
def dkwX3_set_0 : List UInt8 := [42, 3, 181, 0, 111, 27, 184, 0, 125, 154, 0, 6, 18, 131, 172, 42, 3, 181, 0, 115, 42, 180, 0, 31]
abbrev dktX3_set_0 : List UInt8 := dkwX3_set_0 ++ dktX3_set_1
theorem dksX3_set_0 : cX3_set.data.toList.drop 0 = dktX3_set_0 := by decide +kernel
theorem dksX3_set_1 : cX3_set.data.toList.drop 24 = dktX3_set_1 := dk_seg dksX3_set_0 24 rfl rfl
theorem dksX3_set_2 : cX3_set.data.toList.drop 47 = dktX3_set_2 := dk_seg dksX3_set_1 23 rfl rfl
theorem dksX3_set_3 : cX3_set.data.toList.drop 70 = dktX3_set_3 := dk_seg dksX3_set_2 23 rfl rfl
theorem dksX3_set_4 : cX3_set.data.toList.drop 94 = dktX3_set_4 := dk_seg dksX3_set_3 24 rfl rfl
theorem dX3_set_0 : decode cX3_set 0 = .ok (.aload_n 0, 1) := dk_42 (dk_at dksX3_set_0 0 rfl rfl)
theorem dX3_set_1 : decode cX3_set 1 = .ok (.iconst 0, 1) := dk_3 (dk_at dksX3_set_0 1 rfl rfl)
theorem dX3_set_2 : decode cX3_set 2 = .ok (.putfield 111, 3) := dk_181 0 111 (dk_at dksX3_set_0 2 rfl rfl)
theorem dX3_set_5 : decode cX3_set 5 = .ok (.iload_n 1, 1) := dk_27 (dk_at dksX3_set_0 5 rfl rfl)
theorem dX3_set_6 : decode cX3_set 6 = .ok (.invokestatic 125, 3) := dk_184 0 125 (dk_at dksX3_set_0 6 rfl rfl)
theorem dX3_set_9 : decode cX3_set 9 = .ok (.ifCond .ne 6, 3) := dk_154 0 6 (dk_at dksX3_set_0 9 rfl rfl)
theorem dX3_set_12 : decode cX3_set 12 = .ok (.ldc 131, 2) := dk_18 131 (dk_at dksX3_set_0 12 rfl rfl)
theorem dX3_set_14 : decode cX3_set 14 = .ok (.ireturn, 1) := dk_172 (dk_at dksX3_set_0 14 rfl rfl)
theorem dX3_set_15 : decode cX3_set 15 = .ok (.aload_n 0, 1) := dk_42 (dk_at dksX3_set_0 15 rfl rfl)
theorem dX3_set_16 : decode cX3_set 16 = .ok (.iconst 0, 1) := dk_3 (dk_at dksX3_set_0 16 rfl rfl)
theorem dX3_set_17 : decode cX3_set 17 = .ok (.putfield 115, 3) := dk_181 0 115 (dk_at dksX3_set_0 17 rfl rfl)
theorem dX3_set_20 : decode cX3_set 20 = .ok (.aload_n 0, 1) := dk_42 (dk_at dksX3_set_0 20 rfl rfl)
theorem dX3_set_21 : decode cX3_set 21 = .ok (.getfield 31, 3) := dk_180 0 31 (dk_at dksX3_set_0 21 rfl rfl)
theorem dX3_set_24 : decode cX3_set 24 = .ok (.iload_n 1, 1) := dk_27 (dk_at dksX3_set_1 0 rfl rfl)
theorem dX3_set_25 : decode cX3_set 25 = .ok (.iaload, 1) := dk_46 (dk_at dksX3_set_1 1 rfl rfl)
theorem dX3_set_26 : decode cX3_set 26 = .ok (.ifCond .ge 9, 3) := dk_156 0 9 (dk_at dksX3_set_1 2 rfl rfl)
theorem dX3_set_29 : decode cX3_set 29 = .ok (.aload_n 0, 1) := dk_42 (dk_at dksX3_set_1 5 rfl rfl)
theorem dX3_set_30 : decode cX3_set 30 = .ok (.iconst 1, 1) := dk_4 (dk_at dksX3_set_1 6 rfl rfl)
theorem dX3_set_31 : decode cX3_set 31 = .ok (.invokevirtual 132, 3) := dk_182 0 132 (dk_at dksX3_set_1 7 rfl rfl)
theorem dX3_set_34 : decode cX3_set 34 = .ok (.ireturn, 1) := dk_172 (dk_at dksX3_set_1 10 rfl rfl)
theorem dX3_set_35 : decode cX3_set 35 = .ok (.iload_n 2, 1) := dk_28 (dk_at dksX3_set_1 11 rfl rfl)
theorem dX3_set_36 : decode cX3_set 36 = .ok (.i2l, 1) := dk_133 (dk_at dksX3_set_1 12 rfl rfl)
theorem dX3_set_37 : decode cX3_set 37 = .ok (.lconst 0, 1) := dk_9 (dk_at dksX3_set_1 13 rfl rfl)
theorem dX3_set_38 : decode cX3_set 38 = .ok (.aload_n 0, 1) := dk_42 (dk_at dksX3_set_1 14 rfl rfl)
theorem dX3_set_39 : decode cX3_set 39 = .ok (.getfield 34, 3) := dk_180 0 34 (dk_at dksX3_set_1 15 rfl rfl)
theorem dX3_set_42 : decode cX3_set 42 = .ok (.iload_n 1, 1) := dk_27 (dk_at dksX3_set_1 18 rfl rfl)
theorem dX3_set_43 : decode cX3_set 43 = .ok (.iaload, 1) := dk_46 (dk_at dksX3_set_1 19 rfl rfl)
theorem dX3_set_44 : decode cX3_set 44 = .ok (.iconst 1, 1) := dk_4 (dk_at dksX3_set_1 20 rfl rfl)
theorem dX3_set_45 : decode cX3_set 45 = .ok (.isub, 1) := dk_100 (dk_at dksX3_set_1 21 rfl rfl)
theorem dX3_set_46 : decode cX3_set 46 = .ok (.i2l, 1) := dk_133 (dk_at dksX3_set_1 22 rfl rfl)
theorem dX3_set_47 : decode cX3_set 47 = .ok (.invokestatic 121, 3) := dk_184 0 121 (dk_at dksX3_set_2 0 rfl rfl)
theorem dX3_set_50 : decode cX3_set 50 = .ok (.ifCond .ne 9, 3) := dk_154 0 9 (dk_at dksX3_set_2 3 rfl rfl)
theorem dX3_set_53 : decode cX3_set 53 = .ok (.aload_n 0, 1) := dk_42 (dk_at dksX3_set_2 6 rfl rfl)
theorem dX3_set_54 : decode cX3_set 54 = .ok (.iconst 2, 1) := dk_5 (dk_at dksX3_set_2 7 rfl rfl)
theorem dX3_set_55 : decode cX3_set 55 = .ok (.invokevirtual 132, 3) := dk_182 0 132 (dk_at dksX3_set_2 8 rfl rfl)
theorem dX3_set_58 : decode cX3_set 58 = .ok (.ireturn, 1) := dk_172 (dk_at dksX3_set_2 11 rfl rfl)
theorem dX3_set_59 : decode cX3_set 59 = .ok (.aload_n 0, 1) := dk_42 (dk_at dksX3_set_2 12 rfl rfl)
theorem dX3_set_60 : decode cX3_set 60 = .ok (.getfield 37, 3) := dk_180 0 37 (dk_at dksX3_set_2 13 rfl rfl)
theorem dX3_set_63 : decode cX3_set 63 = .ok (.bipush 60, 2) := dk_16 60 (dk_at dksX3_set_2 16 rfl rfl)
theorem dX3_set_65 : decode cX3_set 65 = .ok (.iload_n 1, 1) := dk_27 (dk_at dksX3_set_2 18 rfl rfl)
theorem dX3_set_66 : decode cX3_set 66 = .ok (.imul, 1) := dk_104 (dk_at dksX3_set_2 19 rfl rfl)
theorem dX3_set_67 : decode cX3_set 67 = .ok (.iload_n 2, 1) := dk_28 (dk_at dksX3_set_2 20 rfl rfl)
theorem dX3_set_68 : decode cX3_set 68 = .ok (.iadd, 1) := dk_96 (dk_at dksX3_set_2 21 rfl rfl)
theorem dX3_set_69 : decode cX3_set 69 = .ok (.aload_n 0, 1) := dk_42 (dk_at dksX3_set_2 22 rfl rfl)
theorem dX3_set_70 : decode cX3_set 70 = .ok (.getfield 31, 3) := dk_180 0 31 (dk_at dksX3_set_3 0 rfl rfl)
theorem dX3_set_73 : decode cX3_set 73 = .ok (.iload_n 1, 1) := dk_27 (dk_at dksX3_set_3 3 rfl rfl)
theorem dX3_set_74 : decode cX3_set 74 = .ok (.iaload, 1) := dk_46 (dk_at dksX3_set_3 4 rfl rfl)
theorem dX3_set_75 : decode cX3_set 75 = .ok (.ifCond .ne 8, 3) := dk_154 0 8 (dk_at dksX3_set_3 5 rfl rfl)
theorem dX3_set_78 : decode cX3_set 78 = .ok (.iload_n 3, 1) := dk_29 (dk_at dksX3_set_3 8 rfl rfl)
theorem dX3_set_79 : decode cX3_set 79 = .ok (.i2b, 1) := dk_145 (dk_at dksX3_set_3 9 rfl rfl)
theorem dX3_set_80 : decode cX3_set 80 = .ok (.goto 19, 3) := dk_167 0 19 (dk_at dksX3_set_3 10 rfl rfl)
theorem dX3_set_83 : decode cX3_set 83 = .ok (.aload_n 0, 1) := dk_42 (dk_at dksX3_set_3 13 rfl rfl)
theorem dX3_set_84 : decode cX3_set 84 = .ok (.getfield 31, 3) := dk_180 0 31 (dk_at dksX3_set_3 14 rfl rfl)
theorem dX3_set_87 : decode cX3_set 87 = .ok (.iload_n 1, 1) := dk_27 (dk_at dksX3_set_3 17 rfl rfl)
theorem dX3_set_88 : decode cX3_set 88 = .ok (.iaload, 1) := dk_46 (dk_at dksX3_set_3 18 rfl rfl)
theorem dX3_set_89 : decode cX3_set 89 = .ok (.iconst 1, 1) := dk_4 (dk_at dksX3_set_3 19 rfl rfl)
theorem dX3_set_90 : decode cX3_set 90 = .ok (.if_icmp .ne 8, 3) := dk_160 0 8 (dk_at dksX3_set_3 20 rfl rfl)
theorem dX3_set_93 : decode cX3_set 93 = .ok (.iload_n 3, 1) := dk_29 (dk_at dksX3_set_3 23 rfl rfl)
theorem dX3_set_94 : decode cX3_set 94 = .ok (.i2s, 1) := dk_147 (dk_at dksX3_set_4 0 rfl rfl)
theorem dX3_set_95 : decode cX3_set 95 = .ok (.goto 4, 3) := dk_167 0 4 (dk_at dksX3_set_4 1 rfl rfl)
theorem dX3_set_98 : decode cX3_set 98 = .ok (.iload_n 3, 1) := dk_29 (dk_at dksX3_set_4 4 rfl rfl)
theorem dX3_set_99 : decode cX3_set 99 = .ok (.iastore, 1) := dk_79 (dk_at dksX3_set_4 5 rfl rfl)
theorem dX3_set_100 : decode cX3_set 100 = .ok (.aload_n 0, 1) := dk_42 (dk_at dksX3_set_4 6 rfl rfl)
theorem dX3_set_101 : decode cX3_set 101 = .ok (.getfield 37, 3) := dk_180 0 37 (dk_at dksX3_set_4 7 rfl rfl)
theorem dX3_set_104 : decode cX3_set 104 = .ok (.bipush 60, 2) := dk_16 60 (dk_at dksX3_set_4 10 rfl rfl)
theorem dX3_set_106 : decode cX3_set 106 = .ok (.iload_n 1, 1) := dk_27 (dk_at dksX3_set_4 12 rfl rfl)
theorem dX3_set_107 : decode cX3_set 107 = .ok (.imul, 1) := dk_104 (dk_at dksX3_set_4 13 rfl rfl)
theorem dX3_set_108 : decode cX3_set 108 = .ok (.iload_n 2, 1) := dk_28 (dk_at dksX3_set_4 14 rfl rfl)
theorem dX3_set_109 : decode cX3_set 109 = .ok (.iadd, 1) := dk_96 (dk_at dksX3_set_4 15 rfl rfl)
theorem dX3_set_110 : decode cX3_set 110 = .ok (.iaload, 1) := dk_46 (dk_at dksX3_set_4 16 rfl rfl)
theorem dX3_set_111 : decode cX3_set 111 = .ok (.ireturn, 1) := dk_172 (dk_at dksX3_set_4 17 rfl rfl)
abbrev cX3_copy : ByteArray := prog_19_method_8_code
def yX3_copy : MethodName := ⟨RX3, "copy", "(IIIII)I"⟩
def dkwX3_copy_8 : List UInt8 := [16, 60, 27, 104, 28, 96, 21, 8, 96, 46, 79, 132, 7, 1, 167, 255, 198, 21, 5, 172]
abbrev dktX3_copy_8 : List UInt8 := dkwX3_copy_8 ++ []
def dkwX3_copy_7 : List UInt8 := [21, 7, 100, 54, 8, 42, 180, 0, 37, 16, 60, 29, 104, 21, 4, 96, 21, 8, 96, 42, 180, 0, 37]
abbrev dktX3_copy_7 : List UInt8 := dkwX3_copy_7 ++ dktX3_copy_8
def dkwX3_copy_6 : List UInt8 := [54, 7, 21, 7, 21, 5, 162, 0, 57, 21, 6, 153, 0, 8, 21, 7, 167, 0, 10, 21, 5, 4, 100]
abbrev dktX3_copy_6 : List UInt8 := dkwX3_copy_6 ++ dktX3_copy_7
def dkwX3_copy_5 : List UInt8 := [148, 158, 0, 9, 42, 5, 182, 0, 132, 172, 28, 21, 4, 161, 0, 7, 4, 167, 0, 4, 3, 54, 6, 3]
abbrev dktX3_copy_5 : List UInt8 := dkwX3_copy_5 ++ dktX3_copy_6
def dkwX3_copy_4 : List UInt8 := [180, 0, 34, 27, 46, 133, 148, 157, 0, 21, 21, 4, 133, 21, 5, 133, 97, 42, 180, 0, 34, 29, 46, 133]
abbrev dktX3_copy_4 : List UInt8 := dkwX3_copy_4 ++ dktX3_copy_5
def dkwX3_copy_3 : List UInt8 := [172, 28, 155, 0, 48, 21, 4, 155, 0, 43, 21, 5, 155, 0, 38, 28, 133, 21, 5, 133, 97, 42]
abbrev dktX3_copy_3 : List UInt8 := dkwX3_copy_3 ++ dktX3_copy_4
def dkwX3_copy_2 : List UInt8 := [182, 0, 132, 172, 42, 180, 0, 31, 27, 46, 42, 180, 0, 31, 29, 46, 159, 0, 9, 42, 8, 182, 0, 132]
abbrev dktX3_copy_2 : List UInt8 := dkwX3_copy_2 ++ dktX3_copy_3
def dkwX3_copy_1 : List UInt8 := [181, 0, 115, 42, 180, 0, 31, 27, 46, 155, 0, 12, 42, 180, 0, 31, 29, 46, 156, 0, 9, 42, 4]
abbrev dktX3_copy_1 : List UInt8 := dkwX3_copy_1 ++ dktX3_copy_2
def dkwX3_copy_0 : List UInt8 := [42, 3, 181, 0, 111, 27, 184, 0, 125, 153, 0, 10, 29, 184, 0, 125, 154, 0, 6, 18, 131, 172, 42, 3]
abbrev dktX3_copy_0 : List UInt8 := dkwX3_copy_0 ++ dktX3_copy_1
theorem dksX3_copy_0 : cX3_copy.data.toList.drop 0 = dktX3_copy_0 := by decide +kernel
theorem dksX3_copy_1 : cX3_copy.data.toList.drop 24 = dktX3_copy_1 := dk_seg dksX3_copy_0 24 rfl rfl
theorem dksX3_copy_2 : cX3_copy.data.toList.drop 47 = dktX3_copy_2 := dk_seg dksX3_copy_1 23 rfl rfl
theorem dksX3_copy_3 : cX3_copy.data.toList.drop 71 = dktX3_copy_3 := dk_seg dksX3_copy_2 24 rfl rfl
theorem dksX3_copy_4 : cX3_copy.data.toList.drop 93 = dktX3_copy_4 := dk_seg dksX3_copy_3 22 rfl rfl
theorem dksX3_copy_5 : cX3_copy.data.toList.drop 117 = dktX3_copy_5 := dk_seg dksX3_copy_4 24 rfl rfl
theorem dksX3_copy_6 : cX3_copy.data.toList.drop 141 = dktX3_copy_6 := dk_seg dksX3_copy_5 24 rfl rfl
theorem dksX3_copy_7 : cX3_copy.data.toList.drop 164 = dktX3_copy_7 := dk_seg dksX3_copy_6 23 rfl rfl
theorem dksX3_copy_8 : cX3_copy.data.toList.drop 187 = dktX3_copy_8 := dk_seg dksX3_copy_7 23 rfl rfl
theorem dX3_copy_0 : decode cX3_copy 0 = .ok (.aload_n 0, 1) := dk_42 (dk_at dksX3_copy_0 0 rfl rfl)
theorem dX3_copy_1 : decode cX3_copy 1 = .ok (.iconst 0, 1) := dk_3 (dk_at dksX3_copy_0 1 rfl rfl)
theorem dX3_copy_2 : decode cX3_copy 2 = .ok (.putfield 111, 3) := dk_181 0 111 (dk_at dksX3_copy_0 2 rfl rfl)
theorem dX3_copy_5 : decode cX3_copy 5 = .ok (.iload_n 1, 1) := dk_27 (dk_at dksX3_copy_0 5 rfl rfl)
theorem dX3_copy_6 : decode cX3_copy 6 = .ok (.invokestatic 125, 3) := dk_184 0 125 (dk_at dksX3_copy_0 6 rfl rfl)
theorem dX3_copy_9 : decode cX3_copy 9 = .ok (.ifCond .eq 10, 3) := dk_153 0 10 (dk_at dksX3_copy_0 9 rfl rfl)
theorem dX3_copy_12 : decode cX3_copy 12 = .ok (.iload_n 3, 1) := dk_29 (dk_at dksX3_copy_0 12 rfl rfl)
theorem dX3_copy_13 : decode cX3_copy 13 = .ok (.invokestatic 125, 3) := dk_184 0 125 (dk_at dksX3_copy_0 13 rfl rfl)
theorem dX3_copy_16 : decode cX3_copy 16 = .ok (.ifCond .ne 6, 3) := dk_154 0 6 (dk_at dksX3_copy_0 16 rfl rfl)
theorem dX3_copy_19 : decode cX3_copy 19 = .ok (.ldc 131, 2) := dk_18 131 (dk_at dksX3_copy_0 19 rfl rfl)
theorem dX3_copy_21 : decode cX3_copy 21 = .ok (.ireturn, 1) := dk_172 (dk_at dksX3_copy_0 21 rfl rfl)
theorem dX3_copy_22 : decode cX3_copy 22 = .ok (.aload_n 0, 1) := dk_42 (dk_at dksX3_copy_0 22 rfl rfl)
theorem dX3_copy_23 : decode cX3_copy 23 = .ok (.iconst 0, 1) := dk_3 (dk_at dksX3_copy_0 23 rfl rfl)
theorem dX3_copy_24 : decode cX3_copy 24 = .ok (.putfield 115, 3) := dk_181 0 115 (dk_at dksX3_copy_1 0 rfl rfl)
theorem dX3_copy_27 : decode cX3_copy 27 = .ok (.aload_n 0, 1) := dk_42 (dk_at dksX3_copy_1 3 rfl rfl)
theorem dX3_copy_28 : decode cX3_copy 28 = .ok (.getfield 31, 3) := dk_180 0 31 (dk_at dksX3_copy_1 4 rfl rfl)
theorem dX3_copy_31 : decode cX3_copy 31 = .ok (.iload_n 1, 1) := dk_27 (dk_at dksX3_copy_1 7 rfl rfl)
theorem dX3_copy_32 : decode cX3_copy 32 = .ok (.iaload, 1) := dk_46 (dk_at dksX3_copy_1 8 rfl rfl)
theorem dX3_copy_33 : decode cX3_copy 33 = .ok (.ifCond .lt 12, 3) := dk_155 0 12 (dk_at dksX3_copy_1 9 rfl rfl)
theorem dX3_copy_36 : decode cX3_copy 36 = .ok (.aload_n 0, 1) := dk_42 (dk_at dksX3_copy_1 12 rfl rfl)
theorem dX3_copy_37 : decode cX3_copy 37 = .ok (.getfield 31, 3) := dk_180 0 31 (dk_at dksX3_copy_1 13 rfl rfl)
theorem dX3_copy_40 : decode cX3_copy 40 = .ok (.iload_n 3, 1) := dk_29 (dk_at dksX3_copy_1 16 rfl rfl)
theorem dX3_copy_41 : decode cX3_copy 41 = .ok (.iaload, 1) := dk_46 (dk_at dksX3_copy_1 17 rfl rfl)
theorem dX3_copy_42 : decode cX3_copy 42 = .ok (.ifCond .ge 9, 3) := dk_156 0 9 (dk_at dksX3_copy_1 18 rfl rfl)
theorem dX3_copy_45 : decode cX3_copy 45 = .ok (.aload_n 0, 1) := dk_42 (dk_at dksX3_copy_1 21 rfl rfl)
theorem dX3_copy_46 : decode cX3_copy 46 = .ok (.iconst 1, 1) := dk_4 (dk_at dksX3_copy_1 22 rfl rfl)
theorem dX3_copy_47 : decode cX3_copy 47 = .ok (.invokevirtual 132, 3) := dk_182 0 132 (dk_at dksX3_copy_2 0 rfl rfl)
theorem dX3_copy_50 : decode cX3_copy 50 = .ok (.ireturn, 1) := dk_172 (dk_at dksX3_copy_2 3 rfl rfl)
theorem dX3_copy_51 : decode cX3_copy 51 = .ok (.aload_n 0, 1) := dk_42 (dk_at dksX3_copy_2 4 rfl rfl)
theorem dX3_copy_52 : decode cX3_copy 52 = .ok (.getfield 31, 3) := dk_180 0 31 (dk_at dksX3_copy_2 5 rfl rfl)
theorem dX3_copy_55 : decode cX3_copy 55 = .ok (.iload_n 1, 1) := dk_27 (dk_at dksX3_copy_2 8 rfl rfl)
theorem dX3_copy_56 : decode cX3_copy 56 = .ok (.iaload, 1) := dk_46 (dk_at dksX3_copy_2 9 rfl rfl)
theorem dX3_copy_57 : decode cX3_copy 57 = .ok (.aload_n 0, 1) := dk_42 (dk_at dksX3_copy_2 10 rfl rfl)
theorem dX3_copy_58 : decode cX3_copy 58 = .ok (.getfield 31, 3) := dk_180 0 31 (dk_at dksX3_copy_2 11 rfl rfl)
theorem dX3_copy_61 : decode cX3_copy 61 = .ok (.iload_n 3, 1) := dk_29 (dk_at dksX3_copy_2 14 rfl rfl)
theorem dX3_copy_62 : decode cX3_copy 62 = .ok (.iaload, 1) := dk_46 (dk_at dksX3_copy_2 15 rfl rfl)
theorem dX3_copy_63 : decode cX3_copy 63 = .ok (.if_icmp .eq 9, 3) := dk_159 0 9 (dk_at dksX3_copy_2 16 rfl rfl)
theorem dX3_copy_66 : decode cX3_copy 66 = .ok (.aload_n 0, 1) := dk_42 (dk_at dksX3_copy_2 19 rfl rfl)
theorem dX3_copy_67 : decode cX3_copy 67 = .ok (.iconst 5, 1) := dk_8 (dk_at dksX3_copy_2 20 rfl rfl)
theorem dX3_copy_68 : decode cX3_copy 68 = .ok (.invokevirtual 132, 3) := dk_182 0 132 (dk_at dksX3_copy_2 21 rfl rfl)
theorem dX3_copy_71 : decode cX3_copy 71 = .ok (.ireturn, 1) := dk_172 (dk_at dksX3_copy_3 0 rfl rfl)
theorem dX3_copy_72 : decode cX3_copy 72 = .ok (.iload_n 2, 1) := dk_28 (dk_at dksX3_copy_3 1 rfl rfl)
theorem dX3_copy_73 : decode cX3_copy 73 = .ok (.ifCond .lt 48, 3) := dk_155 0 48 (dk_at dksX3_copy_3 2 rfl rfl)
theorem dX3_copy_76 : decode cX3_copy 76 = .ok (.iload 4, 2) := dk_21 4 (dk_at dksX3_copy_3 5 rfl rfl)
theorem dX3_copy_78 : decode cX3_copy 78 = .ok (.ifCond .lt 43, 3) := dk_155 0 43 (dk_at dksX3_copy_3 7 rfl rfl)
theorem dX3_copy_81 : decode cX3_copy 81 = .ok (.iload 5, 2) := dk_21 5 (dk_at dksX3_copy_3 10 rfl rfl)
theorem dX3_copy_83 : decode cX3_copy 83 = .ok (.ifCond .lt 38, 3) := dk_155 0 38 (dk_at dksX3_copy_3 12 rfl rfl)
theorem dX3_copy_86 : decode cX3_copy 86 = .ok (.iload_n 2, 1) := dk_28 (dk_at dksX3_copy_3 15 rfl rfl)
theorem dX3_copy_87 : decode cX3_copy 87 = .ok (.i2l, 1) := dk_133 (dk_at dksX3_copy_3 16 rfl rfl)
theorem dX3_copy_88 : decode cX3_copy 88 = .ok (.iload 5, 2) := dk_21 5 (dk_at dksX3_copy_3 17 rfl rfl)
theorem dX3_copy_90 : decode cX3_copy 90 = .ok (.i2l, 1) := dk_133 (dk_at dksX3_copy_3 19 rfl rfl)
theorem dX3_copy_91 : decode cX3_copy 91 = .ok (.ladd, 1) := dk_97 (dk_at dksX3_copy_3 20 rfl rfl)
theorem dX3_copy_92 : decode cX3_copy 92 = .ok (.aload_n 0, 1) := dk_42 (dk_at dksX3_copy_3 21 rfl rfl)
theorem dX3_copy_93 : decode cX3_copy 93 = .ok (.getfield 34, 3) := dk_180 0 34 (dk_at dksX3_copy_4 0 rfl rfl)
theorem dX3_copy_96 : decode cX3_copy 96 = .ok (.iload_n 1, 1) := dk_27 (dk_at dksX3_copy_4 3 rfl rfl)
theorem dX3_copy_97 : decode cX3_copy 97 = .ok (.iaload, 1) := dk_46 (dk_at dksX3_copy_4 4 rfl rfl)
theorem dX3_copy_98 : decode cX3_copy 98 = .ok (.i2l, 1) := dk_133 (dk_at dksX3_copy_4 5 rfl rfl)
theorem dX3_copy_99 : decode cX3_copy 99 = .ok (.lcmp, 1) := dk_148 (dk_at dksX3_copy_4 6 rfl rfl)
theorem dX3_copy_100 : decode cX3_copy 100 = .ok (.ifCond .gt 21, 3) := dk_157 0 21 (dk_at dksX3_copy_4 7 rfl rfl)
theorem dX3_copy_103 : decode cX3_copy 103 = .ok (.iload 4, 2) := dk_21 4 (dk_at dksX3_copy_4 10 rfl rfl)
theorem dX3_copy_105 : decode cX3_copy 105 = .ok (.i2l, 1) := dk_133 (dk_at dksX3_copy_4 12 rfl rfl)
theorem dX3_copy_106 : decode cX3_copy 106 = .ok (.iload 5, 2) := dk_21 5 (dk_at dksX3_copy_4 13 rfl rfl)
theorem dX3_copy_108 : decode cX3_copy 108 = .ok (.i2l, 1) := dk_133 (dk_at dksX3_copy_4 15 rfl rfl)
theorem dX3_copy_109 : decode cX3_copy 109 = .ok (.ladd, 1) := dk_97 (dk_at dksX3_copy_4 16 rfl rfl)
theorem dX3_copy_110 : decode cX3_copy 110 = .ok (.aload_n 0, 1) := dk_42 (dk_at dksX3_copy_4 17 rfl rfl)
theorem dX3_copy_111 : decode cX3_copy 111 = .ok (.getfield 34, 3) := dk_180 0 34 (dk_at dksX3_copy_4 18 rfl rfl)
theorem dX3_copy_114 : decode cX3_copy 114 = .ok (.iload_n 3, 1) := dk_29 (dk_at dksX3_copy_4 21 rfl rfl)
theorem dX3_copy_115 : decode cX3_copy 115 = .ok (.iaload, 1) := dk_46 (dk_at dksX3_copy_4 22 rfl rfl)
theorem dX3_copy_116 : decode cX3_copy 116 = .ok (.i2l, 1) := dk_133 (dk_at dksX3_copy_4 23 rfl rfl)
theorem dX3_copy_117 : decode cX3_copy 117 = .ok (.lcmp, 1) := dk_148 (dk_at dksX3_copy_5 0 rfl rfl)
theorem dX3_copy_118 : decode cX3_copy 118 = .ok (.ifCond .le 9, 3) := dk_158 0 9 (dk_at dksX3_copy_5 1 rfl rfl)
theorem dX3_copy_121 : decode cX3_copy 121 = .ok (.aload_n 0, 1) := dk_42 (dk_at dksX3_copy_5 4 rfl rfl)
theorem dX3_copy_122 : decode cX3_copy 122 = .ok (.iconst 2, 1) := dk_5 (dk_at dksX3_copy_5 5 rfl rfl)
theorem dX3_copy_123 : decode cX3_copy 123 = .ok (.invokevirtual 132, 3) := dk_182 0 132 (dk_at dksX3_copy_5 6 rfl rfl)
theorem dX3_copy_126 : decode cX3_copy 126 = .ok (.ireturn, 1) := dk_172 (dk_at dksX3_copy_5 9 rfl rfl)
theorem dX3_copy_127 : decode cX3_copy 127 = .ok (.iload_n 2, 1) := dk_28 (dk_at dksX3_copy_5 10 rfl rfl)
theorem dX3_copy_128 : decode cX3_copy 128 = .ok (.iload 4, 2) := dk_21 4 (dk_at dksX3_copy_5 11 rfl rfl)
theorem dX3_copy_130 : decode cX3_copy 130 = .ok (.if_icmp .lt 7, 3) := dk_161 0 7 (dk_at dksX3_copy_5 13 rfl rfl)
theorem dX3_copy_133 : decode cX3_copy 133 = .ok (.iconst 1, 1) := dk_4 (dk_at dksX3_copy_5 16 rfl rfl)
theorem dX3_copy_134 : decode cX3_copy 134 = .ok (.goto 4, 3) := dk_167 0 4 (dk_at dksX3_copy_5 17 rfl rfl)
theorem dX3_copy_137 : decode cX3_copy 137 = .ok (.iconst 0, 1) := dk_3 (dk_at dksX3_copy_5 20 rfl rfl)
theorem dX3_copy_138 : decode cX3_copy 138 = .ok (.istore 6, 2) := dk_54 6 (dk_at dksX3_copy_5 21 rfl rfl)
theorem dX3_copy_140 : decode cX3_copy 140 = .ok (.iconst 0, 1) := dk_3 (dk_at dksX3_copy_5 23 rfl rfl)
theorem dX3_copy_141 : decode cX3_copy 141 = .ok (.istore 7, 2) := dk_54 7 (dk_at dksX3_copy_6 0 rfl rfl)
theorem dX3_copy_143 : decode cX3_copy 143 = .ok (.iload 7, 2) := dk_21 7 (dk_at dksX3_copy_6 2 rfl rfl)
theorem dX3_copy_145 : decode cX3_copy 145 = .ok (.iload 5, 2) := dk_21 5 (dk_at dksX3_copy_6 4 rfl rfl)
theorem dX3_copy_147 : decode cX3_copy 147 = .ok (.if_icmp .ge 57, 3) := dk_162 0 57 (dk_at dksX3_copy_6 6 rfl rfl)
theorem dX3_copy_150 : decode cX3_copy 150 = .ok (.iload 6, 2) := dk_21 6 (dk_at dksX3_copy_6 9 rfl rfl)
theorem dX3_copy_152 : decode cX3_copy 152 = .ok (.ifCond .eq 8, 3) := dk_153 0 8 (dk_at dksX3_copy_6 11 rfl rfl)
theorem dX3_copy_155 : decode cX3_copy 155 = .ok (.iload 7, 2) := dk_21 7 (dk_at dksX3_copy_6 14 rfl rfl)
theorem dX3_copy_157 : decode cX3_copy 157 = .ok (.goto 10, 3) := dk_167 0 10 (dk_at dksX3_copy_6 16 rfl rfl)
theorem dX3_copy_160 : decode cX3_copy 160 = .ok (.iload 5, 2) := dk_21 5 (dk_at dksX3_copy_6 19 rfl rfl)
theorem dX3_copy_162 : decode cX3_copy 162 = .ok (.iconst 1, 1) := dk_4 (dk_at dksX3_copy_6 21 rfl rfl)
theorem dX3_copy_163 : decode cX3_copy 163 = .ok (.isub, 1) := dk_100 (dk_at dksX3_copy_6 22 rfl rfl)
theorem dX3_copy_164 : decode cX3_copy 164 = .ok (.iload 7, 2) := dk_21 7 (dk_at dksX3_copy_7 0 rfl rfl)
theorem dX3_copy_166 : decode cX3_copy 166 = .ok (.isub, 1) := dk_100 (dk_at dksX3_copy_7 2 rfl rfl)
theorem dX3_copy_167 : decode cX3_copy 167 = .ok (.istore 8, 2) := dk_54 8 (dk_at dksX3_copy_7 3 rfl rfl)
theorem dX3_copy_169 : decode cX3_copy 169 = .ok (.aload_n 0, 1) := dk_42 (dk_at dksX3_copy_7 5 rfl rfl)
theorem dX3_copy_170 : decode cX3_copy 170 = .ok (.getfield 37, 3) := dk_180 0 37 (dk_at dksX3_copy_7 6 rfl rfl)
theorem dX3_copy_173 : decode cX3_copy 173 = .ok (.bipush 60, 2) := dk_16 60 (dk_at dksX3_copy_7 9 rfl rfl)
theorem dX3_copy_175 : decode cX3_copy 175 = .ok (.iload_n 3, 1) := dk_29 (dk_at dksX3_copy_7 11 rfl rfl)
theorem dX3_copy_176 : decode cX3_copy 176 = .ok (.imul, 1) := dk_104 (dk_at dksX3_copy_7 12 rfl rfl)
theorem dX3_copy_177 : decode cX3_copy 177 = .ok (.iload 4, 2) := dk_21 4 (dk_at dksX3_copy_7 13 rfl rfl)
theorem dX3_copy_179 : decode cX3_copy 179 = .ok (.iadd, 1) := dk_96 (dk_at dksX3_copy_7 15 rfl rfl)
theorem dX3_copy_180 : decode cX3_copy 180 = .ok (.iload 8, 2) := dk_21 8 (dk_at dksX3_copy_7 16 rfl rfl)
theorem dX3_copy_182 : decode cX3_copy 182 = .ok (.iadd, 1) := dk_96 (dk_at dksX3_copy_7 18 rfl rfl)
theorem dX3_copy_183 : decode cX3_copy 183 = .ok (.aload_n 0, 1) := dk_42 (dk_at dksX3_copy_7 19 rfl rfl)
theorem dX3_copy_184 : decode cX3_copy 184 = .ok (.getfield 37, 3) := dk_180 0 37 (dk_at dksX3_copy_7 20 rfl rfl)
theorem dX3_copy_187 : decode cX3_copy 187 = .ok (.bipush 60, 2) := dk_16 60 (dk_at dksX3_copy_8 0 rfl rfl)
theorem dX3_copy_189 : decode cX3_copy 189 = .ok (.iload_n 1, 1) := dk_27 (dk_at dksX3_copy_8 2 rfl rfl)
theorem dX3_copy_190 : decode cX3_copy 190 = .ok (.imul, 1) := dk_104 (dk_at dksX3_copy_8 3 rfl rfl)
theorem dX3_copy_191 : decode cX3_copy 191 = .ok (.iload_n 2, 1) := dk_28 (dk_at dksX3_copy_8 4 rfl rfl)
theorem dX3_copy_192 : decode cX3_copy 192 = .ok (.iadd, 1) := dk_96 (dk_at dksX3_copy_8 5 rfl rfl)
theorem dX3_copy_193 : decode cX3_copy 193 = .ok (.iload 8, 2) := dk_21 8 (dk_at dksX3_copy_8 6 rfl rfl)
theorem dX3_copy_195 : decode cX3_copy 195 = .ok (.iadd, 1) := dk_96 (dk_at dksX3_copy_8 8 rfl rfl)
theorem dX3_copy_196 : decode cX3_copy 196 = .ok (.iaload, 1) := dk_46 (dk_at dksX3_copy_8 9 rfl rfl)
theorem dX3_copy_197 : decode cX3_copy 197 = .ok (.iastore, 1) := dk_79 (dk_at dksX3_copy_8 10 rfl rfl)
theorem dX3_copy_198 : decode cX3_copy 198 = .ok (.iinc 7 1, 3) := dk_132 7 1 (dk_at dksX3_copy_8 11 rfl rfl)
theorem dX3_copy_201 : decode cX3_copy 201 = .ok (.goto (-58), 3) := dk_167 255 198 (dk_at dksX3_copy_8 14 rfl rfl)
theorem dX3_copy_204 : decode cX3_copy 204 = .ok (.iload 5, 2) := dk_21 5 (dk_at dksX3_copy_8 17 rfl rfl)
theorem dX3_copy_206 : decode cX3_copy 206 = .ok (.ireturn, 1) := dk_172 (dk_at dksX3_copy_8 19 rfl rfl)
abbrev cX3_drop : ByteArray := prog_19_method_9_code
def yX3_drop : MethodName := ⟨RX3, "drop", "(I)I"⟩
def dkwX3_drop_2 : List UInt8 := [172]
abbrev dktX3_drop_2 : List UInt8 := dkwX3_drop_2 ++ []
def dkwX3_drop_1 : List UInt8 := [27, 46, 156, 0, 9, 42, 4, 182, 0, 132, 172, 42, 180, 0, 31, 27, 2, 79, 42, 180, 0, 34, 27, 46]
abbrev dktX3_drop_1 : List UInt8 := dkwX3_drop_1 ++ dktX3_drop_2
def dkwX3_drop_0 : List UInt8 := [42, 3, 181, 0, 111, 27, 184, 0, 125, 154, 0, 6, 18, 131, 172, 42, 3, 181, 0, 115, 42, 180, 0, 31]
abbrev dktX3_drop_0 : List UInt8 := dkwX3_drop_0 ++ dktX3_drop_1
theorem dksX3_drop_0 : cX3_drop.data.toList.drop 0 = dktX3_drop_0 := by decide +kernel
theorem dksX3_drop_1 : cX3_drop.data.toList.drop 24 = dktX3_drop_1 := dk_seg dksX3_drop_0 24 rfl rfl
theorem dksX3_drop_2 : cX3_drop.data.toList.drop 48 = dktX3_drop_2 := dk_seg dksX3_drop_1 24 rfl rfl
theorem dX3_drop_0 : decode cX3_drop 0 = .ok (.aload_n 0, 1) := dk_42 (dk_at dksX3_drop_0 0 rfl rfl)
theorem dX3_drop_1 : decode cX3_drop 1 = .ok (.iconst 0, 1) := dk_3 (dk_at dksX3_drop_0 1 rfl rfl)
theorem dX3_drop_2 : decode cX3_drop 2 = .ok (.putfield 111, 3) := dk_181 0 111 (dk_at dksX3_drop_0 2 rfl rfl)
theorem dX3_drop_5 : decode cX3_drop 5 = .ok (.iload_n 1, 1) := dk_27 (dk_at dksX3_drop_0 5 rfl rfl)
theorem dX3_drop_6 : decode cX3_drop 6 = .ok (.invokestatic 125, 3) := dk_184 0 125 (dk_at dksX3_drop_0 6 rfl rfl)
theorem dX3_drop_9 : decode cX3_drop 9 = .ok (.ifCond .ne 6, 3) := dk_154 0 6 (dk_at dksX3_drop_0 9 rfl rfl)
theorem dX3_drop_12 : decode cX3_drop 12 = .ok (.ldc 131, 2) := dk_18 131 (dk_at dksX3_drop_0 12 rfl rfl)
theorem dX3_drop_14 : decode cX3_drop 14 = .ok (.ireturn, 1) := dk_172 (dk_at dksX3_drop_0 14 rfl rfl)
theorem dX3_drop_15 : decode cX3_drop 15 = .ok (.aload_n 0, 1) := dk_42 (dk_at dksX3_drop_0 15 rfl rfl)
theorem dX3_drop_16 : decode cX3_drop 16 = .ok (.iconst 0, 1) := dk_3 (dk_at dksX3_drop_0 16 rfl rfl)
theorem dX3_drop_17 : decode cX3_drop 17 = .ok (.putfield 115, 3) := dk_181 0 115 (dk_at dksX3_drop_0 17 rfl rfl)
theorem dX3_drop_20 : decode cX3_drop 20 = .ok (.aload_n 0, 1) := dk_42 (dk_at dksX3_drop_0 20 rfl rfl)
theorem dX3_drop_21 : decode cX3_drop 21 = .ok (.getfield 31, 3) := dk_180 0 31 (dk_at dksX3_drop_0 21 rfl rfl)
theorem dX3_drop_24 : decode cX3_drop 24 = .ok (.iload_n 1, 1) := dk_27 (dk_at dksX3_drop_1 0 rfl rfl)
theorem dX3_drop_25 : decode cX3_drop 25 = .ok (.iaload, 1) := dk_46 (dk_at dksX3_drop_1 1 rfl rfl)
theorem dX3_drop_26 : decode cX3_drop 26 = .ok (.ifCond .ge 9, 3) := dk_156 0 9 (dk_at dksX3_drop_1 2 rfl rfl)
theorem dX3_drop_29 : decode cX3_drop 29 = .ok (.aload_n 0, 1) := dk_42 (dk_at dksX3_drop_1 5 rfl rfl)
theorem dX3_drop_30 : decode cX3_drop 30 = .ok (.iconst 1, 1) := dk_4 (dk_at dksX3_drop_1 6 rfl rfl)
theorem dX3_drop_31 : decode cX3_drop 31 = .ok (.invokevirtual 132, 3) := dk_182 0 132 (dk_at dksX3_drop_1 7 rfl rfl)
theorem dX3_drop_34 : decode cX3_drop 34 = .ok (.ireturn, 1) := dk_172 (dk_at dksX3_drop_1 10 rfl rfl)
theorem dX3_drop_35 : decode cX3_drop 35 = .ok (.aload_n 0, 1) := dk_42 (dk_at dksX3_drop_1 11 rfl rfl)
theorem dX3_drop_36 : decode cX3_drop 36 = .ok (.getfield 31, 3) := dk_180 0 31 (dk_at dksX3_drop_1 12 rfl rfl)
theorem dX3_drop_39 : decode cX3_drop 39 = .ok (.iload_n 1, 1) := dk_27 (dk_at dksX3_drop_1 15 rfl rfl)
theorem dX3_drop_40 : decode cX3_drop 40 = .ok (.iconst (-1), 1) := dk_2 (dk_at dksX3_drop_1 16 rfl rfl)
theorem dX3_drop_41 : decode cX3_drop 41 = .ok (.iastore, 1) := dk_79 (dk_at dksX3_drop_1 17 rfl rfl)
theorem dX3_drop_42 : decode cX3_drop 42 = .ok (.aload_n 0, 1) := dk_42 (dk_at dksX3_drop_1 18 rfl rfl)
theorem dX3_drop_43 : decode cX3_drop 43 = .ok (.getfield 34, 3) := dk_180 0 34 (dk_at dksX3_drop_1 19 rfl rfl)
theorem dX3_drop_46 : decode cX3_drop 46 = .ok (.iload_n 1, 1) := dk_27 (dk_at dksX3_drop_1 22 rfl rfl)
theorem dX3_drop_47 : decode cX3_drop 47 = .ok (.iaload, 1) := dk_46 (dk_at dksX3_drop_1 23 rfl rfl)
theorem dX3_drop_48 : decode cX3_drop 48 = .ok (.ireturn, 1) := dk_172 (dk_at dksX3_drop_2 0 rfl rfl)
abbrev cX3_feed : ByteArray := prog_19_method_10_code
def yX3_feed : MethodName := ⟨RX3, "feed", "(JI)I"⟩
def dkwX3_feed_3 : List UInt8 := [180, 0, 138, 4, 96, 181, 0, 138, 132, 4, 255, 167, 255, 217, 42, 180, 0, 138, 172]
abbrev dktX3_feed_3 : List UInt8 := dkwX3_feed_3 ++ []
def dkwX3_feed_2 : List UInt8 := [180, 0, 40, 42, 180, 0, 138, 31, 16, 8, 21, 4, 104, 123, 20, 0, 142, 127, 136, 79, 42, 89]
abbrev dktX3_feed_2 : List UInt8 := dkwX3_feed_2 ++ dktX3_feed_3
def dkwX3_feed_1 : List UInt8 := [29, 96, 17, 1, 144, 164, 0, 6, 18, 141, 172, 29, 4, 100, 54, 4, 21, 4, 155, 0, 40, 42]
abbrev dktX3_feed_1 : List UInt8 := dkwX3_feed_1 ++ dktX3_feed_2
def dkwX3_feed_0 : List UInt8 := [42, 3, 181, 0, 111, 29, 133, 10, 20, 0, 136, 184, 0, 121, 154, 0, 6, 18, 131, 172, 42, 180, 0, 138]
abbrev dktX3_feed_0 : List UInt8 := dkwX3_feed_0 ++ dktX3_feed_1
theorem dksX3_feed_0 : cX3_feed.data.toList.drop 0 = dktX3_feed_0 := by decide +kernel
theorem dksX3_feed_1 : cX3_feed.data.toList.drop 24 = dktX3_feed_1 := dk_seg dksX3_feed_0 24 rfl rfl
theorem dksX3_feed_2 : cX3_feed.data.toList.drop 46 = dktX3_feed_2 := dk_seg dksX3_feed_1 22 rfl rfl
theorem dksX3_feed_3 : cX3_feed.data.toList.drop 68 = dktX3_feed_3 := dk_seg dksX3_feed_2 22 rfl rfl
theorem dX3_feed_0 : decode cX3_feed 0 = .ok (.aload_n 0, 1) := dk_42 (dk_at dksX3_feed_0 0 rfl rfl)
theorem dX3_feed_1 : decode cX3_feed 1 = .ok (.iconst 0, 1) := dk_3 (dk_at dksX3_feed_0 1 rfl rfl)
theorem dX3_feed_2 : decode cX3_feed 2 = .ok (.putfield 111, 3) := dk_181 0 111 (dk_at dksX3_feed_0 2 rfl rfl)
theorem dX3_feed_5 : decode cX3_feed 5 = .ok (.iload_n 3, 1) := dk_29 (dk_at dksX3_feed_0 5 rfl rfl)
theorem dX3_feed_6 : decode cX3_feed 6 = .ok (.i2l, 1) := dk_133 (dk_at dksX3_feed_0 6 rfl rfl)
theorem dX3_feed_7 : decode cX3_feed 7 = .ok (.lconst 1, 1) := dk_10 (dk_at dksX3_feed_0 7 rfl rfl)
theorem dX3_feed_8 : decode cX3_feed 8 = .ok (.ldc2_w 136, 3) := dk_20 0 136 (dk_at dksX3_feed_0 8 rfl rfl)
theorem dX3_feed_11 : decode cX3_feed 11 = .ok (.invokestatic 121, 3) := dk_184 0 121 (dk_at dksX3_feed_0 11 rfl rfl)
theorem dX3_feed_14 : decode cX3_feed 14 = .ok (.ifCond .ne 6, 3) := dk_154 0 6 (dk_at dksX3_feed_0 14 rfl rfl)
theorem dX3_feed_17 : decode cX3_feed 17 = .ok (.ldc 131, 2) := dk_18 131 (dk_at dksX3_feed_0 17 rfl rfl)
theorem dX3_feed_19 : decode cX3_feed 19 = .ok (.ireturn, 1) := dk_172 (dk_at dksX3_feed_0 19 rfl rfl)
theorem dX3_feed_20 : decode cX3_feed 20 = .ok (.aload_n 0, 1) := dk_42 (dk_at dksX3_feed_0 20 rfl rfl)
theorem dX3_feed_21 : decode cX3_feed 21 = .ok (.getfield 138, 3) := dk_180 0 138 (dk_at dksX3_feed_0 21 rfl rfl)
theorem dX3_feed_24 : decode cX3_feed 24 = .ok (.iload_n 3, 1) := dk_29 (dk_at dksX3_feed_1 0 rfl rfl)
theorem dX3_feed_25 : decode cX3_feed 25 = .ok (.iadd, 1) := dk_96 (dk_at dksX3_feed_1 1 rfl rfl)
theorem dX3_feed_26 : decode cX3_feed 26 = .ok (.sipush 400, 3) := dk_17 1 144 (dk_at dksX3_feed_1 2 rfl rfl)
theorem dX3_feed_29 : decode cX3_feed 29 = .ok (.if_icmp .le 6, 3) := dk_164 0 6 (dk_at dksX3_feed_1 5 rfl rfl)
theorem dX3_feed_32 : decode cX3_feed 32 = .ok (.ldc 141, 2) := dk_18 141 (dk_at dksX3_feed_1 8 rfl rfl)
theorem dX3_feed_34 : decode cX3_feed 34 = .ok (.ireturn, 1) := dk_172 (dk_at dksX3_feed_1 10 rfl rfl)
theorem dX3_feed_35 : decode cX3_feed 35 = .ok (.iload_n 3, 1) := dk_29 (dk_at dksX3_feed_1 11 rfl rfl)
theorem dX3_feed_36 : decode cX3_feed 36 = .ok (.iconst 1, 1) := dk_4 (dk_at dksX3_feed_1 12 rfl rfl)
theorem dX3_feed_37 : decode cX3_feed 37 = .ok (.isub, 1) := dk_100 (dk_at dksX3_feed_1 13 rfl rfl)
theorem dX3_feed_38 : decode cX3_feed 38 = .ok (.istore 4, 2) := dk_54 4 (dk_at dksX3_feed_1 14 rfl rfl)
theorem dX3_feed_40 : decode cX3_feed 40 = .ok (.iload 4, 2) := dk_21 4 (dk_at dksX3_feed_1 16 rfl rfl)
theorem dX3_feed_42 : decode cX3_feed 42 = .ok (.ifCond .lt 40, 3) := dk_155 0 40 (dk_at dksX3_feed_1 18 rfl rfl)
theorem dX3_feed_45 : decode cX3_feed 45 = .ok (.aload_n 0, 1) := dk_42 (dk_at dksX3_feed_1 21 rfl rfl)
theorem dX3_feed_46 : decode cX3_feed 46 = .ok (.getfield 40, 3) := dk_180 0 40 (dk_at dksX3_feed_2 0 rfl rfl)
theorem dX3_feed_49 : decode cX3_feed 49 = .ok (.aload_n 0, 1) := dk_42 (dk_at dksX3_feed_2 3 rfl rfl)
theorem dX3_feed_50 : decode cX3_feed 50 = .ok (.getfield 138, 3) := dk_180 0 138 (dk_at dksX3_feed_2 4 rfl rfl)
theorem dX3_feed_53 : decode cX3_feed 53 = .ok (.lload_n 1, 1) := dk_31 (dk_at dksX3_feed_2 7 rfl rfl)
theorem dX3_feed_54 : decode cX3_feed 54 = .ok (.bipush 8, 2) := dk_16 8 (dk_at dksX3_feed_2 8 rfl rfl)
theorem dX3_feed_56 : decode cX3_feed 56 = .ok (.iload 4, 2) := dk_21 4 (dk_at dksX3_feed_2 10 rfl rfl)
theorem dX3_feed_58 : decode cX3_feed 58 = .ok (.imul, 1) := dk_104 (dk_at dksX3_feed_2 12 rfl rfl)
theorem dX3_feed_59 : decode cX3_feed 59 = .ok (.lshr, 1) := dk_123 (dk_at dksX3_feed_2 13 rfl rfl)
theorem dX3_feed_60 : decode cX3_feed 60 = .ok (.ldc2_w 142, 3) := dk_20 0 142 (dk_at dksX3_feed_2 14 rfl rfl)
theorem dX3_feed_63 : decode cX3_feed 63 = .ok (.land, 1) := dk_127 (dk_at dksX3_feed_2 17 rfl rfl)
theorem dX3_feed_64 : decode cX3_feed 64 = .ok (.l2i, 1) := dk_136 (dk_at dksX3_feed_2 18 rfl rfl)
theorem dX3_feed_65 : decode cX3_feed 65 = .ok (.iastore, 1) := dk_79 (dk_at dksX3_feed_2 19 rfl rfl)
theorem dX3_feed_66 : decode cX3_feed 66 = .ok (.aload_n 0, 1) := dk_42 (dk_at dksX3_feed_2 20 rfl rfl)
theorem dX3_feed_67 : decode cX3_feed 67 = .ok (.dup, 1) := dk_89 (dk_at dksX3_feed_2 21 rfl rfl)
theorem dX3_feed_68 : decode cX3_feed 68 = .ok (.getfield 138, 3) := dk_180 0 138 (dk_at dksX3_feed_3 0 rfl rfl)
theorem dX3_feed_71 : decode cX3_feed 71 = .ok (.iconst 1, 1) := dk_4 (dk_at dksX3_feed_3 3 rfl rfl)
theorem dX3_feed_72 : decode cX3_feed 72 = .ok (.iadd, 1) := dk_96 (dk_at dksX3_feed_3 4 rfl rfl)
theorem dX3_feed_73 : decode cX3_feed 73 = .ok (.putfield 138, 3) := dk_181 0 138 (dk_at dksX3_feed_3 5 rfl rfl)
theorem dX3_feed_76 : decode cX3_feed 76 = .ok (.iinc 4 (-1), 3) := dk_132 4 255 (dk_at dksX3_feed_3 8 rfl rfl)
theorem dX3_feed_79 : decode cX3_feed 79 = .ok (.goto (-39), 3) := dk_167 255 217 (dk_at dksX3_feed_3 11 rfl rfl)
theorem dX3_feed_82 : decode cX3_feed 82 = .ok (.aload_n 0, 1) := dk_42 (dk_at dksX3_feed_3 14 rfl rfl)
theorem dX3_feed_83 : decode cX3_feed 83 = .ok (.getfield 138, 3) := dk_180 0 138 (dk_at dksX3_feed_3 15 rfl rfl)
theorem dX3_feed_86 : decode cX3_feed 86 = .ok (.ireturn, 1) := dk_172 (dk_at dksX3_feed_3 18 rfl rfl)
abbrev cX3_rules : ByteArray := prog_19_method_25_code
def yX3_rules : MethodName := ⟨RX3, "rules", "()I"⟩
def dkwX3_rules_2 : List UInt8 := [18, 248, 42, 180, 0, 172, 100, 172, 42, 4, 181, 0, 216, 42, 182, 0, 242, 42, 180, 0, 234, 172]
abbrev dktX3_rules_2 : List UInt8 := dkwX3_rules_2 ++ []
def dkwX3_rules_1 : List UInt8 := [3, 181, 0, 216, 42, 182, 0, 242, 42, 180, 0, 169, 158, 0, 19, 42, 42, 180, 0, 169, 181, 0, 245]
abbrev dktX3_rules_1 : List UInt8 := dkwX3_rules_1 ++ dktX3_rules_2
def dkwX3_rules_0 : List UInt8 := [42, 3, 181, 0, 111, 42, 42, 180, 0, 138, 181, 0, 144, 42, 3, 181, 0, 138, 42, 3, 181, 0, 169, 42]
abbrev dktX3_rules_0 : List UInt8 := dkwX3_rules_0 ++ dktX3_rules_1
theorem dksX3_rules_0 : cX3_rules.data.toList.drop 0 = dktX3_rules_0 := by decide +kernel
theorem dksX3_rules_1 : cX3_rules.data.toList.drop 24 = dktX3_rules_1 := dk_seg dksX3_rules_0 24 rfl rfl
theorem dksX3_rules_2 : cX3_rules.data.toList.drop 47 = dktX3_rules_2 := dk_seg dksX3_rules_1 23 rfl rfl
theorem dX3_rules_0 : decode cX3_rules 0 = .ok (.aload_n 0, 1) := dk_42 (dk_at dksX3_rules_0 0 rfl rfl)
theorem dX3_rules_1 : decode cX3_rules 1 = .ok (.iconst 0, 1) := dk_3 (dk_at dksX3_rules_0 1 rfl rfl)
theorem dX3_rules_2 : decode cX3_rules 2 = .ok (.putfield 111, 3) := dk_181 0 111 (dk_at dksX3_rules_0 2 rfl rfl)
theorem dX3_rules_5 : decode cX3_rules 5 = .ok (.aload_n 0, 1) := dk_42 (dk_at dksX3_rules_0 5 rfl rfl)
theorem dX3_rules_6 : decode cX3_rules 6 = .ok (.aload_n 0, 1) := dk_42 (dk_at dksX3_rules_0 6 rfl rfl)
theorem dX3_rules_7 : decode cX3_rules 7 = .ok (.getfield 138, 3) := dk_180 0 138 (dk_at dksX3_rules_0 7 rfl rfl)
theorem dX3_rules_10 : decode cX3_rules 10 = .ok (.putfield 144, 3) := dk_181 0 144 (dk_at dksX3_rules_0 10 rfl rfl)
theorem dX3_rules_13 : decode cX3_rules 13 = .ok (.aload_n 0, 1) := dk_42 (dk_at dksX3_rules_0 13 rfl rfl)
theorem dX3_rules_14 : decode cX3_rules 14 = .ok (.iconst 0, 1) := dk_3 (dk_at dksX3_rules_0 14 rfl rfl)
theorem dX3_rules_15 : decode cX3_rules 15 = .ok (.putfield 138, 3) := dk_181 0 138 (dk_at dksX3_rules_0 15 rfl rfl)
theorem dX3_rules_18 : decode cX3_rules 18 = .ok (.aload_n 0, 1) := dk_42 (dk_at dksX3_rules_0 18 rfl rfl)
theorem dX3_rules_19 : decode cX3_rules 19 = .ok (.iconst 0, 1) := dk_3 (dk_at dksX3_rules_0 19 rfl rfl)
theorem dX3_rules_20 : decode cX3_rules 20 = .ok (.putfield 169, 3) := dk_181 0 169 (dk_at dksX3_rules_0 20 rfl rfl)
theorem dX3_rules_23 : decode cX3_rules 23 = .ok (.aload_n 0, 1) := dk_42 (dk_at dksX3_rules_0 23 rfl rfl)
theorem dX3_rules_24 : decode cX3_rules 24 = .ok (.iconst 0, 1) := dk_3 (dk_at dksX3_rules_1 0 rfl rfl)
theorem dX3_rules_25 : decode cX3_rules 25 = .ok (.putfield 216, 3) := dk_181 0 216 (dk_at dksX3_rules_1 1 rfl rfl)
theorem dX3_rules_28 : decode cX3_rules 28 = .ok (.aload_n 0, 1) := dk_42 (dk_at dksX3_rules_1 4 rfl rfl)
theorem dX3_rules_29 : decode cX3_rules 29 = .ok (.invokevirtual 242, 3) := dk_182 0 242 (dk_at dksX3_rules_1 5 rfl rfl)
theorem dX3_rules_32 : decode cX3_rules 32 = .ok (.aload_n 0, 1) := dk_42 (dk_at dksX3_rules_1 8 rfl rfl)
theorem dX3_rules_33 : decode cX3_rules 33 = .ok (.getfield 169, 3) := dk_180 0 169 (dk_at dksX3_rules_1 9 rfl rfl)
theorem dX3_rules_36 : decode cX3_rules 36 = .ok (.ifCond .le 19, 3) := dk_158 0 19 (dk_at dksX3_rules_1 12 rfl rfl)
theorem dX3_rules_39 : decode cX3_rules 39 = .ok (.aload_n 0, 1) := dk_42 (dk_at dksX3_rules_1 15 rfl rfl)
theorem dX3_rules_40 : decode cX3_rules 40 = .ok (.aload_n 0, 1) := dk_42 (dk_at dksX3_rules_1 16 rfl rfl)
theorem dX3_rules_41 : decode cX3_rules 41 = .ok (.getfield 169, 3) := dk_180 0 169 (dk_at dksX3_rules_1 17 rfl rfl)
theorem dX3_rules_44 : decode cX3_rules 44 = .ok (.putfield 245, 3) := dk_181 0 245 (dk_at dksX3_rules_1 20 rfl rfl)
theorem dX3_rules_47 : decode cX3_rules 47 = .ok (.ldc 248, 2) := dk_18 248 (dk_at dksX3_rules_2 0 rfl rfl)
theorem dX3_rules_49 : decode cX3_rules 49 = .ok (.aload_n 0, 1) := dk_42 (dk_at dksX3_rules_2 2 rfl rfl)
theorem dX3_rules_50 : decode cX3_rules 50 = .ok (.getfield 172, 3) := dk_180 0 172 (dk_at dksX3_rules_2 3 rfl rfl)
theorem dX3_rules_53 : decode cX3_rules 53 = .ok (.isub, 1) := dk_100 (dk_at dksX3_rules_2 6 rfl rfl)
theorem dX3_rules_54 : decode cX3_rules 54 = .ok (.ireturn, 1) := dk_172 (dk_at dksX3_rules_2 7 rfl rfl)
theorem dX3_rules_55 : decode cX3_rules 55 = .ok (.aload_n 0, 1) := dk_42 (dk_at dksX3_rules_2 8 rfl rfl)
theorem dX3_rules_56 : decode cX3_rules 56 = .ok (.iconst 1, 1) := dk_4 (dk_at dksX3_rules_2 9 rfl rfl)
theorem dX3_rules_57 : decode cX3_rules 57 = .ok (.putfield 216, 3) := dk_181 0 216 (dk_at dksX3_rules_2 10 rfl rfl)
theorem dX3_rules_60 : decode cX3_rules 60 = .ok (.aload_n 0, 1) := dk_42 (dk_at dksX3_rules_2 13 rfl rfl)
theorem dX3_rules_61 : decode cX3_rules 61 = .ok (.invokevirtual 242, 3) := dk_182 0 242 (dk_at dksX3_rules_2 14 rfl rfl)
theorem dX3_rules_64 : decode cX3_rules 64 = .ok (.aload_n 0, 1) := dk_42 (dk_at dksX3_rules_2 17 rfl rfl)
theorem dX3_rules_65 : decode cX3_rules 65 = .ok (.getfield 234, 3) := dk_180 0 234 (dk_at dksX3_rules_2 18 rfl rfl)
theorem dX3_rules_68 : decode cX3_rules 68 = .ok (.ireturn, 1) := dk_172 (dk_at dksX3_rules_2 21 rfl rfl)
abbrev cX3_readAll : ByteArray := prog_19_method_24_code
def yX3_readAll : MethodName := ⟨RX3, "readAll", "()V"⟩
def dkwX3_readAll_5 : List UInt8 := [4, 167, 0, 4, 3, 182, 0, 182, 167, 255, 146, 177]
abbrev dktX3_readAll_5 : List UInt8 := dkwX3_readAll_5 ++ []
def dkwX3_readAll_4 : List UInt8 := [167, 0, 4, 3, 61, 167, 255, 227, 42, 180, 0, 169, 154, 0, 20, 42, 42, 180, 0, 157, 7, 160, 0, 7]
abbrev dktX3_readAll_4 : List UInt8 := dkwX3_readAll_4 ++ dktX3_readAll_5
def dkwX3_readAll_3 : List UInt8 := [153, 0, 31, 42, 27, 182, 0, 239, 42, 180, 0, 169, 154, 0, 14, 42, 182, 0, 224, 153, 0, 7, 4]
abbrev dktX3_readAll_3 : List UInt8 := dkwX3_readAll_3 ++ dktX3_readAll_4
def dkwX3_readAll_2 : List UInt8 := [182, 0, 182, 42, 6, 182, 0, 228, 60, 42, 180, 0, 169, 154, 0, 7, 4, 167, 0, 4, 3, 61, 28]
abbrev dktX3_readAll_2 : List UInt8 := dkwX3_readAll_2 ++ dktX3_readAll_3
def dkwX3_readAll_1 : List UInt8 := [180, 0, 157, 4, 159, 0, 101, 42, 42, 182, 0, 186, 20, 0, 237, 148, 154, 0, 7, 4, 167, 0, 4, 3]
abbrev dktX3_readAll_1 : List UInt8 := dkwX3_readAll_1 ++ dktX3_readAll_2
def dkwX3_readAll_0 : List UInt8 := [42, 3, 181, 0, 148, 42, 3, 181, 0, 234, 42, 182, 0, 179, 42, 180, 0, 169, 154, 0, 109, 42]
abbrev dktX3_readAll_0 : List UInt8 := dkwX3_readAll_0 ++ dktX3_readAll_1
theorem dksX3_readAll_0 : cX3_readAll.data.toList.drop 0 = dktX3_readAll_0 := by decide +kernel
theorem dksX3_readAll_1 : cX3_readAll.data.toList.drop 22 = dktX3_readAll_1 := dk_seg dksX3_readAll_0 22 rfl rfl
theorem dksX3_readAll_2 : cX3_readAll.data.toList.drop 46 = dktX3_readAll_2 := dk_seg dksX3_readAll_1 24 rfl rfl
theorem dksX3_readAll_3 : cX3_readAll.data.toList.drop 69 = dktX3_readAll_3 := dk_seg dksX3_readAll_2 23 rfl rfl
theorem dksX3_readAll_4 : cX3_readAll.data.toList.drop 92 = dktX3_readAll_4 := dk_seg dksX3_readAll_3 23 rfl rfl
theorem dksX3_readAll_5 : cX3_readAll.data.toList.drop 116 = dktX3_readAll_5 := dk_seg dksX3_readAll_4 24 rfl rfl
theorem dX3_readAll_0 : decode cX3_readAll 0 = .ok (.aload_n 0, 1) := dk_42 (dk_at dksX3_readAll_0 0 rfl rfl)
theorem dX3_readAll_1 : decode cX3_readAll 1 = .ok (.iconst 0, 1) := dk_3 (dk_at dksX3_readAll_0 1 rfl rfl)
theorem dX3_readAll_2 : decode cX3_readAll 2 = .ok (.putfield 148, 3) := dk_181 0 148 (dk_at dksX3_readAll_0 2 rfl rfl)
theorem dX3_readAll_5 : decode cX3_readAll 5 = .ok (.aload_n 0, 1) := dk_42 (dk_at dksX3_readAll_0 5 rfl rfl)
theorem dX3_readAll_6 : decode cX3_readAll 6 = .ok (.iconst 0, 1) := dk_3 (dk_at dksX3_readAll_0 6 rfl rfl)
theorem dX3_readAll_7 : decode cX3_readAll 7 = .ok (.putfield 234, 3) := dk_181 0 234 (dk_at dksX3_readAll_0 7 rfl rfl)
theorem dX3_readAll_10 : decode cX3_readAll 10 = .ok (.aload_n 0, 1) := dk_42 (dk_at dksX3_readAll_0 10 rfl rfl)
theorem dX3_readAll_11 : decode cX3_readAll 11 = .ok (.invokevirtual 179, 3) := dk_182 0 179 (dk_at dksX3_readAll_0 11 rfl rfl)
theorem dX3_readAll_14 : decode cX3_readAll 14 = .ok (.aload_n 0, 1) := dk_42 (dk_at dksX3_readAll_0 14 rfl rfl)
theorem dX3_readAll_15 : decode cX3_readAll 15 = .ok (.getfield 169, 3) := dk_180 0 169 (dk_at dksX3_readAll_0 15 rfl rfl)
theorem dX3_readAll_18 : decode cX3_readAll 18 = .ok (.ifCond .ne 109, 3) := dk_154 0 109 (dk_at dksX3_readAll_0 18 rfl rfl)
theorem dX3_readAll_21 : decode cX3_readAll 21 = .ok (.aload_n 0, 1) := dk_42 (dk_at dksX3_readAll_0 21 rfl rfl)
theorem dX3_readAll_22 : decode cX3_readAll 22 = .ok (.getfield 157, 3) := dk_180 0 157 (dk_at dksX3_readAll_1 0 rfl rfl)
theorem dX3_readAll_25 : decode cX3_readAll 25 = .ok (.iconst 1, 1) := dk_4 (dk_at dksX3_readAll_1 3 rfl rfl)
theorem dX3_readAll_26 : decode cX3_readAll 26 = .ok (.if_icmp .eq 101, 3) := dk_159 0 101 (dk_at dksX3_readAll_1 4 rfl rfl)
theorem dX3_readAll_29 : decode cX3_readAll 29 = .ok (.aload_n 0, 1) := dk_42 (dk_at dksX3_readAll_1 7 rfl rfl)
theorem dX3_readAll_30 : decode cX3_readAll 30 = .ok (.aload_n 0, 1) := dk_42 (dk_at dksX3_readAll_1 8 rfl rfl)
theorem dX3_readAll_31 : decode cX3_readAll 31 = .ok (.invokevirtual 186, 3) := dk_182 0 186 (dk_at dksX3_readAll_1 9 rfl rfl)
theorem dX3_readAll_34 : decode cX3_readAll 34 = .ok (.ldc2_w 237, 3) := dk_20 0 237 (dk_at dksX3_readAll_1 12 rfl rfl)
theorem dX3_readAll_37 : decode cX3_readAll 37 = .ok (.lcmp, 1) := dk_148 (dk_at dksX3_readAll_1 15 rfl rfl)
theorem dX3_readAll_38 : decode cX3_readAll 38 = .ok (.ifCond .ne 7, 3) := dk_154 0 7 (dk_at dksX3_readAll_1 16 rfl rfl)
theorem dX3_readAll_41 : decode cX3_readAll 41 = .ok (.iconst 1, 1) := dk_4 (dk_at dksX3_readAll_1 19 rfl rfl)
theorem dX3_readAll_42 : decode cX3_readAll 42 = .ok (.goto 4, 3) := dk_167 0 4 (dk_at dksX3_readAll_1 20 rfl rfl)
theorem dX3_readAll_45 : decode cX3_readAll 45 = .ok (.iconst 0, 1) := dk_3 (dk_at dksX3_readAll_1 23 rfl rfl)
theorem dX3_readAll_46 : decode cX3_readAll 46 = .ok (.invokevirtual 182, 3) := dk_182 0 182 (dk_at dksX3_readAll_2 0 rfl rfl)
theorem dX3_readAll_49 : decode cX3_readAll 49 = .ok (.aload_n 0, 1) := dk_42 (dk_at dksX3_readAll_2 3 rfl rfl)
theorem dX3_readAll_50 : decode cX3_readAll 50 = .ok (.iconst 3, 1) := dk_6 (dk_at dksX3_readAll_2 4 rfl rfl)
theorem dX3_readAll_51 : decode cX3_readAll 51 = .ok (.invokevirtual 228, 3) := dk_182 0 228 (dk_at dksX3_readAll_2 5 rfl rfl)
theorem dX3_readAll_54 : decode cX3_readAll 54 = .ok (.istore_n 1, 1) := dk_60 (dk_at dksX3_readAll_2 8 rfl rfl)
theorem dX3_readAll_55 : decode cX3_readAll 55 = .ok (.aload_n 0, 1) := dk_42 (dk_at dksX3_readAll_2 9 rfl rfl)
theorem dX3_readAll_56 : decode cX3_readAll 56 = .ok (.getfield 169, 3) := dk_180 0 169 (dk_at dksX3_readAll_2 10 rfl rfl)
theorem dX3_readAll_59 : decode cX3_readAll 59 = .ok (.ifCond .ne 7, 3) := dk_154 0 7 (dk_at dksX3_readAll_2 13 rfl rfl)
theorem dX3_readAll_62 : decode cX3_readAll 62 = .ok (.iconst 1, 1) := dk_4 (dk_at dksX3_readAll_2 16 rfl rfl)
theorem dX3_readAll_63 : decode cX3_readAll 63 = .ok (.goto 4, 3) := dk_167 0 4 (dk_at dksX3_readAll_2 17 rfl rfl)
theorem dX3_readAll_66 : decode cX3_readAll 66 = .ok (.iconst 0, 1) := dk_3 (dk_at dksX3_readAll_2 20 rfl rfl)
theorem dX3_readAll_67 : decode cX3_readAll 67 = .ok (.istore_n 2, 1) := dk_61 (dk_at dksX3_readAll_2 21 rfl rfl)
theorem dX3_readAll_68 : decode cX3_readAll 68 = .ok (.iload_n 2, 1) := dk_28 (dk_at dksX3_readAll_2 22 rfl rfl)
theorem dX3_readAll_69 : decode cX3_readAll 69 = .ok (.ifCond .eq 31, 3) := dk_153 0 31 (dk_at dksX3_readAll_3 0 rfl rfl)
theorem dX3_readAll_72 : decode cX3_readAll 72 = .ok (.aload_n 0, 1) := dk_42 (dk_at dksX3_readAll_3 3 rfl rfl)
theorem dX3_readAll_73 : decode cX3_readAll 73 = .ok (.iload_n 1, 1) := dk_27 (dk_at dksX3_readAll_3 4 rfl rfl)
theorem dX3_readAll_74 : decode cX3_readAll 74 = .ok (.invokevirtual 239, 3) := dk_182 0 239 (dk_at dksX3_readAll_3 5 rfl rfl)
theorem dX3_readAll_77 : decode cX3_readAll 77 = .ok (.aload_n 0, 1) := dk_42 (dk_at dksX3_readAll_3 8 rfl rfl)
theorem dX3_readAll_78 : decode cX3_readAll 78 = .ok (.getfield 169, 3) := dk_180 0 169 (dk_at dksX3_readAll_3 9 rfl rfl)
theorem dX3_readAll_81 : decode cX3_readAll 81 = .ok (.ifCond .ne 14, 3) := dk_154 0 14 (dk_at dksX3_readAll_3 12 rfl rfl)
theorem dX3_readAll_84 : decode cX3_readAll 84 = .ok (.aload_n 0, 1) := dk_42 (dk_at dksX3_readAll_3 15 rfl rfl)
theorem dX3_readAll_85 : decode cX3_readAll 85 = .ok (.invokevirtual 224, 3) := dk_182 0 224 (dk_at dksX3_readAll_3 16 rfl rfl)
theorem dX3_readAll_88 : decode cX3_readAll 88 = .ok (.ifCond .eq 7, 3) := dk_153 0 7 (dk_at dksX3_readAll_3 19 rfl rfl)
theorem dX3_readAll_91 : decode cX3_readAll 91 = .ok (.iconst 1, 1) := dk_4 (dk_at dksX3_readAll_3 22 rfl rfl)
theorem dX3_readAll_92 : decode cX3_readAll 92 = .ok (.goto 4, 3) := dk_167 0 4 (dk_at dksX3_readAll_4 0 rfl rfl)
theorem dX3_readAll_95 : decode cX3_readAll 95 = .ok (.iconst 0, 1) := dk_3 (dk_at dksX3_readAll_4 3 rfl rfl)
theorem dX3_readAll_96 : decode cX3_readAll 96 = .ok (.istore_n 2, 1) := dk_61 (dk_at dksX3_readAll_4 4 rfl rfl)
theorem dX3_readAll_97 : decode cX3_readAll 97 = .ok (.goto (-29), 3) := dk_167 255 227 (dk_at dksX3_readAll_4 5 rfl rfl)
theorem dX3_readAll_100 : decode cX3_readAll 100 = .ok (.aload_n 0, 1) := dk_42 (dk_at dksX3_readAll_4 8 rfl rfl)
theorem dX3_readAll_101 : decode cX3_readAll 101 = .ok (.getfield 169, 3) := dk_180 0 169 (dk_at dksX3_readAll_4 9 rfl rfl)
theorem dX3_readAll_104 : decode cX3_readAll 104 = .ok (.ifCond .ne 20, 3) := dk_154 0 20 (dk_at dksX3_readAll_4 12 rfl rfl)
theorem dX3_readAll_107 : decode cX3_readAll 107 = .ok (.aload_n 0, 1) := dk_42 (dk_at dksX3_readAll_4 15 rfl rfl)
theorem dX3_readAll_108 : decode cX3_readAll 108 = .ok (.aload_n 0, 1) := dk_42 (dk_at dksX3_readAll_4 16 rfl rfl)
theorem dX3_readAll_109 : decode cX3_readAll 109 = .ok (.getfield 157, 3) := dk_180 0 157 (dk_at dksX3_readAll_4 17 rfl rfl)
theorem dX3_readAll_112 : decode cX3_readAll 112 = .ok (.iconst 4, 1) := dk_7 (dk_at dksX3_readAll_4 20 rfl rfl)
theorem dX3_readAll_113 : decode cX3_readAll 113 = .ok (.if_icmp .ne 7, 3) := dk_160 0 7 (dk_at dksX3_readAll_4 21 rfl rfl)
theorem dX3_readAll_116 : decode cX3_readAll 116 = .ok (.iconst 1, 1) := dk_4 (dk_at dksX3_readAll_5 0 rfl rfl)
theorem dX3_readAll_117 : decode cX3_readAll 117 = .ok (.goto 4, 3) := dk_167 0 4 (dk_at dksX3_readAll_5 1 rfl rfl)
theorem dX3_readAll_120 : decode cX3_readAll 120 = .ok (.iconst 0, 1) := dk_3 (dk_at dksX3_readAll_5 4 rfl rfl)
theorem dX3_readAll_121 : decode cX3_readAll 121 = .ok (.invokevirtual 182, 3) := dk_182 0 182 (dk_at dksX3_readAll_5 5 rfl rfl)
theorem dX3_readAll_124 : decode cX3_readAll 124 = .ok (.goto (-110), 3) := dk_167 255 146 (dk_at dksX3_readAll_5 8 rfl rfl)
theorem dX3_readAll_127 : decode cX3_readAll 127 = .ok (.return_, 1) := dk_177 (dk_at dksX3_readAll_5 11 rfl rfl)
abbrev cX3_step : ByteArray := prog_19_method_14_code
def yX3_step : MethodName := ⟨RX3, "step", "()V"⟩
def dkwX3_step_8 : List UInt8 := [7, 167, 0, 4, 3, 181, 0, 157, 42, 42, 180, 0, 148, 181, 0, 166, 177]
abbrev dktX3_step_8 : List UInt8 := dkwX3_step_8 ++ []
def dkwX3_step_7 : List UInt8 := [6, 181, 0, 157, 167, 0, 28, 42, 89, 180, 0, 148, 4, 96, 181, 0, 148, 42, 27, 16, 59, 160, 0, 7]
abbrev dktX3_step_7 : List UInt8 := dkwX3_step_7 ++ dktX3_step_8
def dkwX3_step_6 : List UInt8 := [181, 0, 148, 167, 255, 232, 42, 42, 180, 0, 148, 42, 180, 0, 154, 100, 7, 164, 0, 7, 3, 167, 0, 4]
abbrev dktX3_step_6 : List UInt8 := dkwX3_step_6 ++ dktX3_step_7
def dkwX3_step_5 : List UInt8 := [153, 0, 55, 42, 42, 180, 0, 148, 182, 0, 151, 184, 0, 163, 153, 0, 16, 42, 89, 180, 0, 148, 4, 96]
abbrev dktX3_step_5 : List UInt8 := dkwX3_step_5 ++ dktX3_step_6
def dkwX3_step_4 : List UInt8 := [180, 0, 148, 4, 96, 181, 0, 148, 167, 255, 232, 42, 5, 181, 0, 157, 167, 0, 87, 27, 184, 0, 163]
abbrev dktX3_step_4 : List UInt8 := dkwX3_step_4 ++ dktX3_step_5
def dkwX3_step_3 : List UInt8 := [184, 0, 160, 153, 0, 38, 42, 42, 180, 0, 148, 182, 0, 151, 184, 0, 160, 153, 0, 16, 42, 89]
abbrev dktX3_step_3 : List UInt8 := dkwX3_step_3 ++ dktX3_step_4
def dkwX3_step_2 : List UInt8 := [42, 42, 180, 0, 148, 182, 0, 151, 60, 27, 18, 147, 160, 0, 11, 42, 4, 181, 0, 157, 167, 0, 129, 27]
abbrev dktX3_step_2 : List UInt8 := dkwX3_step_2 ++ dktX3_step_3
def dkwX3_step_1 : List UInt8 := [160, 0, 16, 42, 89, 180, 0, 148, 4, 96, 181, 0, 148, 167, 255, 220, 42, 42, 180, 0, 148, 181, 0, 154]
abbrev dktX3_step_1 : List UInt8 := dkwX3_step_1 ++ dktX3_step_2
def dkwX3_step_0 : List UInt8 := [42, 42, 180, 0, 148, 182, 0, 151, 16, 32, 159, 0, 16, 42, 42, 180, 0, 148, 182, 0, 151, 16, 10]
abbrev dktX3_step_0 : List UInt8 := dkwX3_step_0 ++ dktX3_step_1
theorem dksX3_step_0 : cX3_step.data.toList.drop 0 = dktX3_step_0 := by decide +kernel
theorem dksX3_step_1 : cX3_step.data.toList.drop 23 = dktX3_step_1 := dk_seg dksX3_step_0 23 rfl rfl
theorem dksX3_step_2 : cX3_step.data.toList.drop 47 = dktX3_step_2 := dk_seg dksX3_step_1 24 rfl rfl
theorem dksX3_step_3 : cX3_step.data.toList.drop 71 = dktX3_step_3 := dk_seg dksX3_step_2 24 rfl rfl
theorem dksX3_step_4 : cX3_step.data.toList.drop 93 = dktX3_step_4 := dk_seg dksX3_step_3 22 rfl rfl
theorem dksX3_step_5 : cX3_step.data.toList.drop 116 = dktX3_step_5 := dk_seg dksX3_step_4 23 rfl rfl
theorem dksX3_step_6 : cX3_step.data.toList.drop 140 = dktX3_step_6 := dk_seg dksX3_step_5 24 rfl rfl
theorem dksX3_step_7 : cX3_step.data.toList.drop 164 = dktX3_step_7 := dk_seg dksX3_step_6 24 rfl rfl
theorem dksX3_step_8 : cX3_step.data.toList.drop 188 = dktX3_step_8 := dk_seg dksX3_step_7 24 rfl rfl
theorem dX3_step_0 : decode cX3_step 0 = .ok (.aload_n 0, 1) := dk_42 (dk_at dksX3_step_0 0 rfl rfl)
theorem dX3_step_1 : decode cX3_step 1 = .ok (.aload_n 0, 1) := dk_42 (dk_at dksX3_step_0 1 rfl rfl)
theorem dX3_step_2 : decode cX3_step 2 = .ok (.getfield 148, 3) := dk_180 0 148 (dk_at dksX3_step_0 2 rfl rfl)
theorem dX3_step_5 : decode cX3_step 5 = .ok (.invokevirtual 151, 3) := dk_182 0 151 (dk_at dksX3_step_0 5 rfl rfl)
theorem dX3_step_8 : decode cX3_step 8 = .ok (.bipush 32, 2) := dk_16 32 (dk_at dksX3_step_0 8 rfl rfl)
theorem dX3_step_10 : decode cX3_step 10 = .ok (.if_icmp .eq 16, 3) := dk_159 0 16 (dk_at dksX3_step_0 10 rfl rfl)
theorem dX3_step_13 : decode cX3_step 13 = .ok (.aload_n 0, 1) := dk_42 (dk_at dksX3_step_0 13 rfl rfl)
theorem dX3_step_14 : decode cX3_step 14 = .ok (.aload_n 0, 1) := dk_42 (dk_at dksX3_step_0 14 rfl rfl)
theorem dX3_step_15 : decode cX3_step 15 = .ok (.getfield 148, 3) := dk_180 0 148 (dk_at dksX3_step_0 15 rfl rfl)
theorem dX3_step_18 : decode cX3_step 18 = .ok (.invokevirtual 151, 3) := dk_182 0 151 (dk_at dksX3_step_0 18 rfl rfl)
theorem dX3_step_21 : decode cX3_step 21 = .ok (.bipush 10, 2) := dk_16 10 (dk_at dksX3_step_0 21 rfl rfl)
theorem dX3_step_23 : decode cX3_step 23 = .ok (.if_icmp .ne 16, 3) := dk_160 0 16 (dk_at dksX3_step_1 0 rfl rfl)
theorem dX3_step_26 : decode cX3_step 26 = .ok (.aload_n 0, 1) := dk_42 (dk_at dksX3_step_1 3 rfl rfl)
theorem dX3_step_27 : decode cX3_step 27 = .ok (.dup, 1) := dk_89 (dk_at dksX3_step_1 4 rfl rfl)
theorem dX3_step_28 : decode cX3_step 28 = .ok (.getfield 148, 3) := dk_180 0 148 (dk_at dksX3_step_1 5 rfl rfl)
theorem dX3_step_31 : decode cX3_step 31 = .ok (.iconst 1, 1) := dk_4 (dk_at dksX3_step_1 8 rfl rfl)
theorem dX3_step_32 : decode cX3_step 32 = .ok (.iadd, 1) := dk_96 (dk_at dksX3_step_1 9 rfl rfl)
theorem dX3_step_33 : decode cX3_step 33 = .ok (.putfield 148, 3) := dk_181 0 148 (dk_at dksX3_step_1 10 rfl rfl)
theorem dX3_step_36 : decode cX3_step 36 = .ok (.goto (-36), 3) := dk_167 255 220 (dk_at dksX3_step_1 13 rfl rfl)
theorem dX3_step_39 : decode cX3_step 39 = .ok (.aload_n 0, 1) := dk_42 (dk_at dksX3_step_1 16 rfl rfl)
theorem dX3_step_40 : decode cX3_step 40 = .ok (.aload_n 0, 1) := dk_42 (dk_at dksX3_step_1 17 rfl rfl)
theorem dX3_step_41 : decode cX3_step 41 = .ok (.getfield 148, 3) := dk_180 0 148 (dk_at dksX3_step_1 18 rfl rfl)
theorem dX3_step_44 : decode cX3_step 44 = .ok (.putfield 154, 3) := dk_181 0 154 (dk_at dksX3_step_1 21 rfl rfl)
theorem dX3_step_47 : decode cX3_step 47 = .ok (.aload_n 0, 1) := dk_42 (dk_at dksX3_step_2 0 rfl rfl)
theorem dX3_step_48 : decode cX3_step 48 = .ok (.aload_n 0, 1) := dk_42 (dk_at dksX3_step_2 1 rfl rfl)
theorem dX3_step_49 : decode cX3_step 49 = .ok (.getfield 148, 3) := dk_180 0 148 (dk_at dksX3_step_2 2 rfl rfl)
theorem dX3_step_52 : decode cX3_step 52 = .ok (.invokevirtual 151, 3) := dk_182 0 151 (dk_at dksX3_step_2 5 rfl rfl)
theorem dX3_step_55 : decode cX3_step 55 = .ok (.istore_n 1, 1) := dk_60 (dk_at dksX3_step_2 8 rfl rfl)
theorem dX3_step_56 : decode cX3_step 56 = .ok (.iload_n 1, 1) := dk_27 (dk_at dksX3_step_2 9 rfl rfl)
theorem dX3_step_57 : decode cX3_step 57 = .ok (.ldc 147, 2) := dk_18 147 (dk_at dksX3_step_2 10 rfl rfl)
theorem dX3_step_59 : decode cX3_step 59 = .ok (.if_icmp .ne 11, 3) := dk_160 0 11 (dk_at dksX3_step_2 12 rfl rfl)
theorem dX3_step_62 : decode cX3_step 62 = .ok (.aload_n 0, 1) := dk_42 (dk_at dksX3_step_2 15 rfl rfl)
theorem dX3_step_63 : decode cX3_step 63 = .ok (.iconst 1, 1) := dk_4 (dk_at dksX3_step_2 16 rfl rfl)
theorem dX3_step_64 : decode cX3_step 64 = .ok (.putfield 157, 3) := dk_181 0 157 (dk_at dksX3_step_2 17 rfl rfl)
theorem dX3_step_67 : decode cX3_step 67 = .ok (.goto 129, 3) := dk_167 0 129 (dk_at dksX3_step_2 20 rfl rfl)
theorem dX3_step_70 : decode cX3_step 70 = .ok (.iload_n 1, 1) := dk_27 (dk_at dksX3_step_2 23 rfl rfl)
theorem dX3_step_71 : decode cX3_step 71 = .ok (.invokestatic 160, 3) := dk_184 0 160 (dk_at dksX3_step_3 0 rfl rfl)
theorem dX3_step_74 : decode cX3_step 74 = .ok (.ifCond .eq 38, 3) := dk_153 0 38 (dk_at dksX3_step_3 3 rfl rfl)
theorem dX3_step_77 : decode cX3_step 77 = .ok (.aload_n 0, 1) := dk_42 (dk_at dksX3_step_3 6 rfl rfl)
theorem dX3_step_78 : decode cX3_step 78 = .ok (.aload_n 0, 1) := dk_42 (dk_at dksX3_step_3 7 rfl rfl)
theorem dX3_step_79 : decode cX3_step 79 = .ok (.getfield 148, 3) := dk_180 0 148 (dk_at dksX3_step_3 8 rfl rfl)
theorem dX3_step_82 : decode cX3_step 82 = .ok (.invokevirtual 151, 3) := dk_182 0 151 (dk_at dksX3_step_3 11 rfl rfl)
theorem dX3_step_85 : decode cX3_step 85 = .ok (.invokestatic 160, 3) := dk_184 0 160 (dk_at dksX3_step_3 14 rfl rfl)
theorem dX3_step_88 : decode cX3_step 88 = .ok (.ifCond .eq 16, 3) := dk_153 0 16 (dk_at dksX3_step_3 17 rfl rfl)
theorem dX3_step_91 : decode cX3_step 91 = .ok (.aload_n 0, 1) := dk_42 (dk_at dksX3_step_3 20 rfl rfl)
theorem dX3_step_92 : decode cX3_step 92 = .ok (.dup, 1) := dk_89 (dk_at dksX3_step_3 21 rfl rfl)
theorem dX3_step_93 : decode cX3_step 93 = .ok (.getfield 148, 3) := dk_180 0 148 (dk_at dksX3_step_4 0 rfl rfl)
theorem dX3_step_96 : decode cX3_step 96 = .ok (.iconst 1, 1) := dk_4 (dk_at dksX3_step_4 3 rfl rfl)
theorem dX3_step_97 : decode cX3_step 97 = .ok (.iadd, 1) := dk_96 (dk_at dksX3_step_4 4 rfl rfl)
theorem dX3_step_98 : decode cX3_step 98 = .ok (.putfield 148, 3) := dk_181 0 148 (dk_at dksX3_step_4 5 rfl rfl)
theorem dX3_step_101 : decode cX3_step 101 = .ok (.goto (-24), 3) := dk_167 255 232 (dk_at dksX3_step_4 8 rfl rfl)
theorem dX3_step_104 : decode cX3_step 104 = .ok (.aload_n 0, 1) := dk_42 (dk_at dksX3_step_4 11 rfl rfl)
theorem dX3_step_105 : decode cX3_step 105 = .ok (.iconst 2, 1) := dk_5 (dk_at dksX3_step_4 12 rfl rfl)
theorem dX3_step_106 : decode cX3_step 106 = .ok (.putfield 157, 3) := dk_181 0 157 (dk_at dksX3_step_4 13 rfl rfl)
theorem dX3_step_109 : decode cX3_step 109 = .ok (.goto 87, 3) := dk_167 0 87 (dk_at dksX3_step_4 16 rfl rfl)
theorem dX3_step_112 : decode cX3_step 112 = .ok (.iload_n 1, 1) := dk_27 (dk_at dksX3_step_4 19 rfl rfl)
theorem dX3_step_113 : decode cX3_step 113 = .ok (.invokestatic 163, 3) := dk_184 0 163 (dk_at dksX3_step_4 20 rfl rfl)
theorem dX3_step_116 : decode cX3_step 116 = .ok (.ifCond .eq 55, 3) := dk_153 0 55 (dk_at dksX3_step_5 0 rfl rfl)
theorem dX3_step_119 : decode cX3_step 119 = .ok (.aload_n 0, 1) := dk_42 (dk_at dksX3_step_5 3 rfl rfl)
theorem dX3_step_120 : decode cX3_step 120 = .ok (.aload_n 0, 1) := dk_42 (dk_at dksX3_step_5 4 rfl rfl)
theorem dX3_step_121 : decode cX3_step 121 = .ok (.getfield 148, 3) := dk_180 0 148 (dk_at dksX3_step_5 5 rfl rfl)
theorem dX3_step_124 : decode cX3_step 124 = .ok (.invokevirtual 151, 3) := dk_182 0 151 (dk_at dksX3_step_5 8 rfl rfl)
theorem dX3_step_127 : decode cX3_step 127 = .ok (.invokestatic 163, 3) := dk_184 0 163 (dk_at dksX3_step_5 11 rfl rfl)
theorem dX3_step_130 : decode cX3_step 130 = .ok (.ifCond .eq 16, 3) := dk_153 0 16 (dk_at dksX3_step_5 14 rfl rfl)
theorem dX3_step_133 : decode cX3_step 133 = .ok (.aload_n 0, 1) := dk_42 (dk_at dksX3_step_5 17 rfl rfl)
theorem dX3_step_134 : decode cX3_step 134 = .ok (.dup, 1) := dk_89 (dk_at dksX3_step_5 18 rfl rfl)
theorem dX3_step_135 : decode cX3_step 135 = .ok (.getfield 148, 3) := dk_180 0 148 (dk_at dksX3_step_5 19 rfl rfl)
theorem dX3_step_138 : decode cX3_step 138 = .ok (.iconst 1, 1) := dk_4 (dk_at dksX3_step_5 22 rfl rfl)
theorem dX3_step_139 : decode cX3_step 139 = .ok (.iadd, 1) := dk_96 (dk_at dksX3_step_5 23 rfl rfl)
theorem dX3_step_140 : decode cX3_step 140 = .ok (.putfield 148, 3) := dk_181 0 148 (dk_at dksX3_step_6 0 rfl rfl)
theorem dX3_step_143 : decode cX3_step 143 = .ok (.goto (-24), 3) := dk_167 255 232 (dk_at dksX3_step_6 3 rfl rfl)
theorem dX3_step_146 : decode cX3_step 146 = .ok (.aload_n 0, 1) := dk_42 (dk_at dksX3_step_6 6 rfl rfl)
theorem dX3_step_147 : decode cX3_step 147 = .ok (.aload_n 0, 1) := dk_42 (dk_at dksX3_step_6 7 rfl rfl)
theorem dX3_step_148 : decode cX3_step 148 = .ok (.getfield 148, 3) := dk_180 0 148 (dk_at dksX3_step_6 8 rfl rfl)
theorem dX3_step_151 : decode cX3_step 151 = .ok (.aload_n 0, 1) := dk_42 (dk_at dksX3_step_6 11 rfl rfl)
theorem dX3_step_152 : decode cX3_step 152 = .ok (.getfield 154, 3) := dk_180 0 154 (dk_at dksX3_step_6 12 rfl rfl)
theorem dX3_step_155 : decode cX3_step 155 = .ok (.isub, 1) := dk_100 (dk_at dksX3_step_6 15 rfl rfl)
theorem dX3_step_156 : decode cX3_step 156 = .ok (.iconst 4, 1) := dk_7 (dk_at dksX3_step_6 16 rfl rfl)
theorem dX3_step_157 : decode cX3_step 157 = .ok (.if_icmp .le 7, 3) := dk_164 0 7 (dk_at dksX3_step_6 17 rfl rfl)
theorem dX3_step_160 : decode cX3_step 160 = .ok (.iconst 0, 1) := dk_3 (dk_at dksX3_step_6 20 rfl rfl)
theorem dX3_step_161 : decode cX3_step 161 = .ok (.goto 4, 3) := dk_167 0 4 (dk_at dksX3_step_6 21 rfl rfl)
theorem dX3_step_164 : decode cX3_step 164 = .ok (.iconst 3, 1) := dk_6 (dk_at dksX3_step_7 0 rfl rfl)
theorem dX3_step_165 : decode cX3_step 165 = .ok (.putfield 157, 3) := dk_181 0 157 (dk_at dksX3_step_7 1 rfl rfl)
theorem dX3_step_168 : decode cX3_step 168 = .ok (.goto 28, 3) := dk_167 0 28 (dk_at dksX3_step_7 4 rfl rfl)
theorem dX3_step_171 : decode cX3_step 171 = .ok (.aload_n 0, 1) := dk_42 (dk_at dksX3_step_7 7 rfl rfl)
theorem dX3_step_172 : decode cX3_step 172 = .ok (.dup, 1) := dk_89 (dk_at dksX3_step_7 8 rfl rfl)
theorem dX3_step_173 : decode cX3_step 173 = .ok (.getfield 148, 3) := dk_180 0 148 (dk_at dksX3_step_7 9 rfl rfl)
theorem dX3_step_176 : decode cX3_step 176 = .ok (.iconst 1, 1) := dk_4 (dk_at dksX3_step_7 12 rfl rfl)
theorem dX3_step_177 : decode cX3_step 177 = .ok (.iadd, 1) := dk_96 (dk_at dksX3_step_7 13 rfl rfl)
theorem dX3_step_178 : decode cX3_step 178 = .ok (.putfield 148, 3) := dk_181 0 148 (dk_at dksX3_step_7 14 rfl rfl)
theorem dX3_step_181 : decode cX3_step 181 = .ok (.aload_n 0, 1) := dk_42 (dk_at dksX3_step_7 17 rfl rfl)
theorem dX3_step_182 : decode cX3_step 182 = .ok (.iload_n 1, 1) := dk_27 (dk_at dksX3_step_7 18 rfl rfl)
theorem dX3_step_183 : decode cX3_step 183 = .ok (.bipush 59, 2) := dk_16 59 (dk_at dksX3_step_7 19 rfl rfl)
theorem dX3_step_185 : decode cX3_step 185 = .ok (.if_icmp .ne 7, 3) := dk_160 0 7 (dk_at dksX3_step_7 21 rfl rfl)
theorem dX3_step_188 : decode cX3_step 188 = .ok (.iconst 4, 1) := dk_7 (dk_at dksX3_step_8 0 rfl rfl)
theorem dX3_step_189 : decode cX3_step 189 = .ok (.goto 4, 3) := dk_167 0 4 (dk_at dksX3_step_8 1 rfl rfl)
theorem dX3_step_192 : decode cX3_step 192 = .ok (.iconst 0, 1) := dk_3 (dk_at dksX3_step_8 4 rfl rfl)
theorem dX3_step_193 : decode cX3_step 193 = .ok (.putfield 157, 3) := dk_181 0 157 (dk_at dksX3_step_8 5 rfl rfl)
theorem dX3_step_196 : decode cX3_step 196 = .ok (.aload_n 0, 1) := dk_42 (dk_at dksX3_step_8 8 rfl rfl)
theorem dX3_step_197 : decode cX3_step 197 = .ok (.aload_n 0, 1) := dk_42 (dk_at dksX3_step_8 9 rfl rfl)
theorem dX3_step_198 : decode cX3_step 198 = .ok (.getfield 148, 3) := dk_180 0 148 (dk_at dksX3_step_8 10 rfl rfl)
theorem dX3_step_201 : decode cX3_step 201 = .ok (.putfield 166, 3) := dk_181 0 166 (dk_at dksX3_step_8 13 rfl rfl)
theorem dX3_step_204 : decode cX3_step 204 = .ok (.return_, 1) := dk_177 (dk_at dksX3_step_8 16 rfl rfl)
abbrev cX3_byteAt : ByteArray := prog_19_method_11_code
def yX3_byteAt : MethodName := ⟨RX3, "byteAt", "(I)I"⟩
def dkwX3_byteAt_0 : List UInt8 := [27, 42, 180, 0, 144, 162, 0, 12, 42, 180, 0, 40, 27, 46, 167, 0, 5, 18, 147, 172]
abbrev dktX3_byteAt_0 : List UInt8 := dkwX3_byteAt_0 ++ []
theorem dksX3_byteAt_0 : cX3_byteAt.data.toList.drop 0 = dktX3_byteAt_0 := by decide +kernel
theorem dX3_byteAt_0 : decode cX3_byteAt 0 = .ok (.iload_n 1, 1) := dk_27 (dk_at dksX3_byteAt_0 0 rfl rfl)
theorem dX3_byteAt_1 : decode cX3_byteAt 1 = .ok (.aload_n 0, 1) := dk_42 (dk_at dksX3_byteAt_0 1 rfl rfl)
theorem dX3_byteAt_2 : decode cX3_byteAt 2 = .ok (.getfield 144, 3) := dk_180 0 144 (dk_at dksX3_byteAt_0 2 rfl rfl)
theorem dX3_byteAt_5 : decode cX3_byteAt 5 = .ok (.if_icmp .ge 12, 3) := dk_162 0 12 (dk_at dksX3_byteAt_0 5 rfl rfl)
theorem dX3_byteAt_8 : decode cX3_byteAt 8 = .ok (.aload_n 0, 1) := dk_42 (dk_at dksX3_byteAt_0 8 rfl rfl)
theorem dX3_byteAt_9 : decode cX3_byteAt 9 = .ok (.getfield 40, 3) := dk_180 0 40 (dk_at dksX3_byteAt_0 9 rfl rfl)
theorem dX3_byteAt_12 : decode cX3_byteAt 12 = .ok (.iload_n 1, 1) := dk_27 (dk_at dksX3_byteAt_0 12 rfl rfl)
theorem dX3_byteAt_13 : decode cX3_byteAt 13 = .ok (.iaload, 1) := dk_46 (dk_at dksX3_byteAt_0 13 rfl rfl)
theorem dX3_byteAt_14 : decode cX3_byteAt 14 = .ok (.goto 5, 3) := dk_167 0 5 (dk_at dksX3_byteAt_0 14 rfl rfl)
theorem dX3_byteAt_17 : decode cX3_byteAt 17 = .ok (.ldc 147, 2) := dk_18 147 (dk_at dksX3_byteAt_0 17 rfl rfl)
theorem dX3_byteAt_19 : decode cX3_byteAt 19 = .ok (.ireturn, 1) := dk_172 (dk_at dksX3_byteAt_0 19 rfl rfl)
abbrev cX3_isLetter : ByteArray := prog_19_method_12_code
def yX3_isLetter : MethodName := ⟨RX3, "isLetter", "(I)Z"⟩
def dkwX3_isLetter_0 : List UInt8 := [26, 16, 97, 161, 0, 13, 26, 16, 122, 163, 0, 7, 4, 167, 0, 4, 3, 172]
abbrev dktX3_isLetter_0 : List UInt8 := dkwX3_isLetter_0 ++ []
theorem dksX3_isLetter_0 : cX3_isLetter.data.toList.drop 0 = dktX3_isLetter_0 := by decide +kernel
theorem dX3_isLetter_0 : decode cX3_isLetter 0 = .ok (.iload_n 0, 1) := dk_26 (dk_at dksX3_isLetter_0 0 rfl rfl)
theorem dX3_isLetter_1 : decode cX3_isLetter 1 = .ok (.bipush 97, 2) := dk_16 97 (dk_at dksX3_isLetter_0 1 rfl rfl)
theorem dX3_isLetter_3 : decode cX3_isLetter 3 = .ok (.if_icmp .lt 13, 3) := dk_161 0 13 (dk_at dksX3_isLetter_0 3 rfl rfl)
theorem dX3_isLetter_6 : decode cX3_isLetter 6 = .ok (.iload_n 0, 1) := dk_26 (dk_at dksX3_isLetter_0 6 rfl rfl)
theorem dX3_isLetter_7 : decode cX3_isLetter 7 = .ok (.bipush 122, 2) := dk_16 122 (dk_at dksX3_isLetter_0 7 rfl rfl)
theorem dX3_isLetter_9 : decode cX3_isLetter 9 = .ok (.if_icmp .gt 7, 3) := dk_163 0 7 (dk_at dksX3_isLetter_0 9 rfl rfl)
theorem dX3_isLetter_12 : decode cX3_isLetter 12 = .ok (.iconst 1, 1) := dk_4 (dk_at dksX3_isLetter_0 12 rfl rfl)
theorem dX3_isLetter_13 : decode cX3_isLetter 13 = .ok (.goto 4, 3) := dk_167 0 4 (dk_at dksX3_isLetter_0 13 rfl rfl)
theorem dX3_isLetter_16 : decode cX3_isLetter 16 = .ok (.iconst 0, 1) := dk_3 (dk_at dksX3_isLetter_0 16 rfl rfl)
theorem dX3_isLetter_17 : decode cX3_isLetter 17 = .ok (.ireturn, 1) := dk_172 (dk_at dksX3_isLetter_0 17 rfl rfl)
abbrev cX3_isFigure : ByteArray := prog_19_method_13_code
def yX3_isFigure : MethodName := ⟨RX3, "isFigure", "(I)Z"⟩
def dkwX3_isFigure_0 : List UInt8 := [26, 16, 48, 161, 0, 13, 26, 16, 57, 163, 0, 7, 4, 167, 0, 4, 3, 172]
abbrev dktX3_isFigure_0 : List UInt8 := dkwX3_isFigure_0 ++ []
theorem dksX3_isFigure_0 : cX3_isFigure.data.toList.drop 0 = dktX3_isFigure_0 := by decide +kernel
theorem dX3_isFigure_0 : decode cX3_isFigure 0 = .ok (.iload_n 0, 1) := dk_26 (dk_at dksX3_isFigure_0 0 rfl rfl)
theorem dX3_isFigure_1 : decode cX3_isFigure 1 = .ok (.bipush 48, 2) := dk_16 48 (dk_at dksX3_isFigure_0 1 rfl rfl)
theorem dX3_isFigure_3 : decode cX3_isFigure 3 = .ok (.if_icmp .lt 13, 3) := dk_161 0 13 (dk_at dksX3_isFigure_0 3 rfl rfl)
theorem dX3_isFigure_6 : decode cX3_isFigure 6 = .ok (.iload_n 0, 1) := dk_26 (dk_at dksX3_isFigure_0 6 rfl rfl)
theorem dX3_isFigure_7 : decode cX3_isFigure 7 = .ok (.bipush 57, 2) := dk_16 57 (dk_at dksX3_isFigure_0 7 rfl rfl)
theorem dX3_isFigure_9 : decode cX3_isFigure 9 = .ok (.if_icmp .gt 7, 3) := dk_163 0 7 (dk_at dksX3_isFigure_0 9 rfl rfl)
theorem dX3_isFigure_12 : decode cX3_isFigure 12 = .ok (.iconst 1, 1) := dk_4 (dk_at dksX3_isFigure_0 12 rfl rfl)
theorem dX3_isFigure_13 : decode cX3_isFigure 13 = .ok (.goto 4, 3) := dk_167 0 4 (dk_at dksX3_isFigure_0 13 rfl rfl)
theorem dX3_isFigure_16 : decode cX3_isFigure 16 = .ok (.iconst 0, 1) := dk_3 (dk_at dksX3_isFigure_0 16 rfl rfl)
theorem dX3_isFigure_17 : decode cX3_isFigure 17 = .ok (.ireturn, 1) := dk_172 (dk_at dksX3_isFigure_0 17 rfl rfl)
abbrev cX3_word : ByteArray := prog_19_method_17_code
def yX3_word : MethodName := ⟨RX3, "word", "()J"⟩
def dkwX3_word_2 : List UInt8 := [129, 64, 132, 3, 1, 167, 255, 210, 31, 173]
abbrev dktX3_word_2 : List UInt8 := dkwX3_word_2 ++ []
def dkwX3_word_1 : List UInt8 := [180, 0, 166, 42, 180, 0, 154, 100, 16, 9, 162, 0, 22, 31, 16, 8, 121, 42, 180, 0, 40, 29, 46, 133]
abbrev dktX3_word_1 : List UInt8 := dkwX3_word_1 ++ dktX3_word_2
def dkwX3_word_0 : List UInt8 := [9, 64, 42, 180, 0, 154, 62, 29, 42, 180, 0, 166, 162, 0, 44, 42, 180, 0, 157, 5, 160, 0, 36, 42]
abbrev dktX3_word_0 : List UInt8 := dkwX3_word_0 ++ dktX3_word_1
theorem dksX3_word_0 : cX3_word.data.toList.drop 0 = dktX3_word_0 := by decide +kernel
theorem dksX3_word_1 : cX3_word.data.toList.drop 24 = dktX3_word_1 := dk_seg dksX3_word_0 24 rfl rfl
theorem dksX3_word_2 : cX3_word.data.toList.drop 48 = dktX3_word_2 := dk_seg dksX3_word_1 24 rfl rfl
theorem dX3_word_0 : decode cX3_word 0 = .ok (.lconst 0, 1) := dk_9 (dk_at dksX3_word_0 0 rfl rfl)
theorem dX3_word_1 : decode cX3_word 1 = .ok (.lstore_n 1, 1) := dk_64 (dk_at dksX3_word_0 1 rfl rfl)
theorem dX3_word_2 : decode cX3_word 2 = .ok (.aload_n 0, 1) := dk_42 (dk_at dksX3_word_0 2 rfl rfl)
theorem dX3_word_3 : decode cX3_word 3 = .ok (.getfield 154, 3) := dk_180 0 154 (dk_at dksX3_word_0 3 rfl rfl)
theorem dX3_word_6 : decode cX3_word 6 = .ok (.istore_n 3, 1) := dk_62 (dk_at dksX3_word_0 6 rfl rfl)
theorem dX3_word_7 : decode cX3_word 7 = .ok (.iload_n 3, 1) := dk_29 (dk_at dksX3_word_0 7 rfl rfl)
theorem dX3_word_8 : decode cX3_word 8 = .ok (.aload_n 0, 1) := dk_42 (dk_at dksX3_word_0 8 rfl rfl)
theorem dX3_word_9 : decode cX3_word 9 = .ok (.getfield 166, 3) := dk_180 0 166 (dk_at dksX3_word_0 9 rfl rfl)
theorem dX3_word_12 : decode cX3_word 12 = .ok (.if_icmp .ge 44, 3) := dk_162 0 44 (dk_at dksX3_word_0 12 rfl rfl)
theorem dX3_word_15 : decode cX3_word 15 = .ok (.aload_n 0, 1) := dk_42 (dk_at dksX3_word_0 15 rfl rfl)
theorem dX3_word_16 : decode cX3_word 16 = .ok (.getfield 157, 3) := dk_180 0 157 (dk_at dksX3_word_0 16 rfl rfl)
theorem dX3_word_19 : decode cX3_word 19 = .ok (.iconst 2, 1) := dk_5 (dk_at dksX3_word_0 19 rfl rfl)
theorem dX3_word_20 : decode cX3_word 20 = .ok (.if_icmp .ne 36, 3) := dk_160 0 36 (dk_at dksX3_word_0 20 rfl rfl)
theorem dX3_word_23 : decode cX3_word 23 = .ok (.aload_n 0, 1) := dk_42 (dk_at dksX3_word_0 23 rfl rfl)
theorem dX3_word_24 : decode cX3_word 24 = .ok (.getfield 166, 3) := dk_180 0 166 (dk_at dksX3_word_1 0 rfl rfl)
theorem dX3_word_27 : decode cX3_word 27 = .ok (.aload_n 0, 1) := dk_42 (dk_at dksX3_word_1 3 rfl rfl)
theorem dX3_word_28 : decode cX3_word 28 = .ok (.getfield 154, 3) := dk_180 0 154 (dk_at dksX3_word_1 4 rfl rfl)
theorem dX3_word_31 : decode cX3_word 31 = .ok (.isub, 1) := dk_100 (dk_at dksX3_word_1 7 rfl rfl)
theorem dX3_word_32 : decode cX3_word 32 = .ok (.bipush 9, 2) := dk_16 9 (dk_at dksX3_word_1 8 rfl rfl)
theorem dX3_word_34 : decode cX3_word 34 = .ok (.if_icmp .ge 22, 3) := dk_162 0 22 (dk_at dksX3_word_1 10 rfl rfl)
theorem dX3_word_37 : decode cX3_word 37 = .ok (.lload_n 1, 1) := dk_31 (dk_at dksX3_word_1 13 rfl rfl)
theorem dX3_word_38 : decode cX3_word 38 = .ok (.bipush 8, 2) := dk_16 8 (dk_at dksX3_word_1 14 rfl rfl)
theorem dX3_word_40 : decode cX3_word 40 = .ok (.lshl, 1) := dk_121 (dk_at dksX3_word_1 16 rfl rfl)
theorem dX3_word_41 : decode cX3_word 41 = .ok (.aload_n 0, 1) := dk_42 (dk_at dksX3_word_1 17 rfl rfl)
theorem dX3_word_42 : decode cX3_word 42 = .ok (.getfield 40, 3) := dk_180 0 40 (dk_at dksX3_word_1 18 rfl rfl)
theorem dX3_word_45 : decode cX3_word 45 = .ok (.iload_n 3, 1) := dk_29 (dk_at dksX3_word_1 21 rfl rfl)
theorem dX3_word_46 : decode cX3_word 46 = .ok (.iaload, 1) := dk_46 (dk_at dksX3_word_1 22 rfl rfl)
theorem dX3_word_47 : decode cX3_word 47 = .ok (.i2l, 1) := dk_133 (dk_at dksX3_word_1 23 rfl rfl)
theorem dX3_word_48 : decode cX3_word 48 = .ok (.lor, 1) := dk_129 (dk_at dksX3_word_2 0 rfl rfl)
theorem dX3_word_49 : decode cX3_word 49 = .ok (.lstore_n 1, 1) := dk_64 (dk_at dksX3_word_2 1 rfl rfl)
theorem dX3_word_50 : decode cX3_word 50 = .ok (.iinc 3 1, 3) := dk_132 3 1 (dk_at dksX3_word_2 2 rfl rfl)
theorem dX3_word_53 : decode cX3_word 53 = .ok (.goto (-46), 3) := dk_167 255 210 (dk_at dksX3_word_2 5 rfl rfl)
theorem dX3_word_56 : decode cX3_word 56 = .ok (.lload_n 1, 1) := dk_31 (dk_at dksX3_word_2 8 rfl rfl)
theorem dX3_word_57 : decode cX3_word 57 = .ok (.lreturn, 1) := dk_173 (dk_at dksX3_word_2 9 rfl rfl)
abbrev cX3_need : ByteArray := prog_19_method_16_code
def yX3_need : MethodName := ⟨RX3, "need", "(Z)V"⟩
def dkwX3_need_0 : List UInt8 := [27, 154, 0, 8, 42, 4, 182, 0, 175, 42, 180, 0, 169, 154, 0, 7, 42, 182, 0, 179, 177]
abbrev dktX3_need_0 : List UInt8 := dkwX3_need_0 ++ []
theorem dksX3_need_0 : cX3_need.data.toList.drop 0 = dktX3_need_0 := by decide +kernel
theorem dX3_need_0 : decode cX3_need 0 = .ok (.iload_n 1, 1) := dk_27 (dk_at dksX3_need_0 0 rfl rfl)
theorem dX3_need_1 : decode cX3_need 1 = .ok (.ifCond .ne 8, 3) := dk_154 0 8 (dk_at dksX3_need_0 1 rfl rfl)
theorem dX3_need_4 : decode cX3_need 4 = .ok (.aload_n 0, 1) := dk_42 (dk_at dksX3_need_0 4 rfl rfl)
theorem dX3_need_5 : decode cX3_need 5 = .ok (.iconst 1, 1) := dk_4 (dk_at dksX3_need_0 5 rfl rfl)
theorem dX3_need_6 : decode cX3_need 6 = .ok (.invokevirtual 175, 3) := dk_182 0 175 (dk_at dksX3_need_0 6 rfl rfl)
theorem dX3_need_9 : decode cX3_need 9 = .ok (.aload_n 0, 1) := dk_42 (dk_at dksX3_need_0 9 rfl rfl)
theorem dX3_need_10 : decode cX3_need 10 = .ok (.getfield 169, 3) := dk_180 0 169 (dk_at dksX3_need_0 10 rfl rfl)
theorem dX3_need_13 : decode cX3_need 13 = .ok (.ifCond .ne 7, 3) := dk_154 0 7 (dk_at dksX3_need_0 13 rfl rfl)
theorem dX3_need_16 : decode cX3_need 16 = .ok (.aload_n 0, 1) := dk_42 (dk_at dksX3_need_0 16 rfl rfl)
theorem dX3_need_17 : decode cX3_need 17 = .ok (.invokevirtual 179, 3) := dk_182 0 179 (dk_at dksX3_need_0 17 rfl rfl)
theorem dX3_need_20 : decode cX3_need 20 = .ok (.return_, 1) := dk_177 (dk_at dksX3_need_0 20 rfl rfl)
abbrev cX3_bad : ByteArray := prog_19_method_15_code
def yX3_bad : MethodName := ⟨RX3, "bad", "(I)V"⟩
def dkwX3_bad_0 : List UInt8 := [42, 180, 0, 169, 154, 0, 16, 42, 27, 181, 0, 169, 42, 42, 180, 0, 154, 181, 0, 172, 177]
abbrev dktX3_bad_0 : List UInt8 := dkwX3_bad_0 ++ []
theorem dksX3_bad_0 : cX3_bad.data.toList.drop 0 = dktX3_bad_0 := by decide +kernel
theorem dX3_bad_0 : decode cX3_bad 0 = .ok (.aload_n 0, 1) := dk_42 (dk_at dksX3_bad_0 0 rfl rfl)
theorem dX3_bad_1 : decode cX3_bad 1 = .ok (.getfield 169, 3) := dk_180 0 169 (dk_at dksX3_bad_0 1 rfl rfl)
theorem dX3_bad_4 : decode cX3_bad 4 = .ok (.ifCond .ne 16, 3) := dk_154 0 16 (dk_at dksX3_bad_0 4 rfl rfl)
theorem dX3_bad_7 : decode cX3_bad 7 = .ok (.aload_n 0, 1) := dk_42 (dk_at dksX3_bad_0 7 rfl rfl)
theorem dX3_bad_8 : decode cX3_bad 8 = .ok (.iload_n 1, 1) := dk_27 (dk_at dksX3_bad_0 8 rfl rfl)
theorem dX3_bad_9 : decode cX3_bad 9 = .ok (.putfield 169, 3) := dk_181 0 169 (dk_at dksX3_bad_0 9 rfl rfl)
theorem dX3_bad_12 : decode cX3_bad 12 = .ok (.aload_n 0, 1) := dk_42 (dk_at dksX3_bad_0 12 rfl rfl)
theorem dX3_bad_13 : decode cX3_bad 13 = .ok (.aload_n 0, 1) := dk_42 (dk_at dksX3_bad_0 13 rfl rfl)
theorem dX3_bad_14 : decode cX3_bad 14 = .ok (.getfield 154, 3) := dk_180 0 154 (dk_at dksX3_bad_0 14 rfl rfl)
theorem dX3_bad_17 : decode cX3_bad 17 = .ok (.putfield 172, 3) := dk_181 0 172 (dk_at dksX3_bad_0 17 rfl rfl)
theorem dX3_bad_20 : decode cX3_bad 20 = .ok (.return_, 1) := dk_177 (dk_at dksX3_bad_0 20 rfl rfl)
abbrev cX3_numberTo : ByteArray := prog_19_method_18_code
def yX3_numberTo : MethodName := ⟨RX3, "numberTo", "(I)I"⟩
def dkwX3_numberTo_3 : List UInt8 := [42, 42, 180, 0, 157, 6, 160, 0, 7, 4, 167, 0, 4, 3, 182, 0, 182, 28, 172]
abbrev dktX3_numberTo_3 : List UInt8 := dkwX3_numberTo_3 ++ []
def dkwX3_numberTo_2 : List UInt8 := [132, 3, 1, 167, 255, 222, 42, 180, 0, 157, 6, 160, 0, 13, 28, 27, 164, 0, 8, 42, 5, 182, 0, 175]
abbrev dktX3_numberTo_2 : List UInt8 := dkwX3_numberTo_2 ++ dktX3_numberTo_3
def dkwX3_numberTo_1 : List UInt8 := [42, 180, 0, 157, 6, 160, 0, 24, 16, 10, 28, 104, 42, 180, 0, 40, 29, 46, 96, 16, 48, 100, 61]
abbrev dktX3_numberTo_1 : List UInt8 := dkwX3_numberTo_1 ++ dktX3_numberTo_2
def dkwX3_numberTo_0 : List UInt8 := [42, 180, 0, 169, 158, 0, 5, 3, 172, 3, 61, 42, 180, 0, 154, 62, 29, 42, 180, 0, 166, 162, 0, 32]
abbrev dktX3_numberTo_0 : List UInt8 := dkwX3_numberTo_0 ++ dktX3_numberTo_1
theorem dksX3_numberTo_0 : cX3_numberTo.data.toList.drop 0 = dktX3_numberTo_0 := by decide +kernel
theorem dksX3_numberTo_1 : cX3_numberTo.data.toList.drop 24 = dktX3_numberTo_1 := dk_seg dksX3_numberTo_0 24 rfl rfl
theorem dksX3_numberTo_2 : cX3_numberTo.data.toList.drop 47 = dktX3_numberTo_2 := dk_seg dksX3_numberTo_1 23 rfl rfl
theorem dksX3_numberTo_3 : cX3_numberTo.data.toList.drop 71 = dktX3_numberTo_3 := dk_seg dksX3_numberTo_2 24 rfl rfl
theorem dX3_numberTo_0 : decode cX3_numberTo 0 = .ok (.aload_n 0, 1) := dk_42 (dk_at dksX3_numberTo_0 0 rfl rfl)
theorem dX3_numberTo_1 : decode cX3_numberTo 1 = .ok (.getfield 169, 3) := dk_180 0 169 (dk_at dksX3_numberTo_0 1 rfl rfl)
theorem dX3_numberTo_4 : decode cX3_numberTo 4 = .ok (.ifCond .le 5, 3) := dk_158 0 5 (dk_at dksX3_numberTo_0 4 rfl rfl)
theorem dX3_numberTo_7 : decode cX3_numberTo 7 = .ok (.iconst 0, 1) := dk_3 (dk_at dksX3_numberTo_0 7 rfl rfl)
theorem dX3_numberTo_8 : decode cX3_numberTo 8 = .ok (.ireturn, 1) := dk_172 (dk_at dksX3_numberTo_0 8 rfl rfl)
theorem dX3_numberTo_9 : decode cX3_numberTo 9 = .ok (.iconst 0, 1) := dk_3 (dk_at dksX3_numberTo_0 9 rfl rfl)
theorem dX3_numberTo_10 : decode cX3_numberTo 10 = .ok (.istore_n 2, 1) := dk_61 (dk_at dksX3_numberTo_0 10 rfl rfl)
theorem dX3_numberTo_11 : decode cX3_numberTo 11 = .ok (.aload_n 0, 1) := dk_42 (dk_at dksX3_numberTo_0 11 rfl rfl)
theorem dX3_numberTo_12 : decode cX3_numberTo 12 = .ok (.getfield 154, 3) := dk_180 0 154 (dk_at dksX3_numberTo_0 12 rfl rfl)
theorem dX3_numberTo_15 : decode cX3_numberTo 15 = .ok (.istore_n 3, 1) := dk_62 (dk_at dksX3_numberTo_0 15 rfl rfl)
theorem dX3_numberTo_16 : decode cX3_numberTo 16 = .ok (.iload_n 3, 1) := dk_29 (dk_at dksX3_numberTo_0 16 rfl rfl)
theorem dX3_numberTo_17 : decode cX3_numberTo 17 = .ok (.aload_n 0, 1) := dk_42 (dk_at dksX3_numberTo_0 17 rfl rfl)
theorem dX3_numberTo_18 : decode cX3_numberTo 18 = .ok (.getfield 166, 3) := dk_180 0 166 (dk_at dksX3_numberTo_0 18 rfl rfl)
theorem dX3_numberTo_21 : decode cX3_numberTo 21 = .ok (.if_icmp .ge 32, 3) := dk_162 0 32 (dk_at dksX3_numberTo_0 21 rfl rfl)
theorem dX3_numberTo_24 : decode cX3_numberTo 24 = .ok (.aload_n 0, 1) := dk_42 (dk_at dksX3_numberTo_1 0 rfl rfl)
theorem dX3_numberTo_25 : decode cX3_numberTo 25 = .ok (.getfield 157, 3) := dk_180 0 157 (dk_at dksX3_numberTo_1 1 rfl rfl)
theorem dX3_numberTo_28 : decode cX3_numberTo 28 = .ok (.iconst 3, 1) := dk_6 (dk_at dksX3_numberTo_1 4 rfl rfl)
theorem dX3_numberTo_29 : decode cX3_numberTo 29 = .ok (.if_icmp .ne 24, 3) := dk_160 0 24 (dk_at dksX3_numberTo_1 5 rfl rfl)
theorem dX3_numberTo_32 : decode cX3_numberTo 32 = .ok (.bipush 10, 2) := dk_16 10 (dk_at dksX3_numberTo_1 8 rfl rfl)
theorem dX3_numberTo_34 : decode cX3_numberTo 34 = .ok (.iload_n 2, 1) := dk_28 (dk_at dksX3_numberTo_1 10 rfl rfl)
theorem dX3_numberTo_35 : decode cX3_numberTo 35 = .ok (.imul, 1) := dk_104 (dk_at dksX3_numberTo_1 11 rfl rfl)
theorem dX3_numberTo_36 : decode cX3_numberTo 36 = .ok (.aload_n 0, 1) := dk_42 (dk_at dksX3_numberTo_1 12 rfl rfl)
theorem dX3_numberTo_37 : decode cX3_numberTo 37 = .ok (.getfield 40, 3) := dk_180 0 40 (dk_at dksX3_numberTo_1 13 rfl rfl)
theorem dX3_numberTo_40 : decode cX3_numberTo 40 = .ok (.iload_n 3, 1) := dk_29 (dk_at dksX3_numberTo_1 16 rfl rfl)
theorem dX3_numberTo_41 : decode cX3_numberTo 41 = .ok (.iaload, 1) := dk_46 (dk_at dksX3_numberTo_1 17 rfl rfl)
theorem dX3_numberTo_42 : decode cX3_numberTo 42 = .ok (.iadd, 1) := dk_96 (dk_at dksX3_numberTo_1 18 rfl rfl)
theorem dX3_numberTo_43 : decode cX3_numberTo 43 = .ok (.bipush 48, 2) := dk_16 48 (dk_at dksX3_numberTo_1 19 rfl rfl)
theorem dX3_numberTo_45 : decode cX3_numberTo 45 = .ok (.isub, 1) := dk_100 (dk_at dksX3_numberTo_1 21 rfl rfl)
theorem dX3_numberTo_46 : decode cX3_numberTo 46 = .ok (.istore_n 2, 1) := dk_61 (dk_at dksX3_numberTo_1 22 rfl rfl)
theorem dX3_numberTo_47 : decode cX3_numberTo 47 = .ok (.iinc 3 1, 3) := dk_132 3 1 (dk_at dksX3_numberTo_2 0 rfl rfl)
theorem dX3_numberTo_50 : decode cX3_numberTo 50 = .ok (.goto (-34), 3) := dk_167 255 222 (dk_at dksX3_numberTo_2 3 rfl rfl)
theorem dX3_numberTo_53 : decode cX3_numberTo 53 = .ok (.aload_n 0, 1) := dk_42 (dk_at dksX3_numberTo_2 6 rfl rfl)
theorem dX3_numberTo_54 : decode cX3_numberTo 54 = .ok (.getfield 157, 3) := dk_180 0 157 (dk_at dksX3_numberTo_2 7 rfl rfl)
theorem dX3_numberTo_57 : decode cX3_numberTo 57 = .ok (.iconst 3, 1) := dk_6 (dk_at dksX3_numberTo_2 10 rfl rfl)
theorem dX3_numberTo_58 : decode cX3_numberTo 58 = .ok (.if_icmp .ne 13, 3) := dk_160 0 13 (dk_at dksX3_numberTo_2 11 rfl rfl)
theorem dX3_numberTo_61 : decode cX3_numberTo 61 = .ok (.iload_n 2, 1) := dk_28 (dk_at dksX3_numberTo_2 14 rfl rfl)
theorem dX3_numberTo_62 : decode cX3_numberTo 62 = .ok (.iload_n 1, 1) := dk_27 (dk_at dksX3_numberTo_2 15 rfl rfl)
theorem dX3_numberTo_63 : decode cX3_numberTo 63 = .ok (.if_icmp .le 8, 3) := dk_164 0 8 (dk_at dksX3_numberTo_2 16 rfl rfl)
theorem dX3_numberTo_66 : decode cX3_numberTo 66 = .ok (.aload_n 0, 1) := dk_42 (dk_at dksX3_numberTo_2 19 rfl rfl)
theorem dX3_numberTo_67 : decode cX3_numberTo 67 = .ok (.iconst 2, 1) := dk_5 (dk_at dksX3_numberTo_2 20 rfl rfl)
theorem dX3_numberTo_68 : decode cX3_numberTo 68 = .ok (.invokevirtual 175, 3) := dk_182 0 175 (dk_at dksX3_numberTo_2 21 rfl rfl)
theorem dX3_numberTo_71 : decode cX3_numberTo 71 = .ok (.aload_n 0, 1) := dk_42 (dk_at dksX3_numberTo_3 0 rfl rfl)
theorem dX3_numberTo_72 : decode cX3_numberTo 72 = .ok (.aload_n 0, 1) := dk_42 (dk_at dksX3_numberTo_3 1 rfl rfl)
theorem dX3_numberTo_73 : decode cX3_numberTo 73 = .ok (.getfield 157, 3) := dk_180 0 157 (dk_at dksX3_numberTo_3 2 rfl rfl)
theorem dX3_numberTo_76 : decode cX3_numberTo 76 = .ok (.iconst 3, 1) := dk_6 (dk_at dksX3_numberTo_3 5 rfl rfl)
theorem dX3_numberTo_77 : decode cX3_numberTo 77 = .ok (.if_icmp .ne 7, 3) := dk_160 0 7 (dk_at dksX3_numberTo_3 6 rfl rfl)
theorem dX3_numberTo_80 : decode cX3_numberTo 80 = .ok (.iconst 1, 1) := dk_4 (dk_at dksX3_numberTo_3 9 rfl rfl)
theorem dX3_numberTo_81 : decode cX3_numberTo 81 = .ok (.goto 4, 3) := dk_167 0 4 (dk_at dksX3_numberTo_3 10 rfl rfl)
theorem dX3_numberTo_84 : decode cX3_numberTo 84 = .ok (.iconst 0, 1) := dk_3 (dk_at dksX3_numberTo_3 13 rfl rfl)
theorem dX3_numberTo_85 : decode cX3_numberTo 85 = .ok (.invokevirtual 182, 3) := dk_182 0 182 (dk_at dksX3_numberTo_3 14 rfl rfl)
theorem dX3_numberTo_88 : decode cX3_numberTo 88 = .ok (.iload_n 2, 1) := dk_28 (dk_at dksX3_numberTo_3 17 rfl rfl)
theorem dX3_numberTo_89 : decode cX3_numberTo 89 = .ok (.ireturn, 1) := dk_172 (dk_at dksX3_numberTo_3 18 rfl rfl)
abbrev cX3_readRule : ByteArray := prog_19_method_23_code
def yX3_readRule : MethodName := ⟨RX3, "readRule", "(I)V"⟩
def dkwX3_readRule_13 : List UInt8 := [181, 0, 234, 177]
abbrev dktX3_readRule_13 : List UInt8 := dkwX3_readRule_13 ++ []
def dkwX3_readRule_12 : List UInt8 := [153, 0, 16, 42, 180, 0, 22, 5, 27, 104, 21, 4, 96, 21, 5, 79, 42, 89, 180, 0, 234, 4, 96]
abbrev dktX3_readRule_12 : List UInt8 := dkwX3_readRule_12 ++ dktX3_readRule_13
def dkwX3_readRule_11 : List UInt8 := [167, 0, 39, 42, 4, 182, 0, 228, 54, 4, 42, 17, 1, 244, 182, 0, 228, 54, 5, 42, 180, 0, 216]
abbrev dktX3_readRule_11 : List UInt8 := dkwX3_readRule_11 ++ dktX3_readRule_12
def dkwX3_readRule_10 : List UInt8 := [180, 0, 19, 27, 42, 180, 0, 216, 153, 0, 8, 21, 5, 167, 0, 9, 42, 180, 0, 19, 27, 46, 79]
abbrev dktX3_readRule_10 : List UInt8 := dkwX3_readRule_10 ++ dktX3_readRule_11
def dkwX3_readRule_9 : List UInt8 := [180, 0, 16, 27, 42, 180, 0, 216, 153, 0, 8, 21, 4, 167, 0, 9, 42, 180, 0, 16, 27, 46, 79, 42]
abbrev dktX3_readRule_9 : List UInt8 := dkwX3_readRule_9 ++ dktX3_readRule_10
def dkwX3_readRule_8 : List UInt8 := [20, 0, 208, 148, 154, 0, 70, 42, 16, 60, 182, 0, 228, 54, 4, 42, 16, 100, 182, 0, 228, 54, 5, 42]
abbrev dktX3_readRule_8 : List UInt8 := dkwX3_readRule_8 ++ dktX3_readRule_9
def dkwX3_readRule_7 : List UInt8 := [96, 21, 5, 79, 167, 0, 130, 32, 20, 0, 206, 148, 154, 0, 11, 42, 27, 182, 0, 231, 167, 0, 114, 32]
abbrev dktX3_readRule_7 : List UInt8 := dkwX3_readRule_7 ++ dktX3_readRule_8
def dkwX3_readRule_6 : List UInt8 := [17, 3, 232, 182, 0, 228, 54, 5, 42, 180, 0, 216, 153, 0, 16, 42, 180, 0, 25, 8, 27, 104, 21, 4]
abbrev dktX3_readRule_6 : List UInt8 := dkwX3_readRule_6 ++ dktX3_readRule_7
def dkwX3_readRule_5 : List UInt8 := [182, 0, 212, 54, 4, 42, 21, 4, 18, 147, 159, 0, 7, 4, 167, 0, 4, 3, 182, 0, 182, 42]
abbrev dktX3_readRule_5 : List UInt8 := dkwX3_readRule_5 ++ dktX3_readRule_6
def dkwX3_readRule_4 : List UInt8 := [21, 4, 167, 0, 9, 42, 180, 0, 13, 27, 46, 79, 167, 0, 192, 32, 20, 0, 204, 148, 154, 0, 57, 42]
abbrev dktX3_readRule_4 : List UInt8 := dkwX3_readRule_4 ++ dktX3_readRule_5
def dkwX3_readRule_3 : List UInt8 := [154, 0, 38, 42, 16, 50, 182, 0, 228, 54, 4, 42, 180, 0, 13, 27, 42, 180, 0, 216, 153, 0, 8]
abbrev dktX3_readRule_3 : List UInt8 := dkwX3_readRule_3 ++ dktX3_readRule_4
def dkwX3_readRule_2 : List UInt8 := [153, 0, 8, 21, 4, 167, 0, 9, 42, 180, 0, 7, 27, 46, 79, 167, 0, 235, 32, 20, 0, 202, 148]
abbrev dktX3_readRule_2 : List UInt8 := dkwX3_readRule_2 ++ dktX3_readRule_3
def dkwX3_readRule_1 : List UInt8 := [20, 0, 200, 148, 154, 0, 38, 42, 16, 8, 182, 0, 228, 54, 4, 42, 180, 0, 7, 27, 42, 180, 0, 216]
abbrev dktX3_readRule_1 : List UInt8 := dkwX3_readRule_1 ++ dktX3_readRule_2
def dkwX3_readRule_0 : List UInt8 := [42, 182, 0, 186, 65, 42, 42, 182, 0, 224, 182, 0, 182, 42, 180, 0, 169, 158, 0, 4, 177, 32]
abbrev dktX3_readRule_0 : List UInt8 := dkwX3_readRule_0 ++ dktX3_readRule_1
theorem dksX3_readRule_0 : cX3_readRule.data.toList.drop 0 = dktX3_readRule_0 := by decide +kernel
theorem dksX3_readRule_1 : cX3_readRule.data.toList.drop 22 = dktX3_readRule_1 := dk_seg dksX3_readRule_0 22 rfl rfl
theorem dksX3_readRule_2 : cX3_readRule.data.toList.drop 46 = dktX3_readRule_2 := dk_seg dksX3_readRule_1 24 rfl rfl
theorem dksX3_readRule_3 : cX3_readRule.data.toList.drop 69 = dktX3_readRule_3 := dk_seg dksX3_readRule_2 23 rfl rfl
theorem dksX3_readRule_4 : cX3_readRule.data.toList.drop 92 = dktX3_readRule_4 := dk_seg dksX3_readRule_3 23 rfl rfl
theorem dksX3_readRule_5 : cX3_readRule.data.toList.drop 116 = dktX3_readRule_5 := dk_seg dksX3_readRule_4 24 rfl rfl
theorem dksX3_readRule_6 : cX3_readRule.data.toList.drop 138 = dktX3_readRule_6 := dk_seg dksX3_readRule_5 22 rfl rfl
theorem dksX3_readRule_7 : cX3_readRule.data.toList.drop 162 = dktX3_readRule_7 := dk_seg dksX3_readRule_6 24 rfl rfl
theorem dksX3_readRule_8 : cX3_readRule.data.toList.drop 186 = dktX3_readRule_8 := dk_seg dksX3_readRule_7 24 rfl rfl
theorem dksX3_readRule_9 : cX3_readRule.data.toList.drop 210 = dktX3_readRule_9 := dk_seg dksX3_readRule_8 24 rfl rfl
theorem dksX3_readRule_10 : cX3_readRule.data.toList.drop 234 = dktX3_readRule_10 := dk_seg dksX3_readRule_9 24 rfl rfl
theorem dksX3_readRule_11 : cX3_readRule.data.toList.drop 257 = dktX3_readRule_11 := dk_seg dksX3_readRule_10 23 rfl rfl
theorem dksX3_readRule_12 : cX3_readRule.data.toList.drop 280 = dktX3_readRule_12 := dk_seg dksX3_readRule_11 23 rfl rfl
theorem dksX3_readRule_13 : cX3_readRule.data.toList.drop 303 = dktX3_readRule_13 := dk_seg dksX3_readRule_12 23 rfl rfl
theorem dX3_readRule_0 : decode cX3_readRule 0 = .ok (.aload_n 0, 1) := dk_42 (dk_at dksX3_readRule_0 0 rfl rfl)
theorem dX3_readRule_1 : decode cX3_readRule 1 = .ok (.invokevirtual 186, 3) := dk_182 0 186 (dk_at dksX3_readRule_0 1 rfl rfl)
theorem dX3_readRule_4 : decode cX3_readRule 4 = .ok (.lstore_n 2, 1) := dk_65 (dk_at dksX3_readRule_0 4 rfl rfl)
theorem dX3_readRule_5 : decode cX3_readRule 5 = .ok (.aload_n 0, 1) := dk_42 (dk_at dksX3_readRule_0 5 rfl rfl)
theorem dX3_readRule_6 : decode cX3_readRule 6 = .ok (.aload_n 0, 1) := dk_42 (dk_at dksX3_readRule_0 6 rfl rfl)
theorem dX3_readRule_7 : decode cX3_readRule 7 = .ok (.invokevirtual 224, 3) := dk_182 0 224 (dk_at dksX3_readRule_0 7 rfl rfl)
theorem dX3_readRule_10 : decode cX3_readRule 10 = .ok (.invokevirtual 182, 3) := dk_182 0 182 (dk_at dksX3_readRule_0 10 rfl rfl)
theorem dX3_readRule_13 : decode cX3_readRule 13 = .ok (.aload_n 0, 1) := dk_42 (dk_at dksX3_readRule_0 13 rfl rfl)
theorem dX3_readRule_14 : decode cX3_readRule 14 = .ok (.getfield 169, 3) := dk_180 0 169 (dk_at dksX3_readRule_0 14 rfl rfl)
theorem dX3_readRule_17 : decode cX3_readRule 17 = .ok (.ifCond .le 4, 3) := dk_158 0 4 (dk_at dksX3_readRule_0 17 rfl rfl)
theorem dX3_readRule_20 : decode cX3_readRule 20 = .ok (.return_, 1) := dk_177 (dk_at dksX3_readRule_0 20 rfl rfl)
theorem dX3_readRule_21 : decode cX3_readRule 21 = .ok (.lload_n 2, 1) := dk_32 (dk_at dksX3_readRule_0 21 rfl rfl)
theorem dX3_readRule_22 : decode cX3_readRule 22 = .ok (.ldc2_w 200, 3) := dk_20 0 200 (dk_at dksX3_readRule_1 0 rfl rfl)
theorem dX3_readRule_25 : decode cX3_readRule 25 = .ok (.lcmp, 1) := dk_148 (dk_at dksX3_readRule_1 3 rfl rfl)
theorem dX3_readRule_26 : decode cX3_readRule 26 = .ok (.ifCond .ne 38, 3) := dk_154 0 38 (dk_at dksX3_readRule_1 4 rfl rfl)
theorem dX3_readRule_29 : decode cX3_readRule 29 = .ok (.aload_n 0, 1) := dk_42 (dk_at dksX3_readRule_1 7 rfl rfl)
theorem dX3_readRule_30 : decode cX3_readRule 30 = .ok (.bipush 8, 2) := dk_16 8 (dk_at dksX3_readRule_1 8 rfl rfl)
theorem dX3_readRule_32 : decode cX3_readRule 32 = .ok (.invokevirtual 228, 3) := dk_182 0 228 (dk_at dksX3_readRule_1 10 rfl rfl)
theorem dX3_readRule_35 : decode cX3_readRule 35 = .ok (.istore 4, 2) := dk_54 4 (dk_at dksX3_readRule_1 13 rfl rfl)
theorem dX3_readRule_37 : decode cX3_readRule 37 = .ok (.aload_n 0, 1) := dk_42 (dk_at dksX3_readRule_1 15 rfl rfl)
theorem dX3_readRule_38 : decode cX3_readRule 38 = .ok (.getfield 7, 3) := dk_180 0 7 (dk_at dksX3_readRule_1 16 rfl rfl)
theorem dX3_readRule_41 : decode cX3_readRule 41 = .ok (.iload_n 1, 1) := dk_27 (dk_at dksX3_readRule_1 19 rfl rfl)
theorem dX3_readRule_42 : decode cX3_readRule 42 = .ok (.aload_n 0, 1) := dk_42 (dk_at dksX3_readRule_1 20 rfl rfl)
theorem dX3_readRule_43 : decode cX3_readRule 43 = .ok (.getfield 216, 3) := dk_180 0 216 (dk_at dksX3_readRule_1 21 rfl rfl)
theorem dX3_readRule_46 : decode cX3_readRule 46 = .ok (.ifCond .eq 8, 3) := dk_153 0 8 (dk_at dksX3_readRule_2 0 rfl rfl)
theorem dX3_readRule_49 : decode cX3_readRule 49 = .ok (.iload 4, 2) := dk_21 4 (dk_at dksX3_readRule_2 3 rfl rfl)
theorem dX3_readRule_51 : decode cX3_readRule 51 = .ok (.goto 9, 3) := dk_167 0 9 (dk_at dksX3_readRule_2 5 rfl rfl)
theorem dX3_readRule_54 : decode cX3_readRule 54 = .ok (.aload_n 0, 1) := dk_42 (dk_at dksX3_readRule_2 8 rfl rfl)
theorem dX3_readRule_55 : decode cX3_readRule 55 = .ok (.getfield 7, 3) := dk_180 0 7 (dk_at dksX3_readRule_2 9 rfl rfl)
theorem dX3_readRule_58 : decode cX3_readRule 58 = .ok (.iload_n 1, 1) := dk_27 (dk_at dksX3_readRule_2 12 rfl rfl)
theorem dX3_readRule_59 : decode cX3_readRule 59 = .ok (.iaload, 1) := dk_46 (dk_at dksX3_readRule_2 13 rfl rfl)
theorem dX3_readRule_60 : decode cX3_readRule 60 = .ok (.iastore, 1) := dk_79 (dk_at dksX3_readRule_2 14 rfl rfl)
theorem dX3_readRule_61 : decode cX3_readRule 61 = .ok (.goto 235, 3) := dk_167 0 235 (dk_at dksX3_readRule_2 15 rfl rfl)
theorem dX3_readRule_64 : decode cX3_readRule 64 = .ok (.lload_n 2, 1) := dk_32 (dk_at dksX3_readRule_2 18 rfl rfl)
theorem dX3_readRule_65 : decode cX3_readRule 65 = .ok (.ldc2_w 202, 3) := dk_20 0 202 (dk_at dksX3_readRule_2 19 rfl rfl)
theorem dX3_readRule_68 : decode cX3_readRule 68 = .ok (.lcmp, 1) := dk_148 (dk_at dksX3_readRule_2 22 rfl rfl)
theorem dX3_readRule_69 : decode cX3_readRule 69 = .ok (.ifCond .ne 38, 3) := dk_154 0 38 (dk_at dksX3_readRule_3 0 rfl rfl)
theorem dX3_readRule_72 : decode cX3_readRule 72 = .ok (.aload_n 0, 1) := dk_42 (dk_at dksX3_readRule_3 3 rfl rfl)
theorem dX3_readRule_73 : decode cX3_readRule 73 = .ok (.bipush 50, 2) := dk_16 50 (dk_at dksX3_readRule_3 4 rfl rfl)
theorem dX3_readRule_75 : decode cX3_readRule 75 = .ok (.invokevirtual 228, 3) := dk_182 0 228 (dk_at dksX3_readRule_3 6 rfl rfl)
theorem dX3_readRule_78 : decode cX3_readRule 78 = .ok (.istore 4, 2) := dk_54 4 (dk_at dksX3_readRule_3 9 rfl rfl)
theorem dX3_readRule_80 : decode cX3_readRule 80 = .ok (.aload_n 0, 1) := dk_42 (dk_at dksX3_readRule_3 11 rfl rfl)
theorem dX3_readRule_81 : decode cX3_readRule 81 = .ok (.getfield 13, 3) := dk_180 0 13 (dk_at dksX3_readRule_3 12 rfl rfl)
theorem dX3_readRule_84 : decode cX3_readRule 84 = .ok (.iload_n 1, 1) := dk_27 (dk_at dksX3_readRule_3 15 rfl rfl)
theorem dX3_readRule_85 : decode cX3_readRule 85 = .ok (.aload_n 0, 1) := dk_42 (dk_at dksX3_readRule_3 16 rfl rfl)
theorem dX3_readRule_86 : decode cX3_readRule 86 = .ok (.getfield 216, 3) := dk_180 0 216 (dk_at dksX3_readRule_3 17 rfl rfl)
theorem dX3_readRule_89 : decode cX3_readRule 89 = .ok (.ifCond .eq 8, 3) := dk_153 0 8 (dk_at dksX3_readRule_3 20 rfl rfl)
theorem dX3_readRule_92 : decode cX3_readRule 92 = .ok (.iload 4, 2) := dk_21 4 (dk_at dksX3_readRule_4 0 rfl rfl)
theorem dX3_readRule_94 : decode cX3_readRule 94 = .ok (.goto 9, 3) := dk_167 0 9 (dk_at dksX3_readRule_4 2 rfl rfl)
theorem dX3_readRule_97 : decode cX3_readRule 97 = .ok (.aload_n 0, 1) := dk_42 (dk_at dksX3_readRule_4 5 rfl rfl)
theorem dX3_readRule_98 : decode cX3_readRule 98 = .ok (.getfield 13, 3) := dk_180 0 13 (dk_at dksX3_readRule_4 6 rfl rfl)
theorem dX3_readRule_101 : decode cX3_readRule 101 = .ok (.iload_n 1, 1) := dk_27 (dk_at dksX3_readRule_4 9 rfl rfl)
theorem dX3_readRule_102 : decode cX3_readRule 102 = .ok (.iaload, 1) := dk_46 (dk_at dksX3_readRule_4 10 rfl rfl)
theorem dX3_readRule_103 : decode cX3_readRule 103 = .ok (.iastore, 1) := dk_79 (dk_at dksX3_readRule_4 11 rfl rfl)
theorem dX3_readRule_104 : decode cX3_readRule 104 = .ok (.goto 192, 3) := dk_167 0 192 (dk_at dksX3_readRule_4 12 rfl rfl)
theorem dX3_readRule_107 : decode cX3_readRule 107 = .ok (.lload_n 2, 1) := dk_32 (dk_at dksX3_readRule_4 15 rfl rfl)
theorem dX3_readRule_108 : decode cX3_readRule 108 = .ok (.ldc2_w 204, 3) := dk_20 0 204 (dk_at dksX3_readRule_4 16 rfl rfl)
theorem dX3_readRule_111 : decode cX3_readRule 111 = .ok (.lcmp, 1) := dk_148 (dk_at dksX3_readRule_4 19 rfl rfl)
theorem dX3_readRule_112 : decode cX3_readRule 112 = .ok (.ifCond .ne 57, 3) := dk_154 0 57 (dk_at dksX3_readRule_4 20 rfl rfl)
theorem dX3_readRule_115 : decode cX3_readRule 115 = .ok (.aload_n 0, 1) := dk_42 (dk_at dksX3_readRule_4 23 rfl rfl)
theorem dX3_readRule_116 : decode cX3_readRule 116 = .ok (.invokevirtual 212, 3) := dk_182 0 212 (dk_at dksX3_readRule_5 0 rfl rfl)
theorem dX3_readRule_119 : decode cX3_readRule 119 = .ok (.istore 4, 2) := dk_54 4 (dk_at dksX3_readRule_5 3 rfl rfl)
theorem dX3_readRule_121 : decode cX3_readRule 121 = .ok (.aload_n 0, 1) := dk_42 (dk_at dksX3_readRule_5 5 rfl rfl)
theorem dX3_readRule_122 : decode cX3_readRule 122 = .ok (.iload 4, 2) := dk_21 4 (dk_at dksX3_readRule_5 6 rfl rfl)
theorem dX3_readRule_124 : decode cX3_readRule 124 = .ok (.ldc 147, 2) := dk_18 147 (dk_at dksX3_readRule_5 8 rfl rfl)
theorem dX3_readRule_126 : decode cX3_readRule 126 = .ok (.if_icmp .eq 7, 3) := dk_159 0 7 (dk_at dksX3_readRule_5 10 rfl rfl)
theorem dX3_readRule_129 : decode cX3_readRule 129 = .ok (.iconst 1, 1) := dk_4 (dk_at dksX3_readRule_5 13 rfl rfl)
theorem dX3_readRule_130 : decode cX3_readRule 130 = .ok (.goto 4, 3) := dk_167 0 4 (dk_at dksX3_readRule_5 14 rfl rfl)
theorem dX3_readRule_133 : decode cX3_readRule 133 = .ok (.iconst 0, 1) := dk_3 (dk_at dksX3_readRule_5 17 rfl rfl)
theorem dX3_readRule_134 : decode cX3_readRule 134 = .ok (.invokevirtual 182, 3) := dk_182 0 182 (dk_at dksX3_readRule_5 18 rfl rfl)
theorem dX3_readRule_137 : decode cX3_readRule 137 = .ok (.aload_n 0, 1) := dk_42 (dk_at dksX3_readRule_5 21 rfl rfl)
theorem dX3_readRule_138 : decode cX3_readRule 138 = .ok (.sipush 1000, 3) := dk_17 3 232 (dk_at dksX3_readRule_6 0 rfl rfl)
theorem dX3_readRule_141 : decode cX3_readRule 141 = .ok (.invokevirtual 228, 3) := dk_182 0 228 (dk_at dksX3_readRule_6 3 rfl rfl)
theorem dX3_readRule_144 : decode cX3_readRule 144 = .ok (.istore 5, 2) := dk_54 5 (dk_at dksX3_readRule_6 6 rfl rfl)
theorem dX3_readRule_146 : decode cX3_readRule 146 = .ok (.aload_n 0, 1) := dk_42 (dk_at dksX3_readRule_6 8 rfl rfl)
theorem dX3_readRule_147 : decode cX3_readRule 147 = .ok (.getfield 216, 3) := dk_180 0 216 (dk_at dksX3_readRule_6 9 rfl rfl)
theorem dX3_readRule_150 : decode cX3_readRule 150 = .ok (.ifCond .eq 16, 3) := dk_153 0 16 (dk_at dksX3_readRule_6 12 rfl rfl)
theorem dX3_readRule_153 : decode cX3_readRule 153 = .ok (.aload_n 0, 1) := dk_42 (dk_at dksX3_readRule_6 15 rfl rfl)
theorem dX3_readRule_154 : decode cX3_readRule 154 = .ok (.getfield 25, 3) := dk_180 0 25 (dk_at dksX3_readRule_6 16 rfl rfl)
theorem dX3_readRule_157 : decode cX3_readRule 157 = .ok (.iconst 5, 1) := dk_8 (dk_at dksX3_readRule_6 19 rfl rfl)
theorem dX3_readRule_158 : decode cX3_readRule 158 = .ok (.iload_n 1, 1) := dk_27 (dk_at dksX3_readRule_6 20 rfl rfl)
theorem dX3_readRule_159 : decode cX3_readRule 159 = .ok (.imul, 1) := dk_104 (dk_at dksX3_readRule_6 21 rfl rfl)
theorem dX3_readRule_160 : decode cX3_readRule 160 = .ok (.iload 4, 2) := dk_21 4 (dk_at dksX3_readRule_6 22 rfl rfl)
theorem dX3_readRule_162 : decode cX3_readRule 162 = .ok (.iadd, 1) := dk_96 (dk_at dksX3_readRule_7 0 rfl rfl)
theorem dX3_readRule_163 : decode cX3_readRule 163 = .ok (.iload 5, 2) := dk_21 5 (dk_at dksX3_readRule_7 1 rfl rfl)
theorem dX3_readRule_165 : decode cX3_readRule 165 = .ok (.iastore, 1) := dk_79 (dk_at dksX3_readRule_7 3 rfl rfl)
theorem dX3_readRule_166 : decode cX3_readRule 166 = .ok (.goto 130, 3) := dk_167 0 130 (dk_at dksX3_readRule_7 4 rfl rfl)
theorem dX3_readRule_169 : decode cX3_readRule 169 = .ok (.lload_n 2, 1) := dk_32 (dk_at dksX3_readRule_7 7 rfl rfl)
theorem dX3_readRule_170 : decode cX3_readRule 170 = .ok (.ldc2_w 206, 3) := dk_20 0 206 (dk_at dksX3_readRule_7 8 rfl rfl)
theorem dX3_readRule_173 : decode cX3_readRule 173 = .ok (.lcmp, 1) := dk_148 (dk_at dksX3_readRule_7 11 rfl rfl)
theorem dX3_readRule_174 : decode cX3_readRule 174 = .ok (.ifCond .ne 11, 3) := dk_154 0 11 (dk_at dksX3_readRule_7 12 rfl rfl)
theorem dX3_readRule_177 : decode cX3_readRule 177 = .ok (.aload_n 0, 1) := dk_42 (dk_at dksX3_readRule_7 15 rfl rfl)
theorem dX3_readRule_178 : decode cX3_readRule 178 = .ok (.iload_n 1, 1) := dk_27 (dk_at dksX3_readRule_7 16 rfl rfl)
theorem dX3_readRule_179 : decode cX3_readRule 179 = .ok (.invokevirtual 231, 3) := dk_182 0 231 (dk_at dksX3_readRule_7 17 rfl rfl)
theorem dX3_readRule_182 : decode cX3_readRule 182 = .ok (.goto 114, 3) := dk_167 0 114 (dk_at dksX3_readRule_7 20 rfl rfl)
theorem dX3_readRule_185 : decode cX3_readRule 185 = .ok (.lload_n 2, 1) := dk_32 (dk_at dksX3_readRule_7 23 rfl rfl)
theorem dX3_readRule_186 : decode cX3_readRule 186 = .ok (.ldc2_w 208, 3) := dk_20 0 208 (dk_at dksX3_readRule_8 0 rfl rfl)
theorem dX3_readRule_189 : decode cX3_readRule 189 = .ok (.lcmp, 1) := dk_148 (dk_at dksX3_readRule_8 3 rfl rfl)
theorem dX3_readRule_190 : decode cX3_readRule 190 = .ok (.ifCond .ne 70, 3) := dk_154 0 70 (dk_at dksX3_readRule_8 4 rfl rfl)
theorem dX3_readRule_193 : decode cX3_readRule 193 = .ok (.aload_n 0, 1) := dk_42 (dk_at dksX3_readRule_8 7 rfl rfl)
theorem dX3_readRule_194 : decode cX3_readRule 194 = .ok (.bipush 60, 2) := dk_16 60 (dk_at dksX3_readRule_8 8 rfl rfl)
theorem dX3_readRule_196 : decode cX3_readRule 196 = .ok (.invokevirtual 228, 3) := dk_182 0 228 (dk_at dksX3_readRule_8 10 rfl rfl)
theorem dX3_readRule_199 : decode cX3_readRule 199 = .ok (.istore 4, 2) := dk_54 4 (dk_at dksX3_readRule_8 13 rfl rfl)
theorem dX3_readRule_201 : decode cX3_readRule 201 = .ok (.aload_n 0, 1) := dk_42 (dk_at dksX3_readRule_8 15 rfl rfl)
theorem dX3_readRule_202 : decode cX3_readRule 202 = .ok (.bipush 100, 2) := dk_16 100 (dk_at dksX3_readRule_8 16 rfl rfl)
theorem dX3_readRule_204 : decode cX3_readRule 204 = .ok (.invokevirtual 228, 3) := dk_182 0 228 (dk_at dksX3_readRule_8 18 rfl rfl)
theorem dX3_readRule_207 : decode cX3_readRule 207 = .ok (.istore 5, 2) := dk_54 5 (dk_at dksX3_readRule_8 21 rfl rfl)
theorem dX3_readRule_209 : decode cX3_readRule 209 = .ok (.aload_n 0, 1) := dk_42 (dk_at dksX3_readRule_8 23 rfl rfl)
theorem dX3_readRule_210 : decode cX3_readRule 210 = .ok (.getfield 16, 3) := dk_180 0 16 (dk_at dksX3_readRule_9 0 rfl rfl)
theorem dX3_readRule_213 : decode cX3_readRule 213 = .ok (.iload_n 1, 1) := dk_27 (dk_at dksX3_readRule_9 3 rfl rfl)
theorem dX3_readRule_214 : decode cX3_readRule 214 = .ok (.aload_n 0, 1) := dk_42 (dk_at dksX3_readRule_9 4 rfl rfl)
theorem dX3_readRule_215 : decode cX3_readRule 215 = .ok (.getfield 216, 3) := dk_180 0 216 (dk_at dksX3_readRule_9 5 rfl rfl)
theorem dX3_readRule_218 : decode cX3_readRule 218 = .ok (.ifCond .eq 8, 3) := dk_153 0 8 (dk_at dksX3_readRule_9 8 rfl rfl)
theorem dX3_readRule_221 : decode cX3_readRule 221 = .ok (.iload 4, 2) := dk_21 4 (dk_at dksX3_readRule_9 11 rfl rfl)
theorem dX3_readRule_223 : decode cX3_readRule 223 = .ok (.goto 9, 3) := dk_167 0 9 (dk_at dksX3_readRule_9 13 rfl rfl)
theorem dX3_readRule_226 : decode cX3_readRule 226 = .ok (.aload_n 0, 1) := dk_42 (dk_at dksX3_readRule_9 16 rfl rfl)
theorem dX3_readRule_227 : decode cX3_readRule 227 = .ok (.getfield 16, 3) := dk_180 0 16 (dk_at dksX3_readRule_9 17 rfl rfl)
theorem dX3_readRule_230 : decode cX3_readRule 230 = .ok (.iload_n 1, 1) := dk_27 (dk_at dksX3_readRule_9 20 rfl rfl)
theorem dX3_readRule_231 : decode cX3_readRule 231 = .ok (.iaload, 1) := dk_46 (dk_at dksX3_readRule_9 21 rfl rfl)
theorem dX3_readRule_232 : decode cX3_readRule 232 = .ok (.iastore, 1) := dk_79 (dk_at dksX3_readRule_9 22 rfl rfl)
theorem dX3_readRule_233 : decode cX3_readRule 233 = .ok (.aload_n 0, 1) := dk_42 (dk_at dksX3_readRule_9 23 rfl rfl)
theorem dX3_readRule_234 : decode cX3_readRule 234 = .ok (.getfield 19, 3) := dk_180 0 19 (dk_at dksX3_readRule_10 0 rfl rfl)
theorem dX3_readRule_237 : decode cX3_readRule 237 = .ok (.iload_n 1, 1) := dk_27 (dk_at dksX3_readRule_10 3 rfl rfl)
theorem dX3_readRule_238 : decode cX3_readRule 238 = .ok (.aload_n 0, 1) := dk_42 (dk_at dksX3_readRule_10 4 rfl rfl)
theorem dX3_readRule_239 : decode cX3_readRule 239 = .ok (.getfield 216, 3) := dk_180 0 216 (dk_at dksX3_readRule_10 5 rfl rfl)
theorem dX3_readRule_242 : decode cX3_readRule 242 = .ok (.ifCond .eq 8, 3) := dk_153 0 8 (dk_at dksX3_readRule_10 8 rfl rfl)
theorem dX3_readRule_245 : decode cX3_readRule 245 = .ok (.iload 5, 2) := dk_21 5 (dk_at dksX3_readRule_10 11 rfl rfl)
theorem dX3_readRule_247 : decode cX3_readRule 247 = .ok (.goto 9, 3) := dk_167 0 9 (dk_at dksX3_readRule_10 13 rfl rfl)
theorem dX3_readRule_250 : decode cX3_readRule 250 = .ok (.aload_n 0, 1) := dk_42 (dk_at dksX3_readRule_10 16 rfl rfl)
theorem dX3_readRule_251 : decode cX3_readRule 251 = .ok (.getfield 19, 3) := dk_180 0 19 (dk_at dksX3_readRule_10 17 rfl rfl)
theorem dX3_readRule_254 : decode cX3_readRule 254 = .ok (.iload_n 1, 1) := dk_27 (dk_at dksX3_readRule_10 20 rfl rfl)
theorem dX3_readRule_255 : decode cX3_readRule 255 = .ok (.iaload, 1) := dk_46 (dk_at dksX3_readRule_10 21 rfl rfl)
theorem dX3_readRule_256 : decode cX3_readRule 256 = .ok (.iastore, 1) := dk_79 (dk_at dksX3_readRule_10 22 rfl rfl)
theorem dX3_readRule_257 : decode cX3_readRule 257 = .ok (.goto 39, 3) := dk_167 0 39 (dk_at dksX3_readRule_11 0 rfl rfl)
theorem dX3_readRule_260 : decode cX3_readRule 260 = .ok (.aload_n 0, 1) := dk_42 (dk_at dksX3_readRule_11 3 rfl rfl)
theorem dX3_readRule_261 : decode cX3_readRule 261 = .ok (.iconst 1, 1) := dk_4 (dk_at dksX3_readRule_11 4 rfl rfl)
theorem dX3_readRule_262 : decode cX3_readRule 262 = .ok (.invokevirtual 228, 3) := dk_182 0 228 (dk_at dksX3_readRule_11 5 rfl rfl)
theorem dX3_readRule_265 : decode cX3_readRule 265 = .ok (.istore 4, 2) := dk_54 4 (dk_at dksX3_readRule_11 8 rfl rfl)
theorem dX3_readRule_267 : decode cX3_readRule 267 = .ok (.aload_n 0, 1) := dk_42 (dk_at dksX3_readRule_11 10 rfl rfl)
theorem dX3_readRule_268 : decode cX3_readRule 268 = .ok (.sipush 500, 3) := dk_17 1 244 (dk_at dksX3_readRule_11 11 rfl rfl)
theorem dX3_readRule_271 : decode cX3_readRule 271 = .ok (.invokevirtual 228, 3) := dk_182 0 228 (dk_at dksX3_readRule_11 14 rfl rfl)
theorem dX3_readRule_274 : decode cX3_readRule 274 = .ok (.istore 5, 2) := dk_54 5 (dk_at dksX3_readRule_11 17 rfl rfl)
theorem dX3_readRule_276 : decode cX3_readRule 276 = .ok (.aload_n 0, 1) := dk_42 (dk_at dksX3_readRule_11 19 rfl rfl)
theorem dX3_readRule_277 : decode cX3_readRule 277 = .ok (.getfield 216, 3) := dk_180 0 216 (dk_at dksX3_readRule_11 20 rfl rfl)
theorem dX3_readRule_280 : decode cX3_readRule 280 = .ok (.ifCond .eq 16, 3) := dk_153 0 16 (dk_at dksX3_readRule_12 0 rfl rfl)
theorem dX3_readRule_283 : decode cX3_readRule 283 = .ok (.aload_n 0, 1) := dk_42 (dk_at dksX3_readRule_12 3 rfl rfl)
theorem dX3_readRule_284 : decode cX3_readRule 284 = .ok (.getfield 22, 3) := dk_180 0 22 (dk_at dksX3_readRule_12 4 rfl rfl)
theorem dX3_readRule_287 : decode cX3_readRule 287 = .ok (.iconst 2, 1) := dk_5 (dk_at dksX3_readRule_12 7 rfl rfl)
theorem dX3_readRule_288 : decode cX3_readRule 288 = .ok (.iload_n 1, 1) := dk_27 (dk_at dksX3_readRule_12 8 rfl rfl)
theorem dX3_readRule_289 : decode cX3_readRule 289 = .ok (.imul, 1) := dk_104 (dk_at dksX3_readRule_12 9 rfl rfl)
theorem dX3_readRule_290 : decode cX3_readRule 290 = .ok (.iload 4, 2) := dk_21 4 (dk_at dksX3_readRule_12 10 rfl rfl)
theorem dX3_readRule_292 : decode cX3_readRule 292 = .ok (.iadd, 1) := dk_96 (dk_at dksX3_readRule_12 12 rfl rfl)
theorem dX3_readRule_293 : decode cX3_readRule 293 = .ok (.iload 5, 2) := dk_21 5 (dk_at dksX3_readRule_12 13 rfl rfl)
theorem dX3_readRule_295 : decode cX3_readRule 295 = .ok (.iastore, 1) := dk_79 (dk_at dksX3_readRule_12 15 rfl rfl)
theorem dX3_readRule_296 : decode cX3_readRule 296 = .ok (.aload_n 0, 1) := dk_42 (dk_at dksX3_readRule_12 16 rfl rfl)
theorem dX3_readRule_297 : decode cX3_readRule 297 = .ok (.dup, 1) := dk_89 (dk_at dksX3_readRule_12 17 rfl rfl)
theorem dX3_readRule_298 : decode cX3_readRule 298 = .ok (.getfield 234, 3) := dk_180 0 234 (dk_at dksX3_readRule_12 18 rfl rfl)
theorem dX3_readRule_301 : decode cX3_readRule 301 = .ok (.iconst 1, 1) := dk_4 (dk_at dksX3_readRule_12 21 rfl rfl)
theorem dX3_readRule_302 : decode cX3_readRule 302 = .ok (.iadd, 1) := dk_96 (dk_at dksX3_readRule_12 22 rfl rfl)
theorem dX3_readRule_303 : decode cX3_readRule 303 = .ok (.putfield 234, 3) := dk_181 0 234 (dk_at dksX3_readRule_13 0 rfl rfl)
theorem dX3_readRule_306 : decode cX3_readRule 306 = .ok (.return_, 1) := dk_177 (dk_at dksX3_readRule_13 3 rfl rfl)
abbrev cX3_isRule : ByteArray := prog_19_method_20_code
def yX3_isRule : MethodName := ⟨RX3, "isRule", "()Z"⟩
def dkwX3_isRule_2 : List UInt8 := [20, 0, 210, 148, 154, 0, 7, 4, 167, 0, 4, 3, 172]
abbrev dktX3_isRule_2 : List UInt8 := dkwX3_isRule_2 ++ []
def dkwX3_isRule_1 : List UInt8 := [20, 0, 204, 148, 153, 0, 27, 31, 20, 0, 206, 148, 153, 0, 19, 31, 20, 0, 208, 148, 153, 0, 11, 31]
abbrev dktX3_isRule_1 : List UInt8 := dkwX3_isRule_1 ++ dktX3_isRule_2
def dkwX3_isRule_0 : List UInt8 := [42, 182, 0, 186, 64, 31, 20, 0, 200, 148, 153, 0, 43, 31, 20, 0, 202, 148, 153, 0, 35, 31]
abbrev dktX3_isRule_0 : List UInt8 := dkwX3_isRule_0 ++ dktX3_isRule_1
theorem dksX3_isRule_0 : cX3_isRule.data.toList.drop 0 = dktX3_isRule_0 := by decide +kernel
theorem dksX3_isRule_1 : cX3_isRule.data.toList.drop 22 = dktX3_isRule_1 := dk_seg dksX3_isRule_0 22 rfl rfl
theorem dksX3_isRule_2 : cX3_isRule.data.toList.drop 46 = dktX3_isRule_2 := dk_seg dksX3_isRule_1 24 rfl rfl
theorem dX3_isRule_0 : decode cX3_isRule 0 = .ok (.aload_n 0, 1) := dk_42 (dk_at dksX3_isRule_0 0 rfl rfl)
theorem dX3_isRule_1 : decode cX3_isRule 1 = .ok (.invokevirtual 186, 3) := dk_182 0 186 (dk_at dksX3_isRule_0 1 rfl rfl)
theorem dX3_isRule_4 : decode cX3_isRule 4 = .ok (.lstore_n 1, 1) := dk_64 (dk_at dksX3_isRule_0 4 rfl rfl)
theorem dX3_isRule_5 : decode cX3_isRule 5 = .ok (.lload_n 1, 1) := dk_31 (dk_at dksX3_isRule_0 5 rfl rfl)
theorem dX3_isRule_6 : decode cX3_isRule 6 = .ok (.ldc2_w 200, 3) := dk_20 0 200 (dk_at dksX3_isRule_0 6 rfl rfl)
theorem dX3_isRule_9 : decode cX3_isRule 9 = .ok (.lcmp, 1) := dk_148 (dk_at dksX3_isRule_0 9 rfl rfl)
theorem dX3_isRule_10 : decode cX3_isRule 10 = .ok (.ifCond .eq 43, 3) := dk_153 0 43 (dk_at dksX3_isRule_0 10 rfl rfl)
theorem dX3_isRule_13 : decode cX3_isRule 13 = .ok (.lload_n 1, 1) := dk_31 (dk_at dksX3_isRule_0 13 rfl rfl)
theorem dX3_isRule_14 : decode cX3_isRule 14 = .ok (.ldc2_w 202, 3) := dk_20 0 202 (dk_at dksX3_isRule_0 14 rfl rfl)
theorem dX3_isRule_17 : decode cX3_isRule 17 = .ok (.lcmp, 1) := dk_148 (dk_at dksX3_isRule_0 17 rfl rfl)
theorem dX3_isRule_18 : decode cX3_isRule 18 = .ok (.ifCond .eq 35, 3) := dk_153 0 35 (dk_at dksX3_isRule_0 18 rfl rfl)
theorem dX3_isRule_21 : decode cX3_isRule 21 = .ok (.lload_n 1, 1) := dk_31 (dk_at dksX3_isRule_0 21 rfl rfl)
theorem dX3_isRule_22 : decode cX3_isRule 22 = .ok (.ldc2_w 204, 3) := dk_20 0 204 (dk_at dksX3_isRule_1 0 rfl rfl)
theorem dX3_isRule_25 : decode cX3_isRule 25 = .ok (.lcmp, 1) := dk_148 (dk_at dksX3_isRule_1 3 rfl rfl)
theorem dX3_isRule_26 : decode cX3_isRule 26 = .ok (.ifCond .eq 27, 3) := dk_153 0 27 (dk_at dksX3_isRule_1 4 rfl rfl)
theorem dX3_isRule_29 : decode cX3_isRule 29 = .ok (.lload_n 1, 1) := dk_31 (dk_at dksX3_isRule_1 7 rfl rfl)
theorem dX3_isRule_30 : decode cX3_isRule 30 = .ok (.ldc2_w 206, 3) := dk_20 0 206 (dk_at dksX3_isRule_1 8 rfl rfl)
theorem dX3_isRule_33 : decode cX3_isRule 33 = .ok (.lcmp, 1) := dk_148 (dk_at dksX3_isRule_1 11 rfl rfl)
theorem dX3_isRule_34 : decode cX3_isRule 34 = .ok (.ifCond .eq 19, 3) := dk_153 0 19 (dk_at dksX3_isRule_1 12 rfl rfl)
theorem dX3_isRule_37 : decode cX3_isRule 37 = .ok (.lload_n 1, 1) := dk_31 (dk_at dksX3_isRule_1 15 rfl rfl)
theorem dX3_isRule_38 : decode cX3_isRule 38 = .ok (.ldc2_w 208, 3) := dk_20 0 208 (dk_at dksX3_isRule_1 16 rfl rfl)
theorem dX3_isRule_41 : decode cX3_isRule 41 = .ok (.lcmp, 1) := dk_148 (dk_at dksX3_isRule_1 19 rfl rfl)
theorem dX3_isRule_42 : decode cX3_isRule 42 = .ok (.ifCond .eq 11, 3) := dk_153 0 11 (dk_at dksX3_isRule_1 20 rfl rfl)
theorem dX3_isRule_45 : decode cX3_isRule 45 = .ok (.lload_n 1, 1) := dk_31 (dk_at dksX3_isRule_1 23 rfl rfl)
theorem dX3_isRule_46 : decode cX3_isRule 46 = .ok (.ldc2_w 210, 3) := dk_20 0 210 (dk_at dksX3_isRule_2 0 rfl rfl)
theorem dX3_isRule_49 : decode cX3_isRule 49 = .ok (.lcmp, 1) := dk_148 (dk_at dksX3_isRule_2 3 rfl rfl)
theorem dX3_isRule_50 : decode cX3_isRule 50 = .ok (.ifCond .ne 7, 3) := dk_154 0 7 (dk_at dksX3_isRule_2 4 rfl rfl)
theorem dX3_isRule_53 : decode cX3_isRule 53 = .ok (.iconst 1, 1) := dk_4 (dk_at dksX3_isRule_2 7 rfl rfl)
theorem dX3_isRule_54 : decode cX3_isRule 54 = .ok (.goto 4, 3) := dk_167 0 4 (dk_at dksX3_isRule_2 8 rfl rfl)
theorem dX3_isRule_57 : decode cX3_isRule 57 = .ok (.iconst 0, 1) := dk_3 (dk_at dksX3_isRule_2 11 rfl rfl)
theorem dX3_isRule_58 : decode cX3_isRule 58 = .ok (.ireturn, 1) := dk_172 (dk_at dksX3_isRule_2 12 rfl rfl)
abbrev cX3_useOfWord : ByteArray := prog_19_method_19_code
def yX3_useOfWord : MethodName := ⟨RX3, "useOfWord", "()I"⟩
def dkwX3_useOfWord_2 : List UInt8 := [154, 0, 7, 6, 167, 0, 17, 31, 20, 0, 198, 148, 154, 0, 7, 7, 167, 0, 5, 18, 147, 172]
abbrev dktX3_useOfWord_2 : List UInt8 := dkwX3_useOfWord_2 ++ []
def dkwX3_useOfWord_1 : List UInt8 := [154, 0, 7, 4, 167, 0, 41, 31, 20, 0, 194, 148, 154, 0, 7, 5, 167, 0, 29, 31, 20, 0, 196, 148]
abbrev dktX3_useOfWord_1 : List UInt8 := dkwX3_useOfWord_1 ++ dktX3_useOfWord_2
def dkwX3_useOfWord_0 : List UInt8 := [42, 182, 0, 186, 64, 31, 20, 0, 190, 148, 154, 0, 7, 3, 167, 0, 53, 31, 20, 0, 192, 148]
abbrev dktX3_useOfWord_0 : List UInt8 := dkwX3_useOfWord_0 ++ dktX3_useOfWord_1
theorem dksX3_useOfWord_0 : cX3_useOfWord.data.toList.drop 0 = dktX3_useOfWord_0 := by decide +kernel
theorem dksX3_useOfWord_1 : cX3_useOfWord.data.toList.drop 22 = dktX3_useOfWord_1 := dk_seg dksX3_useOfWord_0 22 rfl rfl
theorem dksX3_useOfWord_2 : cX3_useOfWord.data.toList.drop 46 = dktX3_useOfWord_2 := dk_seg dksX3_useOfWord_1 24 rfl rfl
theorem dX3_useOfWord_0 : decode cX3_useOfWord 0 = .ok (.aload_n 0, 1) := dk_42 (dk_at dksX3_useOfWord_0 0 rfl rfl)
theorem dX3_useOfWord_1 : decode cX3_useOfWord 1 = .ok (.invokevirtual 186, 3) := dk_182 0 186 (dk_at dksX3_useOfWord_0 1 rfl rfl)
theorem dX3_useOfWord_4 : decode cX3_useOfWord 4 = .ok (.lstore_n 1, 1) := dk_64 (dk_at dksX3_useOfWord_0 4 rfl rfl)
theorem dX3_useOfWord_5 : decode cX3_useOfWord 5 = .ok (.lload_n 1, 1) := dk_31 (dk_at dksX3_useOfWord_0 5 rfl rfl)
theorem dX3_useOfWord_6 : decode cX3_useOfWord 6 = .ok (.ldc2_w 190, 3) := dk_20 0 190 (dk_at dksX3_useOfWord_0 6 rfl rfl)
theorem dX3_useOfWord_9 : decode cX3_useOfWord 9 = .ok (.lcmp, 1) := dk_148 (dk_at dksX3_useOfWord_0 9 rfl rfl)
theorem dX3_useOfWord_10 : decode cX3_useOfWord 10 = .ok (.ifCond .ne 7, 3) := dk_154 0 7 (dk_at dksX3_useOfWord_0 10 rfl rfl)
theorem dX3_useOfWord_13 : decode cX3_useOfWord 13 = .ok (.iconst 0, 1) := dk_3 (dk_at dksX3_useOfWord_0 13 rfl rfl)
theorem dX3_useOfWord_14 : decode cX3_useOfWord 14 = .ok (.goto 53, 3) := dk_167 0 53 (dk_at dksX3_useOfWord_0 14 rfl rfl)
theorem dX3_useOfWord_17 : decode cX3_useOfWord 17 = .ok (.lload_n 1, 1) := dk_31 (dk_at dksX3_useOfWord_0 17 rfl rfl)
theorem dX3_useOfWord_18 : decode cX3_useOfWord 18 = .ok (.ldc2_w 192, 3) := dk_20 0 192 (dk_at dksX3_useOfWord_0 18 rfl rfl)
theorem dX3_useOfWord_21 : decode cX3_useOfWord 21 = .ok (.lcmp, 1) := dk_148 (dk_at dksX3_useOfWord_0 21 rfl rfl)
theorem dX3_useOfWord_22 : decode cX3_useOfWord 22 = .ok (.ifCond .ne 7, 3) := dk_154 0 7 (dk_at dksX3_useOfWord_1 0 rfl rfl)
theorem dX3_useOfWord_25 : decode cX3_useOfWord 25 = .ok (.iconst 1, 1) := dk_4 (dk_at dksX3_useOfWord_1 3 rfl rfl)
theorem dX3_useOfWord_26 : decode cX3_useOfWord 26 = .ok (.goto 41, 3) := dk_167 0 41 (dk_at dksX3_useOfWord_1 4 rfl rfl)
theorem dX3_useOfWord_29 : decode cX3_useOfWord 29 = .ok (.lload_n 1, 1) := dk_31 (dk_at dksX3_useOfWord_1 7 rfl rfl)
theorem dX3_useOfWord_30 : decode cX3_useOfWord 30 = .ok (.ldc2_w 194, 3) := dk_20 0 194 (dk_at dksX3_useOfWord_1 8 rfl rfl)
theorem dX3_useOfWord_33 : decode cX3_useOfWord 33 = .ok (.lcmp, 1) := dk_148 (dk_at dksX3_useOfWord_1 11 rfl rfl)
theorem dX3_useOfWord_34 : decode cX3_useOfWord 34 = .ok (.ifCond .ne 7, 3) := dk_154 0 7 (dk_at dksX3_useOfWord_1 12 rfl rfl)
theorem dX3_useOfWord_37 : decode cX3_useOfWord 37 = .ok (.iconst 2, 1) := dk_5 (dk_at dksX3_useOfWord_1 15 rfl rfl)
theorem dX3_useOfWord_38 : decode cX3_useOfWord 38 = .ok (.goto 29, 3) := dk_167 0 29 (dk_at dksX3_useOfWord_1 16 rfl rfl)
theorem dX3_useOfWord_41 : decode cX3_useOfWord 41 = .ok (.lload_n 1, 1) := dk_31 (dk_at dksX3_useOfWord_1 19 rfl rfl)
theorem dX3_useOfWord_42 : decode cX3_useOfWord 42 = .ok (.ldc2_w 196, 3) := dk_20 0 196 (dk_at dksX3_useOfWord_1 20 rfl rfl)
theorem dX3_useOfWord_45 : decode cX3_useOfWord 45 = .ok (.lcmp, 1) := dk_148 (dk_at dksX3_useOfWord_1 23 rfl rfl)
theorem dX3_useOfWord_46 : decode cX3_useOfWord 46 = .ok (.ifCond .ne 7, 3) := dk_154 0 7 (dk_at dksX3_useOfWord_2 0 rfl rfl)
theorem dX3_useOfWord_49 : decode cX3_useOfWord 49 = .ok (.iconst 3, 1) := dk_6 (dk_at dksX3_useOfWord_2 3 rfl rfl)
theorem dX3_useOfWord_50 : decode cX3_useOfWord 50 = .ok (.goto 17, 3) := dk_167 0 17 (dk_at dksX3_useOfWord_2 4 rfl rfl)
theorem dX3_useOfWord_53 : decode cX3_useOfWord 53 = .ok (.lload_n 1, 1) := dk_31 (dk_at dksX3_useOfWord_2 7 rfl rfl)
theorem dX3_useOfWord_54 : decode cX3_useOfWord 54 = .ok (.ldc2_w 198, 3) := dk_20 0 198 (dk_at dksX3_useOfWord_2 8 rfl rfl)
theorem dX3_useOfWord_57 : decode cX3_useOfWord 57 = .ok (.lcmp, 1) := dk_148 (dk_at dksX3_useOfWord_2 11 rfl rfl)
theorem dX3_useOfWord_58 : decode cX3_useOfWord 58 = .ok (.ifCond .ne 7, 3) := dk_154 0 7 (dk_at dksX3_useOfWord_2 12 rfl rfl)
theorem dX3_useOfWord_61 : decode cX3_useOfWord 61 = .ok (.iconst 4, 1) := dk_7 (dk_at dksX3_useOfWord_2 15 rfl rfl)
theorem dX3_useOfWord_62 : decode cX3_useOfWord 62 = .ok (.goto 5, 3) := dk_167 0 5 (dk_at dksX3_useOfWord_2 16 rfl rfl)
theorem dX3_useOfWord_65 : decode cX3_useOfWord 65 = .ok (.ldc 147, 2) := dk_18 147 (dk_at dksX3_useOfWord_2 19 rfl rfl)
theorem dX3_useOfWord_67 : decode cX3_useOfWord 67 = .ok (.ireturn, 1) := dk_172 (dk_at dksX3_useOfWord_2 21 rfl rfl)
abbrev cX3_readFirst : ByteArray := prog_19_method_22_code
def yX3_readFirst : MethodName := ⟨RX3, "readFirst", "(I)V"⟩
def dkwX3_readFirst_4 : List UInt8 := [154, 0, 16, 42, 182, 0, 212, 18, 147, 159, 0, 7, 4, 167, 0, 4, 3, 54, 4, 167, 255, 152, 177]
abbrev dktX3_readFirst_4 : List UInt8 := dkwX3_readFirst_4 ++ []
def dkwX3_readFirst_3 : List UInt8 := [61, 42, 180, 0, 216, 153, 0, 11, 42, 27, 21, 5, 29, 182, 0, 220, 132, 3, 1, 42, 180, 0, 169]
abbrev dktX3_readFirst_3 : List UInt8 := dkwX3_readFirst_3 ++ dktX3_readFirst_4
def dkwX3_readFirst_2 : List UInt8 := [159, 0, 7, 4, 167, 0, 4, 3, 182, 0, 182, 42, 180, 0, 169, 154, 0, 28, 28, 4, 21, 5, 120, 128]
abbrev dktX3_readFirst_2 : List UInt8 := dkwX3_readFirst_2 ++ dktX3_readFirst_3
def dkwX3_readFirst_1 : List UInt8 := [159, 0, 18, 28, 21, 5, 122, 4, 126, 4, 160, 0, 8, 42, 6, 182, 0, 175, 42, 21, 5, 18, 147]
abbrev dktX3_readFirst_1 : List UInt8 := dkwX3_readFirst_1 ++ dktX3_readFirst_2
def dkwX3_readFirst_0 : List UInt8 := [3, 61, 3, 62, 4, 54, 4, 21, 4, 153, 0, 105, 42, 182, 0, 212, 54, 5, 21, 5, 18, 147]
abbrev dktX3_readFirst_0 : List UInt8 := dkwX3_readFirst_0 ++ dktX3_readFirst_1
theorem dksX3_readFirst_0 : cX3_readFirst.data.toList.drop 0 = dktX3_readFirst_0 := by decide +kernel
theorem dksX3_readFirst_1 : cX3_readFirst.data.toList.drop 22 = dktX3_readFirst_1 := dk_seg dksX3_readFirst_0 22 rfl rfl
theorem dksX3_readFirst_2 : cX3_readFirst.data.toList.drop 45 = dktX3_readFirst_2 := dk_seg dksX3_readFirst_1 23 rfl rfl
theorem dksX3_readFirst_3 : cX3_readFirst.data.toList.drop 69 = dktX3_readFirst_3 := dk_seg dksX3_readFirst_2 24 rfl rfl
theorem dksX3_readFirst_4 : cX3_readFirst.data.toList.drop 92 = dktX3_readFirst_4 := dk_seg dksX3_readFirst_3 23 rfl rfl
theorem dX3_readFirst_0 : decode cX3_readFirst 0 = .ok (.iconst 0, 1) := dk_3 (dk_at dksX3_readFirst_0 0 rfl rfl)
theorem dX3_readFirst_1 : decode cX3_readFirst 1 = .ok (.istore_n 2, 1) := dk_61 (dk_at dksX3_readFirst_0 1 rfl rfl)
theorem dX3_readFirst_2 : decode cX3_readFirst 2 = .ok (.iconst 0, 1) := dk_3 (dk_at dksX3_readFirst_0 2 rfl rfl)
theorem dX3_readFirst_3 : decode cX3_readFirst 3 = .ok (.istore_n 3, 1) := dk_62 (dk_at dksX3_readFirst_0 3 rfl rfl)
theorem dX3_readFirst_4 : decode cX3_readFirst 4 = .ok (.iconst 1, 1) := dk_4 (dk_at dksX3_readFirst_0 4 rfl rfl)
theorem dX3_readFirst_5 : decode cX3_readFirst 5 = .ok (.istore 4, 2) := dk_54 4 (dk_at dksX3_readFirst_0 5 rfl rfl)
theorem dX3_readFirst_7 : decode cX3_readFirst 7 = .ok (.iload 4, 2) := dk_21 4 (dk_at dksX3_readFirst_0 7 rfl rfl)
theorem dX3_readFirst_9 : decode cX3_readFirst 9 = .ok (.ifCond .eq 105, 3) := dk_153 0 105 (dk_at dksX3_readFirst_0 9 rfl rfl)
theorem dX3_readFirst_12 : decode cX3_readFirst 12 = .ok (.aload_n 0, 1) := dk_42 (dk_at dksX3_readFirst_0 12 rfl rfl)
theorem dX3_readFirst_13 : decode cX3_readFirst 13 = .ok (.invokevirtual 212, 3) := dk_182 0 212 (dk_at dksX3_readFirst_0 13 rfl rfl)
theorem dX3_readFirst_16 : decode cX3_readFirst 16 = .ok (.istore 5, 2) := dk_54 5 (dk_at dksX3_readFirst_0 16 rfl rfl)
theorem dX3_readFirst_18 : decode cX3_readFirst 18 = .ok (.iload 5, 2) := dk_21 5 (dk_at dksX3_readFirst_0 18 rfl rfl)
theorem dX3_readFirst_20 : decode cX3_readFirst 20 = .ok (.ldc 147, 2) := dk_18 147 (dk_at dksX3_readFirst_0 20 rfl rfl)
theorem dX3_readFirst_22 : decode cX3_readFirst 22 = .ok (.if_icmp .eq 18, 3) := dk_159 0 18 (dk_at dksX3_readFirst_1 0 rfl rfl)
theorem dX3_readFirst_25 : decode cX3_readFirst 25 = .ok (.iload_n 2, 1) := dk_28 (dk_at dksX3_readFirst_1 3 rfl rfl)
theorem dX3_readFirst_26 : decode cX3_readFirst 26 = .ok (.iload 5, 2) := dk_21 5 (dk_at dksX3_readFirst_1 4 rfl rfl)
theorem dX3_readFirst_28 : decode cX3_readFirst 28 = .ok (.ishr, 1) := dk_122 (dk_at dksX3_readFirst_1 6 rfl rfl)
theorem dX3_readFirst_29 : decode cX3_readFirst 29 = .ok (.iconst 1, 1) := dk_4 (dk_at dksX3_readFirst_1 7 rfl rfl)
theorem dX3_readFirst_30 : decode cX3_readFirst 30 = .ok (.iand, 1) := dk_126 (dk_at dksX3_readFirst_1 8 rfl rfl)
theorem dX3_readFirst_31 : decode cX3_readFirst 31 = .ok (.iconst 1, 1) := dk_4 (dk_at dksX3_readFirst_1 9 rfl rfl)
theorem dX3_readFirst_32 : decode cX3_readFirst 32 = .ok (.if_icmp .ne 8, 3) := dk_160 0 8 (dk_at dksX3_readFirst_1 10 rfl rfl)
theorem dX3_readFirst_35 : decode cX3_readFirst 35 = .ok (.aload_n 0, 1) := dk_42 (dk_at dksX3_readFirst_1 13 rfl rfl)
theorem dX3_readFirst_36 : decode cX3_readFirst 36 = .ok (.iconst 3, 1) := dk_6 (dk_at dksX3_readFirst_1 14 rfl rfl)
theorem dX3_readFirst_37 : decode cX3_readFirst 37 = .ok (.invokevirtual 175, 3) := dk_182 0 175 (dk_at dksX3_readFirst_1 15 rfl rfl)
theorem dX3_readFirst_40 : decode cX3_readFirst 40 = .ok (.aload_n 0, 1) := dk_42 (dk_at dksX3_readFirst_1 18 rfl rfl)
theorem dX3_readFirst_41 : decode cX3_readFirst 41 = .ok (.iload 5, 2) := dk_21 5 (dk_at dksX3_readFirst_1 19 rfl rfl)
theorem dX3_readFirst_43 : decode cX3_readFirst 43 = .ok (.ldc 147, 2) := dk_18 147 (dk_at dksX3_readFirst_1 21 rfl rfl)
theorem dX3_readFirst_45 : decode cX3_readFirst 45 = .ok (.if_icmp .eq 7, 3) := dk_159 0 7 (dk_at dksX3_readFirst_2 0 rfl rfl)
theorem dX3_readFirst_48 : decode cX3_readFirst 48 = .ok (.iconst 1, 1) := dk_4 (dk_at dksX3_readFirst_2 3 rfl rfl)
theorem dX3_readFirst_49 : decode cX3_readFirst 49 = .ok (.goto 4, 3) := dk_167 0 4 (dk_at dksX3_readFirst_2 4 rfl rfl)
theorem dX3_readFirst_52 : decode cX3_readFirst 52 = .ok (.iconst 0, 1) := dk_3 (dk_at dksX3_readFirst_2 7 rfl rfl)
theorem dX3_readFirst_53 : decode cX3_readFirst 53 = .ok (.invokevirtual 182, 3) := dk_182 0 182 (dk_at dksX3_readFirst_2 8 rfl rfl)
theorem dX3_readFirst_56 : decode cX3_readFirst 56 = .ok (.aload_n 0, 1) := dk_42 (dk_at dksX3_readFirst_2 11 rfl rfl)
theorem dX3_readFirst_57 : decode cX3_readFirst 57 = .ok (.getfield 169, 3) := dk_180 0 169 (dk_at dksX3_readFirst_2 12 rfl rfl)
theorem dX3_readFirst_60 : decode cX3_readFirst 60 = .ok (.ifCond .ne 28, 3) := dk_154 0 28 (dk_at dksX3_readFirst_2 15 rfl rfl)
theorem dX3_readFirst_63 : decode cX3_readFirst 63 = .ok (.iload_n 2, 1) := dk_28 (dk_at dksX3_readFirst_2 18 rfl rfl)
theorem dX3_readFirst_64 : decode cX3_readFirst 64 = .ok (.iconst 1, 1) := dk_4 (dk_at dksX3_readFirst_2 19 rfl rfl)
theorem dX3_readFirst_65 : decode cX3_readFirst 65 = .ok (.iload 5, 2) := dk_21 5 (dk_at dksX3_readFirst_2 20 rfl rfl)
theorem dX3_readFirst_67 : decode cX3_readFirst 67 = .ok (.ishl, 1) := dk_120 (dk_at dksX3_readFirst_2 22 rfl rfl)
theorem dX3_readFirst_68 : decode cX3_readFirst 68 = .ok (.ior, 1) := dk_128 (dk_at dksX3_readFirst_2 23 rfl rfl)
theorem dX3_readFirst_69 : decode cX3_readFirst 69 = .ok (.istore_n 2, 1) := dk_61 (dk_at dksX3_readFirst_3 0 rfl rfl)
theorem dX3_readFirst_70 : decode cX3_readFirst 70 = .ok (.aload_n 0, 1) := dk_42 (dk_at dksX3_readFirst_3 1 rfl rfl)
theorem dX3_readFirst_71 : decode cX3_readFirst 71 = .ok (.getfield 216, 3) := dk_180 0 216 (dk_at dksX3_readFirst_3 2 rfl rfl)
theorem dX3_readFirst_74 : decode cX3_readFirst 74 = .ok (.ifCond .eq 11, 3) := dk_153 0 11 (dk_at dksX3_readFirst_3 5 rfl rfl)
theorem dX3_readFirst_77 : decode cX3_readFirst 77 = .ok (.aload_n 0, 1) := dk_42 (dk_at dksX3_readFirst_3 8 rfl rfl)
theorem dX3_readFirst_78 : decode cX3_readFirst 78 = .ok (.iload_n 1, 1) := dk_27 (dk_at dksX3_readFirst_3 9 rfl rfl)
theorem dX3_readFirst_79 : decode cX3_readFirst 79 = .ok (.iload 5, 2) := dk_21 5 (dk_at dksX3_readFirst_3 10 rfl rfl)
theorem dX3_readFirst_81 : decode cX3_readFirst 81 = .ok (.iload_n 3, 1) := dk_29 (dk_at dksX3_readFirst_3 12 rfl rfl)
theorem dX3_readFirst_82 : decode cX3_readFirst 82 = .ok (.invokevirtual 220, 3) := dk_182 0 220 (dk_at dksX3_readFirst_3 13 rfl rfl)
theorem dX3_readFirst_85 : decode cX3_readFirst 85 = .ok (.iinc 3 1, 3) := dk_132 3 1 (dk_at dksX3_readFirst_3 16 rfl rfl)
theorem dX3_readFirst_88 : decode cX3_readFirst 88 = .ok (.aload_n 0, 1) := dk_42 (dk_at dksX3_readFirst_3 19 rfl rfl)
theorem dX3_readFirst_89 : decode cX3_readFirst 89 = .ok (.getfield 169, 3) := dk_180 0 169 (dk_at dksX3_readFirst_3 20 rfl rfl)
theorem dX3_readFirst_92 : decode cX3_readFirst 92 = .ok (.ifCond .ne 16, 3) := dk_154 0 16 (dk_at dksX3_readFirst_4 0 rfl rfl)
theorem dX3_readFirst_95 : decode cX3_readFirst 95 = .ok (.aload_n 0, 1) := dk_42 (dk_at dksX3_readFirst_4 3 rfl rfl)
theorem dX3_readFirst_96 : decode cX3_readFirst 96 = .ok (.invokevirtual 212, 3) := dk_182 0 212 (dk_at dksX3_readFirst_4 4 rfl rfl)
theorem dX3_readFirst_99 : decode cX3_readFirst 99 = .ok (.ldc 147, 2) := dk_18 147 (dk_at dksX3_readFirst_4 7 rfl rfl)
theorem dX3_readFirst_101 : decode cX3_readFirst 101 = .ok (.if_icmp .eq 7, 3) := dk_159 0 7 (dk_at dksX3_readFirst_4 9 rfl rfl)
theorem dX3_readFirst_104 : decode cX3_readFirst 104 = .ok (.iconst 1, 1) := dk_4 (dk_at dksX3_readFirst_4 12 rfl rfl)
theorem dX3_readFirst_105 : decode cX3_readFirst 105 = .ok (.goto 4, 3) := dk_167 0 4 (dk_at dksX3_readFirst_4 13 rfl rfl)
theorem dX3_readFirst_108 : decode cX3_readFirst 108 = .ok (.iconst 0, 1) := dk_3 (dk_at dksX3_readFirst_4 16 rfl rfl)
theorem dX3_readFirst_109 : decode cX3_readFirst 109 = .ok (.istore 4, 2) := dk_54 4 (dk_at dksX3_readFirst_4 17 rfl rfl)
theorem dX3_readFirst_111 : decode cX3_readFirst 111 = .ok (.goto (-104), 3) := dk_167 255 152 (dk_at dksX3_readFirst_4 19 rfl rfl)
theorem dX3_readFirst_114 : decode cX3_readFirst 114 = .ok (.return_, 1) := dk_177 (dk_at dksX3_readFirst_4 22 rfl rfl)
abbrev cX3_rankUp : ByteArray := prog_19_method_21_code
def yX3_rankUp : MethodName := ⟨RX3, "rankUp", "(III)V"⟩
def dkwX3_rankUp_3 : List UInt8 := [96, 167, 0, 5, 21, 6, 79, 132, 5, 1, 167, 255, 191, 177]
abbrev dktX3_rankUp_3 : List UInt8 := dkwX3_rankUp_3 ++ []
def dkwX3_rankUp_2 : List UInt8 := [28, 160, 0, 7, 29, 167, 0, 25, 21, 6, 29, 161, 0, 17, 21, 6, 21, 4, 162, 0, 10, 21, 6, 4]
abbrev dktX3_rankUp_2 : List UInt8 := dkwX3_rankUp_2 ++ dktX3_rankUp_3
def dkwX3_rankUp_1 : List UInt8 := [180, 0, 28, 8, 27, 104, 21, 5, 96, 46, 54, 6, 42, 180, 0, 28, 8, 27, 104, 21, 5, 96, 21, 5]
abbrev dktX3_rankUp_1 : List UInt8 := dkwX3_rankUp_1 ++ dktX3_rankUp_2
def dkwX3_rankUp_0 : List UInt8 := [42, 180, 0, 28, 8, 27, 104, 28, 96, 46, 54, 4, 3, 54, 5, 21, 5, 8, 162, 0, 65, 42]
abbrev dktX3_rankUp_0 : List UInt8 := dkwX3_rankUp_0 ++ dktX3_rankUp_1
theorem dksX3_rankUp_0 : cX3_rankUp.data.toList.drop 0 = dktX3_rankUp_0 := by decide +kernel
theorem dksX3_rankUp_1 : cX3_rankUp.data.toList.drop 22 = dktX3_rankUp_1 := dk_seg dksX3_rankUp_0 22 rfl rfl
theorem dksX3_rankUp_2 : cX3_rankUp.data.toList.drop 46 = dktX3_rankUp_2 := dk_seg dksX3_rankUp_1 24 rfl rfl
theorem dksX3_rankUp_3 : cX3_rankUp.data.toList.drop 70 = dktX3_rankUp_3 := dk_seg dksX3_rankUp_2 24 rfl rfl
theorem dX3_rankUp_0 : decode cX3_rankUp 0 = .ok (.aload_n 0, 1) := dk_42 (dk_at dksX3_rankUp_0 0 rfl rfl)
theorem dX3_rankUp_1 : decode cX3_rankUp 1 = .ok (.getfield 28, 3) := dk_180 0 28 (dk_at dksX3_rankUp_0 1 rfl rfl)
theorem dX3_rankUp_4 : decode cX3_rankUp 4 = .ok (.iconst 5, 1) := dk_8 (dk_at dksX3_rankUp_0 4 rfl rfl)
theorem dX3_rankUp_5 : decode cX3_rankUp 5 = .ok (.iload_n 1, 1) := dk_27 (dk_at dksX3_rankUp_0 5 rfl rfl)
theorem dX3_rankUp_6 : decode cX3_rankUp 6 = .ok (.imul, 1) := dk_104 (dk_at dksX3_rankUp_0 6 rfl rfl)
theorem dX3_rankUp_7 : decode cX3_rankUp 7 = .ok (.iload_n 2, 1) := dk_28 (dk_at dksX3_rankUp_0 7 rfl rfl)
theorem dX3_rankUp_8 : decode cX3_rankUp 8 = .ok (.iadd, 1) := dk_96 (dk_at dksX3_rankUp_0 8 rfl rfl)
theorem dX3_rankUp_9 : decode cX3_rankUp 9 = .ok (.iaload, 1) := dk_46 (dk_at dksX3_rankUp_0 9 rfl rfl)
theorem dX3_rankUp_10 : decode cX3_rankUp 10 = .ok (.istore 4, 2) := dk_54 4 (dk_at dksX3_rankUp_0 10 rfl rfl)
theorem dX3_rankUp_12 : decode cX3_rankUp 12 = .ok (.iconst 0, 1) := dk_3 (dk_at dksX3_rankUp_0 12 rfl rfl)
theorem dX3_rankUp_13 : decode cX3_rankUp 13 = .ok (.istore 5, 2) := dk_54 5 (dk_at dksX3_rankUp_0 13 rfl rfl)
theorem dX3_rankUp_15 : decode cX3_rankUp 15 = .ok (.iload 5, 2) := dk_21 5 (dk_at dksX3_rankUp_0 15 rfl rfl)
theorem dX3_rankUp_17 : decode cX3_rankUp 17 = .ok (.iconst 5, 1) := dk_8 (dk_at dksX3_rankUp_0 17 rfl rfl)
theorem dX3_rankUp_18 : decode cX3_rankUp 18 = .ok (.if_icmp .ge 65, 3) := dk_162 0 65 (dk_at dksX3_rankUp_0 18 rfl rfl)
theorem dX3_rankUp_21 : decode cX3_rankUp 21 = .ok (.aload_n 0, 1) := dk_42 (dk_at dksX3_rankUp_0 21 rfl rfl)
theorem dX3_rankUp_22 : decode cX3_rankUp 22 = .ok (.getfield 28, 3) := dk_180 0 28 (dk_at dksX3_rankUp_1 0 rfl rfl)
theorem dX3_rankUp_25 : decode cX3_rankUp 25 = .ok (.iconst 5, 1) := dk_8 (dk_at dksX3_rankUp_1 3 rfl rfl)
theorem dX3_rankUp_26 : decode cX3_rankUp 26 = .ok (.iload_n 1, 1) := dk_27 (dk_at dksX3_rankUp_1 4 rfl rfl)
theorem dX3_rankUp_27 : decode cX3_rankUp 27 = .ok (.imul, 1) := dk_104 (dk_at dksX3_rankUp_1 5 rfl rfl)
theorem dX3_rankUp_28 : decode cX3_rankUp 28 = .ok (.iload 5, 2) := dk_21 5 (dk_at dksX3_rankUp_1 6 rfl rfl)
theorem dX3_rankUp_30 : decode cX3_rankUp 30 = .ok (.iadd, 1) := dk_96 (dk_at dksX3_rankUp_1 8 rfl rfl)
theorem dX3_rankUp_31 : decode cX3_rankUp 31 = .ok (.iaload, 1) := dk_46 (dk_at dksX3_rankUp_1 9 rfl rfl)
theorem dX3_rankUp_32 : decode cX3_rankUp 32 = .ok (.istore 6, 2) := dk_54 6 (dk_at dksX3_rankUp_1 10 rfl rfl)
theorem dX3_rankUp_34 : decode cX3_rankUp 34 = .ok (.aload_n 0, 1) := dk_42 (dk_at dksX3_rankUp_1 12 rfl rfl)
theorem dX3_rankUp_35 : decode cX3_rankUp 35 = .ok (.getfield 28, 3) := dk_180 0 28 (dk_at dksX3_rankUp_1 13 rfl rfl)
theorem dX3_rankUp_38 : decode cX3_rankUp 38 = .ok (.iconst 5, 1) := dk_8 (dk_at dksX3_rankUp_1 16 rfl rfl)
theorem dX3_rankUp_39 : decode cX3_rankUp 39 = .ok (.iload_n 1, 1) := dk_27 (dk_at dksX3_rankUp_1 17 rfl rfl)
theorem dX3_rankUp_40 : decode cX3_rankUp 40 = .ok (.imul, 1) := dk_104 (dk_at dksX3_rankUp_1 18 rfl rfl)
theorem dX3_rankUp_41 : decode cX3_rankUp 41 = .ok (.iload 5, 2) := dk_21 5 (dk_at dksX3_rankUp_1 19 rfl rfl)
theorem dX3_rankUp_43 : decode cX3_rankUp 43 = .ok (.iadd, 1) := dk_96 (dk_at dksX3_rankUp_1 21 rfl rfl)
theorem dX3_rankUp_44 : decode cX3_rankUp 44 = .ok (.iload 5, 2) := dk_21 5 (dk_at dksX3_rankUp_1 22 rfl rfl)
theorem dX3_rankUp_46 : decode cX3_rankUp 46 = .ok (.iload_n 2, 1) := dk_28 (dk_at dksX3_rankUp_2 0 rfl rfl)
theorem dX3_rankUp_47 : decode cX3_rankUp 47 = .ok (.if_icmp .ne 7, 3) := dk_160 0 7 (dk_at dksX3_rankUp_2 1 rfl rfl)
theorem dX3_rankUp_50 : decode cX3_rankUp 50 = .ok (.iload_n 3, 1) := dk_29 (dk_at dksX3_rankUp_2 4 rfl rfl)
theorem dX3_rankUp_51 : decode cX3_rankUp 51 = .ok (.goto 25, 3) := dk_167 0 25 (dk_at dksX3_rankUp_2 5 rfl rfl)
theorem dX3_rankUp_54 : decode cX3_rankUp 54 = .ok (.iload 6, 2) := dk_21 6 (dk_at dksX3_rankUp_2 8 rfl rfl)
theorem dX3_rankUp_56 : decode cX3_rankUp 56 = .ok (.iload_n 3, 1) := dk_29 (dk_at dksX3_rankUp_2 10 rfl rfl)
theorem dX3_rankUp_57 : decode cX3_rankUp 57 = .ok (.if_icmp .lt 17, 3) := dk_161 0 17 (dk_at dksX3_rankUp_2 11 rfl rfl)
theorem dX3_rankUp_60 : decode cX3_rankUp 60 = .ok (.iload 6, 2) := dk_21 6 (dk_at dksX3_rankUp_2 14 rfl rfl)
theorem dX3_rankUp_62 : decode cX3_rankUp 62 = .ok (.iload 4, 2) := dk_21 4 (dk_at dksX3_rankUp_2 16 rfl rfl)
theorem dX3_rankUp_64 : decode cX3_rankUp 64 = .ok (.if_icmp .ge 10, 3) := dk_162 0 10 (dk_at dksX3_rankUp_2 18 rfl rfl)
theorem dX3_rankUp_67 : decode cX3_rankUp 67 = .ok (.iload 6, 2) := dk_21 6 (dk_at dksX3_rankUp_2 21 rfl rfl)
theorem dX3_rankUp_69 : decode cX3_rankUp 69 = .ok (.iconst 1, 1) := dk_4 (dk_at dksX3_rankUp_2 23 rfl rfl)
theorem dX3_rankUp_70 : decode cX3_rankUp 70 = .ok (.iadd, 1) := dk_96 (dk_at dksX3_rankUp_3 0 rfl rfl)
theorem dX3_rankUp_71 : decode cX3_rankUp 71 = .ok (.goto 5, 3) := dk_167 0 5 (dk_at dksX3_rankUp_3 1 rfl rfl)
theorem dX3_rankUp_74 : decode cX3_rankUp 74 = .ok (.iload 6, 2) := dk_21 6 (dk_at dksX3_rankUp_3 4 rfl rfl)
theorem dX3_rankUp_76 : decode cX3_rankUp 76 = .ok (.iastore, 1) := dk_79 (dk_at dksX3_rankUp_3 6 rfl rfl)
theorem dX3_rankUp_77 : decode cX3_rankUp 77 = .ok (.iinc 5 1, 3) := dk_132 5 1 (dk_at dksX3_rankUp_3 7 rfl rfl)
theorem dX3_rankUp_80 : decode cX3_rankUp 80 = .ok (.goto (-65), 3) := dk_167 255 191 (dk_at dksX3_rankUp_3 10 rfl rfl)
theorem dX3_rankUp_83 : decode cX3_rankUp 83 = .ok (.return_, 1) := dk_177 (dk_at dksX3_rankUp_3 13 rfl rfl)
abbrev cX3_fault : ByteArray := prog_19_method_26_code
def yX3_fault : MethodName := ⟨RX3, "fault", "()I"⟩
def dkwX3_fault_0 : List UInt8 := [42, 3, 181, 0, 111, 42, 180, 0, 245, 172]
abbrev dktX3_fault_0 : List UInt8 := dkwX3_fault_0 ++ []
theorem dksX3_fault_0 : cX3_fault.data.toList.drop 0 = dktX3_fault_0 := by decide +kernel
theorem dX3_fault_0 : decode cX3_fault 0 = .ok (.aload_n 0, 1) := dk_42 (dk_at dksX3_fault_0 0 rfl rfl)
theorem dX3_fault_1 : decode cX3_fault 1 = .ok (.iconst 0, 1) := dk_3 (dk_at dksX3_fault_0 1 rfl rfl)
theorem dX3_fault_2 : decode cX3_fault 2 = .ok (.putfield 111, 3) := dk_181 0 111 (dk_at dksX3_fault_0 2 rfl rfl)
theorem dX3_fault_5 : decode cX3_fault 5 = .ok (.aload_n 0, 1) := dk_42 (dk_at dksX3_fault_0 5 rfl rfl)
theorem dX3_fault_6 : decode cX3_fault 6 = .ok (.getfield 245, 3) := dk_180 0 245 (dk_at dksX3_fault_0 6 rfl rfl)
theorem dX3_fault_9 : decode cX3_fault 9 = .ok (.ireturn, 1) := dk_172 (dk_at dksX3_fault_0 9 rfl rfl)
abbrev cX3_hall : ByteArray := prog_19_method_28_code
def yX3_hall : MethodName := ⟨RX3, "hall", "(II)I"⟩
def dkwX3_hall_6 : List UInt8 := [180, 0, 28, 8, 27, 104, 28, 96, 16, 20, 100, 46, 167, 0, 5, 18, 131, 172]
abbrev dktX3_hall_6 : List UInt8 := dkwX3_hall_6 ++ []
def dkwX3_hall_5 : List UInt8 := [28, 96, 16, 10, 100, 46, 167, 0, 35, 28, 133, 20, 1, 6, 20, 1, 8, 184, 0, 121, 153, 0, 19, 42]
abbrev dktX3_hall_5 : List UInt8 := dkwX3_hall_5 ++ dktX3_hall_6
def dkwX3_hall_4 : List UInt8 := [167, 0, 65, 28, 133, 20, 1, 2, 20, 1, 4, 184, 0, 121, 153, 0, 19, 42, 180, 0, 25, 8, 27, 104]
abbrev dktX3_hall_4 : List UInt8 := dkwX3_hall_4 ++ dktX3_hall_5
def dkwX3_hall_3 : List UInt8 := [20, 0, 254, 20, 1, 0, 184, 0, 121, 153, 0, 18, 42, 180, 0, 22, 5, 27, 104, 28, 96, 7, 100, 46]
abbrev dktX3_hall_3 : List UInt8 := dkwX3_hall_3 ++ dktX3_hall_4
def dkwX3_hall_2 : List UInt8 := [180, 0, 16, 27, 46, 167, 0, 108, 28, 6, 160, 0, 12, 42, 180, 0, 19, 27, 46, 167, 0, 94, 28, 133]
abbrev dktX3_hall_2 : List UInt8 := dkwX3_hall_2 ++ dktX3_hall_3
def dkwX3_hall_1 : List UInt8 := [46, 167, 0, 136, 28, 4, 160, 0, 12, 42, 180, 0, 13, 27, 46, 167, 0, 122, 28, 5, 160, 0, 12, 42]
abbrev dktX3_hall_1 : List UInt8 := dkwX3_hall_1 ++ dktX3_hall_2
def dkwX3_hall_0 : List UInt8 := [42, 3, 181, 0, 111, 27, 184, 0, 251, 154, 0, 6, 18, 131, 172, 28, 154, 0, 12, 42, 180, 0, 7, 27]
abbrev dktX3_hall_0 : List UInt8 := dkwX3_hall_0 ++ dktX3_hall_1
theorem dksX3_hall_0 : cX3_hall.data.toList.drop 0 = dktX3_hall_0 := by decide +kernel
theorem dksX3_hall_1 : cX3_hall.data.toList.drop 24 = dktX3_hall_1 := dk_seg dksX3_hall_0 24 rfl rfl
theorem dksX3_hall_2 : cX3_hall.data.toList.drop 48 = dktX3_hall_2 := dk_seg dksX3_hall_1 24 rfl rfl
theorem dksX3_hall_3 : cX3_hall.data.toList.drop 72 = dktX3_hall_3 := dk_seg dksX3_hall_2 24 rfl rfl
theorem dksX3_hall_4 : cX3_hall.data.toList.drop 96 = dktX3_hall_4 := dk_seg dksX3_hall_3 24 rfl rfl
theorem dksX3_hall_5 : cX3_hall.data.toList.drop 120 = dktX3_hall_5 := dk_seg dksX3_hall_4 24 rfl rfl
theorem dksX3_hall_6 : cX3_hall.data.toList.drop 144 = dktX3_hall_6 := dk_seg dksX3_hall_5 24 rfl rfl
theorem dX3_hall_0 : decode cX3_hall 0 = .ok (.aload_n 0, 1) := dk_42 (dk_at dksX3_hall_0 0 rfl rfl)
theorem dX3_hall_1 : decode cX3_hall 1 = .ok (.iconst 0, 1) := dk_3 (dk_at dksX3_hall_0 1 rfl rfl)
theorem dX3_hall_2 : decode cX3_hall 2 = .ok (.putfield 111, 3) := dk_181 0 111 (dk_at dksX3_hall_0 2 rfl rfl)
theorem dX3_hall_5 : decode cX3_hall 5 = .ok (.iload_n 1, 1) := dk_27 (dk_at dksX3_hall_0 5 rfl rfl)
theorem dX3_hall_6 : decode cX3_hall 6 = .ok (.invokestatic 251, 3) := dk_184 0 251 (dk_at dksX3_hall_0 6 rfl rfl)
theorem dX3_hall_9 : decode cX3_hall 9 = .ok (.ifCond .ne 6, 3) := dk_154 0 6 (dk_at dksX3_hall_0 9 rfl rfl)
theorem dX3_hall_12 : decode cX3_hall 12 = .ok (.ldc 131, 2) := dk_18 131 (dk_at dksX3_hall_0 12 rfl rfl)
theorem dX3_hall_14 : decode cX3_hall 14 = .ok (.ireturn, 1) := dk_172 (dk_at dksX3_hall_0 14 rfl rfl)
theorem dX3_hall_15 : decode cX3_hall 15 = .ok (.iload_n 2, 1) := dk_28 (dk_at dksX3_hall_0 15 rfl rfl)
theorem dX3_hall_16 : decode cX3_hall 16 = .ok (.ifCond .ne 12, 3) := dk_154 0 12 (dk_at dksX3_hall_0 16 rfl rfl)
theorem dX3_hall_19 : decode cX3_hall 19 = .ok (.aload_n 0, 1) := dk_42 (dk_at dksX3_hall_0 19 rfl rfl)
theorem dX3_hall_20 : decode cX3_hall 20 = .ok (.getfield 7, 3) := dk_180 0 7 (dk_at dksX3_hall_0 20 rfl rfl)
theorem dX3_hall_23 : decode cX3_hall 23 = .ok (.iload_n 1, 1) := dk_27 (dk_at dksX3_hall_0 23 rfl rfl)
theorem dX3_hall_24 : decode cX3_hall 24 = .ok (.iaload, 1) := dk_46 (dk_at dksX3_hall_1 0 rfl rfl)
theorem dX3_hall_25 : decode cX3_hall 25 = .ok (.goto 136, 3) := dk_167 0 136 (dk_at dksX3_hall_1 1 rfl rfl)
theorem dX3_hall_28 : decode cX3_hall 28 = .ok (.iload_n 2, 1) := dk_28 (dk_at dksX3_hall_1 4 rfl rfl)
theorem dX3_hall_29 : decode cX3_hall 29 = .ok (.iconst 1, 1) := dk_4 (dk_at dksX3_hall_1 5 rfl rfl)
theorem dX3_hall_30 : decode cX3_hall 30 = .ok (.if_icmp .ne 12, 3) := dk_160 0 12 (dk_at dksX3_hall_1 6 rfl rfl)
theorem dX3_hall_33 : decode cX3_hall 33 = .ok (.aload_n 0, 1) := dk_42 (dk_at dksX3_hall_1 9 rfl rfl)
theorem dX3_hall_34 : decode cX3_hall 34 = .ok (.getfield 13, 3) := dk_180 0 13 (dk_at dksX3_hall_1 10 rfl rfl)
theorem dX3_hall_37 : decode cX3_hall 37 = .ok (.iload_n 1, 1) := dk_27 (dk_at dksX3_hall_1 13 rfl rfl)
theorem dX3_hall_38 : decode cX3_hall 38 = .ok (.iaload, 1) := dk_46 (dk_at dksX3_hall_1 14 rfl rfl)
theorem dX3_hall_39 : decode cX3_hall 39 = .ok (.goto 122, 3) := dk_167 0 122 (dk_at dksX3_hall_1 15 rfl rfl)
theorem dX3_hall_42 : decode cX3_hall 42 = .ok (.iload_n 2, 1) := dk_28 (dk_at dksX3_hall_1 18 rfl rfl)
theorem dX3_hall_43 : decode cX3_hall 43 = .ok (.iconst 2, 1) := dk_5 (dk_at dksX3_hall_1 19 rfl rfl)
theorem dX3_hall_44 : decode cX3_hall 44 = .ok (.if_icmp .ne 12, 3) := dk_160 0 12 (dk_at dksX3_hall_1 20 rfl rfl)
theorem dX3_hall_47 : decode cX3_hall 47 = .ok (.aload_n 0, 1) := dk_42 (dk_at dksX3_hall_1 23 rfl rfl)
theorem dX3_hall_48 : decode cX3_hall 48 = .ok (.getfield 16, 3) := dk_180 0 16 (dk_at dksX3_hall_2 0 rfl rfl)
theorem dX3_hall_51 : decode cX3_hall 51 = .ok (.iload_n 1, 1) := dk_27 (dk_at dksX3_hall_2 3 rfl rfl)
theorem dX3_hall_52 : decode cX3_hall 52 = .ok (.iaload, 1) := dk_46 (dk_at dksX3_hall_2 4 rfl rfl)
theorem dX3_hall_53 : decode cX3_hall 53 = .ok (.goto 108, 3) := dk_167 0 108 (dk_at dksX3_hall_2 5 rfl rfl)
theorem dX3_hall_56 : decode cX3_hall 56 = .ok (.iload_n 2, 1) := dk_28 (dk_at dksX3_hall_2 8 rfl rfl)
theorem dX3_hall_57 : decode cX3_hall 57 = .ok (.iconst 3, 1) := dk_6 (dk_at dksX3_hall_2 9 rfl rfl)
theorem dX3_hall_58 : decode cX3_hall 58 = .ok (.if_icmp .ne 12, 3) := dk_160 0 12 (dk_at dksX3_hall_2 10 rfl rfl)
theorem dX3_hall_61 : decode cX3_hall 61 = .ok (.aload_n 0, 1) := dk_42 (dk_at dksX3_hall_2 13 rfl rfl)
theorem dX3_hall_62 : decode cX3_hall 62 = .ok (.getfield 19, 3) := dk_180 0 19 (dk_at dksX3_hall_2 14 rfl rfl)
theorem dX3_hall_65 : decode cX3_hall 65 = .ok (.iload_n 1, 1) := dk_27 (dk_at dksX3_hall_2 17 rfl rfl)
theorem dX3_hall_66 : decode cX3_hall 66 = .ok (.iaload, 1) := dk_46 (dk_at dksX3_hall_2 18 rfl rfl)
theorem dX3_hall_67 : decode cX3_hall 67 = .ok (.goto 94, 3) := dk_167 0 94 (dk_at dksX3_hall_2 19 rfl rfl)
theorem dX3_hall_70 : decode cX3_hall 70 = .ok (.iload_n 2, 1) := dk_28 (dk_at dksX3_hall_2 22 rfl rfl)
theorem dX3_hall_71 : decode cX3_hall 71 = .ok (.i2l, 1) := dk_133 (dk_at dksX3_hall_2 23 rfl rfl)
theorem dX3_hall_72 : decode cX3_hall 72 = .ok (.ldc2_w 254, 3) := dk_20 0 254 (dk_at dksX3_hall_3 0 rfl rfl)
theorem dX3_hall_75 : decode cX3_hall 75 = .ok (.ldc2_w 256, 3) := dk_20 1 0 (dk_at dksX3_hall_3 3 rfl rfl)
theorem dX3_hall_78 : decode cX3_hall 78 = .ok (.invokestatic 121, 3) := dk_184 0 121 (dk_at dksX3_hall_3 6 rfl rfl)
theorem dX3_hall_81 : decode cX3_hall 81 = .ok (.ifCond .eq 18, 3) := dk_153 0 18 (dk_at dksX3_hall_3 9 rfl rfl)
theorem dX3_hall_84 : decode cX3_hall 84 = .ok (.aload_n 0, 1) := dk_42 (dk_at dksX3_hall_3 12 rfl rfl)
theorem dX3_hall_85 : decode cX3_hall 85 = .ok (.getfield 22, 3) := dk_180 0 22 (dk_at dksX3_hall_3 13 rfl rfl)
theorem dX3_hall_88 : decode cX3_hall 88 = .ok (.iconst 2, 1) := dk_5 (dk_at dksX3_hall_3 16 rfl rfl)
theorem dX3_hall_89 : decode cX3_hall 89 = .ok (.iload_n 1, 1) := dk_27 (dk_at dksX3_hall_3 17 rfl rfl)
theorem dX3_hall_90 : decode cX3_hall 90 = .ok (.imul, 1) := dk_104 (dk_at dksX3_hall_3 18 rfl rfl)
theorem dX3_hall_91 : decode cX3_hall 91 = .ok (.iload_n 2, 1) := dk_28 (dk_at dksX3_hall_3 19 rfl rfl)
theorem dX3_hall_92 : decode cX3_hall 92 = .ok (.iadd, 1) := dk_96 (dk_at dksX3_hall_3 20 rfl rfl)
theorem dX3_hall_93 : decode cX3_hall 93 = .ok (.iconst 4, 1) := dk_7 (dk_at dksX3_hall_3 21 rfl rfl)
theorem dX3_hall_94 : decode cX3_hall 94 = .ok (.isub, 1) := dk_100 (dk_at dksX3_hall_3 22 rfl rfl)
theorem dX3_hall_95 : decode cX3_hall 95 = .ok (.iaload, 1) := dk_46 (dk_at dksX3_hall_3 23 rfl rfl)
theorem dX3_hall_96 : decode cX3_hall 96 = .ok (.goto 65, 3) := dk_167 0 65 (dk_at dksX3_hall_4 0 rfl rfl)
theorem dX3_hall_99 : decode cX3_hall 99 = .ok (.iload_n 2, 1) := dk_28 (dk_at dksX3_hall_4 3 rfl rfl)
theorem dX3_hall_100 : decode cX3_hall 100 = .ok (.i2l, 1) := dk_133 (dk_at dksX3_hall_4 4 rfl rfl)
theorem dX3_hall_101 : decode cX3_hall 101 = .ok (.ldc2_w 258, 3) := dk_20 1 2 (dk_at dksX3_hall_4 5 rfl rfl)
theorem dX3_hall_104 : decode cX3_hall 104 = .ok (.ldc2_w 260, 3) := dk_20 1 4 (dk_at dksX3_hall_4 8 rfl rfl)
theorem dX3_hall_107 : decode cX3_hall 107 = .ok (.invokestatic 121, 3) := dk_184 0 121 (dk_at dksX3_hall_4 11 rfl rfl)
theorem dX3_hall_110 : decode cX3_hall 110 = .ok (.ifCond .eq 19, 3) := dk_153 0 19 (dk_at dksX3_hall_4 14 rfl rfl)
theorem dX3_hall_113 : decode cX3_hall 113 = .ok (.aload_n 0, 1) := dk_42 (dk_at dksX3_hall_4 17 rfl rfl)
theorem dX3_hall_114 : decode cX3_hall 114 = .ok (.getfield 25, 3) := dk_180 0 25 (dk_at dksX3_hall_4 18 rfl rfl)
theorem dX3_hall_117 : decode cX3_hall 117 = .ok (.iconst 5, 1) := dk_8 (dk_at dksX3_hall_4 21 rfl rfl)
theorem dX3_hall_118 : decode cX3_hall 118 = .ok (.iload_n 1, 1) := dk_27 (dk_at dksX3_hall_4 22 rfl rfl)
theorem dX3_hall_119 : decode cX3_hall 119 = .ok (.imul, 1) := dk_104 (dk_at dksX3_hall_4 23 rfl rfl)
theorem dX3_hall_120 : decode cX3_hall 120 = .ok (.iload_n 2, 1) := dk_28 (dk_at dksX3_hall_5 0 rfl rfl)
theorem dX3_hall_121 : decode cX3_hall 121 = .ok (.iadd, 1) := dk_96 (dk_at dksX3_hall_5 1 rfl rfl)
theorem dX3_hall_122 : decode cX3_hall 122 = .ok (.bipush 10, 2) := dk_16 10 (dk_at dksX3_hall_5 2 rfl rfl)
theorem dX3_hall_124 : decode cX3_hall 124 = .ok (.isub, 1) := dk_100 (dk_at dksX3_hall_5 4 rfl rfl)
theorem dX3_hall_125 : decode cX3_hall 125 = .ok (.iaload, 1) := dk_46 (dk_at dksX3_hall_5 5 rfl rfl)
theorem dX3_hall_126 : decode cX3_hall 126 = .ok (.goto 35, 3) := dk_167 0 35 (dk_at dksX3_hall_5 6 rfl rfl)
theorem dX3_hall_129 : decode cX3_hall 129 = .ok (.iload_n 2, 1) := dk_28 (dk_at dksX3_hall_5 9 rfl rfl)
theorem dX3_hall_130 : decode cX3_hall 130 = .ok (.i2l, 1) := dk_133 (dk_at dksX3_hall_5 10 rfl rfl)
theorem dX3_hall_131 : decode cX3_hall 131 = .ok (.ldc2_w 262, 3) := dk_20 1 6 (dk_at dksX3_hall_5 11 rfl rfl)
theorem dX3_hall_134 : decode cX3_hall 134 = .ok (.ldc2_w 264, 3) := dk_20 1 8 (dk_at dksX3_hall_5 14 rfl rfl)
theorem dX3_hall_137 : decode cX3_hall 137 = .ok (.invokestatic 121, 3) := dk_184 0 121 (dk_at dksX3_hall_5 17 rfl rfl)
theorem dX3_hall_140 : decode cX3_hall 140 = .ok (.ifCond .eq 19, 3) := dk_153 0 19 (dk_at dksX3_hall_5 20 rfl rfl)
theorem dX3_hall_143 : decode cX3_hall 143 = .ok (.aload_n 0, 1) := dk_42 (dk_at dksX3_hall_5 23 rfl rfl)
theorem dX3_hall_144 : decode cX3_hall 144 = .ok (.getfield 28, 3) := dk_180 0 28 (dk_at dksX3_hall_6 0 rfl rfl)
theorem dX3_hall_147 : decode cX3_hall 147 = .ok (.iconst 5, 1) := dk_8 (dk_at dksX3_hall_6 3 rfl rfl)
theorem dX3_hall_148 : decode cX3_hall 148 = .ok (.iload_n 1, 1) := dk_27 (dk_at dksX3_hall_6 4 rfl rfl)
theorem dX3_hall_149 : decode cX3_hall 149 = .ok (.imul, 1) := dk_104 (dk_at dksX3_hall_6 5 rfl rfl)
theorem dX3_hall_150 : decode cX3_hall 150 = .ok (.iload_n 2, 1) := dk_28 (dk_at dksX3_hall_6 6 rfl rfl)
theorem dX3_hall_151 : decode cX3_hall 151 = .ok (.iadd, 1) := dk_96 (dk_at dksX3_hall_6 7 rfl rfl)
theorem dX3_hall_152 : decode cX3_hall 152 = .ok (.bipush 20, 2) := dk_16 20 (dk_at dksX3_hall_6 8 rfl rfl)
theorem dX3_hall_154 : decode cX3_hall 154 = .ok (.isub, 1) := dk_100 (dk_at dksX3_hall_6 10 rfl rfl)
theorem dX3_hall_155 : decode cX3_hall 155 = .ok (.iaload, 1) := dk_46 (dk_at dksX3_hall_6 11 rfl rfl)
theorem dX3_hall_156 : decode cX3_hall 156 = .ok (.goto 5, 3) := dk_167 0 5 (dk_at dksX3_hall_6 12 rfl rfl)
theorem dX3_hall_159 : decode cX3_hall 159 = .ok (.ldc 131, 2) := dk_18 131 (dk_at dksX3_hall_6 15 rfl rfl)
theorem dX3_hall_161 : decode cX3_hall 161 = .ok (.ireturn, 1) := dk_172 (dk_at dksX3_hall_6 17 rfl rfl)
abbrev cX3_isHall : ByteArray := prog_19_method_27_code
def yX3_isHall : MethodName := ⟨RX3, "isHall", "(I)Z"⟩
def dkwX3_isHall_0 : List UInt8 := [26, 133, 9, 20, 0, 249, 184, 0, 121, 172]
abbrev dktX3_isHall_0 : List UInt8 := dkwX3_isHall_0 ++ []
theorem dksX3_isHall_0 : cX3_isHall.data.toList.drop 0 = dktX3_isHall_0 := by decide +kernel
theorem dX3_isHall_0 : decode cX3_isHall 0 = .ok (.iload_n 0, 1) := dk_26 (dk_at dksX3_isHall_0 0 rfl rfl)
theorem dX3_isHall_1 : decode cX3_isHall 1 = .ok (.i2l, 1) := dk_133 (dk_at dksX3_isHall_0 1 rfl rfl)
theorem dX3_isHall_2 : decode cX3_isHall 2 = .ok (.lconst 0, 1) := dk_9 (dk_at dksX3_isHall_0 2 rfl rfl)
theorem dX3_isHall_3 : decode cX3_isHall 3 = .ok (.ldc2_w 249, 3) := dk_20 0 249 (dk_at dksX3_isHall_0 3 rfl rfl)
theorem dX3_isHall_6 : decode cX3_isHall 6 = .ok (.invokestatic 121, 3) := dk_184 0 121 (dk_at dksX3_isHall_0 6 rfl rfl)
theorem dX3_isHall_9 : decode cX3_isHall 9 = .ok (.ireturn, 1) := dk_172 (dk_at dksX3_isHall_0 9 rfl rfl)
abbrev cX3_book : ByteArray := prog_19_method_32_code
def yX3_book : MethodName := ⟨RX3, "book", "(II)I"⟩
def dkwX3_book_14 : List UInt8 := [180, 1, 12, 4, 100, 172]
abbrev dktX3_book_14 : List UInt8 := dkwX3_book_14 ++ []
def dkwX3_book_13 : List UInt8 := [42, 180, 0, 46, 42, 180, 1, 12, 18, 147, 79, 42, 89, 180, 1, 12, 4, 96, 181, 1, 12, 42]
abbrev dktX3_book_13 : List UInt8 := dkwX3_book_13 ++ dktX3_book_14
def dkwX3_book_12 : List UInt8 := [42, 180, 1, 12, 104, 21, 5, 96, 42, 180, 0, 37, 29, 21, 5, 96, 46, 79, 132, 5, 1, 167, 255, 222]
abbrev dktX3_book_12 : List UInt8 := dkwX3_book_12 ++ dktX3_book_13
def dkwX3_book_11 : List UInt8 := [18, 131, 172, 42, 3, 181, 0, 115, 3, 54, 5, 21, 5, 16, 9, 162, 0, 33, 42, 180, 0, 43, 16, 9]
abbrev dktX3_book_11 : List UInt8 := dkwX3_book_11 ++ dktX3_book_12
def dkwX3_book_10 : List UInt8 := [29, 5, 96, 46, 133, 184, 0, 121, 153, 0, 7, 4, 167, 0, 4, 3, 54, 4, 21, 4, 154, 0, 6]
abbrev dktX3_book_10 : List UInt8 := dkwX3_book_10 ++ dktX3_book_11
def dkwX3_book_9 : List UInt8 := [133, 9, 10, 184, 0, 121, 153, 0, 33, 42, 180, 0, 37, 29, 16, 8, 96, 46, 133, 9, 42, 180, 0, 37]
abbrev dktX3_book_9 : List UInt8 := dkwX3_book_9 ++ dktX3_book_10
def dkwX3_book_8 : List UInt8 := [16, 6, 96, 46, 133, 9, 20, 0, 254, 184, 0, 121, 153, 0, 51, 42, 180, 0, 37, 29, 16, 7, 96, 46]
abbrev dktX3_book_8 : List UInt8 := dkwX3_book_8 ++ dktX3_book_9
def dkwX3_book_7 : List UInt8 := [180, 0, 37, 29, 8, 96, 46, 133, 10, 20, 1, 24, 184, 0, 121, 153, 0, 71, 42, 180, 0, 37, 29]
abbrev dktX3_book_7 : List UInt8 := dkwX3_book_7 ++ dktX3_book_8
def dkwX3_book_6 : List UInt8 := [96, 46, 133, 42, 180, 0, 37, 29, 6, 96, 46, 4, 96, 133, 20, 1, 22, 184, 0, 121, 153, 0, 90, 42]
abbrev dktX3_book_6 : List UInt8 := dkwX3_book_6 ++ dktX3_book_7
def dkwX3_book_5 : List UInt8 := [180, 0, 37, 29, 6, 96, 46, 133, 9, 20, 1, 20, 184, 0, 121, 153, 0, 119, 42, 180, 0, 37, 29, 7]
abbrev dktX3_book_5 : List UInt8 := dkwX3_book_5 ++ dktX3_book_6
def dkwX3_book_4 : List UInt8 := [133, 9, 10, 184, 0, 121, 153, 0, 152, 42, 180, 0, 37, 29, 5, 96, 46, 184, 1, 17, 153, 0, 138, 42]
abbrev dktX3_book_4 : List UInt8 := dkwX3_book_4 ++ dktX3_book_5
def dkwX3_book_3 : List UInt8 := [104, 28, 96, 62, 42, 180, 0, 37, 29, 46, 184, 0, 251, 153, 0, 169, 42, 180, 0, 37, 29, 4, 96, 46]
abbrev dktX3_book_3 : List UInt8 := dkwX3_book_3 ++ dktX3_book_4
def dkwX3_book_2 : List UInt8 := [20, 1, 15, 97, 42, 180, 0, 34, 27, 46, 133, 148, 158, 0, 9, 42, 5, 182, 0, 132, 172, 16, 60, 27]
abbrev dktX3_book_2 : List UInt8 := dkwX3_book_2 ++ dktX3_book_3
def dkwX3_book_1 : List UInt8 := [18, 141, 172, 42, 180, 0, 31, 27, 46, 156, 0, 9, 42, 4, 182, 0, 132, 172, 28, 155, 0, 20, 28, 133]
abbrev dktX3_book_1 : List UInt8 := dkwX3_book_1 ++ dktX3_book_2
def dkwX3_book_0 : List UInt8 := [42, 3, 181, 0, 111, 27, 184, 0, 125, 154, 0, 6, 18, 131, 172, 42, 180, 1, 12, 16, 16, 160, 0, 6]
abbrev dktX3_book_0 : List UInt8 := dkwX3_book_0 ++ dktX3_book_1
theorem dksX3_book_0 : cX3_book.data.toList.drop 0 = dktX3_book_0 := by decide +kernel
theorem dksX3_book_1 : cX3_book.data.toList.drop 24 = dktX3_book_1 := dk_seg dksX3_book_0 24 rfl rfl
theorem dksX3_book_2 : cX3_book.data.toList.drop 48 = dktX3_book_2 := dk_seg dksX3_book_1 24 rfl rfl
theorem dksX3_book_3 : cX3_book.data.toList.drop 72 = dktX3_book_3 := dk_seg dksX3_book_2 24 rfl rfl
theorem dksX3_book_4 : cX3_book.data.toList.drop 96 = dktX3_book_4 := dk_seg dksX3_book_3 24 rfl rfl
theorem dksX3_book_5 : cX3_book.data.toList.drop 120 = dktX3_book_5 := dk_seg dksX3_book_4 24 rfl rfl
theorem dksX3_book_6 : cX3_book.data.toList.drop 144 = dktX3_book_6 := dk_seg dksX3_book_5 24 rfl rfl
theorem dksX3_book_7 : cX3_book.data.toList.drop 168 = dktX3_book_7 := dk_seg dksX3_book_6 24 rfl rfl
theorem dksX3_book_8 : cX3_book.data.toList.drop 191 = dktX3_book_8 := dk_seg dksX3_book_7 23 rfl rfl
theorem dksX3_book_9 : cX3_book.data.toList.drop 215 = dktX3_book_9 := dk_seg dksX3_book_8 24 rfl rfl
theorem dksX3_book_10 : cX3_book.data.toList.drop 239 = dktX3_book_10 := dk_seg dksX3_book_9 24 rfl rfl
theorem dksX3_book_11 : cX3_book.data.toList.drop 262 = dktX3_book_11 := dk_seg dksX3_book_10 23 rfl rfl
theorem dksX3_book_12 : cX3_book.data.toList.drop 286 = dktX3_book_12 := dk_seg dksX3_book_11 24 rfl rfl
theorem dksX3_book_13 : cX3_book.data.toList.drop 310 = dktX3_book_13 := dk_seg dksX3_book_12 24 rfl rfl
theorem dksX3_book_14 : cX3_book.data.toList.drop 332 = dktX3_book_14 := dk_seg dksX3_book_13 22 rfl rfl
theorem dX3_book_0 : decode cX3_book 0 = .ok (.aload_n 0, 1) := dk_42 (dk_at dksX3_book_0 0 rfl rfl)
theorem dX3_book_1 : decode cX3_book 1 = .ok (.iconst 0, 1) := dk_3 (dk_at dksX3_book_0 1 rfl rfl)
theorem dX3_book_2 : decode cX3_book 2 = .ok (.putfield 111, 3) := dk_181 0 111 (dk_at dksX3_book_0 2 rfl rfl)
theorem dX3_book_5 : decode cX3_book 5 = .ok (.iload_n 1, 1) := dk_27 (dk_at dksX3_book_0 5 rfl rfl)
theorem dX3_book_6 : decode cX3_book 6 = .ok (.invokestatic 125, 3) := dk_184 0 125 (dk_at dksX3_book_0 6 rfl rfl)
theorem dX3_book_9 : decode cX3_book 9 = .ok (.ifCond .ne 6, 3) := dk_154 0 6 (dk_at dksX3_book_0 9 rfl rfl)
theorem dX3_book_12 : decode cX3_book 12 = .ok (.ldc 131, 2) := dk_18 131 (dk_at dksX3_book_0 12 rfl rfl)
theorem dX3_book_14 : decode cX3_book 14 = .ok (.ireturn, 1) := dk_172 (dk_at dksX3_book_0 14 rfl rfl)
theorem dX3_book_15 : decode cX3_book 15 = .ok (.aload_n 0, 1) := dk_42 (dk_at dksX3_book_0 15 rfl rfl)
theorem dX3_book_16 : decode cX3_book 16 = .ok (.getfield 268, 3) := dk_180 1 12 (dk_at dksX3_book_0 16 rfl rfl)
theorem dX3_book_19 : decode cX3_book 19 = .ok (.bipush 16, 2) := dk_16 16 (dk_at dksX3_book_0 19 rfl rfl)
theorem dX3_book_21 : decode cX3_book 21 = .ok (.if_icmp .ne 6, 3) := dk_160 0 6 (dk_at dksX3_book_0 21 rfl rfl)
theorem dX3_book_24 : decode cX3_book 24 = .ok (.ldc 141, 2) := dk_18 141 (dk_at dksX3_book_1 0 rfl rfl)
theorem dX3_book_26 : decode cX3_book 26 = .ok (.ireturn, 1) := dk_172 (dk_at dksX3_book_1 2 rfl rfl)
theorem dX3_book_27 : decode cX3_book 27 = .ok (.aload_n 0, 1) := dk_42 (dk_at dksX3_book_1 3 rfl rfl)
theorem dX3_book_28 : decode cX3_book 28 = .ok (.getfield 31, 3) := dk_180 0 31 (dk_at dksX3_book_1 4 rfl rfl)
theorem dX3_book_31 : decode cX3_book 31 = .ok (.iload_n 1, 1) := dk_27 (dk_at dksX3_book_1 7 rfl rfl)
theorem dX3_book_32 : decode cX3_book 32 = .ok (.iaload, 1) := dk_46 (dk_at dksX3_book_1 8 rfl rfl)
theorem dX3_book_33 : decode cX3_book 33 = .ok (.ifCond .ge 9, 3) := dk_156 0 9 (dk_at dksX3_book_1 9 rfl rfl)
theorem dX3_book_36 : decode cX3_book 36 = .ok (.aload_n 0, 1) := dk_42 (dk_at dksX3_book_1 12 rfl rfl)
theorem dX3_book_37 : decode cX3_book 37 = .ok (.iconst 1, 1) := dk_4 (dk_at dksX3_book_1 13 rfl rfl)
theorem dX3_book_38 : decode cX3_book 38 = .ok (.invokevirtual 132, 3) := dk_182 0 132 (dk_at dksX3_book_1 14 rfl rfl)
theorem dX3_book_41 : decode cX3_book 41 = .ok (.ireturn, 1) := dk_172 (dk_at dksX3_book_1 17 rfl rfl)
theorem dX3_book_42 : decode cX3_book 42 = .ok (.iload_n 2, 1) := dk_28 (dk_at dksX3_book_1 18 rfl rfl)
theorem dX3_book_43 : decode cX3_book 43 = .ok (.ifCond .lt 20, 3) := dk_155 0 20 (dk_at dksX3_book_1 19 rfl rfl)
theorem dX3_book_46 : decode cX3_book 46 = .ok (.iload_n 2, 1) := dk_28 (dk_at dksX3_book_1 22 rfl rfl)
theorem dX3_book_47 : decode cX3_book 47 = .ok (.i2l, 1) := dk_133 (dk_at dksX3_book_1 23 rfl rfl)
theorem dX3_book_48 : decode cX3_book 48 = .ok (.ldc2_w 271, 3) := dk_20 1 15 (dk_at dksX3_book_2 0 rfl rfl)
theorem dX3_book_51 : decode cX3_book 51 = .ok (.ladd, 1) := dk_97 (dk_at dksX3_book_2 3 rfl rfl)
theorem dX3_book_52 : decode cX3_book 52 = .ok (.aload_n 0, 1) := dk_42 (dk_at dksX3_book_2 4 rfl rfl)
theorem dX3_book_53 : decode cX3_book 53 = .ok (.getfield 34, 3) := dk_180 0 34 (dk_at dksX3_book_2 5 rfl rfl)
theorem dX3_book_56 : decode cX3_book 56 = .ok (.iload_n 1, 1) := dk_27 (dk_at dksX3_book_2 8 rfl rfl)
theorem dX3_book_57 : decode cX3_book 57 = .ok (.iaload, 1) := dk_46 (dk_at dksX3_book_2 9 rfl rfl)
theorem dX3_book_58 : decode cX3_book 58 = .ok (.i2l, 1) := dk_133 (dk_at dksX3_book_2 10 rfl rfl)
theorem dX3_book_59 : decode cX3_book 59 = .ok (.lcmp, 1) := dk_148 (dk_at dksX3_book_2 11 rfl rfl)
theorem dX3_book_60 : decode cX3_book 60 = .ok (.ifCond .le 9, 3) := dk_158 0 9 (dk_at dksX3_book_2 12 rfl rfl)
theorem dX3_book_63 : decode cX3_book 63 = .ok (.aload_n 0, 1) := dk_42 (dk_at dksX3_book_2 15 rfl rfl)
theorem dX3_book_64 : decode cX3_book 64 = .ok (.iconst 2, 1) := dk_5 (dk_at dksX3_book_2 16 rfl rfl)
theorem dX3_book_65 : decode cX3_book 65 = .ok (.invokevirtual 132, 3) := dk_182 0 132 (dk_at dksX3_book_2 17 rfl rfl)
theorem dX3_book_68 : decode cX3_book 68 = .ok (.ireturn, 1) := dk_172 (dk_at dksX3_book_2 20 rfl rfl)
theorem dX3_book_69 : decode cX3_book 69 = .ok (.bipush 60, 2) := dk_16 60 (dk_at dksX3_book_2 21 rfl rfl)
theorem dX3_book_71 : decode cX3_book 71 = .ok (.iload_n 1, 1) := dk_27 (dk_at dksX3_book_2 23 rfl rfl)
theorem dX3_book_72 : decode cX3_book 72 = .ok (.imul, 1) := dk_104 (dk_at dksX3_book_3 0 rfl rfl)
theorem dX3_book_73 : decode cX3_book 73 = .ok (.iload_n 2, 1) := dk_28 (dk_at dksX3_book_3 1 rfl rfl)
theorem dX3_book_74 : decode cX3_book 74 = .ok (.iadd, 1) := dk_96 (dk_at dksX3_book_3 2 rfl rfl)
theorem dX3_book_75 : decode cX3_book 75 = .ok (.istore_n 3, 1) := dk_62 (dk_at dksX3_book_3 3 rfl rfl)
theorem dX3_book_76 : decode cX3_book 76 = .ok (.aload_n 0, 1) := dk_42 (dk_at dksX3_book_3 4 rfl rfl)
theorem dX3_book_77 : decode cX3_book 77 = .ok (.getfield 37, 3) := dk_180 0 37 (dk_at dksX3_book_3 5 rfl rfl)
theorem dX3_book_80 : decode cX3_book 80 = .ok (.iload_n 3, 1) := dk_29 (dk_at dksX3_book_3 8 rfl rfl)
theorem dX3_book_81 : decode cX3_book 81 = .ok (.iaload, 1) := dk_46 (dk_at dksX3_book_3 9 rfl rfl)
theorem dX3_book_82 : decode cX3_book 82 = .ok (.invokestatic 251, 3) := dk_184 0 251 (dk_at dksX3_book_3 10 rfl rfl)
theorem dX3_book_85 : decode cX3_book 85 = .ok (.ifCond .eq 169, 3) := dk_153 0 169 (dk_at dksX3_book_3 13 rfl rfl)
theorem dX3_book_88 : decode cX3_book 88 = .ok (.aload_n 0, 1) := dk_42 (dk_at dksX3_book_3 16 rfl rfl)
theorem dX3_book_89 : decode cX3_book 89 = .ok (.getfield 37, 3) := dk_180 0 37 (dk_at dksX3_book_3 17 rfl rfl)
theorem dX3_book_92 : decode cX3_book 92 = .ok (.iload_n 3, 1) := dk_29 (dk_at dksX3_book_3 20 rfl rfl)
theorem dX3_book_93 : decode cX3_book 93 = .ok (.iconst 1, 1) := dk_4 (dk_at dksX3_book_3 21 rfl rfl)
theorem dX3_book_94 : decode cX3_book 94 = .ok (.iadd, 1) := dk_96 (dk_at dksX3_book_3 22 rfl rfl)
theorem dX3_book_95 : decode cX3_book 95 = .ok (.iaload, 1) := dk_46 (dk_at dksX3_book_3 23 rfl rfl)
theorem dX3_book_96 : decode cX3_book 96 = .ok (.i2l, 1) := dk_133 (dk_at dksX3_book_4 0 rfl rfl)
theorem dX3_book_97 : decode cX3_book 97 = .ok (.lconst 0, 1) := dk_9 (dk_at dksX3_book_4 1 rfl rfl)
theorem dX3_book_98 : decode cX3_book 98 = .ok (.lconst 1, 1) := dk_10 (dk_at dksX3_book_4 2 rfl rfl)
theorem dX3_book_99 : decode cX3_book 99 = .ok (.invokestatic 121, 3) := dk_184 0 121 (dk_at dksX3_book_4 3 rfl rfl)
theorem dX3_book_102 : decode cX3_book 102 = .ok (.ifCond .eq 152, 3) := dk_153 0 152 (dk_at dksX3_book_4 6 rfl rfl)
theorem dX3_book_105 : decode cX3_book 105 = .ok (.aload_n 0, 1) := dk_42 (dk_at dksX3_book_4 9 rfl rfl)
theorem dX3_book_106 : decode cX3_book 106 = .ok (.getfield 37, 3) := dk_180 0 37 (dk_at dksX3_book_4 10 rfl rfl)
theorem dX3_book_109 : decode cX3_book 109 = .ok (.iload_n 3, 1) := dk_29 (dk_at dksX3_book_4 13 rfl rfl)
theorem dX3_book_110 : decode cX3_book 110 = .ok (.iconst 2, 1) := dk_5 (dk_at dksX3_book_4 14 rfl rfl)
theorem dX3_book_111 : decode cX3_book 111 = .ok (.iadd, 1) := dk_96 (dk_at dksX3_book_4 15 rfl rfl)
theorem dX3_book_112 : decode cX3_book 112 = .ok (.iaload, 1) := dk_46 (dk_at dksX3_book_4 16 rfl rfl)
theorem dX3_book_113 : decode cX3_book 113 = .ok (.invokestatic 273, 3) := dk_184 1 17 (dk_at dksX3_book_4 17 rfl rfl)
theorem dX3_book_116 : decode cX3_book 116 = .ok (.ifCond .eq 138, 3) := dk_153 0 138 (dk_at dksX3_book_4 20 rfl rfl)
theorem dX3_book_119 : decode cX3_book 119 = .ok (.aload_n 0, 1) := dk_42 (dk_at dksX3_book_4 23 rfl rfl)
theorem dX3_book_120 : decode cX3_book 120 = .ok (.getfield 37, 3) := dk_180 0 37 (dk_at dksX3_book_5 0 rfl rfl)
theorem dX3_book_123 : decode cX3_book 123 = .ok (.iload_n 3, 1) := dk_29 (dk_at dksX3_book_5 3 rfl rfl)
theorem dX3_book_124 : decode cX3_book 124 = .ok (.iconst 3, 1) := dk_6 (dk_at dksX3_book_5 4 rfl rfl)
theorem dX3_book_125 : decode cX3_book 125 = .ok (.iadd, 1) := dk_96 (dk_at dksX3_book_5 5 rfl rfl)
theorem dX3_book_126 : decode cX3_book 126 = .ok (.iaload, 1) := dk_46 (dk_at dksX3_book_5 6 rfl rfl)
theorem dX3_book_127 : decode cX3_book 127 = .ok (.i2l, 1) := dk_133 (dk_at dksX3_book_5 7 rfl rfl)
theorem dX3_book_128 : decode cX3_book 128 = .ok (.lconst 0, 1) := dk_9 (dk_at dksX3_book_5 8 rfl rfl)
theorem dX3_book_129 : decode cX3_book 129 = .ok (.ldc2_w 276, 3) := dk_20 1 20 (dk_at dksX3_book_5 9 rfl rfl)
theorem dX3_book_132 : decode cX3_book 132 = .ok (.invokestatic 121, 3) := dk_184 0 121 (dk_at dksX3_book_5 12 rfl rfl)
theorem dX3_book_135 : decode cX3_book 135 = .ok (.ifCond .eq 119, 3) := dk_153 0 119 (dk_at dksX3_book_5 15 rfl rfl)
theorem dX3_book_138 : decode cX3_book 138 = .ok (.aload_n 0, 1) := dk_42 (dk_at dksX3_book_5 18 rfl rfl)
theorem dX3_book_139 : decode cX3_book 139 = .ok (.getfield 37, 3) := dk_180 0 37 (dk_at dksX3_book_5 19 rfl rfl)
theorem dX3_book_142 : decode cX3_book 142 = .ok (.iload_n 3, 1) := dk_29 (dk_at dksX3_book_5 22 rfl rfl)
theorem dX3_book_143 : decode cX3_book 143 = .ok (.iconst 4, 1) := dk_7 (dk_at dksX3_book_5 23 rfl rfl)
theorem dX3_book_144 : decode cX3_book 144 = .ok (.iadd, 1) := dk_96 (dk_at dksX3_book_6 0 rfl rfl)
theorem dX3_book_145 : decode cX3_book 145 = .ok (.iaload, 1) := dk_46 (dk_at dksX3_book_6 1 rfl rfl)
theorem dX3_book_146 : decode cX3_book 146 = .ok (.i2l, 1) := dk_133 (dk_at dksX3_book_6 2 rfl rfl)
theorem dX3_book_147 : decode cX3_book 147 = .ok (.aload_n 0, 1) := dk_42 (dk_at dksX3_book_6 3 rfl rfl)
theorem dX3_book_148 : decode cX3_book 148 = .ok (.getfield 37, 3) := dk_180 0 37 (dk_at dksX3_book_6 4 rfl rfl)
theorem dX3_book_151 : decode cX3_book 151 = .ok (.iload_n 3, 1) := dk_29 (dk_at dksX3_book_6 7 rfl rfl)
theorem dX3_book_152 : decode cX3_book 152 = .ok (.iconst 3, 1) := dk_6 (dk_at dksX3_book_6 8 rfl rfl)
theorem dX3_book_153 : decode cX3_book 153 = .ok (.iadd, 1) := dk_96 (dk_at dksX3_book_6 9 rfl rfl)
theorem dX3_book_154 : decode cX3_book 154 = .ok (.iaload, 1) := dk_46 (dk_at dksX3_book_6 10 rfl rfl)
theorem dX3_book_155 : decode cX3_book 155 = .ok (.iconst 1, 1) := dk_4 (dk_at dksX3_book_6 11 rfl rfl)
theorem dX3_book_156 : decode cX3_book 156 = .ok (.iadd, 1) := dk_96 (dk_at dksX3_book_6 12 rfl rfl)
theorem dX3_book_157 : decode cX3_book 157 = .ok (.i2l, 1) := dk_133 (dk_at dksX3_book_6 13 rfl rfl)
theorem dX3_book_158 : decode cX3_book 158 = .ok (.ldc2_w 278, 3) := dk_20 1 22 (dk_at dksX3_book_6 14 rfl rfl)
theorem dX3_book_161 : decode cX3_book 161 = .ok (.invokestatic 121, 3) := dk_184 0 121 (dk_at dksX3_book_6 17 rfl rfl)
theorem dX3_book_164 : decode cX3_book 164 = .ok (.ifCond .eq 90, 3) := dk_153 0 90 (dk_at dksX3_book_6 20 rfl rfl)
theorem dX3_book_167 : decode cX3_book 167 = .ok (.aload_n 0, 1) := dk_42 (dk_at dksX3_book_6 23 rfl rfl)
theorem dX3_book_168 : decode cX3_book 168 = .ok (.getfield 37, 3) := dk_180 0 37 (dk_at dksX3_book_7 0 rfl rfl)
theorem dX3_book_171 : decode cX3_book 171 = .ok (.iload_n 3, 1) := dk_29 (dk_at dksX3_book_7 3 rfl rfl)
theorem dX3_book_172 : decode cX3_book 172 = .ok (.iconst 5, 1) := dk_8 (dk_at dksX3_book_7 4 rfl rfl)
theorem dX3_book_173 : decode cX3_book 173 = .ok (.iadd, 1) := dk_96 (dk_at dksX3_book_7 5 rfl rfl)
theorem dX3_book_174 : decode cX3_book 174 = .ok (.iaload, 1) := dk_46 (dk_at dksX3_book_7 6 rfl rfl)
theorem dX3_book_175 : decode cX3_book 175 = .ok (.i2l, 1) := dk_133 (dk_at dksX3_book_7 7 rfl rfl)
theorem dX3_book_176 : decode cX3_book 176 = .ok (.lconst 1, 1) := dk_10 (dk_at dksX3_book_7 8 rfl rfl)
theorem dX3_book_177 : decode cX3_book 177 = .ok (.ldc2_w 280, 3) := dk_20 1 24 (dk_at dksX3_book_7 9 rfl rfl)
theorem dX3_book_180 : decode cX3_book 180 = .ok (.invokestatic 121, 3) := dk_184 0 121 (dk_at dksX3_book_7 12 rfl rfl)
theorem dX3_book_183 : decode cX3_book 183 = .ok (.ifCond .eq 71, 3) := dk_153 0 71 (dk_at dksX3_book_7 15 rfl rfl)
theorem dX3_book_186 : decode cX3_book 186 = .ok (.aload_n 0, 1) := dk_42 (dk_at dksX3_book_7 18 rfl rfl)
theorem dX3_book_187 : decode cX3_book 187 = .ok (.getfield 37, 3) := dk_180 0 37 (dk_at dksX3_book_7 19 rfl rfl)
theorem dX3_book_190 : decode cX3_book 190 = .ok (.iload_n 3, 1) := dk_29 (dk_at dksX3_book_7 22 rfl rfl)
theorem dX3_book_191 : decode cX3_book 191 = .ok (.bipush 6, 2) := dk_16 6 (dk_at dksX3_book_8 0 rfl rfl)
theorem dX3_book_193 : decode cX3_book 193 = .ok (.iadd, 1) := dk_96 (dk_at dksX3_book_8 2 rfl rfl)
theorem dX3_book_194 : decode cX3_book 194 = .ok (.iaload, 1) := dk_46 (dk_at dksX3_book_8 3 rfl rfl)
theorem dX3_book_195 : decode cX3_book 195 = .ok (.i2l, 1) := dk_133 (dk_at dksX3_book_8 4 rfl rfl)
theorem dX3_book_196 : decode cX3_book 196 = .ok (.lconst 0, 1) := dk_9 (dk_at dksX3_book_8 5 rfl rfl)
theorem dX3_book_197 : decode cX3_book 197 = .ok (.ldc2_w 254, 3) := dk_20 0 254 (dk_at dksX3_book_8 6 rfl rfl)
theorem dX3_book_200 : decode cX3_book 200 = .ok (.invokestatic 121, 3) := dk_184 0 121 (dk_at dksX3_book_8 9 rfl rfl)
theorem dX3_book_203 : decode cX3_book 203 = .ok (.ifCond .eq 51, 3) := dk_153 0 51 (dk_at dksX3_book_8 12 rfl rfl)
theorem dX3_book_206 : decode cX3_book 206 = .ok (.aload_n 0, 1) := dk_42 (dk_at dksX3_book_8 15 rfl rfl)
theorem dX3_book_207 : decode cX3_book 207 = .ok (.getfield 37, 3) := dk_180 0 37 (dk_at dksX3_book_8 16 rfl rfl)
theorem dX3_book_210 : decode cX3_book 210 = .ok (.iload_n 3, 1) := dk_29 (dk_at dksX3_book_8 19 rfl rfl)
theorem dX3_book_211 : decode cX3_book 211 = .ok (.bipush 7, 2) := dk_16 7 (dk_at dksX3_book_8 20 rfl rfl)
theorem dX3_book_213 : decode cX3_book 213 = .ok (.iadd, 1) := dk_96 (dk_at dksX3_book_8 22 rfl rfl)
theorem dX3_book_214 : decode cX3_book 214 = .ok (.iaload, 1) := dk_46 (dk_at dksX3_book_8 23 rfl rfl)
theorem dX3_book_215 : decode cX3_book 215 = .ok (.i2l, 1) := dk_133 (dk_at dksX3_book_9 0 rfl rfl)
theorem dX3_book_216 : decode cX3_book 216 = .ok (.lconst 0, 1) := dk_9 (dk_at dksX3_book_9 1 rfl rfl)
theorem dX3_book_217 : decode cX3_book 217 = .ok (.lconst 1, 1) := dk_10 (dk_at dksX3_book_9 2 rfl rfl)
theorem dX3_book_218 : decode cX3_book 218 = .ok (.invokestatic 121, 3) := dk_184 0 121 (dk_at dksX3_book_9 3 rfl rfl)
theorem dX3_book_221 : decode cX3_book 221 = .ok (.ifCond .eq 33, 3) := dk_153 0 33 (dk_at dksX3_book_9 6 rfl rfl)
theorem dX3_book_224 : decode cX3_book 224 = .ok (.aload_n 0, 1) := dk_42 (dk_at dksX3_book_9 9 rfl rfl)
theorem dX3_book_225 : decode cX3_book 225 = .ok (.getfield 37, 3) := dk_180 0 37 (dk_at dksX3_book_9 10 rfl rfl)
theorem dX3_book_228 : decode cX3_book 228 = .ok (.iload_n 3, 1) := dk_29 (dk_at dksX3_book_9 13 rfl rfl)
theorem dX3_book_229 : decode cX3_book 229 = .ok (.bipush 8, 2) := dk_16 8 (dk_at dksX3_book_9 14 rfl rfl)
theorem dX3_book_231 : decode cX3_book 231 = .ok (.iadd, 1) := dk_96 (dk_at dksX3_book_9 16 rfl rfl)
theorem dX3_book_232 : decode cX3_book 232 = .ok (.iaload, 1) := dk_46 (dk_at dksX3_book_9 17 rfl rfl)
theorem dX3_book_233 : decode cX3_book 233 = .ok (.i2l, 1) := dk_133 (dk_at dksX3_book_9 18 rfl rfl)
theorem dX3_book_234 : decode cX3_book 234 = .ok (.lconst 0, 1) := dk_9 (dk_at dksX3_book_9 19 rfl rfl)
theorem dX3_book_235 : decode cX3_book 235 = .ok (.aload_n 0, 1) := dk_42 (dk_at dksX3_book_9 20 rfl rfl)
theorem dX3_book_236 : decode cX3_book 236 = .ok (.getfield 37, 3) := dk_180 0 37 (dk_at dksX3_book_9 21 rfl rfl)
theorem dX3_book_239 : decode cX3_book 239 = .ok (.iload_n 3, 1) := dk_29 (dk_at dksX3_book_10 0 rfl rfl)
theorem dX3_book_240 : decode cX3_book 240 = .ok (.iconst 2, 1) := dk_5 (dk_at dksX3_book_10 1 rfl rfl)
theorem dX3_book_241 : decode cX3_book 241 = .ok (.iadd, 1) := dk_96 (dk_at dksX3_book_10 2 rfl rfl)
theorem dX3_book_242 : decode cX3_book 242 = .ok (.iaload, 1) := dk_46 (dk_at dksX3_book_10 3 rfl rfl)
theorem dX3_book_243 : decode cX3_book 243 = .ok (.i2l, 1) := dk_133 (dk_at dksX3_book_10 4 rfl rfl)
theorem dX3_book_244 : decode cX3_book 244 = .ok (.invokestatic 121, 3) := dk_184 0 121 (dk_at dksX3_book_10 5 rfl rfl)
theorem dX3_book_247 : decode cX3_book 247 = .ok (.ifCond .eq 7, 3) := dk_153 0 7 (dk_at dksX3_book_10 8 rfl rfl)
theorem dX3_book_250 : decode cX3_book 250 = .ok (.iconst 1, 1) := dk_4 (dk_at dksX3_book_10 11 rfl rfl)
theorem dX3_book_251 : decode cX3_book 251 = .ok (.goto 4, 3) := dk_167 0 4 (dk_at dksX3_book_10 12 rfl rfl)
theorem dX3_book_254 : decode cX3_book 254 = .ok (.iconst 0, 1) := dk_3 (dk_at dksX3_book_10 15 rfl rfl)
theorem dX3_book_255 : decode cX3_book 255 = .ok (.istore 4, 2) := dk_54 4 (dk_at dksX3_book_10 16 rfl rfl)
theorem dX3_book_257 : decode cX3_book 257 = .ok (.iload 4, 2) := dk_21 4 (dk_at dksX3_book_10 18 rfl rfl)
theorem dX3_book_259 : decode cX3_book 259 = .ok (.ifCond .ne 6, 3) := dk_154 0 6 (dk_at dksX3_book_10 20 rfl rfl)
theorem dX3_book_262 : decode cX3_book 262 = .ok (.ldc 131, 2) := dk_18 131 (dk_at dksX3_book_11 0 rfl rfl)
theorem dX3_book_264 : decode cX3_book 264 = .ok (.ireturn, 1) := dk_172 (dk_at dksX3_book_11 2 rfl rfl)
theorem dX3_book_265 : decode cX3_book 265 = .ok (.aload_n 0, 1) := dk_42 (dk_at dksX3_book_11 3 rfl rfl)
theorem dX3_book_266 : decode cX3_book 266 = .ok (.iconst 0, 1) := dk_3 (dk_at dksX3_book_11 4 rfl rfl)
theorem dX3_book_267 : decode cX3_book 267 = .ok (.putfield 115, 3) := dk_181 0 115 (dk_at dksX3_book_11 5 rfl rfl)
theorem dX3_book_270 : decode cX3_book 270 = .ok (.iconst 0, 1) := dk_3 (dk_at dksX3_book_11 8 rfl rfl)
theorem dX3_book_271 : decode cX3_book 271 = .ok (.istore 5, 2) := dk_54 5 (dk_at dksX3_book_11 9 rfl rfl)
theorem dX3_book_273 : decode cX3_book 273 = .ok (.iload 5, 2) := dk_21 5 (dk_at dksX3_book_11 11 rfl rfl)
theorem dX3_book_275 : decode cX3_book 275 = .ok (.bipush 9, 2) := dk_16 9 (dk_at dksX3_book_11 13 rfl rfl)
theorem dX3_book_277 : decode cX3_book 277 = .ok (.if_icmp .ge 33, 3) := dk_162 0 33 (dk_at dksX3_book_11 15 rfl rfl)
theorem dX3_book_280 : decode cX3_book 280 = .ok (.aload_n 0, 1) := dk_42 (dk_at dksX3_book_11 18 rfl rfl)
theorem dX3_book_281 : decode cX3_book 281 = .ok (.getfield 43, 3) := dk_180 0 43 (dk_at dksX3_book_11 19 rfl rfl)
theorem dX3_book_284 : decode cX3_book 284 = .ok (.bipush 9, 2) := dk_16 9 (dk_at dksX3_book_11 22 rfl rfl)
theorem dX3_book_286 : decode cX3_book 286 = .ok (.aload_n 0, 1) := dk_42 (dk_at dksX3_book_12 0 rfl rfl)
theorem dX3_book_287 : decode cX3_book 287 = .ok (.getfield 268, 3) := dk_180 1 12 (dk_at dksX3_book_12 1 rfl rfl)
theorem dX3_book_290 : decode cX3_book 290 = .ok (.imul, 1) := dk_104 (dk_at dksX3_book_12 4 rfl rfl)
theorem dX3_book_291 : decode cX3_book 291 = .ok (.iload 5, 2) := dk_21 5 (dk_at dksX3_book_12 5 rfl rfl)
theorem dX3_book_293 : decode cX3_book 293 = .ok (.iadd, 1) := dk_96 (dk_at dksX3_book_12 7 rfl rfl)
theorem dX3_book_294 : decode cX3_book 294 = .ok (.aload_n 0, 1) := dk_42 (dk_at dksX3_book_12 8 rfl rfl)
theorem dX3_book_295 : decode cX3_book 295 = .ok (.getfield 37, 3) := dk_180 0 37 (dk_at dksX3_book_12 9 rfl rfl)
theorem dX3_book_298 : decode cX3_book 298 = .ok (.iload_n 3, 1) := dk_29 (dk_at dksX3_book_12 12 rfl rfl)
theorem dX3_book_299 : decode cX3_book 299 = .ok (.iload 5, 2) := dk_21 5 (dk_at dksX3_book_12 13 rfl rfl)
theorem dX3_book_301 : decode cX3_book 301 = .ok (.iadd, 1) := dk_96 (dk_at dksX3_book_12 15 rfl rfl)
theorem dX3_book_302 : decode cX3_book 302 = .ok (.iaload, 1) := dk_46 (dk_at dksX3_book_12 16 rfl rfl)
theorem dX3_book_303 : decode cX3_book 303 = .ok (.iastore, 1) := dk_79 (dk_at dksX3_book_12 17 rfl rfl)
theorem dX3_book_304 : decode cX3_book 304 = .ok (.iinc 5 1, 3) := dk_132 5 1 (dk_at dksX3_book_12 18 rfl rfl)
theorem dX3_book_307 : decode cX3_book 307 = .ok (.goto (-34), 3) := dk_167 255 222 (dk_at dksX3_book_12 21 rfl rfl)
theorem dX3_book_310 : decode cX3_book 310 = .ok (.aload_n 0, 1) := dk_42 (dk_at dksX3_book_13 0 rfl rfl)
theorem dX3_book_311 : decode cX3_book 311 = .ok (.getfield 46, 3) := dk_180 0 46 (dk_at dksX3_book_13 1 rfl rfl)
theorem dX3_book_314 : decode cX3_book 314 = .ok (.aload_n 0, 1) := dk_42 (dk_at dksX3_book_13 4 rfl rfl)
theorem dX3_book_315 : decode cX3_book 315 = .ok (.getfield 268, 3) := dk_180 1 12 (dk_at dksX3_book_13 5 rfl rfl)
theorem dX3_book_318 : decode cX3_book 318 = .ok (.ldc 147, 2) := dk_18 147 (dk_at dksX3_book_13 8 rfl rfl)
theorem dX3_book_320 : decode cX3_book 320 = .ok (.iastore, 1) := dk_79 (dk_at dksX3_book_13 10 rfl rfl)
theorem dX3_book_321 : decode cX3_book 321 = .ok (.aload_n 0, 1) := dk_42 (dk_at dksX3_book_13 11 rfl rfl)
theorem dX3_book_322 : decode cX3_book 322 = .ok (.dup, 1) := dk_89 (dk_at dksX3_book_13 12 rfl rfl)
theorem dX3_book_323 : decode cX3_book 323 = .ok (.getfield 268, 3) := dk_180 1 12 (dk_at dksX3_book_13 13 rfl rfl)
theorem dX3_book_326 : decode cX3_book 326 = .ok (.iconst 1, 1) := dk_4 (dk_at dksX3_book_13 16 rfl rfl)
theorem dX3_book_327 : decode cX3_book 327 = .ok (.iadd, 1) := dk_96 (dk_at dksX3_book_13 17 rfl rfl)
theorem dX3_book_328 : decode cX3_book 328 = .ok (.putfield 268, 3) := dk_181 1 12 (dk_at dksX3_book_13 18 rfl rfl)
theorem dX3_book_331 : decode cX3_book 331 = .ok (.aload_n 0, 1) := dk_42 (dk_at dksX3_book_13 21 rfl rfl)
theorem dX3_book_332 : decode cX3_book 332 = .ok (.getfield 268, 3) := dk_180 1 12 (dk_at dksX3_book_14 0 rfl rfl)
theorem dX3_book_335 : decode cX3_book 335 = .ok (.iconst 1, 1) := dk_4 (dk_at dksX3_book_14 3 rfl rfl)
theorem dX3_book_336 : decode cX3_book 336 = .ok (.isub, 1) := dk_100 (dk_at dksX3_book_14 4 rfl rfl)
theorem dX3_book_337 : decode cX3_book 337 = .ok (.ireturn, 1) := dk_172 (dk_at dksX3_book_14 5 rfl rfl)
abbrev cX3_isDay : ByteArray := prog_19_method_29_code
def yX3_isDay : MethodName := ⟨RX3, "isDay", "(I)Z"⟩
def dkwX3_isDay_0 : List UInt8 := [26, 133, 9, 20, 1, 10, 184, 0, 121, 172]
abbrev dktX3_isDay_0 : List UInt8 := dkwX3_isDay_0 ++ []
theorem dksX3_isDay_0 : cX3_isDay.data.toList.drop 0 = dktX3_isDay_0 := by decide +kernel
theorem dX3_isDay_0 : decode cX3_isDay 0 = .ok (.iload_n 0, 1) := dk_26 (dk_at dksX3_isDay_0 0 rfl rfl)
theorem dX3_isDay_1 : decode cX3_isDay 1 = .ok (.i2l, 1) := dk_133 (dk_at dksX3_isDay_0 1 rfl rfl)
theorem dX3_isDay_2 : decode cX3_isDay 2 = .ok (.lconst 0, 1) := dk_9 (dk_at dksX3_isDay_0 2 rfl rfl)
theorem dX3_isDay_3 : decode cX3_isDay 3 = .ok (.ldc2_w 266, 3) := dk_20 1 10 (dk_at dksX3_isDay_0 3 rfl rfl)
theorem dX3_isDay_6 : decode cX3_isDay 6 = .ok (.invokestatic 121, 3) := dk_184 0 121 (dk_at dksX3_isDay_0 6 rfl rfl)
theorem dX3_isDay_9 : decode cX3_isDay 9 = .ok (.ireturn, 1) := dk_172 (dk_at dksX3_isDay_0 9 rfl rfl)
abbrev cX3_cancel : ByteArray := prog_19_method_33_code
def yX3_cancel : MethodName := ⟨RX3, "cancel", "(II)I"⟩
def dkwX3_cancel_2 : List UInt8 := [159, 0, 7, 19, 1, 33, 172, 42, 180, 0, 46, 27, 28, 79, 4, 172]
abbrev dktX3_cancel_2 : List UInt8 := dkwX3_cancel_2 ++ []
def dkwX3_cancel_1 : List UInt8 := [27, 5, 182, 1, 29, 133, 184, 0, 121, 154, 0, 6, 18, 131, 172, 42, 180, 0, 46, 27, 46, 18, 147]
abbrev dktX3_cancel_1 : List UInt8 := dkwX3_cancel_1 ++ dktX3_cancel_2
def dkwX3_cancel_0 : List UInt8 := [42, 3, 181, 0, 111, 42, 27, 182, 1, 26, 153, 0, 26, 28, 133, 42, 27, 16, 8, 182, 1, 29, 133, 42]
abbrev dktX3_cancel_0 : List UInt8 := dkwX3_cancel_0 ++ dktX3_cancel_1
theorem dksX3_cancel_0 : cX3_cancel.data.toList.drop 0 = dktX3_cancel_0 := by decide +kernel
theorem dksX3_cancel_1 : cX3_cancel.data.toList.drop 24 = dktX3_cancel_1 := dk_seg dksX3_cancel_0 24 rfl rfl
theorem dksX3_cancel_2 : cX3_cancel.data.toList.drop 47 = dktX3_cancel_2 := dk_seg dksX3_cancel_1 23 rfl rfl
theorem dX3_cancel_0 : decode cX3_cancel 0 = .ok (.aload_n 0, 1) := dk_42 (dk_at dksX3_cancel_0 0 rfl rfl)
theorem dX3_cancel_1 : decode cX3_cancel 1 = .ok (.iconst 0, 1) := dk_3 (dk_at dksX3_cancel_0 1 rfl rfl)
theorem dX3_cancel_2 : decode cX3_cancel 2 = .ok (.putfield 111, 3) := dk_181 0 111 (dk_at dksX3_cancel_0 2 rfl rfl)
theorem dX3_cancel_5 : decode cX3_cancel 5 = .ok (.aload_n 0, 1) := dk_42 (dk_at dksX3_cancel_0 5 rfl rfl)
theorem dX3_cancel_6 : decode cX3_cancel 6 = .ok (.iload_n 1, 1) := dk_27 (dk_at dksX3_cancel_0 6 rfl rfl)
theorem dX3_cancel_7 : decode cX3_cancel 7 = .ok (.invokevirtual 282, 3) := dk_182 1 26 (dk_at dksX3_cancel_0 7 rfl rfl)
theorem dX3_cancel_10 : decode cX3_cancel 10 = .ok (.ifCond .eq 26, 3) := dk_153 0 26 (dk_at dksX3_cancel_0 10 rfl rfl)
theorem dX3_cancel_13 : decode cX3_cancel 13 = .ok (.iload_n 2, 1) := dk_28 (dk_at dksX3_cancel_0 13 rfl rfl)
theorem dX3_cancel_14 : decode cX3_cancel 14 = .ok (.i2l, 1) := dk_133 (dk_at dksX3_cancel_0 14 rfl rfl)
theorem dX3_cancel_15 : decode cX3_cancel 15 = .ok (.aload_n 0, 1) := dk_42 (dk_at dksX3_cancel_0 15 rfl rfl)
theorem dX3_cancel_16 : decode cX3_cancel 16 = .ok (.iload_n 1, 1) := dk_27 (dk_at dksX3_cancel_0 16 rfl rfl)
theorem dX3_cancel_17 : decode cX3_cancel 17 = .ok (.bipush 8, 2) := dk_16 8 (dk_at dksX3_cancel_0 17 rfl rfl)
theorem dX3_cancel_19 : decode cX3_cancel 19 = .ok (.invokevirtual 285, 3) := dk_182 1 29 (dk_at dksX3_cancel_0 19 rfl rfl)
theorem dX3_cancel_22 : decode cX3_cancel 22 = .ok (.i2l, 1) := dk_133 (dk_at dksX3_cancel_0 22 rfl rfl)
theorem dX3_cancel_23 : decode cX3_cancel 23 = .ok (.aload_n 0, 1) := dk_42 (dk_at dksX3_cancel_0 23 rfl rfl)
theorem dX3_cancel_24 : decode cX3_cancel 24 = .ok (.iload_n 1, 1) := dk_27 (dk_at dksX3_cancel_1 0 rfl rfl)
theorem dX3_cancel_25 : decode cX3_cancel 25 = .ok (.iconst 2, 1) := dk_5 (dk_at dksX3_cancel_1 1 rfl rfl)
theorem dX3_cancel_26 : decode cX3_cancel 26 = .ok (.invokevirtual 285, 3) := dk_182 1 29 (dk_at dksX3_cancel_1 2 rfl rfl)
theorem dX3_cancel_29 : decode cX3_cancel 29 = .ok (.i2l, 1) := dk_133 (dk_at dksX3_cancel_1 5 rfl rfl)
theorem dX3_cancel_30 : decode cX3_cancel 30 = .ok (.invokestatic 121, 3) := dk_184 0 121 (dk_at dksX3_cancel_1 6 rfl rfl)
theorem dX3_cancel_33 : decode cX3_cancel 33 = .ok (.ifCond .ne 6, 3) := dk_154 0 6 (dk_at dksX3_cancel_1 9 rfl rfl)
theorem dX3_cancel_36 : decode cX3_cancel 36 = .ok (.ldc 131, 2) := dk_18 131 (dk_at dksX3_cancel_1 12 rfl rfl)
theorem dX3_cancel_38 : decode cX3_cancel 38 = .ok (.ireturn, 1) := dk_172 (dk_at dksX3_cancel_1 14 rfl rfl)
theorem dX3_cancel_39 : decode cX3_cancel 39 = .ok (.aload_n 0, 1) := dk_42 (dk_at dksX3_cancel_1 15 rfl rfl)
theorem dX3_cancel_40 : decode cX3_cancel 40 = .ok (.getfield 46, 3) := dk_180 0 46 (dk_at dksX3_cancel_1 16 rfl rfl)
theorem dX3_cancel_43 : decode cX3_cancel 43 = .ok (.iload_n 1, 1) := dk_27 (dk_at dksX3_cancel_1 19 rfl rfl)
theorem dX3_cancel_44 : decode cX3_cancel 44 = .ok (.iaload, 1) := dk_46 (dk_at dksX3_cancel_1 20 rfl rfl)
theorem dX3_cancel_45 : decode cX3_cancel 45 = .ok (.ldc 147, 2) := dk_18 147 (dk_at dksX3_cancel_1 21 rfl rfl)
theorem dX3_cancel_47 : decode cX3_cancel 47 = .ok (.if_icmp .eq 7, 3) := dk_159 0 7 (dk_at dksX3_cancel_2 0 rfl rfl)
theorem dX3_cancel_50 : decode cX3_cancel 50 = .ok (.ldc_w 289, 3) := dk_19 1 33 (dk_at dksX3_cancel_2 3 rfl rfl)
theorem dX3_cancel_53 : decode cX3_cancel 53 = .ok (.ireturn, 1) := dk_172 (dk_at dksX3_cancel_2 6 rfl rfl)
theorem dX3_cancel_54 : decode cX3_cancel 54 = .ok (.aload_n 0, 1) := dk_42 (dk_at dksX3_cancel_2 7 rfl rfl)
theorem dX3_cancel_55 : decode cX3_cancel 55 = .ok (.getfield 46, 3) := dk_180 0 46 (dk_at dksX3_cancel_2 8 rfl rfl)
theorem dX3_cancel_58 : decode cX3_cancel 58 = .ok (.iload_n 1, 1) := dk_27 (dk_at dksX3_cancel_2 11 rfl rfl)
theorem dX3_cancel_59 : decode cX3_cancel 59 = .ok (.iload_n 2, 1) := dk_28 (dk_at dksX3_cancel_2 12 rfl rfl)
theorem dX3_cancel_60 : decode cX3_cancel 60 = .ok (.iastore, 1) := dk_79 (dk_at dksX3_cancel_2 13 rfl rfl)
theorem dX3_cancel_61 : decode cX3_cancel 61 = .ok (.iconst 1, 1) := dk_4 (dk_at dksX3_cancel_2 14 rfl rfl)
theorem dX3_cancel_62 : decode cX3_cancel 62 = .ok (.ireturn, 1) := dk_172 (dk_at dksX3_cancel_2 15 rfl rfl)
abbrev cX3_isBooking : ByteArray := prog_19_method_30_code
def yX3_isBooking : MethodName := ⟨RX3, "isBooking", "(I)Z"⟩
def dkwX3_isBooking_0 : List UInt8 := [27, 133, 9, 42, 180, 1, 12, 4, 100, 133, 184, 0, 121, 172]
abbrev dktX3_isBooking_0 : List UInt8 := dkwX3_isBooking_0 ++ []
theorem dksX3_isBooking_0 : cX3_isBooking.data.toList.drop 0 = dktX3_isBooking_0 := by decide +kernel
theorem dX3_isBooking_0 : decode cX3_isBooking 0 = .ok (.iload_n 1, 1) := dk_27 (dk_at dksX3_isBooking_0 0 rfl rfl)
theorem dX3_isBooking_1 : decode cX3_isBooking 1 = .ok (.i2l, 1) := dk_133 (dk_at dksX3_isBooking_0 1 rfl rfl)
theorem dX3_isBooking_2 : decode cX3_isBooking 2 = .ok (.lconst 0, 1) := dk_9 (dk_at dksX3_isBooking_0 2 rfl rfl)
theorem dX3_isBooking_3 : decode cX3_isBooking 3 = .ok (.aload_n 0, 1) := dk_42 (dk_at dksX3_isBooking_0 3 rfl rfl)
theorem dX3_isBooking_4 : decode cX3_isBooking 4 = .ok (.getfield 268, 3) := dk_180 1 12 (dk_at dksX3_isBooking_0 4 rfl rfl)
theorem dX3_isBooking_7 : decode cX3_isBooking 7 = .ok (.iconst 1, 1) := dk_4 (dk_at dksX3_isBooking_0 7 rfl rfl)
theorem dX3_isBooking_8 : decode cX3_isBooking 8 = .ok (.isub, 1) := dk_100 (dk_at dksX3_isBooking_0 8 rfl rfl)
theorem dX3_isBooking_9 : decode cX3_isBooking 9 = .ok (.i2l, 1) := dk_133 (dk_at dksX3_isBooking_0 9 rfl rfl)
theorem dX3_isBooking_10 : decode cX3_isBooking 10 = .ok (.invokestatic 121, 3) := dk_184 0 121 (dk_at dksX3_isBooking_0 10 rfl rfl)
theorem dX3_isBooking_13 : decode cX3_isBooking 13 = .ok (.ireturn, 1) := dk_172 (dk_at dksX3_isBooking_0 13 rfl rfl)
abbrev cX3_of : ByteArray := prog_19_method_31_code
def yX3_of : MethodName := ⟨RX3, "of", "(II)I"⟩
def dkwX3_of_0 : List UInt8 := [42, 180, 0, 43, 16, 9, 27, 104, 28, 96, 46, 172]
abbrev dktX3_of_0 : List UInt8 := dkwX3_of_0 ++ []
theorem dksX3_of_0 : cX3_of.data.toList.drop 0 = dktX3_of_0 := by decide +kernel
theorem dX3_of_0 : decode cX3_of 0 = .ok (.aload_n 0, 1) := dk_42 (dk_at dksX3_of_0 0 rfl rfl)
theorem dX3_of_1 : decode cX3_of 1 = .ok (.getfield 43, 3) := dk_180 0 43 (dk_at dksX3_of_0 1 rfl rfl)
theorem dX3_of_4 : decode cX3_of 4 = .ok (.bipush 9, 2) := dk_16 9 (dk_at dksX3_of_0 4 rfl rfl)
theorem dX3_of_6 : decode cX3_of 6 = .ok (.iload_n 1, 1) := dk_27 (dk_at dksX3_of_0 6 rfl rfl)
theorem dX3_of_7 : decode cX3_of 7 = .ok (.imul, 1) := dk_104 (dk_at dksX3_of_0 7 rfl rfl)
theorem dX3_of_8 : decode cX3_of 8 = .ok (.iload_n 2, 1) := dk_28 (dk_at dksX3_of_0 8 rfl rfl)
theorem dX3_of_9 : decode cX3_of 9 = .ok (.iadd, 1) := dk_96 (dk_at dksX3_of_0 9 rfl rfl)
theorem dX3_of_10 : decode cX3_of 10 = .ok (.iaload, 1) := dk_46 (dk_at dksX3_of_0 10 rfl rfl)
theorem dX3_of_11 : decode cX3_of 11 = .ok (.ireturn, 1) := dk_172 (dk_at dksX3_of_0 11 rfl rfl)
abbrev cX3_told : ByteArray := prog_19_method_35_code
def yX3_told : MethodName := ⟨RX3, "told", "(II)I"⟩
def dkwX3_told_2 : List UInt8 := [160, 0, 12, 42, 180, 0, 46, 27, 46, 167, 0, 8, 42, 27, 182, 1, 34, 172]
abbrev dktX3_told_2 : List UInt8 := dkwX3_told_2 ++ []
def dkwX3_told_1 : List UInt8 := [154, 0, 6, 18, 131, 172, 28, 16, 9, 162, 0, 12, 42, 27, 28, 182, 1, 29, 167, 0, 23, 28, 16, 9]
abbrev dktX3_told_1 : List UInt8 := dkwX3_told_1 ++ dktX3_told_2
def dkwX3_told_0 : List UInt8 := [42, 3, 181, 0, 111, 42, 27, 182, 1, 26, 153, 0, 15, 28, 133, 9, 20, 1, 2, 184, 0, 121]
abbrev dktX3_told_0 : List UInt8 := dkwX3_told_0 ++ dktX3_told_1
theorem dksX3_told_0 : cX3_told.data.toList.drop 0 = dktX3_told_0 := by decide +kernel
theorem dksX3_told_1 : cX3_told.data.toList.drop 22 = dktX3_told_1 := dk_seg dksX3_told_0 22 rfl rfl
theorem dksX3_told_2 : cX3_told.data.toList.drop 46 = dktX3_told_2 := dk_seg dksX3_told_1 24 rfl rfl
theorem dX3_told_0 : decode cX3_told 0 = .ok (.aload_n 0, 1) := dk_42 (dk_at dksX3_told_0 0 rfl rfl)
theorem dX3_told_1 : decode cX3_told 1 = .ok (.iconst 0, 1) := dk_3 (dk_at dksX3_told_0 1 rfl rfl)
theorem dX3_told_2 : decode cX3_told 2 = .ok (.putfield 111, 3) := dk_181 0 111 (dk_at dksX3_told_0 2 rfl rfl)
theorem dX3_told_5 : decode cX3_told 5 = .ok (.aload_n 0, 1) := dk_42 (dk_at dksX3_told_0 5 rfl rfl)
theorem dX3_told_6 : decode cX3_told 6 = .ok (.iload_n 1, 1) := dk_27 (dk_at dksX3_told_0 6 rfl rfl)
theorem dX3_told_7 : decode cX3_told 7 = .ok (.invokevirtual 282, 3) := dk_182 1 26 (dk_at dksX3_told_0 7 rfl rfl)
theorem dX3_told_10 : decode cX3_told 10 = .ok (.ifCond .eq 15, 3) := dk_153 0 15 (dk_at dksX3_told_0 10 rfl rfl)
theorem dX3_told_13 : decode cX3_told 13 = .ok (.iload_n 2, 1) := dk_28 (dk_at dksX3_told_0 13 rfl rfl)
theorem dX3_told_14 : decode cX3_told 14 = .ok (.i2l, 1) := dk_133 (dk_at dksX3_told_0 14 rfl rfl)
theorem dX3_told_15 : decode cX3_told 15 = .ok (.lconst 0, 1) := dk_9 (dk_at dksX3_told_0 15 rfl rfl)
theorem dX3_told_16 : decode cX3_told 16 = .ok (.ldc2_w 258, 3) := dk_20 1 2 (dk_at dksX3_told_0 16 rfl rfl)
theorem dX3_told_19 : decode cX3_told 19 = .ok (.invokestatic 121, 3) := dk_184 0 121 (dk_at dksX3_told_0 19 rfl rfl)
theorem dX3_told_22 : decode cX3_told 22 = .ok (.ifCond .ne 6, 3) := dk_154 0 6 (dk_at dksX3_told_1 0 rfl rfl)
theorem dX3_told_25 : decode cX3_told 25 = .ok (.ldc 131, 2) := dk_18 131 (dk_at dksX3_told_1 3 rfl rfl)
theorem dX3_told_27 : decode cX3_told 27 = .ok (.ireturn, 1) := dk_172 (dk_at dksX3_told_1 5 rfl rfl)
theorem dX3_told_28 : decode cX3_told 28 = .ok (.iload_n 2, 1) := dk_28 (dk_at dksX3_told_1 6 rfl rfl)
theorem dX3_told_29 : decode cX3_told 29 = .ok (.bipush 9, 2) := dk_16 9 (dk_at dksX3_told_1 7 rfl rfl)
theorem dX3_told_31 : decode cX3_told 31 = .ok (.if_icmp .ge 12, 3) := dk_162 0 12 (dk_at dksX3_told_1 9 rfl rfl)
theorem dX3_told_34 : decode cX3_told 34 = .ok (.aload_n 0, 1) := dk_42 (dk_at dksX3_told_1 12 rfl rfl)
theorem dX3_told_35 : decode cX3_told 35 = .ok (.iload_n 1, 1) := dk_27 (dk_at dksX3_told_1 13 rfl rfl)
theorem dX3_told_36 : decode cX3_told 36 = .ok (.iload_n 2, 1) := dk_28 (dk_at dksX3_told_1 14 rfl rfl)
theorem dX3_told_37 : decode cX3_told 37 = .ok (.invokevirtual 285, 3) := dk_182 1 29 (dk_at dksX3_told_1 15 rfl rfl)
theorem dX3_told_40 : decode cX3_told 40 = .ok (.goto 23, 3) := dk_167 0 23 (dk_at dksX3_told_1 18 rfl rfl)
theorem dX3_told_43 : decode cX3_told 43 = .ok (.iload_n 2, 1) := dk_28 (dk_at dksX3_told_1 21 rfl rfl)
theorem dX3_told_44 : decode cX3_told 44 = .ok (.bipush 9, 2) := dk_16 9 (dk_at dksX3_told_1 22 rfl rfl)
theorem dX3_told_46 : decode cX3_told 46 = .ok (.if_icmp .ne 12, 3) := dk_160 0 12 (dk_at dksX3_told_2 0 rfl rfl)
theorem dX3_told_49 : decode cX3_told 49 = .ok (.aload_n 0, 1) := dk_42 (dk_at dksX3_told_2 3 rfl rfl)
theorem dX3_told_50 : decode cX3_told 50 = .ok (.getfield 46, 3) := dk_180 0 46 (dk_at dksX3_told_2 4 rfl rfl)
theorem dX3_told_53 : decode cX3_told 53 = .ok (.iload_n 1, 1) := dk_27 (dk_at dksX3_told_2 7 rfl rfl)
theorem dX3_told_54 : decode cX3_told 54 = .ok (.iaload, 1) := dk_46 (dk_at dksX3_told_2 8 rfl rfl)
theorem dX3_told_55 : decode cX3_told 55 = .ok (.goto 8, 3) := dk_167 0 8 (dk_at dksX3_told_2 9 rfl rfl)
theorem dX3_told_58 : decode cX3_told 58 = .ok (.aload_n 0, 1) := dk_42 (dk_at dksX3_told_2 12 rfl rfl)
theorem dX3_told_59 : decode cX3_told 59 = .ok (.iload_n 1, 1) := dk_27 (dk_at dksX3_told_2 13 rfl rfl)
theorem dX3_told_60 : decode cX3_told 60 = .ok (.invokevirtual 290, 3) := dk_182 1 34 (dk_at dksX3_told_2 14 rfl rfl)
theorem dX3_told_63 : decode cX3_told 63 = .ok (.ireturn, 1) := dk_172 (dk_at dksX3_told_2 17 rfl rfl)
abbrev cX3_priceOf : ByteArray := prog_19_method_34_code
def yX3_priceOf : MethodName := ⟨RX3, "priceOf", "(I)I"⟩
def dkwX3_priceOf_3 : List UInt8 := [28, 46, 162, 0, 17, 29, 42, 180, 0, 19, 28, 46, 104, 16, 100, 108, 167, 0, 4, 3, 172]
abbrev dktX3_priceOf_3 : List UInt8 := dkwX3_priceOf_3 ++ []
def dkwX3_priceOf_2 : List UInt8 := [160, 0, 7, 29, 167, 0, 40, 42, 27, 5, 182, 1, 29, 42, 180, 0, 46, 27, 46, 100, 42, 180, 0, 16]
abbrev dktX3_priceOf_2 : List UInt8 := dkwX3_priceOf_2 ++ dktX3_priceOf_3
def dkwX3_priceOf_1 : List UInt8 := [8, 28, 104, 42, 27, 16, 6, 182, 1, 29, 96, 46, 104, 62, 42, 180, 0, 46, 27, 46, 18, 147]
abbrev dktX3_priceOf_1 : List UInt8 := dkwX3_priceOf_1 ++ dktX3_priceOf_2
def dkwX3_priceOf_0 : List UInt8 := [42, 27, 3, 182, 1, 29, 61, 42, 27, 7, 182, 1, 29, 42, 27, 6, 182, 1, 29, 100, 42, 180, 0, 25]
abbrev dktX3_priceOf_0 : List UInt8 := dkwX3_priceOf_0 ++ dktX3_priceOf_1
theorem dksX3_priceOf_0 : cX3_priceOf.data.toList.drop 0 = dktX3_priceOf_0 := by decide +kernel
theorem dksX3_priceOf_1 : cX3_priceOf.data.toList.drop 24 = dktX3_priceOf_1 := dk_seg dksX3_priceOf_0 24 rfl rfl
theorem dksX3_priceOf_2 : cX3_priceOf.data.toList.drop 46 = dktX3_priceOf_2 := dk_seg dksX3_priceOf_1 22 rfl rfl
theorem dksX3_priceOf_3 : cX3_priceOf.data.toList.drop 70 = dktX3_priceOf_3 := dk_seg dksX3_priceOf_2 24 rfl rfl
theorem dX3_priceOf_0 : decode cX3_priceOf 0 = .ok (.aload_n 0, 1) := dk_42 (dk_at dksX3_priceOf_0 0 rfl rfl)
theorem dX3_priceOf_1 : decode cX3_priceOf 1 = .ok (.iload_n 1, 1) := dk_27 (dk_at dksX3_priceOf_0 1 rfl rfl)
theorem dX3_priceOf_2 : decode cX3_priceOf 2 = .ok (.iconst 0, 1) := dk_3 (dk_at dksX3_priceOf_0 2 rfl rfl)
theorem dX3_priceOf_3 : decode cX3_priceOf 3 = .ok (.invokevirtual 285, 3) := dk_182 1 29 (dk_at dksX3_priceOf_0 3 rfl rfl)
theorem dX3_priceOf_6 : decode cX3_priceOf 6 = .ok (.istore_n 2, 1) := dk_61 (dk_at dksX3_priceOf_0 6 rfl rfl)
theorem dX3_priceOf_7 : decode cX3_priceOf 7 = .ok (.aload_n 0, 1) := dk_42 (dk_at dksX3_priceOf_0 7 rfl rfl)
theorem dX3_priceOf_8 : decode cX3_priceOf 8 = .ok (.iload_n 1, 1) := dk_27 (dk_at dksX3_priceOf_0 8 rfl rfl)
theorem dX3_priceOf_9 : decode cX3_priceOf 9 = .ok (.iconst 4, 1) := dk_7 (dk_at dksX3_priceOf_0 9 rfl rfl)
theorem dX3_priceOf_10 : decode cX3_priceOf 10 = .ok (.invokevirtual 285, 3) := dk_182 1 29 (dk_at dksX3_priceOf_0 10 rfl rfl)
theorem dX3_priceOf_13 : decode cX3_priceOf 13 = .ok (.aload_n 0, 1) := dk_42 (dk_at dksX3_priceOf_0 13 rfl rfl)
theorem dX3_priceOf_14 : decode cX3_priceOf 14 = .ok (.iload_n 1, 1) := dk_27 (dk_at dksX3_priceOf_0 14 rfl rfl)
theorem dX3_priceOf_15 : decode cX3_priceOf 15 = .ok (.iconst 3, 1) := dk_6 (dk_at dksX3_priceOf_0 15 rfl rfl)
theorem dX3_priceOf_16 : decode cX3_priceOf 16 = .ok (.invokevirtual 285, 3) := dk_182 1 29 (dk_at dksX3_priceOf_0 16 rfl rfl)
theorem dX3_priceOf_19 : decode cX3_priceOf 19 = .ok (.isub, 1) := dk_100 (dk_at dksX3_priceOf_0 19 rfl rfl)
theorem dX3_priceOf_20 : decode cX3_priceOf 20 = .ok (.aload_n 0, 1) := dk_42 (dk_at dksX3_priceOf_0 20 rfl rfl)
theorem dX3_priceOf_21 : decode cX3_priceOf 21 = .ok (.getfield 25, 3) := dk_180 0 25 (dk_at dksX3_priceOf_0 21 rfl rfl)
theorem dX3_priceOf_24 : decode cX3_priceOf 24 = .ok (.iconst 5, 1) := dk_8 (dk_at dksX3_priceOf_1 0 rfl rfl)
theorem dX3_priceOf_25 : decode cX3_priceOf 25 = .ok (.iload_n 2, 1) := dk_28 (dk_at dksX3_priceOf_1 1 rfl rfl)
theorem dX3_priceOf_26 : decode cX3_priceOf 26 = .ok (.imul, 1) := dk_104 (dk_at dksX3_priceOf_1 2 rfl rfl)
theorem dX3_priceOf_27 : decode cX3_priceOf 27 = .ok (.aload_n 0, 1) := dk_42 (dk_at dksX3_priceOf_1 3 rfl rfl)
theorem dX3_priceOf_28 : decode cX3_priceOf 28 = .ok (.iload_n 1, 1) := dk_27 (dk_at dksX3_priceOf_1 4 rfl rfl)
theorem dX3_priceOf_29 : decode cX3_priceOf 29 = .ok (.bipush 6, 2) := dk_16 6 (dk_at dksX3_priceOf_1 5 rfl rfl)
theorem dX3_priceOf_31 : decode cX3_priceOf 31 = .ok (.invokevirtual 285, 3) := dk_182 1 29 (dk_at dksX3_priceOf_1 7 rfl rfl)
theorem dX3_priceOf_34 : decode cX3_priceOf 34 = .ok (.iadd, 1) := dk_96 (dk_at dksX3_priceOf_1 10 rfl rfl)
theorem dX3_priceOf_35 : decode cX3_priceOf 35 = .ok (.iaload, 1) := dk_46 (dk_at dksX3_priceOf_1 11 rfl rfl)
theorem dX3_priceOf_36 : decode cX3_priceOf 36 = .ok (.imul, 1) := dk_104 (dk_at dksX3_priceOf_1 12 rfl rfl)
theorem dX3_priceOf_37 : decode cX3_priceOf 37 = .ok (.istore_n 3, 1) := dk_62 (dk_at dksX3_priceOf_1 13 rfl rfl)
theorem dX3_priceOf_38 : decode cX3_priceOf 38 = .ok (.aload_n 0, 1) := dk_42 (dk_at dksX3_priceOf_1 14 rfl rfl)
theorem dX3_priceOf_39 : decode cX3_priceOf 39 = .ok (.getfield 46, 3) := dk_180 0 46 (dk_at dksX3_priceOf_1 15 rfl rfl)
theorem dX3_priceOf_42 : decode cX3_priceOf 42 = .ok (.iload_n 1, 1) := dk_27 (dk_at dksX3_priceOf_1 18 rfl rfl)
theorem dX3_priceOf_43 : decode cX3_priceOf 43 = .ok (.iaload, 1) := dk_46 (dk_at dksX3_priceOf_1 19 rfl rfl)
theorem dX3_priceOf_44 : decode cX3_priceOf 44 = .ok (.ldc 147, 2) := dk_18 147 (dk_at dksX3_priceOf_1 20 rfl rfl)
theorem dX3_priceOf_46 : decode cX3_priceOf 46 = .ok (.if_icmp .ne 7, 3) := dk_160 0 7 (dk_at dksX3_priceOf_2 0 rfl rfl)
theorem dX3_priceOf_49 : decode cX3_priceOf 49 = .ok (.iload_n 3, 1) := dk_29 (dk_at dksX3_priceOf_2 3 rfl rfl)
theorem dX3_priceOf_50 : decode cX3_priceOf 50 = .ok (.goto 40, 3) := dk_167 0 40 (dk_at dksX3_priceOf_2 4 rfl rfl)
theorem dX3_priceOf_53 : decode cX3_priceOf 53 = .ok (.aload_n 0, 1) := dk_42 (dk_at dksX3_priceOf_2 7 rfl rfl)
theorem dX3_priceOf_54 : decode cX3_priceOf 54 = .ok (.iload_n 1, 1) := dk_27 (dk_at dksX3_priceOf_2 8 rfl rfl)
theorem dX3_priceOf_55 : decode cX3_priceOf 55 = .ok (.iconst 2, 1) := dk_5 (dk_at dksX3_priceOf_2 9 rfl rfl)
theorem dX3_priceOf_56 : decode cX3_priceOf 56 = .ok (.invokevirtual 285, 3) := dk_182 1 29 (dk_at dksX3_priceOf_2 10 rfl rfl)
theorem dX3_priceOf_59 : decode cX3_priceOf 59 = .ok (.aload_n 0, 1) := dk_42 (dk_at dksX3_priceOf_2 13 rfl rfl)
theorem dX3_priceOf_60 : decode cX3_priceOf 60 = .ok (.getfield 46, 3) := dk_180 0 46 (dk_at dksX3_priceOf_2 14 rfl rfl)
theorem dX3_priceOf_63 : decode cX3_priceOf 63 = .ok (.iload_n 1, 1) := dk_27 (dk_at dksX3_priceOf_2 17 rfl rfl)
theorem dX3_priceOf_64 : decode cX3_priceOf 64 = .ok (.iaload, 1) := dk_46 (dk_at dksX3_priceOf_2 18 rfl rfl)
theorem dX3_priceOf_65 : decode cX3_priceOf 65 = .ok (.isub, 1) := dk_100 (dk_at dksX3_priceOf_2 19 rfl rfl)
theorem dX3_priceOf_66 : decode cX3_priceOf 66 = .ok (.aload_n 0, 1) := dk_42 (dk_at dksX3_priceOf_2 20 rfl rfl)
theorem dX3_priceOf_67 : decode cX3_priceOf 67 = .ok (.getfield 16, 3) := dk_180 0 16 (dk_at dksX3_priceOf_2 21 rfl rfl)
theorem dX3_priceOf_70 : decode cX3_priceOf 70 = .ok (.iload_n 2, 1) := dk_28 (dk_at dksX3_priceOf_3 0 rfl rfl)
theorem dX3_priceOf_71 : decode cX3_priceOf 71 = .ok (.iaload, 1) := dk_46 (dk_at dksX3_priceOf_3 1 rfl rfl)
theorem dX3_priceOf_72 : decode cX3_priceOf 72 = .ok (.if_icmp .ge 17, 3) := dk_162 0 17 (dk_at dksX3_priceOf_3 2 rfl rfl)
theorem dX3_priceOf_75 : decode cX3_priceOf 75 = .ok (.iload_n 3, 1) := dk_29 (dk_at dksX3_priceOf_3 5 rfl rfl)
theorem dX3_priceOf_76 : decode cX3_priceOf 76 = .ok (.aload_n 0, 1) := dk_42 (dk_at dksX3_priceOf_3 6 rfl rfl)
theorem dX3_priceOf_77 : decode cX3_priceOf 77 = .ok (.getfield 19, 3) := dk_180 0 19 (dk_at dksX3_priceOf_3 7 rfl rfl)
theorem dX3_priceOf_80 : decode cX3_priceOf 80 = .ok (.iload_n 2, 1) := dk_28 (dk_at dksX3_priceOf_3 10 rfl rfl)
theorem dX3_priceOf_81 : decode cX3_priceOf 81 = .ok (.iaload, 1) := dk_46 (dk_at dksX3_priceOf_3 11 rfl rfl)
theorem dX3_priceOf_82 : decode cX3_priceOf 82 = .ok (.imul, 1) := dk_104 (dk_at dksX3_priceOf_3 12 rfl rfl)
theorem dX3_priceOf_83 : decode cX3_priceOf 83 = .ok (.bipush 100, 2) := dk_16 100 (dk_at dksX3_priceOf_3 13 rfl rfl)
theorem dX3_priceOf_85 : decode cX3_priceOf 85 = .ok (.idiv, 1) := dk_108 (dk_at dksX3_priceOf_3 15 rfl rfl)
theorem dX3_priceOf_86 : decode cX3_priceOf 86 = .ok (.goto 4, 3) := dk_167 0 4 (dk_at dksX3_priceOf_3 16 rfl rfl)
theorem dX3_priceOf_89 : decode cX3_priceOf 89 = .ok (.iconst 0, 1) := dk_3 (dk_at dksX3_priceOf_3 19 rfl rfl)
theorem dX3_priceOf_90 : decode cX3_priceOf 90 = .ok (.ireturn, 1) := dk_172 (dk_at dksX3_priceOf_3 20 rfl rfl)
abbrev cX3_clash : ByteArray := prog_19_method_38_code
def yX3_clash : MethodName := ⟨RX3, "clash", "(II)I"⟩
def dkwX3_clash_1 : List UInt8 := [160, 0, 8, 18, 131, 167, 0, 17, 42, 27, 28, 182, 1, 41, 153, 0, 7, 4, 167, 0, 4, 3, 172]
abbrev dktX3_clash_1 : List UInt8 := dkwX3_clash_1 ++ []
def dkwX3_clash_0 : List UInt8 := [42, 3, 181, 0, 111, 42, 27, 182, 1, 26, 153, 0, 16, 42, 28, 182, 1, 26, 153, 0, 8, 27, 28]
abbrev dktX3_clash_0 : List UInt8 := dkwX3_clash_0 ++ dktX3_clash_1
theorem dksX3_clash_0 : cX3_clash.data.toList.drop 0 = dktX3_clash_0 := by decide +kernel
theorem dksX3_clash_1 : cX3_clash.data.toList.drop 23 = dktX3_clash_1 := dk_seg dksX3_clash_0 23 rfl rfl
theorem dX3_clash_0 : decode cX3_clash 0 = .ok (.aload_n 0, 1) := dk_42 (dk_at dksX3_clash_0 0 rfl rfl)
theorem dX3_clash_1 : decode cX3_clash 1 = .ok (.iconst 0, 1) := dk_3 (dk_at dksX3_clash_0 1 rfl rfl)
theorem dX3_clash_2 : decode cX3_clash 2 = .ok (.putfield 111, 3) := dk_181 0 111 (dk_at dksX3_clash_0 2 rfl rfl)
theorem dX3_clash_5 : decode cX3_clash 5 = .ok (.aload_n 0, 1) := dk_42 (dk_at dksX3_clash_0 5 rfl rfl)
theorem dX3_clash_6 : decode cX3_clash 6 = .ok (.iload_n 1, 1) := dk_27 (dk_at dksX3_clash_0 6 rfl rfl)
theorem dX3_clash_7 : decode cX3_clash 7 = .ok (.invokevirtual 282, 3) := dk_182 1 26 (dk_at dksX3_clash_0 7 rfl rfl)
theorem dX3_clash_10 : decode cX3_clash 10 = .ok (.ifCond .eq 16, 3) := dk_153 0 16 (dk_at dksX3_clash_0 10 rfl rfl)
theorem dX3_clash_13 : decode cX3_clash 13 = .ok (.aload_n 0, 1) := dk_42 (dk_at dksX3_clash_0 13 rfl rfl)
theorem dX3_clash_14 : decode cX3_clash 14 = .ok (.iload_n 2, 1) := dk_28 (dk_at dksX3_clash_0 14 rfl rfl)
theorem dX3_clash_15 : decode cX3_clash 15 = .ok (.invokevirtual 282, 3) := dk_182 1 26 (dk_at dksX3_clash_0 15 rfl rfl)
theorem dX3_clash_18 : decode cX3_clash 18 = .ok (.ifCond .eq 8, 3) := dk_153 0 8 (dk_at dksX3_clash_0 18 rfl rfl)
theorem dX3_clash_21 : decode cX3_clash 21 = .ok (.iload_n 1, 1) := dk_27 (dk_at dksX3_clash_0 21 rfl rfl)
theorem dX3_clash_22 : decode cX3_clash 22 = .ok (.iload_n 2, 1) := dk_28 (dk_at dksX3_clash_0 22 rfl rfl)
theorem dX3_clash_23 : decode cX3_clash 23 = .ok (.if_icmp .ne 8, 3) := dk_160 0 8 (dk_at dksX3_clash_1 0 rfl rfl)
theorem dX3_clash_26 : decode cX3_clash 26 = .ok (.ldc 131, 2) := dk_18 131 (dk_at dksX3_clash_1 3 rfl rfl)
theorem dX3_clash_28 : decode cX3_clash 28 = .ok (.goto 17, 3) := dk_167 0 17 (dk_at dksX3_clash_1 5 rfl rfl)
theorem dX3_clash_31 : decode cX3_clash 31 = .ok (.aload_n 0, 1) := dk_42 (dk_at dksX3_clash_1 8 rfl rfl)
theorem dX3_clash_32 : decode cX3_clash 32 = .ok (.iload_n 1, 1) := dk_27 (dk_at dksX3_clash_1 9 rfl rfl)
theorem dX3_clash_33 : decode cX3_clash 33 = .ok (.iload_n 2, 1) := dk_28 (dk_at dksX3_clash_1 10 rfl rfl)
theorem dX3_clash_34 : decode cX3_clash 34 = .ok (.invokevirtual 297, 3) := dk_182 1 41 (dk_at dksX3_clash_1 11 rfl rfl)
theorem dX3_clash_37 : decode cX3_clash 37 = .ok (.ifCond .eq 7, 3) := dk_153 0 7 (dk_at dksX3_clash_1 14 rfl rfl)
theorem dX3_clash_40 : decode cX3_clash 40 = .ok (.iconst 1, 1) := dk_4 (dk_at dksX3_clash_1 17 rfl rfl)
theorem dX3_clash_41 : decode cX3_clash 41 = .ok (.goto 4, 3) := dk_167 0 4 (dk_at dksX3_clash_1 18 rfl rfl)
theorem dX3_clash_44 : decode cX3_clash 44 = .ok (.iconst 0, 1) := dk_3 (dk_at dksX3_clash_1 21 rfl rfl)
theorem dX3_clash_45 : decode cX3_clash 45 = .ok (.ireturn, 1) := dk_172 (dk_at dksX3_clash_1 22 rfl rfl)
abbrev cX3_isClash : ByteArray := prog_19_method_37_code
def yX3_isClash : MethodName := ⟨RX3, "isClash", "(II)Z"⟩
def dkwX3_isClash_4 : List UInt8 := [4, 167, 0, 4, 3, 172]
abbrev dktX3_isClash_4 : List UInt8 := dkwX3_isClash_4 ++ []
def dkwX3_isClash_3 : List UInt8 := [28, 6, 182, 1, 29, 42, 28, 7, 182, 1, 29, 42, 28, 16, 6, 182, 1, 29, 182, 1, 37, 153, 0, 7]
abbrev dktX3_isClash_3 : List UInt8 := dkwX3_isClash_3 ++ dktX3_isClash_4
def dkwX3_isClash_2 : List UInt8 := [3, 182, 1, 29, 42, 27, 6, 182, 1, 29, 42, 27, 7, 182, 1, 29, 42, 27, 16, 6, 182, 1, 29, 42]
abbrev dktX3_isClash_2 : List UInt8 := dkwX3_isClash_2 ++ dktX3_isClash_3
def dkwX3_isClash_1 : List UInt8 := [182, 1, 29, 160, 0, 73, 42, 27, 5, 182, 1, 29, 42, 28, 5, 182, 1, 29, 160, 0, 58, 42, 42, 27]
abbrev dktX3_isClash_1 : List UInt8 := dkwX3_isClash_1 ++ dktX3_isClash_2
def dkwX3_isClash_0 : List UInt8 := [42, 27, 3, 182, 1, 29, 42, 28, 3, 182, 1, 29, 160, 0, 88, 42, 27, 4, 182, 1, 29, 42, 28, 4]
abbrev dktX3_isClash_0 : List UInt8 := dkwX3_isClash_0 ++ dktX3_isClash_1
theorem dksX3_isClash_0 : cX3_isClash.data.toList.drop 0 = dktX3_isClash_0 := by decide +kernel
theorem dksX3_isClash_1 : cX3_isClash.data.toList.drop 24 = dktX3_isClash_1 := dk_seg dksX3_isClash_0 24 rfl rfl
theorem dksX3_isClash_2 : cX3_isClash.data.toList.drop 48 = dktX3_isClash_2 := dk_seg dksX3_isClash_1 24 rfl rfl
theorem dksX3_isClash_3 : cX3_isClash.data.toList.drop 72 = dktX3_isClash_3 := dk_seg dksX3_isClash_2 24 rfl rfl
theorem dksX3_isClash_4 : cX3_isClash.data.toList.drop 96 = dktX3_isClash_4 := dk_seg dksX3_isClash_3 24 rfl rfl
theorem dX3_isClash_0 : decode cX3_isClash 0 = .ok (.aload_n 0, 1) := dk_42 (dk_at dksX3_isClash_0 0 rfl rfl)
theorem dX3_isClash_1 : decode cX3_isClash 1 = .ok (.iload_n 1, 1) := dk_27 (dk_at dksX3_isClash_0 1 rfl rfl)
theorem dX3_isClash_2 : decode cX3_isClash 2 = .ok (.iconst 0, 1) := dk_3 (dk_at dksX3_isClash_0 2 rfl rfl)
theorem dX3_isClash_3 : decode cX3_isClash 3 = .ok (.invokevirtual 285, 3) := dk_182 1 29 (dk_at dksX3_isClash_0 3 rfl rfl)
theorem dX3_isClash_6 : decode cX3_isClash 6 = .ok (.aload_n 0, 1) := dk_42 (dk_at dksX3_isClash_0 6 rfl rfl)
theorem dX3_isClash_7 : decode cX3_isClash 7 = .ok (.iload_n 2, 1) := dk_28 (dk_at dksX3_isClash_0 7 rfl rfl)
theorem dX3_isClash_8 : decode cX3_isClash 8 = .ok (.iconst 0, 1) := dk_3 (dk_at dksX3_isClash_0 8 rfl rfl)
theorem dX3_isClash_9 : decode cX3_isClash 9 = .ok (.invokevirtual 285, 3) := dk_182 1 29 (dk_at dksX3_isClash_0 9 rfl rfl)
theorem dX3_isClash_12 : decode cX3_isClash 12 = .ok (.if_icmp .ne 88, 3) := dk_160 0 88 (dk_at dksX3_isClash_0 12 rfl rfl)
theorem dX3_isClash_15 : decode cX3_isClash 15 = .ok (.aload_n 0, 1) := dk_42 (dk_at dksX3_isClash_0 15 rfl rfl)
theorem dX3_isClash_16 : decode cX3_isClash 16 = .ok (.iload_n 1, 1) := dk_27 (dk_at dksX3_isClash_0 16 rfl rfl)
theorem dX3_isClash_17 : decode cX3_isClash 17 = .ok (.iconst 1, 1) := dk_4 (dk_at dksX3_isClash_0 17 rfl rfl)
theorem dX3_isClash_18 : decode cX3_isClash 18 = .ok (.invokevirtual 285, 3) := dk_182 1 29 (dk_at dksX3_isClash_0 18 rfl rfl)
theorem dX3_isClash_21 : decode cX3_isClash 21 = .ok (.aload_n 0, 1) := dk_42 (dk_at dksX3_isClash_0 21 rfl rfl)
theorem dX3_isClash_22 : decode cX3_isClash 22 = .ok (.iload_n 2, 1) := dk_28 (dk_at dksX3_isClash_0 22 rfl rfl)
theorem dX3_isClash_23 : decode cX3_isClash 23 = .ok (.iconst 1, 1) := dk_4 (dk_at dksX3_isClash_0 23 rfl rfl)
theorem dX3_isClash_24 : decode cX3_isClash 24 = .ok (.invokevirtual 285, 3) := dk_182 1 29 (dk_at dksX3_isClash_1 0 rfl rfl)
theorem dX3_isClash_27 : decode cX3_isClash 27 = .ok (.if_icmp .ne 73, 3) := dk_160 0 73 (dk_at dksX3_isClash_1 3 rfl rfl)
theorem dX3_isClash_30 : decode cX3_isClash 30 = .ok (.aload_n 0, 1) := dk_42 (dk_at dksX3_isClash_1 6 rfl rfl)
theorem dX3_isClash_31 : decode cX3_isClash 31 = .ok (.iload_n 1, 1) := dk_27 (dk_at dksX3_isClash_1 7 rfl rfl)
theorem dX3_isClash_32 : decode cX3_isClash 32 = .ok (.iconst 2, 1) := dk_5 (dk_at dksX3_isClash_1 8 rfl rfl)
theorem dX3_isClash_33 : decode cX3_isClash 33 = .ok (.invokevirtual 285, 3) := dk_182 1 29 (dk_at dksX3_isClash_1 9 rfl rfl)
theorem dX3_isClash_36 : decode cX3_isClash 36 = .ok (.aload_n 0, 1) := dk_42 (dk_at dksX3_isClash_1 12 rfl rfl)
theorem dX3_isClash_37 : decode cX3_isClash 37 = .ok (.iload_n 2, 1) := dk_28 (dk_at dksX3_isClash_1 13 rfl rfl)
theorem dX3_isClash_38 : decode cX3_isClash 38 = .ok (.iconst 2, 1) := dk_5 (dk_at dksX3_isClash_1 14 rfl rfl)
theorem dX3_isClash_39 : decode cX3_isClash 39 = .ok (.invokevirtual 285, 3) := dk_182 1 29 (dk_at dksX3_isClash_1 15 rfl rfl)
theorem dX3_isClash_42 : decode cX3_isClash 42 = .ok (.if_icmp .ne 58, 3) := dk_160 0 58 (dk_at dksX3_isClash_1 18 rfl rfl)
theorem dX3_isClash_45 : decode cX3_isClash 45 = .ok (.aload_n 0, 1) := dk_42 (dk_at dksX3_isClash_1 21 rfl rfl)
theorem dX3_isClash_46 : decode cX3_isClash 46 = .ok (.aload_n 0, 1) := dk_42 (dk_at dksX3_isClash_1 22 rfl rfl)
theorem dX3_isClash_47 : decode cX3_isClash 47 = .ok (.iload_n 1, 1) := dk_27 (dk_at dksX3_isClash_1 23 rfl rfl)
theorem dX3_isClash_48 : decode cX3_isClash 48 = .ok (.iconst 0, 1) := dk_3 (dk_at dksX3_isClash_2 0 rfl rfl)
theorem dX3_isClash_49 : decode cX3_isClash 49 = .ok (.invokevirtual 285, 3) := dk_182 1 29 (dk_at dksX3_isClash_2 1 rfl rfl)
theorem dX3_isClash_52 : decode cX3_isClash 52 = .ok (.aload_n 0, 1) := dk_42 (dk_at dksX3_isClash_2 4 rfl rfl)
theorem dX3_isClash_53 : decode cX3_isClash 53 = .ok (.iload_n 1, 1) := dk_27 (dk_at dksX3_isClash_2 5 rfl rfl)
theorem dX3_isClash_54 : decode cX3_isClash 54 = .ok (.iconst 3, 1) := dk_6 (dk_at dksX3_isClash_2 6 rfl rfl)
theorem dX3_isClash_55 : decode cX3_isClash 55 = .ok (.invokevirtual 285, 3) := dk_182 1 29 (dk_at dksX3_isClash_2 7 rfl rfl)
theorem dX3_isClash_58 : decode cX3_isClash 58 = .ok (.aload_n 0, 1) := dk_42 (dk_at dksX3_isClash_2 10 rfl rfl)
theorem dX3_isClash_59 : decode cX3_isClash 59 = .ok (.iload_n 1, 1) := dk_27 (dk_at dksX3_isClash_2 11 rfl rfl)
theorem dX3_isClash_60 : decode cX3_isClash 60 = .ok (.iconst 4, 1) := dk_7 (dk_at dksX3_isClash_2 12 rfl rfl)
theorem dX3_isClash_61 : decode cX3_isClash 61 = .ok (.invokevirtual 285, 3) := dk_182 1 29 (dk_at dksX3_isClash_2 13 rfl rfl)
theorem dX3_isClash_64 : decode cX3_isClash 64 = .ok (.aload_n 0, 1) := dk_42 (dk_at dksX3_isClash_2 16 rfl rfl)
theorem dX3_isClash_65 : decode cX3_isClash 65 = .ok (.iload_n 1, 1) := dk_27 (dk_at dksX3_isClash_2 17 rfl rfl)
theorem dX3_isClash_66 : decode cX3_isClash 66 = .ok (.bipush 6, 2) := dk_16 6 (dk_at dksX3_isClash_2 18 rfl rfl)
theorem dX3_isClash_68 : decode cX3_isClash 68 = .ok (.invokevirtual 285, 3) := dk_182 1 29 (dk_at dksX3_isClash_2 20 rfl rfl)
theorem dX3_isClash_71 : decode cX3_isClash 71 = .ok (.aload_n 0, 1) := dk_42 (dk_at dksX3_isClash_2 23 rfl rfl)
theorem dX3_isClash_72 : decode cX3_isClash 72 = .ok (.iload_n 2, 1) := dk_28 (dk_at dksX3_isClash_3 0 rfl rfl)
theorem dX3_isClash_73 : decode cX3_isClash 73 = .ok (.iconst 3, 1) := dk_6 (dk_at dksX3_isClash_3 1 rfl rfl)
theorem dX3_isClash_74 : decode cX3_isClash 74 = .ok (.invokevirtual 285, 3) := dk_182 1 29 (dk_at dksX3_isClash_3 2 rfl rfl)
theorem dX3_isClash_77 : decode cX3_isClash 77 = .ok (.aload_n 0, 1) := dk_42 (dk_at dksX3_isClash_3 5 rfl rfl)
theorem dX3_isClash_78 : decode cX3_isClash 78 = .ok (.iload_n 2, 1) := dk_28 (dk_at dksX3_isClash_3 6 rfl rfl)
theorem dX3_isClash_79 : decode cX3_isClash 79 = .ok (.iconst 4, 1) := dk_7 (dk_at dksX3_isClash_3 7 rfl rfl)
theorem dX3_isClash_80 : decode cX3_isClash 80 = .ok (.invokevirtual 285, 3) := dk_182 1 29 (dk_at dksX3_isClash_3 8 rfl rfl)
theorem dX3_isClash_83 : decode cX3_isClash 83 = .ok (.aload_n 0, 1) := dk_42 (dk_at dksX3_isClash_3 11 rfl rfl)
theorem dX3_isClash_84 : decode cX3_isClash 84 = .ok (.iload_n 2, 1) := dk_28 (dk_at dksX3_isClash_3 12 rfl rfl)
theorem dX3_isClash_85 : decode cX3_isClash 85 = .ok (.bipush 6, 2) := dk_16 6 (dk_at dksX3_isClash_3 13 rfl rfl)
theorem dX3_isClash_87 : decode cX3_isClash 87 = .ok (.invokevirtual 285, 3) := dk_182 1 29 (dk_at dksX3_isClash_3 15 rfl rfl)
theorem dX3_isClash_90 : decode cX3_isClash 90 = .ok (.invokevirtual 293, 3) := dk_182 1 37 (dk_at dksX3_isClash_3 18 rfl rfl)
theorem dX3_isClash_93 : decode cX3_isClash 93 = .ok (.ifCond .eq 7, 3) := dk_153 0 7 (dk_at dksX3_isClash_3 21 rfl rfl)
theorem dX3_isClash_96 : decode cX3_isClash 96 = .ok (.iconst 1, 1) := dk_4 (dk_at dksX3_isClash_4 0 rfl rfl)
theorem dX3_isClash_97 : decode cX3_isClash 97 = .ok (.goto 4, 3) := dk_167 0 4 (dk_at dksX3_isClash_4 1 rfl rfl)
theorem dX3_isClash_100 : decode cX3_isClash 100 = .ok (.iconst 0, 1) := dk_3 (dk_at dksX3_isClash_4 4 rfl rfl)
theorem dX3_isClash_101 : decode cX3_isClash 101 = .ok (.ireturn, 1) := dk_172 (dk_at dksX3_isClash_4 5 rfl rfl)
abbrev cX3_meets : ByteArray := prog_19_method_36_code
def yX3_meets : MethodName := ⟨RX3, "meets", "(IIIIIII)Z"⟩
def dkwX3_meets_1 : List UInt8 := [96, 162, 0, 16, 21, 5, 29, 21, 8, 96, 162, 0, 7, 4, 167, 0, 4, 3, 172]
abbrev dktX3_meets_1 : List UInt8 := dkwX3_meets_1 ++ []
def dkwX3_meets_0 : List UInt8 := [21, 4, 21, 7, 160, 0, 7, 3, 167, 0, 9, 42, 180, 0, 7, 27, 46, 54, 8, 28, 21, 6, 21, 8]
abbrev dktX3_meets_0 : List UInt8 := dkwX3_meets_0 ++ dktX3_meets_1
theorem dksX3_meets_0 : cX3_meets.data.toList.drop 0 = dktX3_meets_0 := by decide +kernel
theorem dksX3_meets_1 : cX3_meets.data.toList.drop 24 = dktX3_meets_1 := dk_seg dksX3_meets_0 24 rfl rfl
theorem dX3_meets_0 : decode cX3_meets 0 = .ok (.iload 4, 2) := dk_21 4 (dk_at dksX3_meets_0 0 rfl rfl)
theorem dX3_meets_2 : decode cX3_meets 2 = .ok (.iload 7, 2) := dk_21 7 (dk_at dksX3_meets_0 2 rfl rfl)
theorem dX3_meets_4 : decode cX3_meets 4 = .ok (.if_icmp .ne 7, 3) := dk_160 0 7 (dk_at dksX3_meets_0 4 rfl rfl)
theorem dX3_meets_7 : decode cX3_meets 7 = .ok (.iconst 0, 1) := dk_3 (dk_at dksX3_meets_0 7 rfl rfl)
theorem dX3_meets_8 : decode cX3_meets 8 = .ok (.goto 9, 3) := dk_167 0 9 (dk_at dksX3_meets_0 8 rfl rfl)
theorem dX3_meets_11 : decode cX3_meets 11 = .ok (.aload_n 0, 1) := dk_42 (dk_at dksX3_meets_0 11 rfl rfl)
theorem dX3_meets_12 : decode cX3_meets 12 = .ok (.getfield 7, 3) := dk_180 0 7 (dk_at dksX3_meets_0 12 rfl rfl)
theorem dX3_meets_15 : decode cX3_meets 15 = .ok (.iload_n 1, 1) := dk_27 (dk_at dksX3_meets_0 15 rfl rfl)
theorem dX3_meets_16 : decode cX3_meets 16 = .ok (.iaload, 1) := dk_46 (dk_at dksX3_meets_0 16 rfl rfl)
theorem dX3_meets_17 : decode cX3_meets 17 = .ok (.istore 8, 2) := dk_54 8 (dk_at dksX3_meets_0 17 rfl rfl)
theorem dX3_meets_19 : decode cX3_meets 19 = .ok (.iload_n 2, 1) := dk_28 (dk_at dksX3_meets_0 19 rfl rfl)
theorem dX3_meets_20 : decode cX3_meets 20 = .ok (.iload 6, 2) := dk_21 6 (dk_at dksX3_meets_0 20 rfl rfl)
theorem dX3_meets_22 : decode cX3_meets 22 = .ok (.iload 8, 2) := dk_21 8 (dk_at dksX3_meets_0 22 rfl rfl)
theorem dX3_meets_24 : decode cX3_meets 24 = .ok (.iadd, 1) := dk_96 (dk_at dksX3_meets_1 0 rfl rfl)
theorem dX3_meets_25 : decode cX3_meets 25 = .ok (.if_icmp .ge 16, 3) := dk_162 0 16 (dk_at dksX3_meets_1 1 rfl rfl)
theorem dX3_meets_28 : decode cX3_meets 28 = .ok (.iload 5, 2) := dk_21 5 (dk_at dksX3_meets_1 4 rfl rfl)
theorem dX3_meets_30 : decode cX3_meets 30 = .ok (.iload_n 3, 1) := dk_29 (dk_at dksX3_meets_1 6 rfl rfl)
theorem dX3_meets_31 : decode cX3_meets 31 = .ok (.iload 8, 2) := dk_21 8 (dk_at dksX3_meets_1 7 rfl rfl)
theorem dX3_meets_33 : decode cX3_meets 33 = .ok (.iadd, 1) := dk_96 (dk_at dksX3_meets_1 9 rfl rfl)
theorem dX3_meets_34 : decode cX3_meets 34 = .ok (.if_icmp .ge 7, 3) := dk_162 0 7 (dk_at dksX3_meets_1 10 rfl rfl)
theorem dX3_meets_37 : decode cX3_meets 37 = .ok (.iconst 1, 1) := dk_4 (dk_at dksX3_meets_1 13 rfl rfl)
theorem dX3_meets_38 : decode cX3_meets 38 = .ok (.goto 4, 3) := dk_167 0 4 (dk_at dksX3_meets_1 14 rfl rfl)
theorem dX3_meets_41 : decode cX3_meets 41 = .ok (.iconst 0, 1) := dk_3 (dk_at dksX3_meets_1 17 rfl rfl)
theorem dX3_meets_42 : decode cX3_meets 42 = .ok (.ireturn, 1) := dk_172 (dk_at dksX3_meets_1 18 rfl rfl)
abbrev cX3_holding : ByteArray := prog_19_method_44_code
def yX3_holding : MethodName := ⟨RX3, "holding", "(II)I"⟩
def dkwX3_holding_5 : List UInt8 := [160, 0, 8, 21, 4, 167, 0, 4, 29, 172]
abbrev dktX3_holding_5 : List UInt8 := dkwX3_holding_5 ++ []
def dkwX3_holding_4 : List UInt8 := [160, 0, 12, 42, 21, 5, 182, 1, 34, 167, 0, 4, 3, 96, 54, 4, 132, 5, 1, 167, 255, 193, 28, 5]
abbrev dktX3_holding_4 : List UInt8 := dkwX3_holding_4 ++ dktX3_holding_5
def dkwX3_holding_3 : List UInt8 := [153, 0, 10, 4, 21, 5, 120, 167, 0, 4, 3, 128, 62, 21, 4, 29, 21, 5, 122, 4, 126, 4]
abbrev dktX3_holding_3 : List UInt8 := dkwX3_holding_3 ++ dktX3_holding_4
def dkwX3_holding_2 : List UInt8 := [21, 5, 42, 180, 1, 12, 162, 0, 60, 29, 28, 4, 160, 0, 20, 42, 21, 5, 27, 182, 1, 48]
abbrev dktX3_holding_2 : List UInt8 := dkwX3_holding_2 ++ dktX3_holding_3
def dkwX3_holding_1 : List UInt8 := [18, 131, 172, 28, 4, 160, 0, 7, 3, 167, 0, 8, 42, 27, 182, 1, 58, 62, 3, 54, 4, 3, 54, 5]
abbrev dktX3_holding_1 : List UInt8 := dkwX3_holding_1 ++ dktX3_holding_2
def dkwX3_holding_0 : List UInt8 := [42, 3, 181, 0, 111, 27, 184, 1, 17, 153, 0, 15, 28, 133, 9, 20, 0, 129, 184, 0, 121, 154, 0, 6]
abbrev dktX3_holding_0 : List UInt8 := dkwX3_holding_0 ++ dktX3_holding_1
theorem dksX3_holding_0 : cX3_holding.data.toList.drop 0 = dktX3_holding_0 := by decide +kernel
theorem dksX3_holding_1 : cX3_holding.data.toList.drop 24 = dktX3_holding_1 := dk_seg dksX3_holding_0 24 rfl rfl
theorem dksX3_holding_2 : cX3_holding.data.toList.drop 48 = dktX3_holding_2 := dk_seg dksX3_holding_1 24 rfl rfl
theorem dksX3_holding_3 : cX3_holding.data.toList.drop 70 = dktX3_holding_3 := dk_seg dksX3_holding_2 22 rfl rfl
theorem dksX3_holding_4 : cX3_holding.data.toList.drop 92 = dktX3_holding_4 := dk_seg dksX3_holding_3 22 rfl rfl
theorem dksX3_holding_5 : cX3_holding.data.toList.drop 116 = dktX3_holding_5 := dk_seg dksX3_holding_4 24 rfl rfl
theorem dX3_holding_0 : decode cX3_holding 0 = .ok (.aload_n 0, 1) := dk_42 (dk_at dksX3_holding_0 0 rfl rfl)
theorem dX3_holding_1 : decode cX3_holding 1 = .ok (.iconst 0, 1) := dk_3 (dk_at dksX3_holding_0 1 rfl rfl)
theorem dX3_holding_2 : decode cX3_holding 2 = .ok (.putfield 111, 3) := dk_181 0 111 (dk_at dksX3_holding_0 2 rfl rfl)
theorem dX3_holding_5 : decode cX3_holding 5 = .ok (.iload_n 1, 1) := dk_27 (dk_at dksX3_holding_0 5 rfl rfl)
theorem dX3_holding_6 : decode cX3_holding 6 = .ok (.invokestatic 273, 3) := dk_184 1 17 (dk_at dksX3_holding_0 6 rfl rfl)
theorem dX3_holding_9 : decode cX3_holding 9 = .ok (.ifCond .eq 15, 3) := dk_153 0 15 (dk_at dksX3_holding_0 9 rfl rfl)
theorem dX3_holding_12 : decode cX3_holding 12 = .ok (.iload_n 2, 1) := dk_28 (dk_at dksX3_holding_0 12 rfl rfl)
theorem dX3_holding_13 : decode cX3_holding 13 = .ok (.i2l, 1) := dk_133 (dk_at dksX3_holding_0 13 rfl rfl)
theorem dX3_holding_14 : decode cX3_holding 14 = .ok (.lconst 0, 1) := dk_9 (dk_at dksX3_holding_0 14 rfl rfl)
theorem dX3_holding_15 : decode cX3_holding 15 = .ok (.ldc2_w 129, 3) := dk_20 0 129 (dk_at dksX3_holding_0 15 rfl rfl)
theorem dX3_holding_18 : decode cX3_holding 18 = .ok (.invokestatic 121, 3) := dk_184 0 121 (dk_at dksX3_holding_0 18 rfl rfl)
theorem dX3_holding_21 : decode cX3_holding 21 = .ok (.ifCond .ne 6, 3) := dk_154 0 6 (dk_at dksX3_holding_0 21 rfl rfl)
theorem dX3_holding_24 : decode cX3_holding 24 = .ok (.ldc 131, 2) := dk_18 131 (dk_at dksX3_holding_1 0 rfl rfl)
theorem dX3_holding_26 : decode cX3_holding 26 = .ok (.ireturn, 1) := dk_172 (dk_at dksX3_holding_1 2 rfl rfl)
theorem dX3_holding_27 : decode cX3_holding 27 = .ok (.iload_n 2, 1) := dk_28 (dk_at dksX3_holding_1 3 rfl rfl)
theorem dX3_holding_28 : decode cX3_holding 28 = .ok (.iconst 1, 1) := dk_4 (dk_at dksX3_holding_1 4 rfl rfl)
theorem dX3_holding_29 : decode cX3_holding 29 = .ok (.if_icmp .ne 7, 3) := dk_160 0 7 (dk_at dksX3_holding_1 5 rfl rfl)
theorem dX3_holding_32 : decode cX3_holding 32 = .ok (.iconst 0, 1) := dk_3 (dk_at dksX3_holding_1 8 rfl rfl)
theorem dX3_holding_33 : decode cX3_holding 33 = .ok (.goto 8, 3) := dk_167 0 8 (dk_at dksX3_holding_1 9 rfl rfl)
theorem dX3_holding_36 : decode cX3_holding 36 = .ok (.aload_n 0, 1) := dk_42 (dk_at dksX3_holding_1 12 rfl rfl)
theorem dX3_holding_37 : decode cX3_holding 37 = .ok (.iload_n 1, 1) := dk_27 (dk_at dksX3_holding_1 13 rfl rfl)
theorem dX3_holding_38 : decode cX3_holding 38 = .ok (.invokevirtual 314, 3) := dk_182 1 58 (dk_at dksX3_holding_1 14 rfl rfl)
theorem dX3_holding_41 : decode cX3_holding 41 = .ok (.istore_n 3, 1) := dk_62 (dk_at dksX3_holding_1 17 rfl rfl)
theorem dX3_holding_42 : decode cX3_holding 42 = .ok (.iconst 0, 1) := dk_3 (dk_at dksX3_holding_1 18 rfl rfl)
theorem dX3_holding_43 : decode cX3_holding 43 = .ok (.istore 4, 2) := dk_54 4 (dk_at dksX3_holding_1 19 rfl rfl)
theorem dX3_holding_45 : decode cX3_holding 45 = .ok (.iconst 0, 1) := dk_3 (dk_at dksX3_holding_1 21 rfl rfl)
theorem dX3_holding_46 : decode cX3_holding 46 = .ok (.istore 5, 2) := dk_54 5 (dk_at dksX3_holding_1 22 rfl rfl)
theorem dX3_holding_48 : decode cX3_holding 48 = .ok (.iload 5, 2) := dk_21 5 (dk_at dksX3_holding_2 0 rfl rfl)
theorem dX3_holding_50 : decode cX3_holding 50 = .ok (.aload_n 0, 1) := dk_42 (dk_at dksX3_holding_2 2 rfl rfl)
theorem dX3_holding_51 : decode cX3_holding 51 = .ok (.getfield 268, 3) := dk_180 1 12 (dk_at dksX3_holding_2 3 rfl rfl)
theorem dX3_holding_54 : decode cX3_holding 54 = .ok (.if_icmp .ge 60, 3) := dk_162 0 60 (dk_at dksX3_holding_2 6 rfl rfl)
theorem dX3_holding_57 : decode cX3_holding 57 = .ok (.iload_n 3, 1) := dk_29 (dk_at dksX3_holding_2 9 rfl rfl)
theorem dX3_holding_58 : decode cX3_holding 58 = .ok (.iload_n 2, 1) := dk_28 (dk_at dksX3_holding_2 10 rfl rfl)
theorem dX3_holding_59 : decode cX3_holding 59 = .ok (.iconst 1, 1) := dk_4 (dk_at dksX3_holding_2 11 rfl rfl)
theorem dX3_holding_60 : decode cX3_holding 60 = .ok (.if_icmp .ne 20, 3) := dk_160 0 20 (dk_at dksX3_holding_2 12 rfl rfl)
theorem dX3_holding_63 : decode cX3_holding 63 = .ok (.aload_n 0, 1) := dk_42 (dk_at dksX3_holding_2 15 rfl rfl)
theorem dX3_holding_64 : decode cX3_holding 64 = .ok (.iload 5, 2) := dk_21 5 (dk_at dksX3_holding_2 16 rfl rfl)
theorem dX3_holding_66 : decode cX3_holding 66 = .ok (.iload_n 1, 1) := dk_27 (dk_at dksX3_holding_2 18 rfl rfl)
theorem dX3_holding_67 : decode cX3_holding 67 = .ok (.invokevirtual 304, 3) := dk_182 1 48 (dk_at dksX3_holding_2 19 rfl rfl)
theorem dX3_holding_70 : decode cX3_holding 70 = .ok (.ifCond .eq 10, 3) := dk_153 0 10 (dk_at dksX3_holding_3 0 rfl rfl)
theorem dX3_holding_73 : decode cX3_holding 73 = .ok (.iconst 1, 1) := dk_4 (dk_at dksX3_holding_3 3 rfl rfl)
theorem dX3_holding_74 : decode cX3_holding 74 = .ok (.iload 5, 2) := dk_21 5 (dk_at dksX3_holding_3 4 rfl rfl)
theorem dX3_holding_76 : decode cX3_holding 76 = .ok (.ishl, 1) := dk_120 (dk_at dksX3_holding_3 6 rfl rfl)
theorem dX3_holding_77 : decode cX3_holding 77 = .ok (.goto 4, 3) := dk_167 0 4 (dk_at dksX3_holding_3 7 rfl rfl)
theorem dX3_holding_80 : decode cX3_holding 80 = .ok (.iconst 0, 1) := dk_3 (dk_at dksX3_holding_3 10 rfl rfl)
theorem dX3_holding_81 : decode cX3_holding 81 = .ok (.ior, 1) := dk_128 (dk_at dksX3_holding_3 11 rfl rfl)
theorem dX3_holding_82 : decode cX3_holding 82 = .ok (.istore_n 3, 1) := dk_62 (dk_at dksX3_holding_3 12 rfl rfl)
theorem dX3_holding_83 : decode cX3_holding 83 = .ok (.iload 4, 2) := dk_21 4 (dk_at dksX3_holding_3 13 rfl rfl)
theorem dX3_holding_85 : decode cX3_holding 85 = .ok (.iload_n 3, 1) := dk_29 (dk_at dksX3_holding_3 15 rfl rfl)
theorem dX3_holding_86 : decode cX3_holding 86 = .ok (.iload 5, 2) := dk_21 5 (dk_at dksX3_holding_3 16 rfl rfl)
theorem dX3_holding_88 : decode cX3_holding 88 = .ok (.ishr, 1) := dk_122 (dk_at dksX3_holding_3 18 rfl rfl)
theorem dX3_holding_89 : decode cX3_holding 89 = .ok (.iconst 1, 1) := dk_4 (dk_at dksX3_holding_3 19 rfl rfl)
theorem dX3_holding_90 : decode cX3_holding 90 = .ok (.iand, 1) := dk_126 (dk_at dksX3_holding_3 20 rfl rfl)
theorem dX3_holding_91 : decode cX3_holding 91 = .ok (.iconst 1, 1) := dk_4 (dk_at dksX3_holding_3 21 rfl rfl)
theorem dX3_holding_92 : decode cX3_holding 92 = .ok (.if_icmp .ne 12, 3) := dk_160 0 12 (dk_at dksX3_holding_4 0 rfl rfl)
theorem dX3_holding_95 : decode cX3_holding 95 = .ok (.aload_n 0, 1) := dk_42 (dk_at dksX3_holding_4 3 rfl rfl)
theorem dX3_holding_96 : decode cX3_holding 96 = .ok (.iload 5, 2) := dk_21 5 (dk_at dksX3_holding_4 4 rfl rfl)
theorem dX3_holding_98 : decode cX3_holding 98 = .ok (.invokevirtual 290, 3) := dk_182 1 34 (dk_at dksX3_holding_4 6 rfl rfl)
theorem dX3_holding_101 : decode cX3_holding 101 = .ok (.goto 4, 3) := dk_167 0 4 (dk_at dksX3_holding_4 9 rfl rfl)
theorem dX3_holding_104 : decode cX3_holding 104 = .ok (.iconst 0, 1) := dk_3 (dk_at dksX3_holding_4 12 rfl rfl)
theorem dX3_holding_105 : decode cX3_holding 105 = .ok (.iadd, 1) := dk_96 (dk_at dksX3_holding_4 13 rfl rfl)
theorem dX3_holding_106 : decode cX3_holding 106 = .ok (.istore 4, 2) := dk_54 4 (dk_at dksX3_holding_4 14 rfl rfl)
theorem dX3_holding_108 : decode cX3_holding 108 = .ok (.iinc 5 1, 3) := dk_132 5 1 (dk_at dksX3_holding_4 16 rfl rfl)
theorem dX3_holding_111 : decode cX3_holding 111 = .ok (.goto (-63), 3) := dk_167 255 193 (dk_at dksX3_holding_4 19 rfl rfl)
theorem dX3_holding_114 : decode cX3_holding 114 = .ok (.iload_n 2, 1) := dk_28 (dk_at dksX3_holding_4 22 rfl rfl)
theorem dX3_holding_115 : decode cX3_holding 115 = .ok (.iconst 2, 1) := dk_5 (dk_at dksX3_holding_4 23 rfl rfl)
theorem dX3_holding_116 : decode cX3_holding 116 = .ok (.if_icmp .ne 8, 3) := dk_160 0 8 (dk_at dksX3_holding_5 0 rfl rfl)
theorem dX3_holding_119 : decode cX3_holding 119 = .ok (.iload 4, 2) := dk_21 4 (dk_at dksX3_holding_5 3 rfl rfl)
theorem dX3_holding_121 : decode cX3_holding 121 = .ok (.goto 4, 3) := dk_167 0 4 (dk_at dksX3_holding_5 5 rfl rfl)
theorem dX3_holding_124 : decode cX3_holding 124 = .ok (.iload_n 3, 1) := dk_29 (dk_at dksX3_holding_5 8 rfl rfl)
theorem dX3_holding_125 : decode cX3_holding 125 = .ok (.ireturn, 1) := dk_172 (dk_at dksX3_holding_5 9 rfl rfl)
abbrev cX3_holdOn : ByteArray := prog_19_method_43_code
def yX3_holdOn : MethodName := ⟨RX3, "holdOn", "(I)I"⟩
def dkwX3_holdOn_12 : List UInt8 := [21, 5, 120, 167, 0, 4, 3, 128, 62, 167, 254, 235, 29, 172]
abbrev dktX3_holdOn_12 : List UInt8 := dkwX3_holdOn_12 ++ []
def dkwX3_holdOn_11 : List UInt8 := [21, 5, 3, 182, 1, 29, 46, 162, 0, 7, 4, 167, 0, 4, 3, 54, 6, 29, 21, 6, 153, 0, 10, 4]
abbrev dktX3_holdOn_11 : List UInt8 := dkwX3_holdOn_11 ++ dktX3_holdOn_12
def dkwX3_holdOn_10 : List UInt8 := [21, 6, 153, 0, 35, 42, 21, 5, 16, 7, 182, 1, 29, 153, 0, 20, 21, 7, 42, 180, 0, 13, 42]
abbrev dktX3_holdOn_10 : List UInt8 := dkwX3_holdOn_10 ++ dktX3_holdOn_11
def dkwX3_holdOn_9 : List UInt8 := [160, 0, 14, 42, 21, 8, 16, 7, 182, 1, 29, 167, 0, 4, 3, 96, 54, 7, 132, 8, 1, 167, 255, 177]
abbrev dktX3_holdOn_9 : List UInt8 := dkwX3_holdOn_9 ++ dktX3_holdOn_10
def dkwX3_holdOn_8 : List UInt8 := [167, 0, 4, 3, 54, 6, 21, 7, 42, 21, 8, 3, 182, 1, 29, 42, 21, 5, 3, 182, 1, 29]
abbrev dktX3_holdOn_8 : List UInt8 := dkwX3_holdOn_8 ++ dktX3_holdOn_9
def dkwX3_holdOn_7 : List UInt8 := [4, 126, 4, 160, 0, 60, 21, 6, 153, 0, 18, 42, 21, 8, 21, 5, 182, 1, 41, 154, 0, 7, 4]
abbrev dktX3_holdOn_7 : List UInt8 := dkwX3_holdOn_7 ++ dktX3_holdOn_8
def dkwX3_holdOn_6 : List UInt8 := [182, 1, 54, 54, 6, 3, 54, 7, 3, 54, 8, 21, 8, 42, 180, 1, 12, 162, 0, 76, 29, 21, 8, 122]
abbrev dktX3_holdOn_6 : List UInt8 := dkwX3_holdOn_6 ++ dktX3_holdOn_7
def dkwX3_holdOn_5 : List UInt8 := [21, 5, 120, 128, 61, 42, 21, 5, 42, 21, 5, 3, 182, 1, 29, 42, 21, 5, 4, 182, 1, 29]
abbrev dktX3_holdOn_5 : List UInt8 := dkwX3_holdOn_5 ++ dktX3_holdOn_6
def dkwX3_holdOn_4 : List UInt8 := [167, 255, 186, 21, 5, 18, 147, 159, 0, 7, 4, 167, 0, 4, 3, 54, 4, 21, 4, 153, 0, 176, 28, 4]
abbrev dktX3_holdOn_4 : List UInt8 := dkwX3_holdOn_4 ++ dktX3_holdOn_5
def dkwX3_holdOn_3 : List UInt8 := [21, 6, 21, 5, 182, 1, 51, 153, 0, 8, 21, 6, 167, 0, 5, 21, 5, 54, 5, 132, 6, 1]
abbrev dktX3_holdOn_3 : List UInt8 := dkwX3_holdOn_3 ++ dktX3_holdOn_4
def dkwX3_holdOn_2 : List UInt8 := [154, 0, 7, 4, 167, 0, 4, 3, 54, 7, 21, 7, 153, 0, 26, 21, 5, 18, 147, 159, 0, 14, 42]
abbrev dktX3_holdOn_2 : List UInt8 := dkwX3_holdOn_2 ++ dktX3_holdOn_3
def dkwX3_holdOn_1 : List UInt8 := [180, 1, 12, 162, 0, 67, 42, 21, 6, 27, 182, 1, 48, 153, 0, 16, 28, 21, 6, 122, 4, 126]
abbrev dktX3_holdOn_1 : List UInt8 := dkwX3_holdOn_1 ++ dktX3_holdOn_2
def dkwX3_holdOn_0 : List UInt8 := [3, 61, 3, 62, 4, 54, 4, 21, 4, 153, 1, 22, 18, 147, 54, 5, 3, 54, 6, 21, 6, 42]
abbrev dktX3_holdOn_0 : List UInt8 := dkwX3_holdOn_0 ++ dktX3_holdOn_1
theorem dksX3_holdOn_0 : cX3_holdOn.data.toList.drop 0 = dktX3_holdOn_0 := by decide +kernel
theorem dksX3_holdOn_1 : cX3_holdOn.data.toList.drop 22 = dktX3_holdOn_1 := dk_seg dksX3_holdOn_0 22 rfl rfl
theorem dksX3_holdOn_2 : cX3_holdOn.data.toList.drop 44 = dktX3_holdOn_2 := dk_seg dksX3_holdOn_1 22 rfl rfl
theorem dksX3_holdOn_3 : cX3_holdOn.data.toList.drop 67 = dktX3_holdOn_3 := dk_seg dksX3_holdOn_2 23 rfl rfl
theorem dksX3_holdOn_4 : cX3_holdOn.data.toList.drop 89 = dktX3_holdOn_4 := dk_seg dksX3_holdOn_3 22 rfl rfl
theorem dksX3_holdOn_5 : cX3_holdOn.data.toList.drop 113 = dktX3_holdOn_5 := dk_seg dksX3_holdOn_4 24 rfl rfl
theorem dksX3_holdOn_6 : cX3_holdOn.data.toList.drop 135 = dktX3_holdOn_6 := dk_seg dksX3_holdOn_5 22 rfl rfl
theorem dksX3_holdOn_7 : cX3_holdOn.data.toList.drop 159 = dktX3_holdOn_7 := dk_seg dksX3_holdOn_6 24 rfl rfl
theorem dksX3_holdOn_8 : cX3_holdOn.data.toList.drop 182 = dktX3_holdOn_8 := dk_seg dksX3_holdOn_7 23 rfl rfl
theorem dksX3_holdOn_9 : cX3_holdOn.data.toList.drop 204 = dktX3_holdOn_9 := dk_seg dksX3_holdOn_8 22 rfl rfl
theorem dksX3_holdOn_10 : cX3_holdOn.data.toList.drop 228 = dktX3_holdOn_10 := dk_seg dksX3_holdOn_9 24 rfl rfl
theorem dksX3_holdOn_11 : cX3_holdOn.data.toList.drop 251 = dktX3_holdOn_11 := dk_seg dksX3_holdOn_10 23 rfl rfl
theorem dksX3_holdOn_12 : cX3_holdOn.data.toList.drop 275 = dktX3_holdOn_12 := dk_seg dksX3_holdOn_11 24 rfl rfl
theorem dX3_holdOn_0 : decode cX3_holdOn 0 = .ok (.iconst 0, 1) := dk_3 (dk_at dksX3_holdOn_0 0 rfl rfl)
theorem dX3_holdOn_1 : decode cX3_holdOn 1 = .ok (.istore_n 2, 1) := dk_61 (dk_at dksX3_holdOn_0 1 rfl rfl)
theorem dX3_holdOn_2 : decode cX3_holdOn 2 = .ok (.iconst 0, 1) := dk_3 (dk_at dksX3_holdOn_0 2 rfl rfl)
theorem dX3_holdOn_3 : decode cX3_holdOn 3 = .ok (.istore_n 3, 1) := dk_62 (dk_at dksX3_holdOn_0 3 rfl rfl)
theorem dX3_holdOn_4 : decode cX3_holdOn 4 = .ok (.iconst 1, 1) := dk_4 (dk_at dksX3_holdOn_0 4 rfl rfl)
theorem dX3_holdOn_5 : decode cX3_holdOn 5 = .ok (.istore 4, 2) := dk_54 4 (dk_at dksX3_holdOn_0 5 rfl rfl)
theorem dX3_holdOn_7 : decode cX3_holdOn 7 = .ok (.iload 4, 2) := dk_21 4 (dk_at dksX3_holdOn_0 7 rfl rfl)
theorem dX3_holdOn_9 : decode cX3_holdOn 9 = .ok (.ifCond .eq 278, 3) := dk_153 1 22 (dk_at dksX3_holdOn_0 9 rfl rfl)
theorem dX3_holdOn_12 : decode cX3_holdOn 12 = .ok (.ldc 147, 2) := dk_18 147 (dk_at dksX3_holdOn_0 12 rfl rfl)
theorem dX3_holdOn_14 : decode cX3_holdOn 14 = .ok (.istore 5, 2) := dk_54 5 (dk_at dksX3_holdOn_0 14 rfl rfl)
theorem dX3_holdOn_16 : decode cX3_holdOn 16 = .ok (.iconst 0, 1) := dk_3 (dk_at dksX3_holdOn_0 16 rfl rfl)
theorem dX3_holdOn_17 : decode cX3_holdOn 17 = .ok (.istore 6, 2) := dk_54 6 (dk_at dksX3_holdOn_0 17 rfl rfl)
theorem dX3_holdOn_19 : decode cX3_holdOn 19 = .ok (.iload 6, 2) := dk_21 6 (dk_at dksX3_holdOn_0 19 rfl rfl)
theorem dX3_holdOn_21 : decode cX3_holdOn 21 = .ok (.aload_n 0, 1) := dk_42 (dk_at dksX3_holdOn_0 21 rfl rfl)
theorem dX3_holdOn_22 : decode cX3_holdOn 22 = .ok (.getfield 268, 3) := dk_180 1 12 (dk_at dksX3_holdOn_1 0 rfl rfl)
theorem dX3_holdOn_25 : decode cX3_holdOn 25 = .ok (.if_icmp .ge 67, 3) := dk_162 0 67 (dk_at dksX3_holdOn_1 3 rfl rfl)
theorem dX3_holdOn_28 : decode cX3_holdOn 28 = .ok (.aload_n 0, 1) := dk_42 (dk_at dksX3_holdOn_1 6 rfl rfl)
theorem dX3_holdOn_29 : decode cX3_holdOn 29 = .ok (.iload 6, 2) := dk_21 6 (dk_at dksX3_holdOn_1 7 rfl rfl)
theorem dX3_holdOn_31 : decode cX3_holdOn 31 = .ok (.iload_n 1, 1) := dk_27 (dk_at dksX3_holdOn_1 9 rfl rfl)
theorem dX3_holdOn_32 : decode cX3_holdOn 32 = .ok (.invokevirtual 304, 3) := dk_182 1 48 (dk_at dksX3_holdOn_1 10 rfl rfl)
theorem dX3_holdOn_35 : decode cX3_holdOn 35 = .ok (.ifCond .eq 16, 3) := dk_153 0 16 (dk_at dksX3_holdOn_1 13 rfl rfl)
theorem dX3_holdOn_38 : decode cX3_holdOn 38 = .ok (.iload_n 2, 1) := dk_28 (dk_at dksX3_holdOn_1 16 rfl rfl)
theorem dX3_holdOn_39 : decode cX3_holdOn 39 = .ok (.iload 6, 2) := dk_21 6 (dk_at dksX3_holdOn_1 17 rfl rfl)
theorem dX3_holdOn_41 : decode cX3_holdOn 41 = .ok (.ishr, 1) := dk_122 (dk_at dksX3_holdOn_1 19 rfl rfl)
theorem dX3_holdOn_42 : decode cX3_holdOn 42 = .ok (.iconst 1, 1) := dk_4 (dk_at dksX3_holdOn_1 20 rfl rfl)
theorem dX3_holdOn_43 : decode cX3_holdOn 43 = .ok (.iand, 1) := dk_126 (dk_at dksX3_holdOn_1 21 rfl rfl)
theorem dX3_holdOn_44 : decode cX3_holdOn 44 = .ok (.ifCond .ne 7, 3) := dk_154 0 7 (dk_at dksX3_holdOn_2 0 rfl rfl)
theorem dX3_holdOn_47 : decode cX3_holdOn 47 = .ok (.iconst 1, 1) := dk_4 (dk_at dksX3_holdOn_2 3 rfl rfl)
theorem dX3_holdOn_48 : decode cX3_holdOn 48 = .ok (.goto 4, 3) := dk_167 0 4 (dk_at dksX3_holdOn_2 4 rfl rfl)
theorem dX3_holdOn_51 : decode cX3_holdOn 51 = .ok (.iconst 0, 1) := dk_3 (dk_at dksX3_holdOn_2 7 rfl rfl)
theorem dX3_holdOn_52 : decode cX3_holdOn 52 = .ok (.istore 7, 2) := dk_54 7 (dk_at dksX3_holdOn_2 8 rfl rfl)
theorem dX3_holdOn_54 : decode cX3_holdOn 54 = .ok (.iload 7, 2) := dk_21 7 (dk_at dksX3_holdOn_2 10 rfl rfl)
theorem dX3_holdOn_56 : decode cX3_holdOn 56 = .ok (.ifCond .eq 26, 3) := dk_153 0 26 (dk_at dksX3_holdOn_2 12 rfl rfl)
theorem dX3_holdOn_59 : decode cX3_holdOn 59 = .ok (.iload 5, 2) := dk_21 5 (dk_at dksX3_holdOn_2 15 rfl rfl)
theorem dX3_holdOn_61 : decode cX3_holdOn 61 = .ok (.ldc 147, 2) := dk_18 147 (dk_at dksX3_holdOn_2 17 rfl rfl)
theorem dX3_holdOn_63 : decode cX3_holdOn 63 = .ok (.if_icmp .eq 14, 3) := dk_159 0 14 (dk_at dksX3_holdOn_2 19 rfl rfl)
theorem dX3_holdOn_66 : decode cX3_holdOn 66 = .ok (.aload_n 0, 1) := dk_42 (dk_at dksX3_holdOn_2 22 rfl rfl)
theorem dX3_holdOn_67 : decode cX3_holdOn 67 = .ok (.iload 6, 2) := dk_21 6 (dk_at dksX3_holdOn_3 0 rfl rfl)
theorem dX3_holdOn_69 : decode cX3_holdOn 69 = .ok (.iload 5, 2) := dk_21 5 (dk_at dksX3_holdOn_3 2 rfl rfl)
theorem dX3_holdOn_71 : decode cX3_holdOn 71 = .ok (.invokevirtual 307, 3) := dk_182 1 51 (dk_at dksX3_holdOn_3 4 rfl rfl)
theorem dX3_holdOn_74 : decode cX3_holdOn 74 = .ok (.ifCond .eq 8, 3) := dk_153 0 8 (dk_at dksX3_holdOn_3 7 rfl rfl)
theorem dX3_holdOn_77 : decode cX3_holdOn 77 = .ok (.iload 6, 2) := dk_21 6 (dk_at dksX3_holdOn_3 10 rfl rfl)
theorem dX3_holdOn_79 : decode cX3_holdOn 79 = .ok (.goto 5, 3) := dk_167 0 5 (dk_at dksX3_holdOn_3 12 rfl rfl)
theorem dX3_holdOn_82 : decode cX3_holdOn 82 = .ok (.iload 5, 2) := dk_21 5 (dk_at dksX3_holdOn_3 15 rfl rfl)
theorem dX3_holdOn_84 : decode cX3_holdOn 84 = .ok (.istore 5, 2) := dk_54 5 (dk_at dksX3_holdOn_3 17 rfl rfl)
theorem dX3_holdOn_86 : decode cX3_holdOn 86 = .ok (.iinc 6 1, 3) := dk_132 6 1 (dk_at dksX3_holdOn_3 19 rfl rfl)
theorem dX3_holdOn_89 : decode cX3_holdOn 89 = .ok (.goto (-70), 3) := dk_167 255 186 (dk_at dksX3_holdOn_4 0 rfl rfl)
theorem dX3_holdOn_92 : decode cX3_holdOn 92 = .ok (.iload 5, 2) := dk_21 5 (dk_at dksX3_holdOn_4 3 rfl rfl)
theorem dX3_holdOn_94 : decode cX3_holdOn 94 = .ok (.ldc 147, 2) := dk_18 147 (dk_at dksX3_holdOn_4 5 rfl rfl)
theorem dX3_holdOn_96 : decode cX3_holdOn 96 = .ok (.if_icmp .eq 7, 3) := dk_159 0 7 (dk_at dksX3_holdOn_4 7 rfl rfl)
theorem dX3_holdOn_99 : decode cX3_holdOn 99 = .ok (.iconst 1, 1) := dk_4 (dk_at dksX3_holdOn_4 10 rfl rfl)
theorem dX3_holdOn_100 : decode cX3_holdOn 100 = .ok (.goto 4, 3) := dk_167 0 4 (dk_at dksX3_holdOn_4 11 rfl rfl)
theorem dX3_holdOn_103 : decode cX3_holdOn 103 = .ok (.iconst 0, 1) := dk_3 (dk_at dksX3_holdOn_4 14 rfl rfl)
theorem dX3_holdOn_104 : decode cX3_holdOn 104 = .ok (.istore 4, 2) := dk_54 4 (dk_at dksX3_holdOn_4 15 rfl rfl)
theorem dX3_holdOn_106 : decode cX3_holdOn 106 = .ok (.iload 4, 2) := dk_21 4 (dk_at dksX3_holdOn_4 17 rfl rfl)
theorem dX3_holdOn_108 : decode cX3_holdOn 108 = .ok (.ifCond .eq 176, 3) := dk_153 0 176 (dk_at dksX3_holdOn_4 19 rfl rfl)
theorem dX3_holdOn_111 : decode cX3_holdOn 111 = .ok (.iload_n 2, 1) := dk_28 (dk_at dksX3_holdOn_4 22 rfl rfl)
theorem dX3_holdOn_112 : decode cX3_holdOn 112 = .ok (.iconst 1, 1) := dk_4 (dk_at dksX3_holdOn_4 23 rfl rfl)
theorem dX3_holdOn_113 : decode cX3_holdOn 113 = .ok (.iload 5, 2) := dk_21 5 (dk_at dksX3_holdOn_5 0 rfl rfl)
theorem dX3_holdOn_115 : decode cX3_holdOn 115 = .ok (.ishl, 1) := dk_120 (dk_at dksX3_holdOn_5 2 rfl rfl)
theorem dX3_holdOn_116 : decode cX3_holdOn 116 = .ok (.ior, 1) := dk_128 (dk_at dksX3_holdOn_5 3 rfl rfl)
theorem dX3_holdOn_117 : decode cX3_holdOn 117 = .ok (.istore_n 2, 1) := dk_61 (dk_at dksX3_holdOn_5 4 rfl rfl)
theorem dX3_holdOn_118 : decode cX3_holdOn 118 = .ok (.aload_n 0, 1) := dk_42 (dk_at dksX3_holdOn_5 5 rfl rfl)
theorem dX3_holdOn_119 : decode cX3_holdOn 119 = .ok (.iload 5, 2) := dk_21 5 (dk_at dksX3_holdOn_5 6 rfl rfl)
theorem dX3_holdOn_121 : decode cX3_holdOn 121 = .ok (.aload_n 0, 1) := dk_42 (dk_at dksX3_holdOn_5 8 rfl rfl)
theorem dX3_holdOn_122 : decode cX3_holdOn 122 = .ok (.iload 5, 2) := dk_21 5 (dk_at dksX3_holdOn_5 9 rfl rfl)
theorem dX3_holdOn_124 : decode cX3_holdOn 124 = .ok (.iconst 0, 1) := dk_3 (dk_at dksX3_holdOn_5 11 rfl rfl)
theorem dX3_holdOn_125 : decode cX3_holdOn 125 = .ok (.invokevirtual 285, 3) := dk_182 1 29 (dk_at dksX3_holdOn_5 12 rfl rfl)
theorem dX3_holdOn_128 : decode cX3_holdOn 128 = .ok (.aload_n 0, 1) := dk_42 (dk_at dksX3_holdOn_5 15 rfl rfl)
theorem dX3_holdOn_129 : decode cX3_holdOn 129 = .ok (.iload 5, 2) := dk_21 5 (dk_at dksX3_holdOn_5 16 rfl rfl)
theorem dX3_holdOn_131 : decode cX3_holdOn 131 = .ok (.iconst 1, 1) := dk_4 (dk_at dksX3_holdOn_5 18 rfl rfl)
theorem dX3_holdOn_132 : decode cX3_holdOn 132 = .ok (.invokevirtual 285, 3) := dk_182 1 29 (dk_at dksX3_holdOn_5 19 rfl rfl)
theorem dX3_holdOn_135 : decode cX3_holdOn 135 = .ok (.invokevirtual 310, 3) := dk_182 1 54 (dk_at dksX3_holdOn_6 0 rfl rfl)
theorem dX3_holdOn_138 : decode cX3_holdOn 138 = .ok (.istore 6, 2) := dk_54 6 (dk_at dksX3_holdOn_6 3 rfl rfl)
theorem dX3_holdOn_140 : decode cX3_holdOn 140 = .ok (.iconst 0, 1) := dk_3 (dk_at dksX3_holdOn_6 5 rfl rfl)
theorem dX3_holdOn_141 : decode cX3_holdOn 141 = .ok (.istore 7, 2) := dk_54 7 (dk_at dksX3_holdOn_6 6 rfl rfl)
theorem dX3_holdOn_143 : decode cX3_holdOn 143 = .ok (.iconst 0, 1) := dk_3 (dk_at dksX3_holdOn_6 8 rfl rfl)
theorem dX3_holdOn_144 : decode cX3_holdOn 144 = .ok (.istore 8, 2) := dk_54 8 (dk_at dksX3_holdOn_6 9 rfl rfl)
theorem dX3_holdOn_146 : decode cX3_holdOn 146 = .ok (.iload 8, 2) := dk_21 8 (dk_at dksX3_holdOn_6 11 rfl rfl)
theorem dX3_holdOn_148 : decode cX3_holdOn 148 = .ok (.aload_n 0, 1) := dk_42 (dk_at dksX3_holdOn_6 13 rfl rfl)
theorem dX3_holdOn_149 : decode cX3_holdOn 149 = .ok (.getfield 268, 3) := dk_180 1 12 (dk_at dksX3_holdOn_6 14 rfl rfl)
theorem dX3_holdOn_152 : decode cX3_holdOn 152 = .ok (.if_icmp .ge 76, 3) := dk_162 0 76 (dk_at dksX3_holdOn_6 17 rfl rfl)
theorem dX3_holdOn_155 : decode cX3_holdOn 155 = .ok (.iload_n 3, 1) := dk_29 (dk_at dksX3_holdOn_6 20 rfl rfl)
theorem dX3_holdOn_156 : decode cX3_holdOn 156 = .ok (.iload 8, 2) := dk_21 8 (dk_at dksX3_holdOn_6 21 rfl rfl)
theorem dX3_holdOn_158 : decode cX3_holdOn 158 = .ok (.ishr, 1) := dk_122 (dk_at dksX3_holdOn_6 23 rfl rfl)
theorem dX3_holdOn_159 : decode cX3_holdOn 159 = .ok (.iconst 1, 1) := dk_4 (dk_at dksX3_holdOn_7 0 rfl rfl)
theorem dX3_holdOn_160 : decode cX3_holdOn 160 = .ok (.iand, 1) := dk_126 (dk_at dksX3_holdOn_7 1 rfl rfl)
theorem dX3_holdOn_161 : decode cX3_holdOn 161 = .ok (.iconst 1, 1) := dk_4 (dk_at dksX3_holdOn_7 2 rfl rfl)
theorem dX3_holdOn_162 : decode cX3_holdOn 162 = .ok (.if_icmp .ne 60, 3) := dk_160 0 60 (dk_at dksX3_holdOn_7 3 rfl rfl)
theorem dX3_holdOn_165 : decode cX3_holdOn 165 = .ok (.iload 6, 2) := dk_21 6 (dk_at dksX3_holdOn_7 6 rfl rfl)
theorem dX3_holdOn_167 : decode cX3_holdOn 167 = .ok (.ifCond .eq 18, 3) := dk_153 0 18 (dk_at dksX3_holdOn_7 8 rfl rfl)
theorem dX3_holdOn_170 : decode cX3_holdOn 170 = .ok (.aload_n 0, 1) := dk_42 (dk_at dksX3_holdOn_7 11 rfl rfl)
theorem dX3_holdOn_171 : decode cX3_holdOn 171 = .ok (.iload 8, 2) := dk_21 8 (dk_at dksX3_holdOn_7 12 rfl rfl)
theorem dX3_holdOn_173 : decode cX3_holdOn 173 = .ok (.iload 5, 2) := dk_21 5 (dk_at dksX3_holdOn_7 14 rfl rfl)
theorem dX3_holdOn_175 : decode cX3_holdOn 175 = .ok (.invokevirtual 297, 3) := dk_182 1 41 (dk_at dksX3_holdOn_7 16 rfl rfl)
theorem dX3_holdOn_178 : decode cX3_holdOn 178 = .ok (.ifCond .ne 7, 3) := dk_154 0 7 (dk_at dksX3_holdOn_7 19 rfl rfl)
theorem dX3_holdOn_181 : decode cX3_holdOn 181 = .ok (.iconst 1, 1) := dk_4 (dk_at dksX3_holdOn_7 22 rfl rfl)
theorem dX3_holdOn_182 : decode cX3_holdOn 182 = .ok (.goto 4, 3) := dk_167 0 4 (dk_at dksX3_holdOn_8 0 rfl rfl)
theorem dX3_holdOn_185 : decode cX3_holdOn 185 = .ok (.iconst 0, 1) := dk_3 (dk_at dksX3_holdOn_8 3 rfl rfl)
theorem dX3_holdOn_186 : decode cX3_holdOn 186 = .ok (.istore 6, 2) := dk_54 6 (dk_at dksX3_holdOn_8 4 rfl rfl)
theorem dX3_holdOn_188 : decode cX3_holdOn 188 = .ok (.iload 7, 2) := dk_21 7 (dk_at dksX3_holdOn_8 6 rfl rfl)
theorem dX3_holdOn_190 : decode cX3_holdOn 190 = .ok (.aload_n 0, 1) := dk_42 (dk_at dksX3_holdOn_8 8 rfl rfl)
theorem dX3_holdOn_191 : decode cX3_holdOn 191 = .ok (.iload 8, 2) := dk_21 8 (dk_at dksX3_holdOn_8 9 rfl rfl)
theorem dX3_holdOn_193 : decode cX3_holdOn 193 = .ok (.iconst 0, 1) := dk_3 (dk_at dksX3_holdOn_8 11 rfl rfl)
theorem dX3_holdOn_194 : decode cX3_holdOn 194 = .ok (.invokevirtual 285, 3) := dk_182 1 29 (dk_at dksX3_holdOn_8 12 rfl rfl)
theorem dX3_holdOn_197 : decode cX3_holdOn 197 = .ok (.aload_n 0, 1) := dk_42 (dk_at dksX3_holdOn_8 15 rfl rfl)
theorem dX3_holdOn_198 : decode cX3_holdOn 198 = .ok (.iload 5, 2) := dk_21 5 (dk_at dksX3_holdOn_8 16 rfl rfl)
theorem dX3_holdOn_200 : decode cX3_holdOn 200 = .ok (.iconst 0, 1) := dk_3 (dk_at dksX3_holdOn_8 18 rfl rfl)
theorem dX3_holdOn_201 : decode cX3_holdOn 201 = .ok (.invokevirtual 285, 3) := dk_182 1 29 (dk_at dksX3_holdOn_8 19 rfl rfl)
theorem dX3_holdOn_204 : decode cX3_holdOn 204 = .ok (.if_icmp .ne 14, 3) := dk_160 0 14 (dk_at dksX3_holdOn_9 0 rfl rfl)
theorem dX3_holdOn_207 : decode cX3_holdOn 207 = .ok (.aload_n 0, 1) := dk_42 (dk_at dksX3_holdOn_9 3 rfl rfl)
theorem dX3_holdOn_208 : decode cX3_holdOn 208 = .ok (.iload 8, 2) := dk_21 8 (dk_at dksX3_holdOn_9 4 rfl rfl)
theorem dX3_holdOn_210 : decode cX3_holdOn 210 = .ok (.bipush 7, 2) := dk_16 7 (dk_at dksX3_holdOn_9 6 rfl rfl)
theorem dX3_holdOn_212 : decode cX3_holdOn 212 = .ok (.invokevirtual 285, 3) := dk_182 1 29 (dk_at dksX3_holdOn_9 8 rfl rfl)
theorem dX3_holdOn_215 : decode cX3_holdOn 215 = .ok (.goto 4, 3) := dk_167 0 4 (dk_at dksX3_holdOn_9 11 rfl rfl)
theorem dX3_holdOn_218 : decode cX3_holdOn 218 = .ok (.iconst 0, 1) := dk_3 (dk_at dksX3_holdOn_9 14 rfl rfl)
theorem dX3_holdOn_219 : decode cX3_holdOn 219 = .ok (.iadd, 1) := dk_96 (dk_at dksX3_holdOn_9 15 rfl rfl)
theorem dX3_holdOn_220 : decode cX3_holdOn 220 = .ok (.istore 7, 2) := dk_54 7 (dk_at dksX3_holdOn_9 16 rfl rfl)
theorem dX3_holdOn_222 : decode cX3_holdOn 222 = .ok (.iinc 8 1, 3) := dk_132 8 1 (dk_at dksX3_holdOn_9 18 rfl rfl)
theorem dX3_holdOn_225 : decode cX3_holdOn 225 = .ok (.goto (-79), 3) := dk_167 255 177 (dk_at dksX3_holdOn_9 21 rfl rfl)
theorem dX3_holdOn_228 : decode cX3_holdOn 228 = .ok (.iload 6, 2) := dk_21 6 (dk_at dksX3_holdOn_10 0 rfl rfl)
theorem dX3_holdOn_230 : decode cX3_holdOn 230 = .ok (.ifCond .eq 35, 3) := dk_153 0 35 (dk_at dksX3_holdOn_10 2 rfl rfl)
theorem dX3_holdOn_233 : decode cX3_holdOn 233 = .ok (.aload_n 0, 1) := dk_42 (dk_at dksX3_holdOn_10 5 rfl rfl)
theorem dX3_holdOn_234 : decode cX3_holdOn 234 = .ok (.iload 5, 2) := dk_21 5 (dk_at dksX3_holdOn_10 6 rfl rfl)
theorem dX3_holdOn_236 : decode cX3_holdOn 236 = .ok (.bipush 7, 2) := dk_16 7 (dk_at dksX3_holdOn_10 8 rfl rfl)
theorem dX3_holdOn_238 : decode cX3_holdOn 238 = .ok (.invokevirtual 285, 3) := dk_182 1 29 (dk_at dksX3_holdOn_10 10 rfl rfl)
theorem dX3_holdOn_241 : decode cX3_holdOn 241 = .ok (.ifCond .eq 20, 3) := dk_153 0 20 (dk_at dksX3_holdOn_10 13 rfl rfl)
theorem dX3_holdOn_244 : decode cX3_holdOn 244 = .ok (.iload 7, 2) := dk_21 7 (dk_at dksX3_holdOn_10 16 rfl rfl)
theorem dX3_holdOn_246 : decode cX3_holdOn 246 = .ok (.aload_n 0, 1) := dk_42 (dk_at dksX3_holdOn_10 18 rfl rfl)
theorem dX3_holdOn_247 : decode cX3_holdOn 247 = .ok (.getfield 13, 3) := dk_180 0 13 (dk_at dksX3_holdOn_10 19 rfl rfl)
theorem dX3_holdOn_250 : decode cX3_holdOn 250 = .ok (.aload_n 0, 1) := dk_42 (dk_at dksX3_holdOn_10 22 rfl rfl)
theorem dX3_holdOn_251 : decode cX3_holdOn 251 = .ok (.iload 5, 2) := dk_21 5 (dk_at dksX3_holdOn_11 0 rfl rfl)
theorem dX3_holdOn_253 : decode cX3_holdOn 253 = .ok (.iconst 0, 1) := dk_3 (dk_at dksX3_holdOn_11 2 rfl rfl)
theorem dX3_holdOn_254 : decode cX3_holdOn 254 = .ok (.invokevirtual 285, 3) := dk_182 1 29 (dk_at dksX3_holdOn_11 3 rfl rfl)
theorem dX3_holdOn_257 : decode cX3_holdOn 257 = .ok (.iaload, 1) := dk_46 (dk_at dksX3_holdOn_11 6 rfl rfl)
theorem dX3_holdOn_258 : decode cX3_holdOn 258 = .ok (.if_icmp .ge 7, 3) := dk_162 0 7 (dk_at dksX3_holdOn_11 7 rfl rfl)
theorem dX3_holdOn_261 : decode cX3_holdOn 261 = .ok (.iconst 1, 1) := dk_4 (dk_at dksX3_holdOn_11 10 rfl rfl)
theorem dX3_holdOn_262 : decode cX3_holdOn 262 = .ok (.goto 4, 3) := dk_167 0 4 (dk_at dksX3_holdOn_11 11 rfl rfl)
theorem dX3_holdOn_265 : decode cX3_holdOn 265 = .ok (.iconst 0, 1) := dk_3 (dk_at dksX3_holdOn_11 14 rfl rfl)
theorem dX3_holdOn_266 : decode cX3_holdOn 266 = .ok (.istore 6, 2) := dk_54 6 (dk_at dksX3_holdOn_11 15 rfl rfl)
theorem dX3_holdOn_268 : decode cX3_holdOn 268 = .ok (.iload_n 3, 1) := dk_29 (dk_at dksX3_holdOn_11 17 rfl rfl)
theorem dX3_holdOn_269 : decode cX3_holdOn 269 = .ok (.iload 6, 2) := dk_21 6 (dk_at dksX3_holdOn_11 18 rfl rfl)
theorem dX3_holdOn_271 : decode cX3_holdOn 271 = .ok (.ifCond .eq 10, 3) := dk_153 0 10 (dk_at dksX3_holdOn_11 20 rfl rfl)
theorem dX3_holdOn_274 : decode cX3_holdOn 274 = .ok (.iconst 1, 1) := dk_4 (dk_at dksX3_holdOn_11 23 rfl rfl)
theorem dX3_holdOn_275 : decode cX3_holdOn 275 = .ok (.iload 5, 2) := dk_21 5 (dk_at dksX3_holdOn_12 0 rfl rfl)
theorem dX3_holdOn_277 : decode cX3_holdOn 277 = .ok (.ishl, 1) := dk_120 (dk_at dksX3_holdOn_12 2 rfl rfl)
theorem dX3_holdOn_278 : decode cX3_holdOn 278 = .ok (.goto 4, 3) := dk_167 0 4 (dk_at dksX3_holdOn_12 3 rfl rfl)
theorem dX3_holdOn_281 : decode cX3_holdOn 281 = .ok (.iconst 0, 1) := dk_3 (dk_at dksX3_holdOn_12 6 rfl rfl)
theorem dX3_holdOn_282 : decode cX3_holdOn 282 = .ok (.ior, 1) := dk_128 (dk_at dksX3_holdOn_12 7 rfl rfl)
theorem dX3_holdOn_283 : decode cX3_holdOn 283 = .ok (.istore_n 3, 1) := dk_62 (dk_at dksX3_holdOn_12 8 rfl rfl)
theorem dX3_holdOn_284 : decode cX3_holdOn 284 = .ok (.goto (-277), 3) := dk_167 254 235 (dk_at dksX3_holdOn_12 9 rfl rfl)
theorem dX3_holdOn_287 : decode cX3_holdOn 287 = .ok (.iload_n 3, 1) := dk_29 (dk_at dksX3_holdOn_12 12 rfl rfl)
theorem dX3_holdOn_288 : decode cX3_holdOn 288 = .ok (.ireturn, 1) := dk_172 (dk_at dksX3_holdOn_12 13 rfl rfl)
abbrev cX3_isThere : ByteArray := prog_19_method_39_code
def yX3_isThere : MethodName := ⟨RX3, "isThere", "(II)Z"⟩
def dkwX3_isThere_1 : List UInt8 := [180, 0, 46, 27, 46, 28, 164, 0, 7, 4, 167, 0, 4, 3, 172]
abbrev dktX3_isThere_1 : List UInt8 := dkwX3_isThere_1 ++ []
def dkwX3_isThere_0 : List UInt8 := [42, 27, 16, 8, 182, 1, 29, 28, 163, 0, 28, 42, 180, 0, 46, 27, 46, 18, 147, 159, 0, 13, 42]
abbrev dktX3_isThere_0 : List UInt8 := dkwX3_isThere_0 ++ dktX3_isThere_1
theorem dksX3_isThere_0 : cX3_isThere.data.toList.drop 0 = dktX3_isThere_0 := by decide +kernel
theorem dksX3_isThere_1 : cX3_isThere.data.toList.drop 23 = dktX3_isThere_1 := dk_seg dksX3_isThere_0 23 rfl rfl
theorem dX3_isThere_0 : decode cX3_isThere 0 = .ok (.aload_n 0, 1) := dk_42 (dk_at dksX3_isThere_0 0 rfl rfl)
theorem dX3_isThere_1 : decode cX3_isThere 1 = .ok (.iload_n 1, 1) := dk_27 (dk_at dksX3_isThere_0 1 rfl rfl)
theorem dX3_isThere_2 : decode cX3_isThere 2 = .ok (.bipush 8, 2) := dk_16 8 (dk_at dksX3_isThere_0 2 rfl rfl)
theorem dX3_isThere_4 : decode cX3_isThere 4 = .ok (.invokevirtual 285, 3) := dk_182 1 29 (dk_at dksX3_isThere_0 4 rfl rfl)
theorem dX3_isThere_7 : decode cX3_isThere 7 = .ok (.iload_n 2, 1) := dk_28 (dk_at dksX3_isThere_0 7 rfl rfl)
theorem dX3_isThere_8 : decode cX3_isThere 8 = .ok (.if_icmp .gt 28, 3) := dk_163 0 28 (dk_at dksX3_isThere_0 8 rfl rfl)
theorem dX3_isThere_11 : decode cX3_isThere 11 = .ok (.aload_n 0, 1) := dk_42 (dk_at dksX3_isThere_0 11 rfl rfl)
theorem dX3_isThere_12 : decode cX3_isThere 12 = .ok (.getfield 46, 3) := dk_180 0 46 (dk_at dksX3_isThere_0 12 rfl rfl)
theorem dX3_isThere_15 : decode cX3_isThere 15 = .ok (.iload_n 1, 1) := dk_27 (dk_at dksX3_isThere_0 15 rfl rfl)
theorem dX3_isThere_16 : decode cX3_isThere 16 = .ok (.iaload, 1) := dk_46 (dk_at dksX3_isThere_0 16 rfl rfl)
theorem dX3_isThere_17 : decode cX3_isThere 17 = .ok (.ldc 147, 2) := dk_18 147 (dk_at dksX3_isThere_0 17 rfl rfl)
theorem dX3_isThere_19 : decode cX3_isThere 19 = .ok (.if_icmp .eq 13, 3) := dk_159 0 13 (dk_at dksX3_isThere_0 19 rfl rfl)
theorem dX3_isThere_22 : decode cX3_isThere 22 = .ok (.aload_n 0, 1) := dk_42 (dk_at dksX3_isThere_0 22 rfl rfl)
theorem dX3_isThere_23 : decode cX3_isThere 23 = .ok (.getfield 46, 3) := dk_180 0 46 (dk_at dksX3_isThere_1 0 rfl rfl)
theorem dX3_isThere_26 : decode cX3_isThere 26 = .ok (.iload_n 1, 1) := dk_27 (dk_at dksX3_isThere_1 3 rfl rfl)
theorem dX3_isThere_27 : decode cX3_isThere 27 = .ok (.iaload, 1) := dk_46 (dk_at dksX3_isThere_1 4 rfl rfl)
theorem dX3_isThere_28 : decode cX3_isThere 28 = .ok (.iload_n 2, 1) := dk_28 (dk_at dksX3_isThere_1 5 rfl rfl)
theorem dX3_isThere_29 : decode cX3_isThere 29 = .ok (.if_icmp .le 7, 3) := dk_164 0 7 (dk_at dksX3_isThere_1 6 rfl rfl)
theorem dX3_isThere_32 : decode cX3_isThere 32 = .ok (.iconst 1, 1) := dk_4 (dk_at dksX3_isThere_1 9 rfl rfl)
theorem dX3_isThere_33 : decode cX3_isThere 33 = .ok (.goto 4, 3) := dk_167 0 4 (dk_at dksX3_isThere_1 10 rfl rfl)
theorem dX3_isThere_36 : decode cX3_isThere 36 = .ok (.iconst 0, 1) := dk_3 (dk_at dksX3_isThere_1 13 rfl rfl)
theorem dX3_isThere_37 : decode cX3_isThere 37 = .ok (.ireturn, 1) := dk_172 (dk_at dksX3_isThere_1 14 rfl rfl)
abbrev cX3_isAhead : ByteArray := prog_19_method_42_code
def yX3_isAhead : MethodName := ⟨RX3, "isAhead", "(II)Z"⟩
def dkwX3_isAhead_3 : List UInt8 := [167, 0, 4, 3, 172]
abbrev dktX3_isAhead_3 : List UInt8 := dkwX3_isAhead_3 ++ []
def dkwX3_isAhead_2 : List UInt8 := [182, 1, 29, 42, 28, 16, 8, 182, 1, 29, 100, 167, 0, 6, 27, 28, 100, 62, 29, 156, 0, 7, 4]
abbrev dktX3_isAhead_2 : List UInt8 := dkwX3_isAhead_2 ++ dktX3_isAhead_3
def dkwX3_isAhead_1 : List UInt8 := [167, 0, 41, 42, 27, 16, 8, 182, 1, 29, 42, 28, 16, 8, 182, 1, 29, 159, 0, 21, 42, 27, 16, 8]
abbrev dktX3_isAhead_1 : List UInt8 := dkwX3_isAhead_1 ++ dktX3_isAhead_2
def dkwX3_isAhead_0 : List UInt8 := [42, 27, 182, 1, 45, 42, 28, 182, 1, 45, 159, 0, 17, 42, 27, 182, 1, 45, 42, 28, 182, 1, 45, 100]
abbrev dktX3_isAhead_0 : List UInt8 := dkwX3_isAhead_0 ++ dktX3_isAhead_1
theorem dksX3_isAhead_0 : cX3_isAhead.data.toList.drop 0 = dktX3_isAhead_0 := by decide +kernel
theorem dksX3_isAhead_1 : cX3_isAhead.data.toList.drop 24 = dktX3_isAhead_1 := dk_seg dksX3_isAhead_0 24 rfl rfl
theorem dksX3_isAhead_2 : cX3_isAhead.data.toList.drop 48 = dktX3_isAhead_2 := dk_seg dksX3_isAhead_1 24 rfl rfl
theorem dksX3_isAhead_3 : cX3_isAhead.data.toList.drop 71 = dktX3_isAhead_3 := dk_seg dksX3_isAhead_2 23 rfl rfl
theorem dX3_isAhead_0 : decode cX3_isAhead 0 = .ok (.aload_n 0, 1) := dk_42 (dk_at dksX3_isAhead_0 0 rfl rfl)
theorem dX3_isAhead_1 : decode cX3_isAhead 1 = .ok (.iload_n 1, 1) := dk_27 (dk_at dksX3_isAhead_0 1 rfl rfl)
theorem dX3_isAhead_2 : decode cX3_isAhead 2 = .ok (.invokevirtual 301, 3) := dk_182 1 45 (dk_at dksX3_isAhead_0 2 rfl rfl)
theorem dX3_isAhead_5 : decode cX3_isAhead 5 = .ok (.aload_n 0, 1) := dk_42 (dk_at dksX3_isAhead_0 5 rfl rfl)
theorem dX3_isAhead_6 : decode cX3_isAhead 6 = .ok (.iload_n 2, 1) := dk_28 (dk_at dksX3_isAhead_0 6 rfl rfl)
theorem dX3_isAhead_7 : decode cX3_isAhead 7 = .ok (.invokevirtual 301, 3) := dk_182 1 45 (dk_at dksX3_isAhead_0 7 rfl rfl)
theorem dX3_isAhead_10 : decode cX3_isAhead 10 = .ok (.if_icmp .eq 17, 3) := dk_159 0 17 (dk_at dksX3_isAhead_0 10 rfl rfl)
theorem dX3_isAhead_13 : decode cX3_isAhead 13 = .ok (.aload_n 0, 1) := dk_42 (dk_at dksX3_isAhead_0 13 rfl rfl)
theorem dX3_isAhead_14 : decode cX3_isAhead 14 = .ok (.iload_n 1, 1) := dk_27 (dk_at dksX3_isAhead_0 14 rfl rfl)
theorem dX3_isAhead_15 : decode cX3_isAhead 15 = .ok (.invokevirtual 301, 3) := dk_182 1 45 (dk_at dksX3_isAhead_0 15 rfl rfl)
theorem dX3_isAhead_18 : decode cX3_isAhead 18 = .ok (.aload_n 0, 1) := dk_42 (dk_at dksX3_isAhead_0 18 rfl rfl)
theorem dX3_isAhead_19 : decode cX3_isAhead 19 = .ok (.iload_n 2, 1) := dk_28 (dk_at dksX3_isAhead_0 19 rfl rfl)
theorem dX3_isAhead_20 : decode cX3_isAhead 20 = .ok (.invokevirtual 301, 3) := dk_182 1 45 (dk_at dksX3_isAhead_0 20 rfl rfl)
theorem dX3_isAhead_23 : decode cX3_isAhead 23 = .ok (.isub, 1) := dk_100 (dk_at dksX3_isAhead_0 23 rfl rfl)
theorem dX3_isAhead_24 : decode cX3_isAhead 24 = .ok (.goto 41, 3) := dk_167 0 41 (dk_at dksX3_isAhead_1 0 rfl rfl)
theorem dX3_isAhead_27 : decode cX3_isAhead 27 = .ok (.aload_n 0, 1) := dk_42 (dk_at dksX3_isAhead_1 3 rfl rfl)
theorem dX3_isAhead_28 : decode cX3_isAhead 28 = .ok (.iload_n 1, 1) := dk_27 (dk_at dksX3_isAhead_1 4 rfl rfl)
theorem dX3_isAhead_29 : decode cX3_isAhead 29 = .ok (.bipush 8, 2) := dk_16 8 (dk_at dksX3_isAhead_1 5 rfl rfl)
theorem dX3_isAhead_31 : decode cX3_isAhead 31 = .ok (.invokevirtual 285, 3) := dk_182 1 29 (dk_at dksX3_isAhead_1 7 rfl rfl)
theorem dX3_isAhead_34 : decode cX3_isAhead 34 = .ok (.aload_n 0, 1) := dk_42 (dk_at dksX3_isAhead_1 10 rfl rfl)
theorem dX3_isAhead_35 : decode cX3_isAhead 35 = .ok (.iload_n 2, 1) := dk_28 (dk_at dksX3_isAhead_1 11 rfl rfl)
theorem dX3_isAhead_36 : decode cX3_isAhead 36 = .ok (.bipush 8, 2) := dk_16 8 (dk_at dksX3_isAhead_1 12 rfl rfl)
theorem dX3_isAhead_38 : decode cX3_isAhead 38 = .ok (.invokevirtual 285, 3) := dk_182 1 29 (dk_at dksX3_isAhead_1 14 rfl rfl)
theorem dX3_isAhead_41 : decode cX3_isAhead 41 = .ok (.if_icmp .eq 21, 3) := dk_159 0 21 (dk_at dksX3_isAhead_1 17 rfl rfl)
theorem dX3_isAhead_44 : decode cX3_isAhead 44 = .ok (.aload_n 0, 1) := dk_42 (dk_at dksX3_isAhead_1 20 rfl rfl)
theorem dX3_isAhead_45 : decode cX3_isAhead 45 = .ok (.iload_n 1, 1) := dk_27 (dk_at dksX3_isAhead_1 21 rfl rfl)
theorem dX3_isAhead_46 : decode cX3_isAhead 46 = .ok (.bipush 8, 2) := dk_16 8 (dk_at dksX3_isAhead_1 22 rfl rfl)
theorem dX3_isAhead_48 : decode cX3_isAhead 48 = .ok (.invokevirtual 285, 3) := dk_182 1 29 (dk_at dksX3_isAhead_2 0 rfl rfl)
theorem dX3_isAhead_51 : decode cX3_isAhead 51 = .ok (.aload_n 0, 1) := dk_42 (dk_at dksX3_isAhead_2 3 rfl rfl)
theorem dX3_isAhead_52 : decode cX3_isAhead 52 = .ok (.iload_n 2, 1) := dk_28 (dk_at dksX3_isAhead_2 4 rfl rfl)
theorem dX3_isAhead_53 : decode cX3_isAhead 53 = .ok (.bipush 8, 2) := dk_16 8 (dk_at dksX3_isAhead_2 5 rfl rfl)
theorem dX3_isAhead_55 : decode cX3_isAhead 55 = .ok (.invokevirtual 285, 3) := dk_182 1 29 (dk_at dksX3_isAhead_2 7 rfl rfl)
theorem dX3_isAhead_58 : decode cX3_isAhead 58 = .ok (.isub, 1) := dk_100 (dk_at dksX3_isAhead_2 10 rfl rfl)
theorem dX3_isAhead_59 : decode cX3_isAhead 59 = .ok (.goto 6, 3) := dk_167 0 6 (dk_at dksX3_isAhead_2 11 rfl rfl)
theorem dX3_isAhead_62 : decode cX3_isAhead 62 = .ok (.iload_n 1, 1) := dk_27 (dk_at dksX3_isAhead_2 14 rfl rfl)
theorem dX3_isAhead_63 : decode cX3_isAhead 63 = .ok (.iload_n 2, 1) := dk_28 (dk_at dksX3_isAhead_2 15 rfl rfl)
theorem dX3_isAhead_64 : decode cX3_isAhead 64 = .ok (.isub, 1) := dk_100 (dk_at dksX3_isAhead_2 16 rfl rfl)
theorem dX3_isAhead_65 : decode cX3_isAhead 65 = .ok (.istore_n 3, 1) := dk_62 (dk_at dksX3_isAhead_2 17 rfl rfl)
theorem dX3_isAhead_66 : decode cX3_isAhead 66 = .ok (.iload_n 3, 1) := dk_29 (dk_at dksX3_isAhead_2 18 rfl rfl)
theorem dX3_isAhead_67 : decode cX3_isAhead 67 = .ok (.ifCond .ge 7, 3) := dk_156 0 7 (dk_at dksX3_isAhead_2 19 rfl rfl)
theorem dX3_isAhead_70 : decode cX3_isAhead 70 = .ok (.iconst 1, 1) := dk_4 (dk_at dksX3_isAhead_2 22 rfl rfl)
theorem dX3_isAhead_71 : decode cX3_isAhead 71 = .ok (.goto 4, 3) := dk_167 0 4 (dk_at dksX3_isAhead_3 0 rfl rfl)
theorem dX3_isAhead_74 : decode cX3_isAhead 74 = .ok (.iconst 0, 1) := dk_3 (dk_at dksX3_isAhead_3 3 rfl rfl)
theorem dX3_isAhead_75 : decode cX3_isAhead 75 = .ok (.ireturn, 1) := dk_172 (dk_at dksX3_isAhead_3 4 rfl rfl)
abbrev cX3_rankOf : ByteArray := prog_19_method_41_code
def yX3_rankOf : MethodName := ⟨RX3, "rankOf", "(I)I"⟩
def dkwX3_rankOf_0 : List UInt8 := [42, 180, 0, 28, 8, 42, 27, 3, 182, 1, 29, 104, 42, 27, 16, 6, 182, 1, 29, 96, 46, 172]
abbrev dktX3_rankOf_0 : List UInt8 := dkwX3_rankOf_0 ++ []
theorem dksX3_rankOf_0 : cX3_rankOf.data.toList.drop 0 = dktX3_rankOf_0 := by decide +kernel
theorem dX3_rankOf_0 : decode cX3_rankOf 0 = .ok (.aload_n 0, 1) := dk_42 (dk_at dksX3_rankOf_0 0 rfl rfl)
theorem dX3_rankOf_1 : decode cX3_rankOf 1 = .ok (.getfield 28, 3) := dk_180 0 28 (dk_at dksX3_rankOf_0 1 rfl rfl)
theorem dX3_rankOf_4 : decode cX3_rankOf 4 = .ok (.iconst 5, 1) := dk_8 (dk_at dksX3_rankOf_0 4 rfl rfl)
theorem dX3_rankOf_5 : decode cX3_rankOf 5 = .ok (.aload_n 0, 1) := dk_42 (dk_at dksX3_rankOf_0 5 rfl rfl)
theorem dX3_rankOf_6 : decode cX3_rankOf 6 = .ok (.iload_n 1, 1) := dk_27 (dk_at dksX3_rankOf_0 6 rfl rfl)
theorem dX3_rankOf_7 : decode cX3_rankOf 7 = .ok (.iconst 0, 1) := dk_3 (dk_at dksX3_rankOf_0 7 rfl rfl)
theorem dX3_rankOf_8 : decode cX3_rankOf 8 = .ok (.invokevirtual 285, 3) := dk_182 1 29 (dk_at dksX3_rankOf_0 8 rfl rfl)
theorem dX3_rankOf_11 : decode cX3_rankOf 11 = .ok (.imul, 1) := dk_104 (dk_at dksX3_rankOf_0 11 rfl rfl)
theorem dX3_rankOf_12 : decode cX3_rankOf 12 = .ok (.aload_n 0, 1) := dk_42 (dk_at dksX3_rankOf_0 12 rfl rfl)
theorem dX3_rankOf_13 : decode cX3_rankOf 13 = .ok (.iload_n 1, 1) := dk_27 (dk_at dksX3_rankOf_0 13 rfl rfl)
theorem dX3_rankOf_14 : decode cX3_rankOf 14 = .ok (.bipush 6, 2) := dk_16 6 (dk_at dksX3_rankOf_0 14 rfl rfl)
theorem dX3_rankOf_16 : decode cX3_rankOf 16 = .ok (.invokevirtual 285, 3) := dk_182 1 29 (dk_at dksX3_rankOf_0 16 rfl rfl)
theorem dX3_rankOf_19 : decode cX3_rankOf 19 = .ok (.iadd, 1) := dk_96 (dk_at dksX3_rankOf_0 19 rfl rfl)
theorem dX3_rankOf_20 : decode cX3_rankOf 20 = .ok (.iaload, 1) := dk_46 (dk_at dksX3_rankOf_0 20 rfl rfl)
theorem dX3_rankOf_21 : decode cX3_rankOf 21 = .ok (.ireturn, 1) := dk_172 (dk_at dksX3_rankOf_0 21 rfl rfl)
abbrev cX3_hasFire : ByteArray := prog_19_method_40_code
def yX3_hasFire : MethodName := ⟨RX3, "hasFire", "(III)Z"⟩
def dkwX3_hasFire_1 : List UInt8 := [172]
abbrev dktX3_hasFire_1 : List UInt8 := dkwX3_hasFire_1 ++ []
def dkwX3_hasFire_0 : List UInt8 := [42, 27, 8, 182, 1, 29, 42, 180, 0, 22, 5, 28, 104, 29, 96, 46, 163, 0, 7, 4, 167, 0, 4, 3]
abbrev dktX3_hasFire_0 : List UInt8 := dkwX3_hasFire_0 ++ dktX3_hasFire_1
theorem dksX3_hasFire_0 : cX3_hasFire.data.toList.drop 0 = dktX3_hasFire_0 := by decide +kernel
theorem dksX3_hasFire_1 : cX3_hasFire.data.toList.drop 24 = dktX3_hasFire_1 := dk_seg dksX3_hasFire_0 24 rfl rfl
theorem dX3_hasFire_0 : decode cX3_hasFire 0 = .ok (.aload_n 0, 1) := dk_42 (dk_at dksX3_hasFire_0 0 rfl rfl)
theorem dX3_hasFire_1 : decode cX3_hasFire 1 = .ok (.iload_n 1, 1) := dk_27 (dk_at dksX3_hasFire_0 1 rfl rfl)
theorem dX3_hasFire_2 : decode cX3_hasFire 2 = .ok (.iconst 5, 1) := dk_8 (dk_at dksX3_hasFire_0 2 rfl rfl)
theorem dX3_hasFire_3 : decode cX3_hasFire 3 = .ok (.invokevirtual 285, 3) := dk_182 1 29 (dk_at dksX3_hasFire_0 3 rfl rfl)
theorem dX3_hasFire_6 : decode cX3_hasFire 6 = .ok (.aload_n 0, 1) := dk_42 (dk_at dksX3_hasFire_0 6 rfl rfl)
theorem dX3_hasFire_7 : decode cX3_hasFire 7 = .ok (.getfield 22, 3) := dk_180 0 22 (dk_at dksX3_hasFire_0 7 rfl rfl)
theorem dX3_hasFire_10 : decode cX3_hasFire 10 = .ok (.iconst 2, 1) := dk_5 (dk_at dksX3_hasFire_0 10 rfl rfl)
theorem dX3_hasFire_11 : decode cX3_hasFire 11 = .ok (.iload_n 2, 1) := dk_28 (dk_at dksX3_hasFire_0 11 rfl rfl)
theorem dX3_hasFire_12 : decode cX3_hasFire 12 = .ok (.imul, 1) := dk_104 (dk_at dksX3_hasFire_0 12 rfl rfl)
theorem dX3_hasFire_13 : decode cX3_hasFire 13 = .ok (.iload_n 3, 1) := dk_29 (dk_at dksX3_hasFire_0 13 rfl rfl)
theorem dX3_hasFire_14 : decode cX3_hasFire 14 = .ok (.iadd, 1) := dk_96 (dk_at dksX3_hasFire_0 14 rfl rfl)
theorem dX3_hasFire_15 : decode cX3_hasFire 15 = .ok (.iaload, 1) := dk_46 (dk_at dksX3_hasFire_0 15 rfl rfl)
theorem dX3_hasFire_16 : decode cX3_hasFire 16 = .ok (.if_icmp .gt 7, 3) := dk_163 0 7 (dk_at dksX3_hasFire_0 16 rfl rfl)
theorem dX3_hasFire_19 : decode cX3_hasFire 19 = .ok (.iconst 1, 1) := dk_4 (dk_at dksX3_hasFire_0 19 rfl rfl)
theorem dX3_hasFire_20 : decode cX3_hasFire 20 = .ok (.goto 4, 3) := dk_167 0 4 (dk_at dksX3_hasFire_0 20 rfl rfl)
theorem dX3_hasFire_23 : decode cX3_hasFire 23 = .ok (.iconst 0, 1) := dk_3 (dk_at dksX3_hasFire_0 23 rfl rfl)
theorem dX3_hasFire_24 : decode cX3_hasFire 24 = .ok (.ireturn, 1) := dk_172 (dk_at dksX3_hasFire_1 0 rfl rfl)
abbrev cX3_most : ByteArray := prog_19_method_45_code
def yX3_most : MethodName := ⟨RX3, "most", "(IIII)I"⟩
def dkwX3_most_15 : List UInt8 := [167, 255, 119, 21, 4, 154, 0, 8, 21, 5, 167, 0, 10, 42, 180, 0, 54, 21, 5, 46, 172]
abbrev dktX3_most_15 : List UInt8 := dkwX3_most_15 ++ []
def dkwX3_most_14 : List UInt8 := [42, 180, 0, 54, 21, 5, 46, 164, 0, 8, 21, 7, 167, 0, 5, 21, 5, 54, 5, 132, 7, 1]
abbrev dktX3_most_14 : List UInt8 := dkwX3_most_14 ++ dktX3_most_15
def dkwX3_most_13 : List UInt8 := [21, 6, 182, 1, 34, 96, 79, 42, 180, 0, 50, 21, 7, 51, 153, 0, 25, 42, 180, 0, 54, 21, 7, 46]
abbrev dktX3_most_13 : List UInt8 := dkwX3_most_13 ++ dktX3_most_14
def dkwX3_most_12 : List UInt8 := [126, 154, 0, 7, 4, 167, 0, 4, 3, 84, 42, 180, 0, 54, 21, 7, 42, 180, 0, 54, 21, 8, 46, 42]
abbrev dktX3_most_12 : List UInt8 := dkwX3_most_12 ++ dktX3_most_13
def dkwX3_most_11 : List UInt8 := [180, 0, 50, 21, 7, 42, 180, 0, 50, 21, 8, 51, 153, 0, 20, 42, 180, 0, 57, 21, 6, 46, 21, 7]
abbrev dktX3_most_11 : List UInt8 := dkwX3_most_11 ++ dktX3_most_12
def dkwX3_most_10 : List UInt8 := [122, 158, 0, 7, 4, 167, 0, 4, 3, 96, 54, 6, 21, 7, 4, 21, 6, 120, 2, 130, 126, 54, 8, 42]
abbrev dktX3_most_10 : List UInt8 := dkwX3_most_10 ++ dktX3_most_11
def dkwX3_most_9 : List UInt8 := [54, 6, 4, 54, 7, 21, 7, 4, 42, 180, 1, 12, 120, 162, 0, 132, 21, 6, 21, 7, 21, 6, 4, 96]
abbrev dktX3_most_9 : List UInt8 := dkwX3_most_9 ++ dktX3_most_10
def dkwX3_most_8 : List UInt8 := [132, 5, 1, 167, 255, 115, 42, 180, 0, 50, 3, 4, 84, 42, 180, 0, 54, 3, 3, 79, 3, 54, 5, 3]
abbrev dktX3_most_8 : List UInt8 := dkwX3_most_8 ++ dktX3_most_9
def dkwX3_most_7 : List UInt8 := [182, 1, 41, 153, 0, 10, 4, 21, 7, 120, 167, 0, 4, 3, 128, 79, 132, 7, 1, 167, 255, 217]
abbrev dktX3_most_7 : List UInt8 := dkwX3_most_7 ++ dktX3_most_8
def dkwX3_most_6 : List UInt8 := [54, 7, 21, 7, 21, 5, 162, 0, 38, 42, 180, 0, 57, 21, 5, 92, 46, 42, 21, 7, 21, 5]
abbrev dktX3_most_6 : List UInt8 := dkwX3_most_6 ++ dktX3_most_7
def dkwX3_most_5 : List UInt8 := [3, 54, 6, 42, 180, 0, 57, 21, 5, 21, 6, 153, 0, 7, 3, 167, 0, 7, 4, 21, 5, 120, 79, 3]
abbrev dktX3_most_5 : List UInt8 := dkwX3_most_5 ++ dktX3_most_6
def dkwX3_most_4 : List UInt8 := [180, 1, 61, 182, 1, 48, 153, 0, 18, 42, 21, 5, 27, 28, 182, 1, 54, 153, 0, 7, 4, 167, 0, 4]
abbrev dktX3_most_4 : List UInt8 := dkwX3_most_4 ++ dktX3_most_5
def dkwX3_most_3 : List UInt8 := [182, 1, 29, 28, 160, 0, 42, 42, 21, 5, 5, 182, 1, 29, 29, 160, 0, 31, 42, 21, 5, 42]
abbrev dktX3_most_3 : List UInt8 := dkwX3_most_3 ++ dktX3_most_4
def dkwX3_most_2 : List UInt8 := [21, 5, 42, 180, 1, 12, 162, 0, 138, 42, 21, 5, 3, 182, 1, 29, 27, 160, 0, 53, 42, 21, 5, 4]
abbrev dktX3_most_2 : List UInt8 := dkwX3_most_2 ++ dktX3_most_3
def dkwX3_most_1 : List UInt8 := [184, 1, 17, 153, 0, 14, 21, 4, 133, 9, 10, 184, 0, 121, 154, 0, 6, 18, 131, 172, 3, 54, 5]
abbrev dktX3_most_1 : List UInt8 := dkwX3_most_1 ++ dktX3_most_2
def dkwX3_most_0 : List UInt8 := [42, 3, 181, 0, 111, 27, 184, 0, 251, 153, 0, 31, 28, 133, 9, 10, 184, 0, 121, 153, 0, 21, 29]
abbrev dktX3_most_0 : List UInt8 := dkwX3_most_0 ++ dktX3_most_1
theorem dksX3_most_0 : cX3_most.data.toList.drop 0 = dktX3_most_0 := by decide +kernel
theorem dksX3_most_1 : cX3_most.data.toList.drop 23 = dktX3_most_1 := dk_seg dksX3_most_0 23 rfl rfl
theorem dksX3_most_2 : cX3_most.data.toList.drop 46 = dktX3_most_2 := dk_seg dksX3_most_1 23 rfl rfl
theorem dksX3_most_3 : cX3_most.data.toList.drop 70 = dktX3_most_3 := dk_seg dksX3_most_2 24 rfl rfl
theorem dksX3_most_4 : cX3_most.data.toList.drop 92 = dktX3_most_4 := dk_seg dksX3_most_3 22 rfl rfl
theorem dksX3_most_5 : cX3_most.data.toList.drop 116 = dktX3_most_5 := dk_seg dksX3_most_4 24 rfl rfl
theorem dksX3_most_6 : cX3_most.data.toList.drop 140 = dktX3_most_6 := dk_seg dksX3_most_5 24 rfl rfl
theorem dksX3_most_7 : cX3_most.data.toList.drop 162 = dktX3_most_7 := dk_seg dksX3_most_6 22 rfl rfl
theorem dksX3_most_8 : cX3_most.data.toList.drop 184 = dktX3_most_8 := dk_seg dksX3_most_7 22 rfl rfl
theorem dksX3_most_9 : cX3_most.data.toList.drop 208 = dktX3_most_9 := dk_seg dksX3_most_8 24 rfl rfl
theorem dksX3_most_10 : cX3_most.data.toList.drop 232 = dktX3_most_10 := dk_seg dksX3_most_9 24 rfl rfl
theorem dksX3_most_11 : cX3_most.data.toList.drop 256 = dktX3_most_11 := dk_seg dksX3_most_10 24 rfl rfl
theorem dksX3_most_12 : cX3_most.data.toList.drop 280 = dktX3_most_12 := dk_seg dksX3_most_11 24 rfl rfl
theorem dksX3_most_13 : cX3_most.data.toList.drop 304 = dktX3_most_13 := dk_seg dksX3_most_12 24 rfl rfl
theorem dksX3_most_14 : cX3_most.data.toList.drop 328 = dktX3_most_14 := dk_seg dksX3_most_13 24 rfl rfl
theorem dksX3_most_15 : cX3_most.data.toList.drop 350 = dktX3_most_15 := dk_seg dksX3_most_14 22 rfl rfl
theorem dX3_most_0 : decode cX3_most 0 = .ok (.aload_n 0, 1) := dk_42 (dk_at dksX3_most_0 0 rfl rfl)
theorem dX3_most_1 : decode cX3_most 1 = .ok (.iconst 0, 1) := dk_3 (dk_at dksX3_most_0 1 rfl rfl)
theorem dX3_most_2 : decode cX3_most 2 = .ok (.putfield 111, 3) := dk_181 0 111 (dk_at dksX3_most_0 2 rfl rfl)
theorem dX3_most_5 : decode cX3_most 5 = .ok (.iload_n 1, 1) := dk_27 (dk_at dksX3_most_0 5 rfl rfl)
theorem dX3_most_6 : decode cX3_most 6 = .ok (.invokestatic 251, 3) := dk_184 0 251 (dk_at dksX3_most_0 6 rfl rfl)
theorem dX3_most_9 : decode cX3_most 9 = .ok (.ifCond .eq 31, 3) := dk_153 0 31 (dk_at dksX3_most_0 9 rfl rfl)
theorem dX3_most_12 : decode cX3_most 12 = .ok (.iload_n 2, 1) := dk_28 (dk_at dksX3_most_0 12 rfl rfl)
theorem dX3_most_13 : decode cX3_most 13 = .ok (.i2l, 1) := dk_133 (dk_at dksX3_most_0 13 rfl rfl)
theorem dX3_most_14 : decode cX3_most 14 = .ok (.lconst 0, 1) := dk_9 (dk_at dksX3_most_0 14 rfl rfl)
theorem dX3_most_15 : decode cX3_most 15 = .ok (.lconst 1, 1) := dk_10 (dk_at dksX3_most_0 15 rfl rfl)
theorem dX3_most_16 : decode cX3_most 16 = .ok (.invokestatic 121, 3) := dk_184 0 121 (dk_at dksX3_most_0 16 rfl rfl)
theorem dX3_most_19 : decode cX3_most 19 = .ok (.ifCond .eq 21, 3) := dk_153 0 21 (dk_at dksX3_most_0 19 rfl rfl)
theorem dX3_most_22 : decode cX3_most 22 = .ok (.iload_n 3, 1) := dk_29 (dk_at dksX3_most_0 22 rfl rfl)
theorem dX3_most_23 : decode cX3_most 23 = .ok (.invokestatic 273, 3) := dk_184 1 17 (dk_at dksX3_most_1 0 rfl rfl)
theorem dX3_most_26 : decode cX3_most 26 = .ok (.ifCond .eq 14, 3) := dk_153 0 14 (dk_at dksX3_most_1 3 rfl rfl)
theorem dX3_most_29 : decode cX3_most 29 = .ok (.iload 4, 2) := dk_21 4 (dk_at dksX3_most_1 6 rfl rfl)
theorem dX3_most_31 : decode cX3_most 31 = .ok (.i2l, 1) := dk_133 (dk_at dksX3_most_1 8 rfl rfl)
theorem dX3_most_32 : decode cX3_most 32 = .ok (.lconst 0, 1) := dk_9 (dk_at dksX3_most_1 9 rfl rfl)
theorem dX3_most_33 : decode cX3_most 33 = .ok (.lconst 1, 1) := dk_10 (dk_at dksX3_most_1 10 rfl rfl)
theorem dX3_most_34 : decode cX3_most 34 = .ok (.invokestatic 121, 3) := dk_184 0 121 (dk_at dksX3_most_1 11 rfl rfl)
theorem dX3_most_37 : decode cX3_most 37 = .ok (.ifCond .ne 6, 3) := dk_154 0 6 (dk_at dksX3_most_1 14 rfl rfl)
theorem dX3_most_40 : decode cX3_most 40 = .ok (.ldc 131, 2) := dk_18 131 (dk_at dksX3_most_1 17 rfl rfl)
theorem dX3_most_42 : decode cX3_most 42 = .ok (.ireturn, 1) := dk_172 (dk_at dksX3_most_1 19 rfl rfl)
theorem dX3_most_43 : decode cX3_most 43 = .ok (.iconst 0, 1) := dk_3 (dk_at dksX3_most_1 20 rfl rfl)
theorem dX3_most_44 : decode cX3_most 44 = .ok (.istore 5, 2) := dk_54 5 (dk_at dksX3_most_1 21 rfl rfl)
theorem dX3_most_46 : decode cX3_most 46 = .ok (.iload 5, 2) := dk_21 5 (dk_at dksX3_most_2 0 rfl rfl)
theorem dX3_most_48 : decode cX3_most 48 = .ok (.aload_n 0, 1) := dk_42 (dk_at dksX3_most_2 2 rfl rfl)
theorem dX3_most_49 : decode cX3_most 49 = .ok (.getfield 268, 3) := dk_180 1 12 (dk_at dksX3_most_2 3 rfl rfl)
theorem dX3_most_52 : decode cX3_most 52 = .ok (.if_icmp .ge 138, 3) := dk_162 0 138 (dk_at dksX3_most_2 6 rfl rfl)
theorem dX3_most_55 : decode cX3_most 55 = .ok (.aload_n 0, 1) := dk_42 (dk_at dksX3_most_2 9 rfl rfl)
theorem dX3_most_56 : decode cX3_most 56 = .ok (.iload 5, 2) := dk_21 5 (dk_at dksX3_most_2 10 rfl rfl)
theorem dX3_most_58 : decode cX3_most 58 = .ok (.iconst 0, 1) := dk_3 (dk_at dksX3_most_2 12 rfl rfl)
theorem dX3_most_59 : decode cX3_most 59 = .ok (.invokevirtual 285, 3) := dk_182 1 29 (dk_at dksX3_most_2 13 rfl rfl)
theorem dX3_most_62 : decode cX3_most 62 = .ok (.iload_n 1, 1) := dk_27 (dk_at dksX3_most_2 16 rfl rfl)
theorem dX3_most_63 : decode cX3_most 63 = .ok (.if_icmp .ne 53, 3) := dk_160 0 53 (dk_at dksX3_most_2 17 rfl rfl)
theorem dX3_most_66 : decode cX3_most 66 = .ok (.aload_n 0, 1) := dk_42 (dk_at dksX3_most_2 20 rfl rfl)
theorem dX3_most_67 : decode cX3_most 67 = .ok (.iload 5, 2) := dk_21 5 (dk_at dksX3_most_2 21 rfl rfl)
theorem dX3_most_69 : decode cX3_most 69 = .ok (.iconst 1, 1) := dk_4 (dk_at dksX3_most_2 23 rfl rfl)
theorem dX3_most_70 : decode cX3_most 70 = .ok (.invokevirtual 285, 3) := dk_182 1 29 (dk_at dksX3_most_3 0 rfl rfl)
theorem dX3_most_73 : decode cX3_most 73 = .ok (.iload_n 2, 1) := dk_28 (dk_at dksX3_most_3 3 rfl rfl)
theorem dX3_most_74 : decode cX3_most 74 = .ok (.if_icmp .ne 42, 3) := dk_160 0 42 (dk_at dksX3_most_3 4 rfl rfl)
theorem dX3_most_77 : decode cX3_most 77 = .ok (.aload_n 0, 1) := dk_42 (dk_at dksX3_most_3 7 rfl rfl)
theorem dX3_most_78 : decode cX3_most 78 = .ok (.iload 5, 2) := dk_21 5 (dk_at dksX3_most_3 8 rfl rfl)
theorem dX3_most_80 : decode cX3_most 80 = .ok (.iconst 2, 1) := dk_5 (dk_at dksX3_most_3 10 rfl rfl)
theorem dX3_most_81 : decode cX3_most 81 = .ok (.invokevirtual 285, 3) := dk_182 1 29 (dk_at dksX3_most_3 11 rfl rfl)
theorem dX3_most_84 : decode cX3_most 84 = .ok (.iload_n 3, 1) := dk_29 (dk_at dksX3_most_3 14 rfl rfl)
theorem dX3_most_85 : decode cX3_most 85 = .ok (.if_icmp .ne 31, 3) := dk_160 0 31 (dk_at dksX3_most_3 15 rfl rfl)
theorem dX3_most_88 : decode cX3_most 88 = .ok (.aload_n 0, 1) := dk_42 (dk_at dksX3_most_3 18 rfl rfl)
theorem dX3_most_89 : decode cX3_most 89 = .ok (.iload 5, 2) := dk_21 5 (dk_at dksX3_most_3 19 rfl rfl)
theorem dX3_most_91 : decode cX3_most 91 = .ok (.aload_n 0, 1) := dk_42 (dk_at dksX3_most_3 21 rfl rfl)
theorem dX3_most_92 : decode cX3_most 92 = .ok (.getfield 317, 3) := dk_180 1 61 (dk_at dksX3_most_4 0 rfl rfl)
theorem dX3_most_95 : decode cX3_most 95 = .ok (.invokevirtual 304, 3) := dk_182 1 48 (dk_at dksX3_most_4 3 rfl rfl)
theorem dX3_most_98 : decode cX3_most 98 = .ok (.ifCond .eq 18, 3) := dk_153 0 18 (dk_at dksX3_most_4 6 rfl rfl)
theorem dX3_most_101 : decode cX3_most 101 = .ok (.aload_n 0, 1) := dk_42 (dk_at dksX3_most_4 9 rfl rfl)
theorem dX3_most_102 : decode cX3_most 102 = .ok (.iload 5, 2) := dk_21 5 (dk_at dksX3_most_4 10 rfl rfl)
theorem dX3_most_104 : decode cX3_most 104 = .ok (.iload_n 1, 1) := dk_27 (dk_at dksX3_most_4 12 rfl rfl)
theorem dX3_most_105 : decode cX3_most 105 = .ok (.iload_n 2, 1) := dk_28 (dk_at dksX3_most_4 13 rfl rfl)
theorem dX3_most_106 : decode cX3_most 106 = .ok (.invokevirtual 310, 3) := dk_182 1 54 (dk_at dksX3_most_4 14 rfl rfl)
theorem dX3_most_109 : decode cX3_most 109 = .ok (.ifCond .eq 7, 3) := dk_153 0 7 (dk_at dksX3_most_4 17 rfl rfl)
theorem dX3_most_112 : decode cX3_most 112 = .ok (.iconst 1, 1) := dk_4 (dk_at dksX3_most_4 20 rfl rfl)
theorem dX3_most_113 : decode cX3_most 113 = .ok (.goto 4, 3) := dk_167 0 4 (dk_at dksX3_most_4 21 rfl rfl)
theorem dX3_most_116 : decode cX3_most 116 = .ok (.iconst 0, 1) := dk_3 (dk_at dksX3_most_5 0 rfl rfl)
theorem dX3_most_117 : decode cX3_most 117 = .ok (.istore 6, 2) := dk_54 6 (dk_at dksX3_most_5 1 rfl rfl)
theorem dX3_most_119 : decode cX3_most 119 = .ok (.aload_n 0, 1) := dk_42 (dk_at dksX3_most_5 3 rfl rfl)
theorem dX3_most_120 : decode cX3_most 120 = .ok (.getfield 57, 3) := dk_180 0 57 (dk_at dksX3_most_5 4 rfl rfl)
theorem dX3_most_123 : decode cX3_most 123 = .ok (.iload 5, 2) := dk_21 5 (dk_at dksX3_most_5 7 rfl rfl)
theorem dX3_most_125 : decode cX3_most 125 = .ok (.iload 6, 2) := dk_21 6 (dk_at dksX3_most_5 9 rfl rfl)
theorem dX3_most_127 : decode cX3_most 127 = .ok (.ifCond .eq 7, 3) := dk_153 0 7 (dk_at dksX3_most_5 11 rfl rfl)
theorem dX3_most_130 : decode cX3_most 130 = .ok (.iconst 0, 1) := dk_3 (dk_at dksX3_most_5 14 rfl rfl)
theorem dX3_most_131 : decode cX3_most 131 = .ok (.goto 7, 3) := dk_167 0 7 (dk_at dksX3_most_5 15 rfl rfl)
theorem dX3_most_134 : decode cX3_most 134 = .ok (.iconst 1, 1) := dk_4 (dk_at dksX3_most_5 18 rfl rfl)
theorem dX3_most_135 : decode cX3_most 135 = .ok (.iload 5, 2) := dk_21 5 (dk_at dksX3_most_5 19 rfl rfl)
theorem dX3_most_137 : decode cX3_most 137 = .ok (.ishl, 1) := dk_120 (dk_at dksX3_most_5 21 rfl rfl)
theorem dX3_most_138 : decode cX3_most 138 = .ok (.iastore, 1) := dk_79 (dk_at dksX3_most_5 22 rfl rfl)
theorem dX3_most_139 : decode cX3_most 139 = .ok (.iconst 0, 1) := dk_3 (dk_at dksX3_most_5 23 rfl rfl)
theorem dX3_most_140 : decode cX3_most 140 = .ok (.istore 7, 2) := dk_54 7 (dk_at dksX3_most_6 0 rfl rfl)
theorem dX3_most_142 : decode cX3_most 142 = .ok (.iload 7, 2) := dk_21 7 (dk_at dksX3_most_6 2 rfl rfl)
theorem dX3_most_144 : decode cX3_most 144 = .ok (.iload 5, 2) := dk_21 5 (dk_at dksX3_most_6 4 rfl rfl)
theorem dX3_most_146 : decode cX3_most 146 = .ok (.if_icmp .ge 38, 3) := dk_162 0 38 (dk_at dksX3_most_6 6 rfl rfl)
theorem dX3_most_149 : decode cX3_most 149 = .ok (.aload_n 0, 1) := dk_42 (dk_at dksX3_most_6 9 rfl rfl)
theorem dX3_most_150 : decode cX3_most 150 = .ok (.getfield 57, 3) := dk_180 0 57 (dk_at dksX3_most_6 10 rfl rfl)
theorem dX3_most_153 : decode cX3_most 153 = .ok (.iload 5, 2) := dk_21 5 (dk_at dksX3_most_6 13 rfl rfl)
theorem dX3_most_155 : decode cX3_most 155 = .ok (.dup2, 1) := dk_92 (dk_at dksX3_most_6 15 rfl rfl)
theorem dX3_most_156 : decode cX3_most 156 = .ok (.iaload, 1) := dk_46 (dk_at dksX3_most_6 16 rfl rfl)
theorem dX3_most_157 : decode cX3_most 157 = .ok (.aload_n 0, 1) := dk_42 (dk_at dksX3_most_6 17 rfl rfl)
theorem dX3_most_158 : decode cX3_most 158 = .ok (.iload 7, 2) := dk_21 7 (dk_at dksX3_most_6 18 rfl rfl)
theorem dX3_most_160 : decode cX3_most 160 = .ok (.iload 5, 2) := dk_21 5 (dk_at dksX3_most_6 20 rfl rfl)
theorem dX3_most_162 : decode cX3_most 162 = .ok (.invokevirtual 297, 3) := dk_182 1 41 (dk_at dksX3_most_7 0 rfl rfl)
theorem dX3_most_165 : decode cX3_most 165 = .ok (.ifCond .eq 10, 3) := dk_153 0 10 (dk_at dksX3_most_7 3 rfl rfl)
theorem dX3_most_168 : decode cX3_most 168 = .ok (.iconst 1, 1) := dk_4 (dk_at dksX3_most_7 6 rfl rfl)
theorem dX3_most_169 : decode cX3_most 169 = .ok (.iload 7, 2) := dk_21 7 (dk_at dksX3_most_7 7 rfl rfl)
theorem dX3_most_171 : decode cX3_most 171 = .ok (.ishl, 1) := dk_120 (dk_at dksX3_most_7 9 rfl rfl)
theorem dX3_most_172 : decode cX3_most 172 = .ok (.goto 4, 3) := dk_167 0 4 (dk_at dksX3_most_7 10 rfl rfl)
theorem dX3_most_175 : decode cX3_most 175 = .ok (.iconst 0, 1) := dk_3 (dk_at dksX3_most_7 13 rfl rfl)
theorem dX3_most_176 : decode cX3_most 176 = .ok (.ior, 1) := dk_128 (dk_at dksX3_most_7 14 rfl rfl)
theorem dX3_most_177 : decode cX3_most 177 = .ok (.iastore, 1) := dk_79 (dk_at dksX3_most_7 15 rfl rfl)
theorem dX3_most_178 : decode cX3_most 178 = .ok (.iinc 7 1, 3) := dk_132 7 1 (dk_at dksX3_most_7 16 rfl rfl)
theorem dX3_most_181 : decode cX3_most 181 = .ok (.goto (-39), 3) := dk_167 255 217 (dk_at dksX3_most_7 19 rfl rfl)
theorem dX3_most_184 : decode cX3_most 184 = .ok (.iinc 5 1, 3) := dk_132 5 1 (dk_at dksX3_most_8 0 rfl rfl)
theorem dX3_most_187 : decode cX3_most 187 = .ok (.goto (-141), 3) := dk_167 255 115 (dk_at dksX3_most_8 3 rfl rfl)
theorem dX3_most_190 : decode cX3_most 190 = .ok (.aload_n 0, 1) := dk_42 (dk_at dksX3_most_8 6 rfl rfl)
theorem dX3_most_191 : decode cX3_most 191 = .ok (.getfield 50, 3) := dk_180 0 50 (dk_at dksX3_most_8 7 rfl rfl)
theorem dX3_most_194 : decode cX3_most 194 = .ok (.iconst 0, 1) := dk_3 (dk_at dksX3_most_8 10 rfl rfl)
theorem dX3_most_195 : decode cX3_most 195 = .ok (.iconst 1, 1) := dk_4 (dk_at dksX3_most_8 11 rfl rfl)
theorem dX3_most_196 : decode cX3_most 196 = .ok (.bastore, 1) := dk_84 (dk_at dksX3_most_8 12 rfl rfl)
theorem dX3_most_197 : decode cX3_most 197 = .ok (.aload_n 0, 1) := dk_42 (dk_at dksX3_most_8 13 rfl rfl)
theorem dX3_most_198 : decode cX3_most 198 = .ok (.getfield 54, 3) := dk_180 0 54 (dk_at dksX3_most_8 14 rfl rfl)
theorem dX3_most_201 : decode cX3_most 201 = .ok (.iconst 0, 1) := dk_3 (dk_at dksX3_most_8 17 rfl rfl)
theorem dX3_most_202 : decode cX3_most 202 = .ok (.iconst 0, 1) := dk_3 (dk_at dksX3_most_8 18 rfl rfl)
theorem dX3_most_203 : decode cX3_most 203 = .ok (.iastore, 1) := dk_79 (dk_at dksX3_most_8 19 rfl rfl)
theorem dX3_most_204 : decode cX3_most 204 = .ok (.iconst 0, 1) := dk_3 (dk_at dksX3_most_8 20 rfl rfl)
theorem dX3_most_205 : decode cX3_most 205 = .ok (.istore 5, 2) := dk_54 5 (dk_at dksX3_most_8 21 rfl rfl)
theorem dX3_most_207 : decode cX3_most 207 = .ok (.iconst 0, 1) := dk_3 (dk_at dksX3_most_8 23 rfl rfl)
theorem dX3_most_208 : decode cX3_most 208 = .ok (.istore 6, 2) := dk_54 6 (dk_at dksX3_most_9 0 rfl rfl)
theorem dX3_most_210 : decode cX3_most 210 = .ok (.iconst 1, 1) := dk_4 (dk_at dksX3_most_9 2 rfl rfl)
theorem dX3_most_211 : decode cX3_most 211 = .ok (.istore 7, 2) := dk_54 7 (dk_at dksX3_most_9 3 rfl rfl)
theorem dX3_most_213 : decode cX3_most 213 = .ok (.iload 7, 2) := dk_21 7 (dk_at dksX3_most_9 5 rfl rfl)
theorem dX3_most_215 : decode cX3_most 215 = .ok (.iconst 1, 1) := dk_4 (dk_at dksX3_most_9 7 rfl rfl)
theorem dX3_most_216 : decode cX3_most 216 = .ok (.aload_n 0, 1) := dk_42 (dk_at dksX3_most_9 8 rfl rfl)
theorem dX3_most_217 : decode cX3_most 217 = .ok (.getfield 268, 3) := dk_180 1 12 (dk_at dksX3_most_9 9 rfl rfl)
theorem dX3_most_220 : decode cX3_most 220 = .ok (.ishl, 1) := dk_120 (dk_at dksX3_most_9 12 rfl rfl)
theorem dX3_most_221 : decode cX3_most 221 = .ok (.if_icmp .ge 132, 3) := dk_162 0 132 (dk_at dksX3_most_9 13 rfl rfl)
theorem dX3_most_224 : decode cX3_most 224 = .ok (.iload 6, 2) := dk_21 6 (dk_at dksX3_most_9 16 rfl rfl)
theorem dX3_most_226 : decode cX3_most 226 = .ok (.iload 7, 2) := dk_21 7 (dk_at dksX3_most_9 18 rfl rfl)
theorem dX3_most_228 : decode cX3_most 228 = .ok (.iload 6, 2) := dk_21 6 (dk_at dksX3_most_9 20 rfl rfl)
theorem dX3_most_230 : decode cX3_most 230 = .ok (.iconst 1, 1) := dk_4 (dk_at dksX3_most_9 22 rfl rfl)
theorem dX3_most_231 : decode cX3_most 231 = .ok (.iadd, 1) := dk_96 (dk_at dksX3_most_9 23 rfl rfl)
theorem dX3_most_232 : decode cX3_most 232 = .ok (.ishr, 1) := dk_122 (dk_at dksX3_most_10 0 rfl rfl)
theorem dX3_most_233 : decode cX3_most 233 = .ok (.ifCond .le 7, 3) := dk_158 0 7 (dk_at dksX3_most_10 1 rfl rfl)
theorem dX3_most_236 : decode cX3_most 236 = .ok (.iconst 1, 1) := dk_4 (dk_at dksX3_most_10 4 rfl rfl)
theorem dX3_most_237 : decode cX3_most 237 = .ok (.goto 4, 3) := dk_167 0 4 (dk_at dksX3_most_10 5 rfl rfl)
theorem dX3_most_240 : decode cX3_most 240 = .ok (.iconst 0, 1) := dk_3 (dk_at dksX3_most_10 8 rfl rfl)
theorem dX3_most_241 : decode cX3_most 241 = .ok (.iadd, 1) := dk_96 (dk_at dksX3_most_10 9 rfl rfl)
theorem dX3_most_242 : decode cX3_most 242 = .ok (.istore 6, 2) := dk_54 6 (dk_at dksX3_most_10 10 rfl rfl)
theorem dX3_most_244 : decode cX3_most 244 = .ok (.iload 7, 2) := dk_21 7 (dk_at dksX3_most_10 12 rfl rfl)
theorem dX3_most_246 : decode cX3_most 246 = .ok (.iconst 1, 1) := dk_4 (dk_at dksX3_most_10 14 rfl rfl)
theorem dX3_most_247 : decode cX3_most 247 = .ok (.iload 6, 2) := dk_21 6 (dk_at dksX3_most_10 15 rfl rfl)
theorem dX3_most_249 : decode cX3_most 249 = .ok (.ishl, 1) := dk_120 (dk_at dksX3_most_10 17 rfl rfl)
theorem dX3_most_250 : decode cX3_most 250 = .ok (.iconst (-1), 1) := dk_2 (dk_at dksX3_most_10 18 rfl rfl)
theorem dX3_most_251 : decode cX3_most 251 = .ok (.ixor, 1) := dk_130 (dk_at dksX3_most_10 19 rfl rfl)
theorem dX3_most_252 : decode cX3_most 252 = .ok (.iand, 1) := dk_126 (dk_at dksX3_most_10 20 rfl rfl)
theorem dX3_most_253 : decode cX3_most 253 = .ok (.istore 8, 2) := dk_54 8 (dk_at dksX3_most_10 21 rfl rfl)
theorem dX3_most_255 : decode cX3_most 255 = .ok (.aload_n 0, 1) := dk_42 (dk_at dksX3_most_10 23 rfl rfl)
theorem dX3_most_256 : decode cX3_most 256 = .ok (.getfield 50, 3) := dk_180 0 50 (dk_at dksX3_most_11 0 rfl rfl)
theorem dX3_most_259 : decode cX3_most 259 = .ok (.iload 7, 2) := dk_21 7 (dk_at dksX3_most_11 3 rfl rfl)
theorem dX3_most_261 : decode cX3_most 261 = .ok (.aload_n 0, 1) := dk_42 (dk_at dksX3_most_11 5 rfl rfl)
theorem dX3_most_262 : decode cX3_most 262 = .ok (.getfield 50, 3) := dk_180 0 50 (dk_at dksX3_most_11 6 rfl rfl)
theorem dX3_most_265 : decode cX3_most 265 = .ok (.iload 8, 2) := dk_21 8 (dk_at dksX3_most_11 9 rfl rfl)
theorem dX3_most_267 : decode cX3_most 267 = .ok (.baload, 1) := dk_51 (dk_at dksX3_most_11 11 rfl rfl)
theorem dX3_most_268 : decode cX3_most 268 = .ok (.ifCond .eq 20, 3) := dk_153 0 20 (dk_at dksX3_most_11 12 rfl rfl)
theorem dX3_most_271 : decode cX3_most 271 = .ok (.aload_n 0, 1) := dk_42 (dk_at dksX3_most_11 15 rfl rfl)
theorem dX3_most_272 : decode cX3_most 272 = .ok (.getfield 57, 3) := dk_180 0 57 (dk_at dksX3_most_11 16 rfl rfl)
theorem dX3_most_275 : decode cX3_most 275 = .ok (.iload 6, 2) := dk_21 6 (dk_at dksX3_most_11 19 rfl rfl)
theorem dX3_most_277 : decode cX3_most 277 = .ok (.iaload, 1) := dk_46 (dk_at dksX3_most_11 21 rfl rfl)
theorem dX3_most_278 : decode cX3_most 278 = .ok (.iload 7, 2) := dk_21 7 (dk_at dksX3_most_11 22 rfl rfl)
theorem dX3_most_280 : decode cX3_most 280 = .ok (.iand, 1) := dk_126 (dk_at dksX3_most_12 0 rfl rfl)
theorem dX3_most_281 : decode cX3_most 281 = .ok (.ifCond .ne 7, 3) := dk_154 0 7 (dk_at dksX3_most_12 1 rfl rfl)
theorem dX3_most_284 : decode cX3_most 284 = .ok (.iconst 1, 1) := dk_4 (dk_at dksX3_most_12 4 rfl rfl)
theorem dX3_most_285 : decode cX3_most 285 = .ok (.goto 4, 3) := dk_167 0 4 (dk_at dksX3_most_12 5 rfl rfl)
theorem dX3_most_288 : decode cX3_most 288 = .ok (.iconst 0, 1) := dk_3 (dk_at dksX3_most_12 8 rfl rfl)
theorem dX3_most_289 : decode cX3_most 289 = .ok (.bastore, 1) := dk_84 (dk_at dksX3_most_12 9 rfl rfl)
theorem dX3_most_290 : decode cX3_most 290 = .ok (.aload_n 0, 1) := dk_42 (dk_at dksX3_most_12 10 rfl rfl)
theorem dX3_most_291 : decode cX3_most 291 = .ok (.getfield 54, 3) := dk_180 0 54 (dk_at dksX3_most_12 11 rfl rfl)
theorem dX3_most_294 : decode cX3_most 294 = .ok (.iload 7, 2) := dk_21 7 (dk_at dksX3_most_12 14 rfl rfl)
theorem dX3_most_296 : decode cX3_most 296 = .ok (.aload_n 0, 1) := dk_42 (dk_at dksX3_most_12 16 rfl rfl)
theorem dX3_most_297 : decode cX3_most 297 = .ok (.getfield 54, 3) := dk_180 0 54 (dk_at dksX3_most_12 17 rfl rfl)
theorem dX3_most_300 : decode cX3_most 300 = .ok (.iload 8, 2) := dk_21 8 (dk_at dksX3_most_12 20 rfl rfl)
theorem dX3_most_302 : decode cX3_most 302 = .ok (.iaload, 1) := dk_46 (dk_at dksX3_most_12 22 rfl rfl)
theorem dX3_most_303 : decode cX3_most 303 = .ok (.aload_n 0, 1) := dk_42 (dk_at dksX3_most_12 23 rfl rfl)
theorem dX3_most_304 : decode cX3_most 304 = .ok (.iload 6, 2) := dk_21 6 (dk_at dksX3_most_13 0 rfl rfl)
theorem dX3_most_306 : decode cX3_most 306 = .ok (.invokevirtual 290, 3) := dk_182 1 34 (dk_at dksX3_most_13 2 rfl rfl)
theorem dX3_most_309 : decode cX3_most 309 = .ok (.iadd, 1) := dk_96 (dk_at dksX3_most_13 5 rfl rfl)
theorem dX3_most_310 : decode cX3_most 310 = .ok (.iastore, 1) := dk_79 (dk_at dksX3_most_13 6 rfl rfl)
theorem dX3_most_311 : decode cX3_most 311 = .ok (.aload_n 0, 1) := dk_42 (dk_at dksX3_most_13 7 rfl rfl)
theorem dX3_most_312 : decode cX3_most 312 = .ok (.getfield 50, 3) := dk_180 0 50 (dk_at dksX3_most_13 8 rfl rfl)
theorem dX3_most_315 : decode cX3_most 315 = .ok (.iload 7, 2) := dk_21 7 (dk_at dksX3_most_13 11 rfl rfl)
theorem dX3_most_317 : decode cX3_most 317 = .ok (.baload, 1) := dk_51 (dk_at dksX3_most_13 13 rfl rfl)
theorem dX3_most_318 : decode cX3_most 318 = .ok (.ifCond .eq 25, 3) := dk_153 0 25 (dk_at dksX3_most_13 14 rfl rfl)
theorem dX3_most_321 : decode cX3_most 321 = .ok (.aload_n 0, 1) := dk_42 (dk_at dksX3_most_13 17 rfl rfl)
theorem dX3_most_322 : decode cX3_most 322 = .ok (.getfield 54, 3) := dk_180 0 54 (dk_at dksX3_most_13 18 rfl rfl)
theorem dX3_most_325 : decode cX3_most 325 = .ok (.iload 7, 2) := dk_21 7 (dk_at dksX3_most_13 21 rfl rfl)
theorem dX3_most_327 : decode cX3_most 327 = .ok (.iaload, 1) := dk_46 (dk_at dksX3_most_13 23 rfl rfl)
theorem dX3_most_328 : decode cX3_most 328 = .ok (.aload_n 0, 1) := dk_42 (dk_at dksX3_most_14 0 rfl rfl)
theorem dX3_most_329 : decode cX3_most 329 = .ok (.getfield 54, 3) := dk_180 0 54 (dk_at dksX3_most_14 1 rfl rfl)
theorem dX3_most_332 : decode cX3_most 332 = .ok (.iload 5, 2) := dk_21 5 (dk_at dksX3_most_14 4 rfl rfl)
theorem dX3_most_334 : decode cX3_most 334 = .ok (.iaload, 1) := dk_46 (dk_at dksX3_most_14 6 rfl rfl)
theorem dX3_most_335 : decode cX3_most 335 = .ok (.if_icmp .le 8, 3) := dk_164 0 8 (dk_at dksX3_most_14 7 rfl rfl)
theorem dX3_most_338 : decode cX3_most 338 = .ok (.iload 7, 2) := dk_21 7 (dk_at dksX3_most_14 10 rfl rfl)
theorem dX3_most_340 : decode cX3_most 340 = .ok (.goto 5, 3) := dk_167 0 5 (dk_at dksX3_most_14 12 rfl rfl)
theorem dX3_most_343 : decode cX3_most 343 = .ok (.iload 5, 2) := dk_21 5 (dk_at dksX3_most_14 15 rfl rfl)
theorem dX3_most_345 : decode cX3_most 345 = .ok (.istore 5, 2) := dk_54 5 (dk_at dksX3_most_14 17 rfl rfl)
theorem dX3_most_347 : decode cX3_most 347 = .ok (.iinc 7 1, 3) := dk_132 7 1 (dk_at dksX3_most_14 19 rfl rfl)
theorem dX3_most_350 : decode cX3_most 350 = .ok (.goto (-137), 3) := dk_167 255 119 (dk_at dksX3_most_15 0 rfl rfl)
theorem dX3_most_353 : decode cX3_most 353 = .ok (.iload 4, 2) := dk_21 4 (dk_at dksX3_most_15 3 rfl rfl)
theorem dX3_most_355 : decode cX3_most 355 = .ok (.ifCond .ne 8, 3) := dk_154 0 8 (dk_at dksX3_most_15 5 rfl rfl)
theorem dX3_most_358 : decode cX3_most 358 = .ok (.iload 5, 2) := dk_21 5 (dk_at dksX3_most_15 8 rfl rfl)
theorem dX3_most_360 : decode cX3_most 360 = .ok (.goto 10, 3) := dk_167 0 10 (dk_at dksX3_most_15 10 rfl rfl)
theorem dX3_most_363 : decode cX3_most 363 = .ok (.aload_n 0, 1) := dk_42 (dk_at dksX3_most_15 13 rfl rfl)
theorem dX3_most_364 : decode cX3_most 364 = .ok (.getfield 54, 3) := dk_180 0 54 (dk_at dksX3_most_15 14 rfl rfl)
theorem dX3_most_367 : decode cX3_most 367 = .ok (.iload 5, 2) := dk_21 5 (dk_at dksX3_most_15 17 rfl rfl)
theorem dX3_most_369 : decode cX3_most 369 = .ok (.iaload, 1) := dk_46 (dk_at dksX3_most_15 19 rfl rfl)
theorem dX3_most_370 : decode cX3_most 370 = .ok (.ireturn, 1) := dk_172 (dk_at dksX3_most_15 20 rfl rfl)
abbrev cX3_funeral : ByteArray := prog_19_method_49_code
def yX3_funeral : MethodName := ⟨RX3, "funeral", "(IIIIII)I"⟩
def dkwX3_funeral_15 : List UInt8 := [184, 1, 75, 21, 9, 100, 167, 0, 12, 42, 180, 0, 60, 21, 6, 6, 100, 46, 172]
abbrev dktX3_funeral_15 : List UInt8 := dkwX3_funeral_15 ++ []
def dkwX3_funeral_14 : List UInt8 := [4, 160, 0, 13, 42, 180, 1, 64, 184, 1, 75, 167, 0, 31, 21, 6, 5, 160, 0, 16, 42, 180, 1, 64]
abbrev dktX3_funeral_14 : List UInt8 := dkwX3_funeral_14 ++ dktX3_funeral_15
def dkwX3_funeral_13 : List UInt8 := [132, 11, 1, 167, 255, 169, 132, 10, 1, 167, 255, 151, 21, 6, 154, 0, 8, 21, 8, 167, 0, 47, 21, 6]
abbrev dktX3_funeral_13 : List UInt8 := dkwX3_funeral_13 ++ dktX3_funeral_14
def dkwX3_funeral_12 : List UInt8 := [153, 0, 22, 42, 180, 0, 60, 21, 10, 5, 21, 12, 104, 21, 11, 5, 112, 96, 79, 132, 9, 1]
abbrev dktX3_funeral_12 : List UInt8 := dkwX3_funeral_12 ++ dktX3_funeral_13
def dkwX3_funeral_11 : List UInt8 := [112, 54, 12, 42, 21, 10, 21, 12, 21, 11, 5, 112, 21, 7, 27, 21, 8, 29, 21, 4, 182, 1, 78]
abbrev dktX3_funeral_11 : List UInt8 := dkwX3_funeral_11 ++ dktX3_funeral_12
def dkwX3_funeral_10 : List UInt8 := [126, 4, 160, 0, 73, 42, 180, 0, 60, 21, 10, 46, 18, 147, 160, 0, 61, 27, 21, 11, 5, 108, 96, 7]
abbrev dktX3_funeral_10 : List UInt8 := dkwX3_funeral_10 ++ dktX3_funeral_11
def dkwX3_funeral_9 : List UInt8 := [180, 1, 12, 162, 0, 102, 3, 54, 11, 21, 11, 16, 8, 162, 0, 86, 42, 180, 1, 64, 21, 10, 122, 4]
abbrev dktX3_funeral_9 : List UInt8 := dkwX3_funeral_9 ++ dktX3_funeral_10
def dkwX3_funeral_8 : List UInt8 := [180, 0, 60, 21, 9, 18, 147, 79, 132, 9, 1, 167, 255, 237, 3, 54, 9, 3, 54, 10, 21, 10, 42]
abbrev dktX3_funeral_8 : List UInt8 := dkwX3_funeral_8 ++ dktX3_funeral_9
def dkwX3_funeral_7 : List UInt8 := [42, 21, 10, 181, 1, 64, 132, 9, 1, 167, 255, 184, 3, 54, 9, 21, 9, 16, 16, 162, 0, 18, 42]
abbrev dktX3_funeral_7 : List UInt8 := dkwX3_funeral_7 ++ dktX3_funeral_8
def dkwX3_funeral_6 : List UInt8 := [18, 147, 159, 0, 18, 21, 10, 184, 1, 75, 42, 180, 1, 64, 184, 1, 75, 162, 0, 13, 21, 9, 54, 8]
abbrev dktX3_funeral_6 : List UInt8 := dkwX3_funeral_6 ++ dktX3_funeral_7
def dkwX3_funeral_5 : List UInt8 := [182, 1, 71, 54, 10, 42, 180, 0, 22, 5, 27, 104, 21, 9, 96, 46, 21, 5, 161, 0, 35, 21, 8]
abbrev dktX3_funeral_5 : List UInt8 := dkwX3_funeral_5 ++ dktX3_funeral_6
def dkwX3_funeral_4 : List UInt8 := [3, 181, 1, 64, 3, 54, 9, 21, 9, 5, 162, 0, 72, 42, 21, 7, 27, 21, 9, 28, 29, 21, 4]
abbrev dktX3_funeral_4 : List UInt8 := dkwX3_funeral_4 ++ dktX3_funeral_5
def dkwX3_funeral_3 : List UInt8 := [184, 0, 121, 154, 0, 6, 18, 131, 172, 42, 42, 180, 1, 61, 182, 1, 58, 54, 7, 18, 147, 54, 8, 42]
abbrev dktX3_funeral_3 : List UInt8 := dkwX3_funeral_3 ++ dktX3_funeral_4
def dkwX3_funeral_2 : List UInt8 := [153, 0, 29, 21, 5, 133, 10, 20, 1, 67, 184, 0, 121, 153, 0, 16, 21, 6, 133, 9, 20, 1, 69]
abbrev dktX3_funeral_2 : List UInt8 := dkwX3_funeral_2 ++ dktX3_funeral_3
def dkwX3_funeral_1 : List UInt8 := [20, 1, 20, 184, 0, 121, 153, 0, 45, 21, 4, 133, 29, 4, 96, 133, 20, 1, 22, 184, 0, 121]
abbrev dktX3_funeral_1 : List UInt8 := dkwX3_funeral_1 ++ dktX3_funeral_2
def dkwX3_funeral_0 : List UInt8 := [42, 3, 181, 0, 111, 27, 184, 0, 251, 153, 0, 64, 28, 184, 1, 17, 153, 0, 57, 29, 133, 9]
abbrev dktX3_funeral_0 : List UInt8 := dkwX3_funeral_0 ++ dktX3_funeral_1
theorem dksX3_funeral_0 : cX3_funeral.data.toList.drop 0 = dktX3_funeral_0 := by decide +kernel
theorem dksX3_funeral_1 : cX3_funeral.data.toList.drop 22 = dktX3_funeral_1 := dk_seg dksX3_funeral_0 22 rfl rfl
theorem dksX3_funeral_2 : cX3_funeral.data.toList.drop 44 = dktX3_funeral_2 := dk_seg dksX3_funeral_1 22 rfl rfl
theorem dksX3_funeral_3 : cX3_funeral.data.toList.drop 67 = dktX3_funeral_3 := dk_seg dksX3_funeral_2 23 rfl rfl
theorem dksX3_funeral_4 : cX3_funeral.data.toList.drop 91 = dktX3_funeral_4 := dk_seg dksX3_funeral_3 24 rfl rfl
theorem dksX3_funeral_5 : cX3_funeral.data.toList.drop 114 = dktX3_funeral_5 := dk_seg dksX3_funeral_4 23 rfl rfl
theorem dksX3_funeral_6 : cX3_funeral.data.toList.drop 137 = dktX3_funeral_6 := dk_seg dksX3_funeral_5 23 rfl rfl
theorem dksX3_funeral_7 : cX3_funeral.data.toList.drop 161 = dktX3_funeral_7 := dk_seg dksX3_funeral_6 24 rfl rfl
theorem dksX3_funeral_8 : cX3_funeral.data.toList.drop 184 = dktX3_funeral_8 := dk_seg dksX3_funeral_7 23 rfl rfl
theorem dksX3_funeral_9 : cX3_funeral.data.toList.drop 207 = dktX3_funeral_9 := dk_seg dksX3_funeral_8 23 rfl rfl
theorem dksX3_funeral_10 : cX3_funeral.data.toList.drop 231 = dktX3_funeral_10 := dk_seg dksX3_funeral_9 24 rfl rfl
theorem dksX3_funeral_11 : cX3_funeral.data.toList.drop 255 = dktX3_funeral_11 := dk_seg dksX3_funeral_10 24 rfl rfl
theorem dksX3_funeral_12 : cX3_funeral.data.toList.drop 278 = dktX3_funeral_12 := dk_seg dksX3_funeral_11 23 rfl rfl
theorem dksX3_funeral_13 : cX3_funeral.data.toList.drop 300 = dktX3_funeral_13 := dk_seg dksX3_funeral_12 22 rfl rfl
theorem dksX3_funeral_14 : cX3_funeral.data.toList.drop 324 = dktX3_funeral_14 := dk_seg dksX3_funeral_13 24 rfl rfl
theorem dksX3_funeral_15 : cX3_funeral.data.toList.drop 348 = dktX3_funeral_15 := dk_seg dksX3_funeral_14 24 rfl rfl
theorem dX3_funeral_0 : decode cX3_funeral 0 = .ok (.aload_n 0, 1) := dk_42 (dk_at dksX3_funeral_0 0 rfl rfl)
theorem dX3_funeral_1 : decode cX3_funeral 1 = .ok (.iconst 0, 1) := dk_3 (dk_at dksX3_funeral_0 1 rfl rfl)
theorem dX3_funeral_2 : decode cX3_funeral 2 = .ok (.putfield 111, 3) := dk_181 0 111 (dk_at dksX3_funeral_0 2 rfl rfl)
theorem dX3_funeral_5 : decode cX3_funeral 5 = .ok (.iload_n 1, 1) := dk_27 (dk_at dksX3_funeral_0 5 rfl rfl)
theorem dX3_funeral_6 : decode cX3_funeral 6 = .ok (.invokestatic 251, 3) := dk_184 0 251 (dk_at dksX3_funeral_0 6 rfl rfl)
theorem dX3_funeral_9 : decode cX3_funeral 9 = .ok (.ifCond .eq 64, 3) := dk_153 0 64 (dk_at dksX3_funeral_0 9 rfl rfl)
theorem dX3_funeral_12 : decode cX3_funeral 12 = .ok (.iload_n 2, 1) := dk_28 (dk_at dksX3_funeral_0 12 rfl rfl)
theorem dX3_funeral_13 : decode cX3_funeral 13 = .ok (.invokestatic 273, 3) := dk_184 1 17 (dk_at dksX3_funeral_0 13 rfl rfl)
theorem dX3_funeral_16 : decode cX3_funeral 16 = .ok (.ifCond .eq 57, 3) := dk_153 0 57 (dk_at dksX3_funeral_0 16 rfl rfl)
theorem dX3_funeral_19 : decode cX3_funeral 19 = .ok (.iload_n 3, 1) := dk_29 (dk_at dksX3_funeral_0 19 rfl rfl)
theorem dX3_funeral_20 : decode cX3_funeral 20 = .ok (.i2l, 1) := dk_133 (dk_at dksX3_funeral_0 20 rfl rfl)
theorem dX3_funeral_21 : decode cX3_funeral 21 = .ok (.lconst 0, 1) := dk_9 (dk_at dksX3_funeral_0 21 rfl rfl)
theorem dX3_funeral_22 : decode cX3_funeral 22 = .ok (.ldc2_w 276, 3) := dk_20 1 20 (dk_at dksX3_funeral_1 0 rfl rfl)
theorem dX3_funeral_25 : decode cX3_funeral 25 = .ok (.invokestatic 121, 3) := dk_184 0 121 (dk_at dksX3_funeral_1 3 rfl rfl)
theorem dX3_funeral_28 : decode cX3_funeral 28 = .ok (.ifCond .eq 45, 3) := dk_153 0 45 (dk_at dksX3_funeral_1 6 rfl rfl)
theorem dX3_funeral_31 : decode cX3_funeral 31 = .ok (.iload 4, 2) := dk_21 4 (dk_at dksX3_funeral_1 9 rfl rfl)
theorem dX3_funeral_33 : decode cX3_funeral 33 = .ok (.i2l, 1) := dk_133 (dk_at dksX3_funeral_1 11 rfl rfl)
theorem dX3_funeral_34 : decode cX3_funeral 34 = .ok (.iload_n 3, 1) := dk_29 (dk_at dksX3_funeral_1 12 rfl rfl)
theorem dX3_funeral_35 : decode cX3_funeral 35 = .ok (.iconst 1, 1) := dk_4 (dk_at dksX3_funeral_1 13 rfl rfl)
theorem dX3_funeral_36 : decode cX3_funeral 36 = .ok (.iadd, 1) := dk_96 (dk_at dksX3_funeral_1 14 rfl rfl)
theorem dX3_funeral_37 : decode cX3_funeral 37 = .ok (.i2l, 1) := dk_133 (dk_at dksX3_funeral_1 15 rfl rfl)
theorem dX3_funeral_38 : decode cX3_funeral 38 = .ok (.ldc2_w 278, 3) := dk_20 1 22 (dk_at dksX3_funeral_1 16 rfl rfl)
theorem dX3_funeral_41 : decode cX3_funeral 41 = .ok (.invokestatic 121, 3) := dk_184 0 121 (dk_at dksX3_funeral_1 19 rfl rfl)
theorem dX3_funeral_44 : decode cX3_funeral 44 = .ok (.ifCond .eq 29, 3) := dk_153 0 29 (dk_at dksX3_funeral_2 0 rfl rfl)
theorem dX3_funeral_47 : decode cX3_funeral 47 = .ok (.iload 5, 2) := dk_21 5 (dk_at dksX3_funeral_2 3 rfl rfl)
theorem dX3_funeral_49 : decode cX3_funeral 49 = .ok (.i2l, 1) := dk_133 (dk_at dksX3_funeral_2 5 rfl rfl)
theorem dX3_funeral_50 : decode cX3_funeral 50 = .ok (.lconst 1, 1) := dk_10 (dk_at dksX3_funeral_2 6 rfl rfl)
theorem dX3_funeral_51 : decode cX3_funeral 51 = .ok (.ldc2_w 323, 3) := dk_20 1 67 (dk_at dksX3_funeral_2 7 rfl rfl)
theorem dX3_funeral_54 : decode cX3_funeral 54 = .ok (.invokestatic 121, 3) := dk_184 0 121 (dk_at dksX3_funeral_2 10 rfl rfl)
theorem dX3_funeral_57 : decode cX3_funeral 57 = .ok (.ifCond .eq 16, 3) := dk_153 0 16 (dk_at dksX3_funeral_2 13 rfl rfl)
theorem dX3_funeral_60 : decode cX3_funeral 60 = .ok (.iload 6, 2) := dk_21 6 (dk_at dksX3_funeral_2 16 rfl rfl)
theorem dX3_funeral_62 : decode cX3_funeral 62 = .ok (.i2l, 1) := dk_133 (dk_at dksX3_funeral_2 18 rfl rfl)
theorem dX3_funeral_63 : decode cX3_funeral 63 = .ok (.lconst 0, 1) := dk_9 (dk_at dksX3_funeral_2 19 rfl rfl)
theorem dX3_funeral_64 : decode cX3_funeral 64 = .ok (.ldc2_w 325, 3) := dk_20 1 69 (dk_at dksX3_funeral_2 20 rfl rfl)
theorem dX3_funeral_67 : decode cX3_funeral 67 = .ok (.invokestatic 121, 3) := dk_184 0 121 (dk_at dksX3_funeral_3 0 rfl rfl)
theorem dX3_funeral_70 : decode cX3_funeral 70 = .ok (.ifCond .ne 6, 3) := dk_154 0 6 (dk_at dksX3_funeral_3 3 rfl rfl)
theorem dX3_funeral_73 : decode cX3_funeral 73 = .ok (.ldc 131, 2) := dk_18 131 (dk_at dksX3_funeral_3 6 rfl rfl)
theorem dX3_funeral_75 : decode cX3_funeral 75 = .ok (.ireturn, 1) := dk_172 (dk_at dksX3_funeral_3 8 rfl rfl)
theorem dX3_funeral_76 : decode cX3_funeral 76 = .ok (.aload_n 0, 1) := dk_42 (dk_at dksX3_funeral_3 9 rfl rfl)
theorem dX3_funeral_77 : decode cX3_funeral 77 = .ok (.aload_n 0, 1) := dk_42 (dk_at dksX3_funeral_3 10 rfl rfl)
theorem dX3_funeral_78 : decode cX3_funeral 78 = .ok (.getfield 317, 3) := dk_180 1 61 (dk_at dksX3_funeral_3 11 rfl rfl)
theorem dX3_funeral_81 : decode cX3_funeral 81 = .ok (.invokevirtual 314, 3) := dk_182 1 58 (dk_at dksX3_funeral_3 14 rfl rfl)
theorem dX3_funeral_84 : decode cX3_funeral 84 = .ok (.istore 7, 2) := dk_54 7 (dk_at dksX3_funeral_3 17 rfl rfl)
theorem dX3_funeral_86 : decode cX3_funeral 86 = .ok (.ldc 147, 2) := dk_18 147 (dk_at dksX3_funeral_3 19 rfl rfl)
theorem dX3_funeral_88 : decode cX3_funeral 88 = .ok (.istore 8, 2) := dk_54 8 (dk_at dksX3_funeral_3 21 rfl rfl)
theorem dX3_funeral_90 : decode cX3_funeral 90 = .ok (.aload_n 0, 1) := dk_42 (dk_at dksX3_funeral_3 23 rfl rfl)
theorem dX3_funeral_91 : decode cX3_funeral 91 = .ok (.iconst 0, 1) := dk_3 (dk_at dksX3_funeral_4 0 rfl rfl)
theorem dX3_funeral_92 : decode cX3_funeral 92 = .ok (.putfield 320, 3) := dk_181 1 64 (dk_at dksX3_funeral_4 1 rfl rfl)
theorem dX3_funeral_95 : decode cX3_funeral 95 = .ok (.iconst 0, 1) := dk_3 (dk_at dksX3_funeral_4 4 rfl rfl)
theorem dX3_funeral_96 : decode cX3_funeral 96 = .ok (.istore 9, 2) := dk_54 9 (dk_at dksX3_funeral_4 5 rfl rfl)
theorem dX3_funeral_98 : decode cX3_funeral 98 = .ok (.iload 9, 2) := dk_21 9 (dk_at dksX3_funeral_4 7 rfl rfl)
theorem dX3_funeral_100 : decode cX3_funeral 100 = .ok (.iconst 2, 1) := dk_5 (dk_at dksX3_funeral_4 9 rfl rfl)
theorem dX3_funeral_101 : decode cX3_funeral 101 = .ok (.if_icmp .ge 72, 3) := dk_162 0 72 (dk_at dksX3_funeral_4 10 rfl rfl)
theorem dX3_funeral_104 : decode cX3_funeral 104 = .ok (.aload_n 0, 1) := dk_42 (dk_at dksX3_funeral_4 13 rfl rfl)
theorem dX3_funeral_105 : decode cX3_funeral 105 = .ok (.iload 7, 2) := dk_21 7 (dk_at dksX3_funeral_4 14 rfl rfl)
theorem dX3_funeral_107 : decode cX3_funeral 107 = .ok (.iload_n 1, 1) := dk_27 (dk_at dksX3_funeral_4 16 rfl rfl)
theorem dX3_funeral_108 : decode cX3_funeral 108 = .ok (.iload 9, 2) := dk_21 9 (dk_at dksX3_funeral_4 17 rfl rfl)
theorem dX3_funeral_110 : decode cX3_funeral 110 = .ok (.iload_n 2, 1) := dk_28 (dk_at dksX3_funeral_4 19 rfl rfl)
theorem dX3_funeral_111 : decode cX3_funeral 111 = .ok (.iload_n 3, 1) := dk_29 (dk_at dksX3_funeral_4 20 rfl rfl)
theorem dX3_funeral_112 : decode cX3_funeral 112 = .ok (.iload 4, 2) := dk_21 4 (dk_at dksX3_funeral_4 21 rfl rfl)
theorem dX3_funeral_114 : decode cX3_funeral 114 = .ok (.invokevirtual 327, 3) := dk_182 1 71 (dk_at dksX3_funeral_5 0 rfl rfl)
theorem dX3_funeral_117 : decode cX3_funeral 117 = .ok (.istore 10, 2) := dk_54 10 (dk_at dksX3_funeral_5 3 rfl rfl)
theorem dX3_funeral_119 : decode cX3_funeral 119 = .ok (.aload_n 0, 1) := dk_42 (dk_at dksX3_funeral_5 5 rfl rfl)
theorem dX3_funeral_120 : decode cX3_funeral 120 = .ok (.getfield 22, 3) := dk_180 0 22 (dk_at dksX3_funeral_5 6 rfl rfl)
theorem dX3_funeral_123 : decode cX3_funeral 123 = .ok (.iconst 2, 1) := dk_5 (dk_at dksX3_funeral_5 9 rfl rfl)
theorem dX3_funeral_124 : decode cX3_funeral 124 = .ok (.iload_n 1, 1) := dk_27 (dk_at dksX3_funeral_5 10 rfl rfl)
theorem dX3_funeral_125 : decode cX3_funeral 125 = .ok (.imul, 1) := dk_104 (dk_at dksX3_funeral_5 11 rfl rfl)
theorem dX3_funeral_126 : decode cX3_funeral 126 = .ok (.iload 9, 2) := dk_21 9 (dk_at dksX3_funeral_5 12 rfl rfl)
theorem dX3_funeral_128 : decode cX3_funeral 128 = .ok (.iadd, 1) := dk_96 (dk_at dksX3_funeral_5 14 rfl rfl)
theorem dX3_funeral_129 : decode cX3_funeral 129 = .ok (.iaload, 1) := dk_46 (dk_at dksX3_funeral_5 15 rfl rfl)
theorem dX3_funeral_130 : decode cX3_funeral 130 = .ok (.iload 5, 2) := dk_21 5 (dk_at dksX3_funeral_5 16 rfl rfl)
theorem dX3_funeral_132 : decode cX3_funeral 132 = .ok (.if_icmp .lt 35, 3) := dk_161 0 35 (dk_at dksX3_funeral_5 18 rfl rfl)
theorem dX3_funeral_135 : decode cX3_funeral 135 = .ok (.iload 8, 2) := dk_21 8 (dk_at dksX3_funeral_5 21 rfl rfl)
theorem dX3_funeral_137 : decode cX3_funeral 137 = .ok (.ldc 147, 2) := dk_18 147 (dk_at dksX3_funeral_6 0 rfl rfl)
theorem dX3_funeral_139 : decode cX3_funeral 139 = .ok (.if_icmp .eq 18, 3) := dk_159 0 18 (dk_at dksX3_funeral_6 2 rfl rfl)
theorem dX3_funeral_142 : decode cX3_funeral 142 = .ok (.iload 10, 2) := dk_21 10 (dk_at dksX3_funeral_6 5 rfl rfl)
theorem dX3_funeral_144 : decode cX3_funeral 144 = .ok (.invokestatic 331, 3) := dk_184 1 75 (dk_at dksX3_funeral_6 7 rfl rfl)
theorem dX3_funeral_147 : decode cX3_funeral 147 = .ok (.aload_n 0, 1) := dk_42 (dk_at dksX3_funeral_6 10 rfl rfl)
theorem dX3_funeral_148 : decode cX3_funeral 148 = .ok (.getfield 320, 3) := dk_180 1 64 (dk_at dksX3_funeral_6 11 rfl rfl)
theorem dX3_funeral_151 : decode cX3_funeral 151 = .ok (.invokestatic 331, 3) := dk_184 1 75 (dk_at dksX3_funeral_6 14 rfl rfl)
theorem dX3_funeral_154 : decode cX3_funeral 154 = .ok (.if_icmp .ge 13, 3) := dk_162 0 13 (dk_at dksX3_funeral_6 17 rfl rfl)
theorem dX3_funeral_157 : decode cX3_funeral 157 = .ok (.iload 9, 2) := dk_21 9 (dk_at dksX3_funeral_6 20 rfl rfl)
theorem dX3_funeral_159 : decode cX3_funeral 159 = .ok (.istore 8, 2) := dk_54 8 (dk_at dksX3_funeral_6 22 rfl rfl)
theorem dX3_funeral_161 : decode cX3_funeral 161 = .ok (.aload_n 0, 1) := dk_42 (dk_at dksX3_funeral_7 0 rfl rfl)
theorem dX3_funeral_162 : decode cX3_funeral 162 = .ok (.iload 10, 2) := dk_21 10 (dk_at dksX3_funeral_7 1 rfl rfl)
theorem dX3_funeral_164 : decode cX3_funeral 164 = .ok (.putfield 320, 3) := dk_181 1 64 (dk_at dksX3_funeral_7 3 rfl rfl)
theorem dX3_funeral_167 : decode cX3_funeral 167 = .ok (.iinc 9 1, 3) := dk_132 9 1 (dk_at dksX3_funeral_7 6 rfl rfl)
theorem dX3_funeral_170 : decode cX3_funeral 170 = .ok (.goto (-72), 3) := dk_167 255 184 (dk_at dksX3_funeral_7 9 rfl rfl)
theorem dX3_funeral_173 : decode cX3_funeral 173 = .ok (.iconst 0, 1) := dk_3 (dk_at dksX3_funeral_7 12 rfl rfl)
theorem dX3_funeral_174 : decode cX3_funeral 174 = .ok (.istore 9, 2) := dk_54 9 (dk_at dksX3_funeral_7 13 rfl rfl)
theorem dX3_funeral_176 : decode cX3_funeral 176 = .ok (.iload 9, 2) := dk_21 9 (dk_at dksX3_funeral_7 15 rfl rfl)
theorem dX3_funeral_178 : decode cX3_funeral 178 = .ok (.bipush 16, 2) := dk_16 16 (dk_at dksX3_funeral_7 17 rfl rfl)
theorem dX3_funeral_180 : decode cX3_funeral 180 = .ok (.if_icmp .ge 18, 3) := dk_162 0 18 (dk_at dksX3_funeral_7 19 rfl rfl)
theorem dX3_funeral_183 : decode cX3_funeral 183 = .ok (.aload_n 0, 1) := dk_42 (dk_at dksX3_funeral_7 22 rfl rfl)
theorem dX3_funeral_184 : decode cX3_funeral 184 = .ok (.getfield 60, 3) := dk_180 0 60 (dk_at dksX3_funeral_8 0 rfl rfl)
theorem dX3_funeral_187 : decode cX3_funeral 187 = .ok (.iload 9, 2) := dk_21 9 (dk_at dksX3_funeral_8 3 rfl rfl)
theorem dX3_funeral_189 : decode cX3_funeral 189 = .ok (.ldc 147, 2) := dk_18 147 (dk_at dksX3_funeral_8 5 rfl rfl)
theorem dX3_funeral_191 : decode cX3_funeral 191 = .ok (.iastore, 1) := dk_79 (dk_at dksX3_funeral_8 7 rfl rfl)
theorem dX3_funeral_192 : decode cX3_funeral 192 = .ok (.iinc 9 1, 3) := dk_132 9 1 (dk_at dksX3_funeral_8 8 rfl rfl)
theorem dX3_funeral_195 : decode cX3_funeral 195 = .ok (.goto (-19), 3) := dk_167 255 237 (dk_at dksX3_funeral_8 11 rfl rfl)
theorem dX3_funeral_198 : decode cX3_funeral 198 = .ok (.iconst 0, 1) := dk_3 (dk_at dksX3_funeral_8 14 rfl rfl)
theorem dX3_funeral_199 : decode cX3_funeral 199 = .ok (.istore 9, 2) := dk_54 9 (dk_at dksX3_funeral_8 15 rfl rfl)
theorem dX3_funeral_201 : decode cX3_funeral 201 = .ok (.iconst 0, 1) := dk_3 (dk_at dksX3_funeral_8 17 rfl rfl)
theorem dX3_funeral_202 : decode cX3_funeral 202 = .ok (.istore 10, 2) := dk_54 10 (dk_at dksX3_funeral_8 18 rfl rfl)
theorem dX3_funeral_204 : decode cX3_funeral 204 = .ok (.iload 10, 2) := dk_21 10 (dk_at dksX3_funeral_8 20 rfl rfl)
theorem dX3_funeral_206 : decode cX3_funeral 206 = .ok (.aload_n 0, 1) := dk_42 (dk_at dksX3_funeral_8 22 rfl rfl)
theorem dX3_funeral_207 : decode cX3_funeral 207 = .ok (.getfield 268, 3) := dk_180 1 12 (dk_at dksX3_funeral_9 0 rfl rfl)
theorem dX3_funeral_210 : decode cX3_funeral 210 = .ok (.if_icmp .ge 102, 3) := dk_162 0 102 (dk_at dksX3_funeral_9 3 rfl rfl)
theorem dX3_funeral_213 : decode cX3_funeral 213 = .ok (.iconst 0, 1) := dk_3 (dk_at dksX3_funeral_9 6 rfl rfl)
theorem dX3_funeral_214 : decode cX3_funeral 214 = .ok (.istore 11, 2) := dk_54 11 (dk_at dksX3_funeral_9 7 rfl rfl)
theorem dX3_funeral_216 : decode cX3_funeral 216 = .ok (.iload 11, 2) := dk_21 11 (dk_at dksX3_funeral_9 9 rfl rfl)
theorem dX3_funeral_218 : decode cX3_funeral 218 = .ok (.bipush 8, 2) := dk_16 8 (dk_at dksX3_funeral_9 11 rfl rfl)
theorem dX3_funeral_220 : decode cX3_funeral 220 = .ok (.if_icmp .ge 86, 3) := dk_162 0 86 (dk_at dksX3_funeral_9 13 rfl rfl)
theorem dX3_funeral_223 : decode cX3_funeral 223 = .ok (.aload_n 0, 1) := dk_42 (dk_at dksX3_funeral_9 16 rfl rfl)
theorem dX3_funeral_224 : decode cX3_funeral 224 = .ok (.getfield 320, 3) := dk_180 1 64 (dk_at dksX3_funeral_9 17 rfl rfl)
theorem dX3_funeral_227 : decode cX3_funeral 227 = .ok (.iload 10, 2) := dk_21 10 (dk_at dksX3_funeral_9 20 rfl rfl)
theorem dX3_funeral_229 : decode cX3_funeral 229 = .ok (.ishr, 1) := dk_122 (dk_at dksX3_funeral_9 22 rfl rfl)
theorem dX3_funeral_230 : decode cX3_funeral 230 = .ok (.iconst 1, 1) := dk_4 (dk_at dksX3_funeral_9 23 rfl rfl)
theorem dX3_funeral_231 : decode cX3_funeral 231 = .ok (.iand, 1) := dk_126 (dk_at dksX3_funeral_10 0 rfl rfl)
theorem dX3_funeral_232 : decode cX3_funeral 232 = .ok (.iconst 1, 1) := dk_4 (dk_at dksX3_funeral_10 1 rfl rfl)
theorem dX3_funeral_233 : decode cX3_funeral 233 = .ok (.if_icmp .ne 73, 3) := dk_160 0 73 (dk_at dksX3_funeral_10 2 rfl rfl)
theorem dX3_funeral_236 : decode cX3_funeral 236 = .ok (.aload_n 0, 1) := dk_42 (dk_at dksX3_funeral_10 5 rfl rfl)
theorem dX3_funeral_237 : decode cX3_funeral 237 = .ok (.getfield 60, 3) := dk_180 0 60 (dk_at dksX3_funeral_10 6 rfl rfl)
theorem dX3_funeral_240 : decode cX3_funeral 240 = .ok (.iload 10, 2) := dk_21 10 (dk_at dksX3_funeral_10 9 rfl rfl)
theorem dX3_funeral_242 : decode cX3_funeral 242 = .ok (.iaload, 1) := dk_46 (dk_at dksX3_funeral_10 11 rfl rfl)
theorem dX3_funeral_243 : decode cX3_funeral 243 = .ok (.ldc 147, 2) := dk_18 147 (dk_at dksX3_funeral_10 12 rfl rfl)
theorem dX3_funeral_245 : decode cX3_funeral 245 = .ok (.if_icmp .ne 61, 3) := dk_160 0 61 (dk_at dksX3_funeral_10 14 rfl rfl)
theorem dX3_funeral_248 : decode cX3_funeral 248 = .ok (.iload_n 1, 1) := dk_27 (dk_at dksX3_funeral_10 17 rfl rfl)
theorem dX3_funeral_249 : decode cX3_funeral 249 = .ok (.iload 11, 2) := dk_21 11 (dk_at dksX3_funeral_10 18 rfl rfl)
theorem dX3_funeral_251 : decode cX3_funeral 251 = .ok (.iconst 2, 1) := dk_5 (dk_at dksX3_funeral_10 20 rfl rfl)
theorem dX3_funeral_252 : decode cX3_funeral 252 = .ok (.idiv, 1) := dk_108 (dk_at dksX3_funeral_10 21 rfl rfl)
theorem dX3_funeral_253 : decode cX3_funeral 253 = .ok (.iadd, 1) := dk_96 (dk_at dksX3_funeral_10 22 rfl rfl)
theorem dX3_funeral_254 : decode cX3_funeral 254 = .ok (.iconst 4, 1) := dk_7 (dk_at dksX3_funeral_10 23 rfl rfl)
theorem dX3_funeral_255 : decode cX3_funeral 255 = .ok (.irem, 1) := dk_112 (dk_at dksX3_funeral_11 0 rfl rfl)
theorem dX3_funeral_256 : decode cX3_funeral 256 = .ok (.istore 12, 2) := dk_54 12 (dk_at dksX3_funeral_11 1 rfl rfl)
theorem dX3_funeral_258 : decode cX3_funeral 258 = .ok (.aload_n 0, 1) := dk_42 (dk_at dksX3_funeral_11 3 rfl rfl)
theorem dX3_funeral_259 : decode cX3_funeral 259 = .ok (.iload 10, 2) := dk_21 10 (dk_at dksX3_funeral_11 4 rfl rfl)
theorem dX3_funeral_261 : decode cX3_funeral 261 = .ok (.iload 12, 2) := dk_21 12 (dk_at dksX3_funeral_11 6 rfl rfl)
theorem dX3_funeral_263 : decode cX3_funeral 263 = .ok (.iload 11, 2) := dk_21 11 (dk_at dksX3_funeral_11 8 rfl rfl)
theorem dX3_funeral_265 : decode cX3_funeral 265 = .ok (.iconst 2, 1) := dk_5 (dk_at dksX3_funeral_11 10 rfl rfl)
theorem dX3_funeral_266 : decode cX3_funeral 266 = .ok (.irem, 1) := dk_112 (dk_at dksX3_funeral_11 11 rfl rfl)
theorem dX3_funeral_267 : decode cX3_funeral 267 = .ok (.iload 7, 2) := dk_21 7 (dk_at dksX3_funeral_11 12 rfl rfl)
theorem dX3_funeral_269 : decode cX3_funeral 269 = .ok (.iload_n 1, 1) := dk_27 (dk_at dksX3_funeral_11 14 rfl rfl)
theorem dX3_funeral_270 : decode cX3_funeral 270 = .ok (.iload 8, 2) := dk_21 8 (dk_at dksX3_funeral_11 15 rfl rfl)
theorem dX3_funeral_272 : decode cX3_funeral 272 = .ok (.iload_n 3, 1) := dk_29 (dk_at dksX3_funeral_11 17 rfl rfl)
theorem dX3_funeral_273 : decode cX3_funeral 273 = .ok (.iload 4, 2) := dk_21 4 (dk_at dksX3_funeral_11 18 rfl rfl)
theorem dX3_funeral_275 : decode cX3_funeral 275 = .ok (.invokevirtual 334, 3) := dk_182 1 78 (dk_at dksX3_funeral_11 20 rfl rfl)
theorem dX3_funeral_278 : decode cX3_funeral 278 = .ok (.ifCond .eq 22, 3) := dk_153 0 22 (dk_at dksX3_funeral_12 0 rfl rfl)
theorem dX3_funeral_281 : decode cX3_funeral 281 = .ok (.aload_n 0, 1) := dk_42 (dk_at dksX3_funeral_12 3 rfl rfl)
theorem dX3_funeral_282 : decode cX3_funeral 282 = .ok (.getfield 60, 3) := dk_180 0 60 (dk_at dksX3_funeral_12 4 rfl rfl)
theorem dX3_funeral_285 : decode cX3_funeral 285 = .ok (.iload 10, 2) := dk_21 10 (dk_at dksX3_funeral_12 7 rfl rfl)
theorem dX3_funeral_287 : decode cX3_funeral 287 = .ok (.iconst 2, 1) := dk_5 (dk_at dksX3_funeral_12 9 rfl rfl)
theorem dX3_funeral_288 : decode cX3_funeral 288 = .ok (.iload 12, 2) := dk_21 12 (dk_at dksX3_funeral_12 10 rfl rfl)
theorem dX3_funeral_290 : decode cX3_funeral 290 = .ok (.imul, 1) := dk_104 (dk_at dksX3_funeral_12 12 rfl rfl)
theorem dX3_funeral_291 : decode cX3_funeral 291 = .ok (.iload 11, 2) := dk_21 11 (dk_at dksX3_funeral_12 13 rfl rfl)
theorem dX3_funeral_293 : decode cX3_funeral 293 = .ok (.iconst 2, 1) := dk_5 (dk_at dksX3_funeral_12 15 rfl rfl)
theorem dX3_funeral_294 : decode cX3_funeral 294 = .ok (.irem, 1) := dk_112 (dk_at dksX3_funeral_12 16 rfl rfl)
theorem dX3_funeral_295 : decode cX3_funeral 295 = .ok (.iadd, 1) := dk_96 (dk_at dksX3_funeral_12 17 rfl rfl)
theorem dX3_funeral_296 : decode cX3_funeral 296 = .ok (.iastore, 1) := dk_79 (dk_at dksX3_funeral_12 18 rfl rfl)
theorem dX3_funeral_297 : decode cX3_funeral 297 = .ok (.iinc 9 1, 3) := dk_132 9 1 (dk_at dksX3_funeral_12 19 rfl rfl)
theorem dX3_funeral_300 : decode cX3_funeral 300 = .ok (.iinc 11 1, 3) := dk_132 11 1 (dk_at dksX3_funeral_13 0 rfl rfl)
theorem dX3_funeral_303 : decode cX3_funeral 303 = .ok (.goto (-87), 3) := dk_167 255 169 (dk_at dksX3_funeral_13 3 rfl rfl)
theorem dX3_funeral_306 : decode cX3_funeral 306 = .ok (.iinc 10 1, 3) := dk_132 10 1 (dk_at dksX3_funeral_13 6 rfl rfl)
theorem dX3_funeral_309 : decode cX3_funeral 309 = .ok (.goto (-105), 3) := dk_167 255 151 (dk_at dksX3_funeral_13 9 rfl rfl)
theorem dX3_funeral_312 : decode cX3_funeral 312 = .ok (.iload 6, 2) := dk_21 6 (dk_at dksX3_funeral_13 12 rfl rfl)
theorem dX3_funeral_314 : decode cX3_funeral 314 = .ok (.ifCond .ne 8, 3) := dk_154 0 8 (dk_at dksX3_funeral_13 14 rfl rfl)
theorem dX3_funeral_317 : decode cX3_funeral 317 = .ok (.iload 8, 2) := dk_21 8 (dk_at dksX3_funeral_13 17 rfl rfl)
theorem dX3_funeral_319 : decode cX3_funeral 319 = .ok (.goto 47, 3) := dk_167 0 47 (dk_at dksX3_funeral_13 19 rfl rfl)
theorem dX3_funeral_322 : decode cX3_funeral 322 = .ok (.iload 6, 2) := dk_21 6 (dk_at dksX3_funeral_13 22 rfl rfl)
theorem dX3_funeral_324 : decode cX3_funeral 324 = .ok (.iconst 1, 1) := dk_4 (dk_at dksX3_funeral_14 0 rfl rfl)
theorem dX3_funeral_325 : decode cX3_funeral 325 = .ok (.if_icmp .ne 13, 3) := dk_160 0 13 (dk_at dksX3_funeral_14 1 rfl rfl)
theorem dX3_funeral_328 : decode cX3_funeral 328 = .ok (.aload_n 0, 1) := dk_42 (dk_at dksX3_funeral_14 4 rfl rfl)
theorem dX3_funeral_329 : decode cX3_funeral 329 = .ok (.getfield 320, 3) := dk_180 1 64 (dk_at dksX3_funeral_14 5 rfl rfl)
theorem dX3_funeral_332 : decode cX3_funeral 332 = .ok (.invokestatic 331, 3) := dk_184 1 75 (dk_at dksX3_funeral_14 8 rfl rfl)
theorem dX3_funeral_335 : decode cX3_funeral 335 = .ok (.goto 31, 3) := dk_167 0 31 (dk_at dksX3_funeral_14 11 rfl rfl)
theorem dX3_funeral_338 : decode cX3_funeral 338 = .ok (.iload 6, 2) := dk_21 6 (dk_at dksX3_funeral_14 14 rfl rfl)
theorem dX3_funeral_340 : decode cX3_funeral 340 = .ok (.iconst 2, 1) := dk_5 (dk_at dksX3_funeral_14 16 rfl rfl)
theorem dX3_funeral_341 : decode cX3_funeral 341 = .ok (.if_icmp .ne 16, 3) := dk_160 0 16 (dk_at dksX3_funeral_14 17 rfl rfl)
theorem dX3_funeral_344 : decode cX3_funeral 344 = .ok (.aload_n 0, 1) := dk_42 (dk_at dksX3_funeral_14 20 rfl rfl)
theorem dX3_funeral_345 : decode cX3_funeral 345 = .ok (.getfield 320, 3) := dk_180 1 64 (dk_at dksX3_funeral_14 21 rfl rfl)
theorem dX3_funeral_348 : decode cX3_funeral 348 = .ok (.invokestatic 331, 3) := dk_184 1 75 (dk_at dksX3_funeral_15 0 rfl rfl)
theorem dX3_funeral_351 : decode cX3_funeral 351 = .ok (.iload 9, 2) := dk_21 9 (dk_at dksX3_funeral_15 3 rfl rfl)
theorem dX3_funeral_353 : decode cX3_funeral 353 = .ok (.isub, 1) := dk_100 (dk_at dksX3_funeral_15 5 rfl rfl)
theorem dX3_funeral_354 : decode cX3_funeral 354 = .ok (.goto 12, 3) := dk_167 0 12 (dk_at dksX3_funeral_15 6 rfl rfl)
theorem dX3_funeral_357 : decode cX3_funeral 357 = .ok (.aload_n 0, 1) := dk_42 (dk_at dksX3_funeral_15 9 rfl rfl)
theorem dX3_funeral_358 : decode cX3_funeral 358 = .ok (.getfield 60, 3) := dk_180 0 60 (dk_at dksX3_funeral_15 10 rfl rfl)
theorem dX3_funeral_361 : decode cX3_funeral 361 = .ok (.iload 6, 2) := dk_21 6 (dk_at dksX3_funeral_15 13 rfl rfl)
theorem dX3_funeral_363 : decode cX3_funeral 363 = .ok (.iconst 3, 1) := dk_6 (dk_at dksX3_funeral_15 15 rfl rfl)
theorem dX3_funeral_364 : decode cX3_funeral 364 = .ok (.isub, 1) := dk_100 (dk_at dksX3_funeral_15 16 rfl rfl)
theorem dX3_funeral_365 : decode cX3_funeral 365 = .ok (.iaload, 1) := dk_46 (dk_at dksX3_funeral_15 17 rfl rfl)
theorem dX3_funeral_366 : decode cX3_funeral 366 = .ok (.ireturn, 1) := dk_172 (dk_at dksX3_funeral_15 18 rfl rfl)
abbrev cX3_clashing : ByteArray := prog_19_method_46_code
def yX3_clashing : MethodName := ⟨RX3, "clashing", "(IIIIII)I"⟩
def dkwX3_clashing_5 : List UInt8 := [3, 128, 54, 7, 132, 8, 1, 167, 255, 140, 21, 7, 172]
abbrev dktX3_clashing_5 : List UInt8 := dkwX3_clashing_5 ++ []
def dkwX3_clashing_4 : List UInt8 := [153, 0, 7, 4, 167, 0, 4, 3, 54, 9, 21, 7, 21, 9, 153, 0, 10, 4, 21, 8, 120, 167, 0, 4]
abbrev dktX3_clashing_4 : List UInt8 := dkwX3_clashing_4 ++ dktX3_clashing_5
def dkwX3_clashing_3 : List UInt8 := [42, 21, 8, 7, 182, 1, 29, 42, 21, 8, 16, 6, 182, 1, 29, 21, 5, 21, 6, 6, 182, 1, 37]
abbrev dktX3_clashing_3 : List UInt8 := dkwX3_clashing_3 ++ dktX3_clashing_4
def dkwX3_clashing_2 : List UInt8 := [160, 0, 54, 42, 21, 8, 5, 182, 1, 29, 21, 4, 160, 0, 42, 42, 28, 42, 21, 8, 6, 182, 1, 29]
abbrev dktX3_clashing_2 : List UInt8 := dkwX3_clashing_2 ++ dktX3_clashing_3
def dkwX3_clashing_1 : List UInt8 := [160, 0, 76, 42, 21, 8, 3, 182, 1, 29, 28, 160, 0, 65, 42, 21, 8, 4, 182, 1, 29, 29]
abbrev dktX3_clashing_1 : List UInt8 := dkwX3_clashing_1 ++ dktX3_clashing_2
def dkwX3_clashing_0 : List UInt8 := [3, 54, 7, 3, 54, 8, 21, 8, 42, 180, 1, 12, 162, 0, 113, 27, 21, 8, 122, 4, 126, 4]
abbrev dktX3_clashing_0 : List UInt8 := dkwX3_clashing_0 ++ dktX3_clashing_1
theorem dksX3_clashing_0 : cX3_clashing.data.toList.drop 0 = dktX3_clashing_0 := by decide +kernel
theorem dksX3_clashing_1 : cX3_clashing.data.toList.drop 22 = dktX3_clashing_1 := dk_seg dksX3_clashing_0 22 rfl rfl
theorem dksX3_clashing_2 : cX3_clashing.data.toList.drop 44 = dktX3_clashing_2 := dk_seg dksX3_clashing_1 22 rfl rfl
theorem dksX3_clashing_3 : cX3_clashing.data.toList.drop 68 = dktX3_clashing_3 := dk_seg dksX3_clashing_2 24 rfl rfl
theorem dksX3_clashing_4 : cX3_clashing.data.toList.drop 91 = dktX3_clashing_4 := dk_seg dksX3_clashing_3 23 rfl rfl
theorem dksX3_clashing_5 : cX3_clashing.data.toList.drop 115 = dktX3_clashing_5 := dk_seg dksX3_clashing_4 24 rfl rfl
theorem dX3_clashing_0 : decode cX3_clashing 0 = .ok (.iconst 0, 1) := dk_3 (dk_at dksX3_clashing_0 0 rfl rfl)
theorem dX3_clashing_1 : decode cX3_clashing 1 = .ok (.istore 7, 2) := dk_54 7 (dk_at dksX3_clashing_0 1 rfl rfl)
theorem dX3_clashing_3 : decode cX3_clashing 3 = .ok (.iconst 0, 1) := dk_3 (dk_at dksX3_clashing_0 3 rfl rfl)
theorem dX3_clashing_4 : decode cX3_clashing 4 = .ok (.istore 8, 2) := dk_54 8 (dk_at dksX3_clashing_0 4 rfl rfl)
theorem dX3_clashing_6 : decode cX3_clashing 6 = .ok (.iload 8, 2) := dk_21 8 (dk_at dksX3_clashing_0 6 rfl rfl)
theorem dX3_clashing_8 : decode cX3_clashing 8 = .ok (.aload_n 0, 1) := dk_42 (dk_at dksX3_clashing_0 8 rfl rfl)
theorem dX3_clashing_9 : decode cX3_clashing 9 = .ok (.getfield 268, 3) := dk_180 1 12 (dk_at dksX3_clashing_0 9 rfl rfl)
theorem dX3_clashing_12 : decode cX3_clashing 12 = .ok (.if_icmp .ge 113, 3) := dk_162 0 113 (dk_at dksX3_clashing_0 12 rfl rfl)
theorem dX3_clashing_15 : decode cX3_clashing 15 = .ok (.iload_n 1, 1) := dk_27 (dk_at dksX3_clashing_0 15 rfl rfl)
theorem dX3_clashing_16 : decode cX3_clashing 16 = .ok (.iload 8, 2) := dk_21 8 (dk_at dksX3_clashing_0 16 rfl rfl)
theorem dX3_clashing_18 : decode cX3_clashing 18 = .ok (.ishr, 1) := dk_122 (dk_at dksX3_clashing_0 18 rfl rfl)
theorem dX3_clashing_19 : decode cX3_clashing 19 = .ok (.iconst 1, 1) := dk_4 (dk_at dksX3_clashing_0 19 rfl rfl)
theorem dX3_clashing_20 : decode cX3_clashing 20 = .ok (.iand, 1) := dk_126 (dk_at dksX3_clashing_0 20 rfl rfl)
theorem dX3_clashing_21 : decode cX3_clashing 21 = .ok (.iconst 1, 1) := dk_4 (dk_at dksX3_clashing_0 21 rfl rfl)
theorem dX3_clashing_22 : decode cX3_clashing 22 = .ok (.if_icmp .ne 76, 3) := dk_160 0 76 (dk_at dksX3_clashing_1 0 rfl rfl)
theorem dX3_clashing_25 : decode cX3_clashing 25 = .ok (.aload_n 0, 1) := dk_42 (dk_at dksX3_clashing_1 3 rfl rfl)
theorem dX3_clashing_26 : decode cX3_clashing 26 = .ok (.iload 8, 2) := dk_21 8 (dk_at dksX3_clashing_1 4 rfl rfl)
theorem dX3_clashing_28 : decode cX3_clashing 28 = .ok (.iconst 0, 1) := dk_3 (dk_at dksX3_clashing_1 6 rfl rfl)
theorem dX3_clashing_29 : decode cX3_clashing 29 = .ok (.invokevirtual 285, 3) := dk_182 1 29 (dk_at dksX3_clashing_1 7 rfl rfl)
theorem dX3_clashing_32 : decode cX3_clashing 32 = .ok (.iload_n 2, 1) := dk_28 (dk_at dksX3_clashing_1 10 rfl rfl)
theorem dX3_clashing_33 : decode cX3_clashing 33 = .ok (.if_icmp .ne 65, 3) := dk_160 0 65 (dk_at dksX3_clashing_1 11 rfl rfl)
theorem dX3_clashing_36 : decode cX3_clashing 36 = .ok (.aload_n 0, 1) := dk_42 (dk_at dksX3_clashing_1 14 rfl rfl)
theorem dX3_clashing_37 : decode cX3_clashing 37 = .ok (.iload 8, 2) := dk_21 8 (dk_at dksX3_clashing_1 15 rfl rfl)
theorem dX3_clashing_39 : decode cX3_clashing 39 = .ok (.iconst 1, 1) := dk_4 (dk_at dksX3_clashing_1 17 rfl rfl)
theorem dX3_clashing_40 : decode cX3_clashing 40 = .ok (.invokevirtual 285, 3) := dk_182 1 29 (dk_at dksX3_clashing_1 18 rfl rfl)
theorem dX3_clashing_43 : decode cX3_clashing 43 = .ok (.iload_n 3, 1) := dk_29 (dk_at dksX3_clashing_1 21 rfl rfl)
theorem dX3_clashing_44 : decode cX3_clashing 44 = .ok (.if_icmp .ne 54, 3) := dk_160 0 54 (dk_at dksX3_clashing_2 0 rfl rfl)
theorem dX3_clashing_47 : decode cX3_clashing 47 = .ok (.aload_n 0, 1) := dk_42 (dk_at dksX3_clashing_2 3 rfl rfl)
theorem dX3_clashing_48 : decode cX3_clashing 48 = .ok (.iload 8, 2) := dk_21 8 (dk_at dksX3_clashing_2 4 rfl rfl)
theorem dX3_clashing_50 : decode cX3_clashing 50 = .ok (.iconst 2, 1) := dk_5 (dk_at dksX3_clashing_2 6 rfl rfl)
theorem dX3_clashing_51 : decode cX3_clashing 51 = .ok (.invokevirtual 285, 3) := dk_182 1 29 (dk_at dksX3_clashing_2 7 rfl rfl)
theorem dX3_clashing_54 : decode cX3_clashing 54 = .ok (.iload 4, 2) := dk_21 4 (dk_at dksX3_clashing_2 10 rfl rfl)
theorem dX3_clashing_56 : decode cX3_clashing 56 = .ok (.if_icmp .ne 42, 3) := dk_160 0 42 (dk_at dksX3_clashing_2 12 rfl rfl)
theorem dX3_clashing_59 : decode cX3_clashing 59 = .ok (.aload_n 0, 1) := dk_42 (dk_at dksX3_clashing_2 15 rfl rfl)
theorem dX3_clashing_60 : decode cX3_clashing 60 = .ok (.iload_n 2, 1) := dk_28 (dk_at dksX3_clashing_2 16 rfl rfl)
theorem dX3_clashing_61 : decode cX3_clashing 61 = .ok (.aload_n 0, 1) := dk_42 (dk_at dksX3_clashing_2 17 rfl rfl)
theorem dX3_clashing_62 : decode cX3_clashing 62 = .ok (.iload 8, 2) := dk_21 8 (dk_at dksX3_clashing_2 18 rfl rfl)
theorem dX3_clashing_64 : decode cX3_clashing 64 = .ok (.iconst 3, 1) := dk_6 (dk_at dksX3_clashing_2 20 rfl rfl)
theorem dX3_clashing_65 : decode cX3_clashing 65 = .ok (.invokevirtual 285, 3) := dk_182 1 29 (dk_at dksX3_clashing_2 21 rfl rfl)
theorem dX3_clashing_68 : decode cX3_clashing 68 = .ok (.aload_n 0, 1) := dk_42 (dk_at dksX3_clashing_3 0 rfl rfl)
theorem dX3_clashing_69 : decode cX3_clashing 69 = .ok (.iload 8, 2) := dk_21 8 (dk_at dksX3_clashing_3 1 rfl rfl)
theorem dX3_clashing_71 : decode cX3_clashing 71 = .ok (.iconst 4, 1) := dk_7 (dk_at dksX3_clashing_3 3 rfl rfl)
theorem dX3_clashing_72 : decode cX3_clashing 72 = .ok (.invokevirtual 285, 3) := dk_182 1 29 (dk_at dksX3_clashing_3 4 rfl rfl)
theorem dX3_clashing_75 : decode cX3_clashing 75 = .ok (.aload_n 0, 1) := dk_42 (dk_at dksX3_clashing_3 7 rfl rfl)
theorem dX3_clashing_76 : decode cX3_clashing 76 = .ok (.iload 8, 2) := dk_21 8 (dk_at dksX3_clashing_3 8 rfl rfl)
theorem dX3_clashing_78 : decode cX3_clashing 78 = .ok (.bipush 6, 2) := dk_16 6 (dk_at dksX3_clashing_3 10 rfl rfl)
theorem dX3_clashing_80 : decode cX3_clashing 80 = .ok (.invokevirtual 285, 3) := dk_182 1 29 (dk_at dksX3_clashing_3 12 rfl rfl)
theorem dX3_clashing_83 : decode cX3_clashing 83 = .ok (.iload 5, 2) := dk_21 5 (dk_at dksX3_clashing_3 15 rfl rfl)
theorem dX3_clashing_85 : decode cX3_clashing 85 = .ok (.iload 6, 2) := dk_21 6 (dk_at dksX3_clashing_3 17 rfl rfl)
theorem dX3_clashing_87 : decode cX3_clashing 87 = .ok (.iconst 3, 1) := dk_6 (dk_at dksX3_clashing_3 19 rfl rfl)
theorem dX3_clashing_88 : decode cX3_clashing 88 = .ok (.invokevirtual 293, 3) := dk_182 1 37 (dk_at dksX3_clashing_3 20 rfl rfl)
theorem dX3_clashing_91 : decode cX3_clashing 91 = .ok (.ifCond .eq 7, 3) := dk_153 0 7 (dk_at dksX3_clashing_4 0 rfl rfl)
theorem dX3_clashing_94 : decode cX3_clashing 94 = .ok (.iconst 1, 1) := dk_4 (dk_at dksX3_clashing_4 3 rfl rfl)
theorem dX3_clashing_95 : decode cX3_clashing 95 = .ok (.goto 4, 3) := dk_167 0 4 (dk_at dksX3_clashing_4 4 rfl rfl)
theorem dX3_clashing_98 : decode cX3_clashing 98 = .ok (.iconst 0, 1) := dk_3 (dk_at dksX3_clashing_4 7 rfl rfl)
theorem dX3_clashing_99 : decode cX3_clashing 99 = .ok (.istore 9, 2) := dk_54 9 (dk_at dksX3_clashing_4 8 rfl rfl)
theorem dX3_clashing_101 : decode cX3_clashing 101 = .ok (.iload 7, 2) := dk_21 7 (dk_at dksX3_clashing_4 10 rfl rfl)
theorem dX3_clashing_103 : decode cX3_clashing 103 = .ok (.iload 9, 2) := dk_21 9 (dk_at dksX3_clashing_4 12 rfl rfl)
theorem dX3_clashing_105 : decode cX3_clashing 105 = .ok (.ifCond .eq 10, 3) := dk_153 0 10 (dk_at dksX3_clashing_4 14 rfl rfl)
theorem dX3_clashing_108 : decode cX3_clashing 108 = .ok (.iconst 1, 1) := dk_4 (dk_at dksX3_clashing_4 17 rfl rfl)
theorem dX3_clashing_109 : decode cX3_clashing 109 = .ok (.iload 8, 2) := dk_21 8 (dk_at dksX3_clashing_4 18 rfl rfl)
theorem dX3_clashing_111 : decode cX3_clashing 111 = .ok (.ishl, 1) := dk_120 (dk_at dksX3_clashing_4 20 rfl rfl)
theorem dX3_clashing_112 : decode cX3_clashing 112 = .ok (.goto 4, 3) := dk_167 0 4 (dk_at dksX3_clashing_4 21 rfl rfl)
theorem dX3_clashing_115 : decode cX3_clashing 115 = .ok (.iconst 0, 1) := dk_3 (dk_at dksX3_clashing_5 0 rfl rfl)
theorem dX3_clashing_116 : decode cX3_clashing 116 = .ok (.ior, 1) := dk_128 (dk_at dksX3_clashing_5 1 rfl rfl)
theorem dX3_clashing_117 : decode cX3_clashing 117 = .ok (.istore 7, 2) := dk_54 7 (dk_at dksX3_clashing_5 2 rfl rfl)
theorem dX3_clashing_119 : decode cX3_clashing 119 = .ok (.iinc 8 1, 3) := dk_132 8 1 (dk_at dksX3_clashing_5 4 rfl rfl)
theorem dX3_clashing_122 : decode cX3_clashing 122 = .ok (.goto (-116), 3) := dk_167 255 140 (dk_at dksX3_clashing_5 7 rfl rfl)
theorem dX3_clashing_125 : decode cX3_clashing 125 = .ok (.iload 7, 2) := dk_21 7 (dk_at dksX3_clashing_5 10 rfl rfl)
theorem dX3_clashing_127 : decode cX3_clashing 127 = .ok (.ireturn, 1) := dk_172 (dk_at dksX3_clashing_5 12 rfl rfl)
abbrev cX3_bits : ByteArray := prog_19_method_47_code
def yX3_bits : MethodName := ⟨RX3, "bits", "(I)I"⟩
def dkwX3_bits_1 : List UInt8 := [27, 172]
abbrev dktX3_bits_1 : List UInt8 := dkwX3_bits_1 ++ []
def dkwX3_bits_0 : List UInt8 := [3, 60, 3, 61, 28, 16, 16, 162, 0, 17, 27, 26, 28, 122, 4, 126, 96, 60, 132, 2, 1, 167, 255, 239]
abbrev dktX3_bits_0 : List UInt8 := dkwX3_bits_0 ++ dktX3_bits_1
theorem dksX3_bits_0 : cX3_bits.data.toList.drop 0 = dktX3_bits_0 := by decide +kernel
theorem dksX3_bits_1 : cX3_bits.data.toList.drop 24 = dktX3_bits_1 := dk_seg dksX3_bits_0 24 rfl rfl
theorem dX3_bits_0 : decode cX3_bits 0 = .ok (.iconst 0, 1) := dk_3 (dk_at dksX3_bits_0 0 rfl rfl)
theorem dX3_bits_1 : decode cX3_bits 1 = .ok (.istore_n 1, 1) := dk_60 (dk_at dksX3_bits_0 1 rfl rfl)
theorem dX3_bits_2 : decode cX3_bits 2 = .ok (.iconst 0, 1) := dk_3 (dk_at dksX3_bits_0 2 rfl rfl)
theorem dX3_bits_3 : decode cX3_bits 3 = .ok (.istore_n 2, 1) := dk_61 (dk_at dksX3_bits_0 3 rfl rfl)
theorem dX3_bits_4 : decode cX3_bits 4 = .ok (.iload_n 2, 1) := dk_28 (dk_at dksX3_bits_0 4 rfl rfl)
theorem dX3_bits_5 : decode cX3_bits 5 = .ok (.bipush 16, 2) := dk_16 16 (dk_at dksX3_bits_0 5 rfl rfl)
theorem dX3_bits_7 : decode cX3_bits 7 = .ok (.if_icmp .ge 17, 3) := dk_162 0 17 (dk_at dksX3_bits_0 7 rfl rfl)
theorem dX3_bits_10 : decode cX3_bits 10 = .ok (.iload_n 1, 1) := dk_27 (dk_at dksX3_bits_0 10 rfl rfl)
theorem dX3_bits_11 : decode cX3_bits 11 = .ok (.iload_n 0, 1) := dk_26 (dk_at dksX3_bits_0 11 rfl rfl)
theorem dX3_bits_12 : decode cX3_bits 12 = .ok (.iload_n 2, 1) := dk_28 (dk_at dksX3_bits_0 12 rfl rfl)
theorem dX3_bits_13 : decode cX3_bits 13 = .ok (.ishr, 1) := dk_122 (dk_at dksX3_bits_0 13 rfl rfl)
theorem dX3_bits_14 : decode cX3_bits 14 = .ok (.iconst 1, 1) := dk_4 (dk_at dksX3_bits_0 14 rfl rfl)
theorem dX3_bits_15 : decode cX3_bits 15 = .ok (.iand, 1) := dk_126 (dk_at dksX3_bits_0 15 rfl rfl)
theorem dX3_bits_16 : decode cX3_bits 16 = .ok (.iadd, 1) := dk_96 (dk_at dksX3_bits_0 16 rfl rfl)
theorem dX3_bits_17 : decode cX3_bits 17 = .ok (.istore_n 1, 1) := dk_60 (dk_at dksX3_bits_0 17 rfl rfl)
theorem dX3_bits_18 : decode cX3_bits 18 = .ok (.iinc 2 1, 3) := dk_132 2 1 (dk_at dksX3_bits_0 18 rfl rfl)
theorem dX3_bits_21 : decode cX3_bits 21 = .ok (.goto (-17), 3) := dk_167 255 239 (dk_at dksX3_bits_0 21 rfl rfl)
theorem dX3_bits_24 : decode cX3_bits 24 = .ok (.iload_n 1, 1) := dk_27 (dk_at dksX3_bits_1 0 rfl rfl)
theorem dX3_bits_25 : decode cX3_bits 25 = .ok (.ireturn, 1) := dk_172 (dk_at dksX3_bits_1 1 rfl rfl)
abbrev cX3_isFree : ByteArray := prog_19_method_48_code
def yX3_isFree : MethodName := ⟨RX3, "isFree", "(IIIIIIII)Z"⟩
def dkwX3_isFree_10 : List UInt8 := [167, 255, 87, 21, 9, 172]
abbrev dktX3_isFree_10 : List UInt8 := dkwX3_isFree_10 ++ []
def dkwX3_isFree_9 : List UInt8 := [42, 27, 16, 6, 182, 1, 29, 182, 1, 37, 154, 0, 7, 4, 167, 0, 4, 3, 54, 9, 132, 10, 1]
abbrev dktX3_isFree_9 : List UInt8 := dkwX3_isFree_9 ++ dktX3_isFree_10
def dkwX3_isFree_8 : List UInt8 := [7, 182, 1, 29, 42, 21, 10, 16, 6, 182, 1, 29, 42, 27, 6, 182, 1, 29, 42, 27, 7, 182, 1, 29]
abbrev dktX3_isFree_8 : List UInt8 := dkwX3_isFree_8 ++ dktX3_isFree_9
def dkwX3_isFree_7 : List UInt8 := [182, 1, 29, 42, 27, 5, 182, 1, 29, 160, 0, 52, 42, 28, 42, 21, 10, 6, 182, 1, 29, 42, 21, 10]
abbrev dktX3_isFree_7 : List UInt8 := dkwX3_isFree_7 ++ dktX3_isFree_8
def dkwX3_isFree_6 : List UInt8 := [160, 0, 7, 4, 167, 0, 4, 3, 54, 11, 21, 9, 153, 0, 77, 21, 11, 153, 0, 68, 42, 21, 10, 5]
abbrev dktX3_isFree_6 : List UInt8 := dkwX3_isFree_6 ++ dktX3_isFree_7
def dkwX3_isFree_5 : List UInt8 := [160, 0, 7, 4, 167, 0, 27, 3, 167, 0, 23, 42, 180, 0, 60, 21, 10, 46, 5, 28, 104, 29, 96]
abbrev dktX3_isFree_5 : List UInt8 := dkwX3_isFree_5 ++ dktX3_isFree_6
def dkwX3_isFree_4 : List UInt8 := [160, 0, 29, 42, 21, 10, 3, 182, 1, 29, 28, 160, 0, 18, 42, 21, 10, 4, 182, 1, 29, 29]
abbrev dktX3_isFree_4 : List UInt8 := dkwX3_isFree_4 ++ dktX3_isFree_5
def dkwX3_isFree_3 : List UInt8 := [162, 0, 166, 42, 180, 1, 64, 21, 10, 122, 4, 126, 154, 0, 44, 21, 4, 21, 10, 122, 4, 126, 4]
abbrev dktX3_isFree_3 : List UInt8 := dkwX3_isFree_3 ++ dktX3_isFree_4
def dkwX3_isFree_2 : List UInt8 := [182, 1, 37, 154, 0, 7, 4, 167, 0, 4, 3, 54, 9, 3, 54, 10, 21, 10, 42, 180, 1, 12]
abbrev dktX3_isFree_2 : List UInt8 := dkwX3_isFree_2 ++ dktX3_isFree_3
def dkwX3_isFree_1 : List UInt8 := [42, 27, 6, 182, 1, 29, 42, 27, 7, 182, 1, 29, 42, 27, 16, 6, 182, 1, 29, 21, 7, 21, 8, 6]
abbrev dktX3_isFree_1 : List UInt8 := dkwX3_isFree_1 ++ dktX3_isFree_2
def dkwX3_isFree_0 : List UInt8 := [42, 27, 28, 29, 182, 1, 54, 153, 0, 51, 28, 21, 5, 160, 0, 41, 29, 21, 6, 160, 0, 35, 42, 28]
abbrev dktX3_isFree_0 : List UInt8 := dkwX3_isFree_0 ++ dktX3_isFree_1
theorem dksX3_isFree_0 : cX3_isFree.data.toList.drop 0 = dktX3_isFree_0 := by decide +kernel
theorem dksX3_isFree_1 : cX3_isFree.data.toList.drop 24 = dktX3_isFree_1 := dk_seg dksX3_isFree_0 24 rfl rfl
theorem dksX3_isFree_2 : cX3_isFree.data.toList.drop 48 = dktX3_isFree_2 := dk_seg dksX3_isFree_1 24 rfl rfl
theorem dksX3_isFree_3 : cX3_isFree.data.toList.drop 70 = dktX3_isFree_3 := dk_seg dksX3_isFree_2 22 rfl rfl
theorem dksX3_isFree_4 : cX3_isFree.data.toList.drop 93 = dktX3_isFree_4 := dk_seg dksX3_isFree_3 23 rfl rfl
theorem dksX3_isFree_5 : cX3_isFree.data.toList.drop 115 = dktX3_isFree_5 := dk_seg dksX3_isFree_4 22 rfl rfl
theorem dksX3_isFree_6 : cX3_isFree.data.toList.drop 138 = dktX3_isFree_6 := dk_seg dksX3_isFree_5 23 rfl rfl
theorem dksX3_isFree_7 : cX3_isFree.data.toList.drop 162 = dktX3_isFree_7 := dk_seg dksX3_isFree_6 24 rfl rfl
theorem dksX3_isFree_8 : cX3_isFree.data.toList.drop 186 = dktX3_isFree_8 := dk_seg dksX3_isFree_7 24 rfl rfl
theorem dksX3_isFree_9 : cX3_isFree.data.toList.drop 210 = dktX3_isFree_9 := dk_seg dksX3_isFree_8 24 rfl rfl
theorem dksX3_isFree_10 : cX3_isFree.data.toList.drop 233 = dktX3_isFree_10 := dk_seg dksX3_isFree_9 23 rfl rfl
theorem dX3_isFree_0 : decode cX3_isFree 0 = .ok (.aload_n 0, 1) := dk_42 (dk_at dksX3_isFree_0 0 rfl rfl)
theorem dX3_isFree_1 : decode cX3_isFree 1 = .ok (.iload_n 1, 1) := dk_27 (dk_at dksX3_isFree_0 1 rfl rfl)
theorem dX3_isFree_2 : decode cX3_isFree 2 = .ok (.iload_n 2, 1) := dk_28 (dk_at dksX3_isFree_0 2 rfl rfl)
theorem dX3_isFree_3 : decode cX3_isFree 3 = .ok (.iload_n 3, 1) := dk_29 (dk_at dksX3_isFree_0 3 rfl rfl)
theorem dX3_isFree_4 : decode cX3_isFree 4 = .ok (.invokevirtual 310, 3) := dk_182 1 54 (dk_at dksX3_isFree_0 4 rfl rfl)
theorem dX3_isFree_7 : decode cX3_isFree 7 = .ok (.ifCond .eq 51, 3) := dk_153 0 51 (dk_at dksX3_isFree_0 7 rfl rfl)
theorem dX3_isFree_10 : decode cX3_isFree 10 = .ok (.iload_n 2, 1) := dk_28 (dk_at dksX3_isFree_0 10 rfl rfl)
theorem dX3_isFree_11 : decode cX3_isFree 11 = .ok (.iload 5, 2) := dk_21 5 (dk_at dksX3_isFree_0 11 rfl rfl)
theorem dX3_isFree_13 : decode cX3_isFree 13 = .ok (.if_icmp .ne 41, 3) := dk_160 0 41 (dk_at dksX3_isFree_0 13 rfl rfl)
theorem dX3_isFree_16 : decode cX3_isFree 16 = .ok (.iload_n 3, 1) := dk_29 (dk_at dksX3_isFree_0 16 rfl rfl)
theorem dX3_isFree_17 : decode cX3_isFree 17 = .ok (.iload 6, 2) := dk_21 6 (dk_at dksX3_isFree_0 17 rfl rfl)
theorem dX3_isFree_19 : decode cX3_isFree 19 = .ok (.if_icmp .ne 35, 3) := dk_160 0 35 (dk_at dksX3_isFree_0 19 rfl rfl)
theorem dX3_isFree_22 : decode cX3_isFree 22 = .ok (.aload_n 0, 1) := dk_42 (dk_at dksX3_isFree_0 22 rfl rfl)
theorem dX3_isFree_23 : decode cX3_isFree 23 = .ok (.iload_n 2, 1) := dk_28 (dk_at dksX3_isFree_0 23 rfl rfl)
theorem dX3_isFree_24 : decode cX3_isFree 24 = .ok (.aload_n 0, 1) := dk_42 (dk_at dksX3_isFree_1 0 rfl rfl)
theorem dX3_isFree_25 : decode cX3_isFree 25 = .ok (.iload_n 1, 1) := dk_27 (dk_at dksX3_isFree_1 1 rfl rfl)
theorem dX3_isFree_26 : decode cX3_isFree 26 = .ok (.iconst 3, 1) := dk_6 (dk_at dksX3_isFree_1 2 rfl rfl)
theorem dX3_isFree_27 : decode cX3_isFree 27 = .ok (.invokevirtual 285, 3) := dk_182 1 29 (dk_at dksX3_isFree_1 3 rfl rfl)
theorem dX3_isFree_30 : decode cX3_isFree 30 = .ok (.aload_n 0, 1) := dk_42 (dk_at dksX3_isFree_1 6 rfl rfl)
theorem dX3_isFree_31 : decode cX3_isFree 31 = .ok (.iload_n 1, 1) := dk_27 (dk_at dksX3_isFree_1 7 rfl rfl)
theorem dX3_isFree_32 : decode cX3_isFree 32 = .ok (.iconst 4, 1) := dk_7 (dk_at dksX3_isFree_1 8 rfl rfl)
theorem dX3_isFree_33 : decode cX3_isFree 33 = .ok (.invokevirtual 285, 3) := dk_182 1 29 (dk_at dksX3_isFree_1 9 rfl rfl)
theorem dX3_isFree_36 : decode cX3_isFree 36 = .ok (.aload_n 0, 1) := dk_42 (dk_at dksX3_isFree_1 12 rfl rfl)
theorem dX3_isFree_37 : decode cX3_isFree 37 = .ok (.iload_n 1, 1) := dk_27 (dk_at dksX3_isFree_1 13 rfl rfl)
theorem dX3_isFree_38 : decode cX3_isFree 38 = .ok (.bipush 6, 2) := dk_16 6 (dk_at dksX3_isFree_1 14 rfl rfl)
theorem dX3_isFree_40 : decode cX3_isFree 40 = .ok (.invokevirtual 285, 3) := dk_182 1 29 (dk_at dksX3_isFree_1 16 rfl rfl)
theorem dX3_isFree_43 : decode cX3_isFree 43 = .ok (.iload 7, 2) := dk_21 7 (dk_at dksX3_isFree_1 19 rfl rfl)
theorem dX3_isFree_45 : decode cX3_isFree 45 = .ok (.iload 8, 2) := dk_21 8 (dk_at dksX3_isFree_1 21 rfl rfl)
theorem dX3_isFree_47 : decode cX3_isFree 47 = .ok (.iconst 3, 1) := dk_6 (dk_at dksX3_isFree_1 23 rfl rfl)
theorem dX3_isFree_48 : decode cX3_isFree 48 = .ok (.invokevirtual 293, 3) := dk_182 1 37 (dk_at dksX3_isFree_2 0 rfl rfl)
theorem dX3_isFree_51 : decode cX3_isFree 51 = .ok (.ifCond .ne 7, 3) := dk_154 0 7 (dk_at dksX3_isFree_2 3 rfl rfl)
theorem dX3_isFree_54 : decode cX3_isFree 54 = .ok (.iconst 1, 1) := dk_4 (dk_at dksX3_isFree_2 6 rfl rfl)
theorem dX3_isFree_55 : decode cX3_isFree 55 = .ok (.goto 4, 3) := dk_167 0 4 (dk_at dksX3_isFree_2 7 rfl rfl)
theorem dX3_isFree_58 : decode cX3_isFree 58 = .ok (.iconst 0, 1) := dk_3 (dk_at dksX3_isFree_2 10 rfl rfl)
theorem dX3_isFree_59 : decode cX3_isFree 59 = .ok (.istore 9, 2) := dk_54 9 (dk_at dksX3_isFree_2 11 rfl rfl)
theorem dX3_isFree_61 : decode cX3_isFree 61 = .ok (.iconst 0, 1) := dk_3 (dk_at dksX3_isFree_2 13 rfl rfl)
theorem dX3_isFree_62 : decode cX3_isFree 62 = .ok (.istore 10, 2) := dk_54 10 (dk_at dksX3_isFree_2 14 rfl rfl)
theorem dX3_isFree_64 : decode cX3_isFree 64 = .ok (.iload 10, 2) := dk_21 10 (dk_at dksX3_isFree_2 16 rfl rfl)
theorem dX3_isFree_66 : decode cX3_isFree 66 = .ok (.aload_n 0, 1) := dk_42 (dk_at dksX3_isFree_2 18 rfl rfl)
theorem dX3_isFree_67 : decode cX3_isFree 67 = .ok (.getfield 268, 3) := dk_180 1 12 (dk_at dksX3_isFree_2 19 rfl rfl)
theorem dX3_isFree_70 : decode cX3_isFree 70 = .ok (.if_icmp .ge 166, 3) := dk_162 0 166 (dk_at dksX3_isFree_3 0 rfl rfl)
theorem dX3_isFree_73 : decode cX3_isFree 73 = .ok (.aload_n 0, 1) := dk_42 (dk_at dksX3_isFree_3 3 rfl rfl)
theorem dX3_isFree_74 : decode cX3_isFree 74 = .ok (.getfield 320, 3) := dk_180 1 64 (dk_at dksX3_isFree_3 4 rfl rfl)
theorem dX3_isFree_77 : decode cX3_isFree 77 = .ok (.iload 10, 2) := dk_21 10 (dk_at dksX3_isFree_3 7 rfl rfl)
theorem dX3_isFree_79 : decode cX3_isFree 79 = .ok (.ishr, 1) := dk_122 (dk_at dksX3_isFree_3 9 rfl rfl)
theorem dX3_isFree_80 : decode cX3_isFree 80 = .ok (.iconst 1, 1) := dk_4 (dk_at dksX3_isFree_3 10 rfl rfl)
theorem dX3_isFree_81 : decode cX3_isFree 81 = .ok (.iand, 1) := dk_126 (dk_at dksX3_isFree_3 11 rfl rfl)
theorem dX3_isFree_82 : decode cX3_isFree 82 = .ok (.ifCond .ne 44, 3) := dk_154 0 44 (dk_at dksX3_isFree_3 12 rfl rfl)
theorem dX3_isFree_85 : decode cX3_isFree 85 = .ok (.iload 4, 2) := dk_21 4 (dk_at dksX3_isFree_3 15 rfl rfl)
theorem dX3_isFree_87 : decode cX3_isFree 87 = .ok (.iload 10, 2) := dk_21 10 (dk_at dksX3_isFree_3 17 rfl rfl)
theorem dX3_isFree_89 : decode cX3_isFree 89 = .ok (.ishr, 1) := dk_122 (dk_at dksX3_isFree_3 19 rfl rfl)
theorem dX3_isFree_90 : decode cX3_isFree 90 = .ok (.iconst 1, 1) := dk_4 (dk_at dksX3_isFree_3 20 rfl rfl)
theorem dX3_isFree_91 : decode cX3_isFree 91 = .ok (.iand, 1) := dk_126 (dk_at dksX3_isFree_3 21 rfl rfl)
theorem dX3_isFree_92 : decode cX3_isFree 92 = .ok (.iconst 1, 1) := dk_4 (dk_at dksX3_isFree_3 22 rfl rfl)
theorem dX3_isFree_93 : decode cX3_isFree 93 = .ok (.if_icmp .ne 29, 3) := dk_160 0 29 (dk_at dksX3_isFree_4 0 rfl rfl)
theorem dX3_isFree_96 : decode cX3_isFree 96 = .ok (.aload_n 0, 1) := dk_42 (dk_at dksX3_isFree_4 3 rfl rfl)
theorem dX3_isFree_97 : decode cX3_isFree 97 = .ok (.iload 10, 2) := dk_21 10 (dk_at dksX3_isFree_4 4 rfl rfl)
theorem dX3_isFree_99 : decode cX3_isFree 99 = .ok (.iconst 0, 1) := dk_3 (dk_at dksX3_isFree_4 6 rfl rfl)
theorem dX3_isFree_100 : decode cX3_isFree 100 = .ok (.invokevirtual 285, 3) := dk_182 1 29 (dk_at dksX3_isFree_4 7 rfl rfl)
theorem dX3_isFree_103 : decode cX3_isFree 103 = .ok (.iload_n 2, 1) := dk_28 (dk_at dksX3_isFree_4 10 rfl rfl)
theorem dX3_isFree_104 : decode cX3_isFree 104 = .ok (.if_icmp .ne 18, 3) := dk_160 0 18 (dk_at dksX3_isFree_4 11 rfl rfl)
theorem dX3_isFree_107 : decode cX3_isFree 107 = .ok (.aload_n 0, 1) := dk_42 (dk_at dksX3_isFree_4 14 rfl rfl)
theorem dX3_isFree_108 : decode cX3_isFree 108 = .ok (.iload 10, 2) := dk_21 10 (dk_at dksX3_isFree_4 15 rfl rfl)
theorem dX3_isFree_110 : decode cX3_isFree 110 = .ok (.iconst 1, 1) := dk_4 (dk_at dksX3_isFree_4 17 rfl rfl)
theorem dX3_isFree_111 : decode cX3_isFree 111 = .ok (.invokevirtual 285, 3) := dk_182 1 29 (dk_at dksX3_isFree_4 18 rfl rfl)
theorem dX3_isFree_114 : decode cX3_isFree 114 = .ok (.iload_n 3, 1) := dk_29 (dk_at dksX3_isFree_4 21 rfl rfl)
theorem dX3_isFree_115 : decode cX3_isFree 115 = .ok (.if_icmp .ne 7, 3) := dk_160 0 7 (dk_at dksX3_isFree_5 0 rfl rfl)
theorem dX3_isFree_118 : decode cX3_isFree 118 = .ok (.iconst 1, 1) := dk_4 (dk_at dksX3_isFree_5 3 rfl rfl)
theorem dX3_isFree_119 : decode cX3_isFree 119 = .ok (.goto 27, 3) := dk_167 0 27 (dk_at dksX3_isFree_5 4 rfl rfl)
theorem dX3_isFree_122 : decode cX3_isFree 122 = .ok (.iconst 0, 1) := dk_3 (dk_at dksX3_isFree_5 7 rfl rfl)
theorem dX3_isFree_123 : decode cX3_isFree 123 = .ok (.goto 23, 3) := dk_167 0 23 (dk_at dksX3_isFree_5 8 rfl rfl)
theorem dX3_isFree_126 : decode cX3_isFree 126 = .ok (.aload_n 0, 1) := dk_42 (dk_at dksX3_isFree_5 11 rfl rfl)
theorem dX3_isFree_127 : decode cX3_isFree 127 = .ok (.getfield 60, 3) := dk_180 0 60 (dk_at dksX3_isFree_5 12 rfl rfl)
theorem dX3_isFree_130 : decode cX3_isFree 130 = .ok (.iload 10, 2) := dk_21 10 (dk_at dksX3_isFree_5 15 rfl rfl)
theorem dX3_isFree_132 : decode cX3_isFree 132 = .ok (.iaload, 1) := dk_46 (dk_at dksX3_isFree_5 17 rfl rfl)
theorem dX3_isFree_133 : decode cX3_isFree 133 = .ok (.iconst 2, 1) := dk_5 (dk_at dksX3_isFree_5 18 rfl rfl)
theorem dX3_isFree_134 : decode cX3_isFree 134 = .ok (.iload_n 2, 1) := dk_28 (dk_at dksX3_isFree_5 19 rfl rfl)
theorem dX3_isFree_135 : decode cX3_isFree 135 = .ok (.imul, 1) := dk_104 (dk_at dksX3_isFree_5 20 rfl rfl)
theorem dX3_isFree_136 : decode cX3_isFree 136 = .ok (.iload_n 3, 1) := dk_29 (dk_at dksX3_isFree_5 21 rfl rfl)
theorem dX3_isFree_137 : decode cX3_isFree 137 = .ok (.iadd, 1) := dk_96 (dk_at dksX3_isFree_5 22 rfl rfl)
theorem dX3_isFree_138 : decode cX3_isFree 138 = .ok (.if_icmp .ne 7, 3) := dk_160 0 7 (dk_at dksX3_isFree_6 0 rfl rfl)
theorem dX3_isFree_141 : decode cX3_isFree 141 = .ok (.iconst 1, 1) := dk_4 (dk_at dksX3_isFree_6 3 rfl rfl)
theorem dX3_isFree_142 : decode cX3_isFree 142 = .ok (.goto 4, 3) := dk_167 0 4 (dk_at dksX3_isFree_6 4 rfl rfl)
theorem dX3_isFree_145 : decode cX3_isFree 145 = .ok (.iconst 0, 1) := dk_3 (dk_at dksX3_isFree_6 7 rfl rfl)
theorem dX3_isFree_146 : decode cX3_isFree 146 = .ok (.istore 11, 2) := dk_54 11 (dk_at dksX3_isFree_6 8 rfl rfl)
theorem dX3_isFree_148 : decode cX3_isFree 148 = .ok (.iload 9, 2) := dk_21 9 (dk_at dksX3_isFree_6 10 rfl rfl)
theorem dX3_isFree_150 : decode cX3_isFree 150 = .ok (.ifCond .eq 77, 3) := dk_153 0 77 (dk_at dksX3_isFree_6 12 rfl rfl)
theorem dX3_isFree_153 : decode cX3_isFree 153 = .ok (.iload 11, 2) := dk_21 11 (dk_at dksX3_isFree_6 15 rfl rfl)
theorem dX3_isFree_155 : decode cX3_isFree 155 = .ok (.ifCond .eq 68, 3) := dk_153 0 68 (dk_at dksX3_isFree_6 17 rfl rfl)
theorem dX3_isFree_158 : decode cX3_isFree 158 = .ok (.aload_n 0, 1) := dk_42 (dk_at dksX3_isFree_6 20 rfl rfl)
theorem dX3_isFree_159 : decode cX3_isFree 159 = .ok (.iload 10, 2) := dk_21 10 (dk_at dksX3_isFree_6 21 rfl rfl)
theorem dX3_isFree_161 : decode cX3_isFree 161 = .ok (.iconst 2, 1) := dk_5 (dk_at dksX3_isFree_6 23 rfl rfl)
theorem dX3_isFree_162 : decode cX3_isFree 162 = .ok (.invokevirtual 285, 3) := dk_182 1 29 (dk_at dksX3_isFree_7 0 rfl rfl)
theorem dX3_isFree_165 : decode cX3_isFree 165 = .ok (.aload_n 0, 1) := dk_42 (dk_at dksX3_isFree_7 3 rfl rfl)
theorem dX3_isFree_166 : decode cX3_isFree 166 = .ok (.iload_n 1, 1) := dk_27 (dk_at dksX3_isFree_7 4 rfl rfl)
theorem dX3_isFree_167 : decode cX3_isFree 167 = .ok (.iconst 2, 1) := dk_5 (dk_at dksX3_isFree_7 5 rfl rfl)
theorem dX3_isFree_168 : decode cX3_isFree 168 = .ok (.invokevirtual 285, 3) := dk_182 1 29 (dk_at dksX3_isFree_7 6 rfl rfl)
theorem dX3_isFree_171 : decode cX3_isFree 171 = .ok (.if_icmp .ne 52, 3) := dk_160 0 52 (dk_at dksX3_isFree_7 9 rfl rfl)
theorem dX3_isFree_174 : decode cX3_isFree 174 = .ok (.aload_n 0, 1) := dk_42 (dk_at dksX3_isFree_7 12 rfl rfl)
theorem dX3_isFree_175 : decode cX3_isFree 175 = .ok (.iload_n 2, 1) := dk_28 (dk_at dksX3_isFree_7 13 rfl rfl)
theorem dX3_isFree_176 : decode cX3_isFree 176 = .ok (.aload_n 0, 1) := dk_42 (dk_at dksX3_isFree_7 14 rfl rfl)
theorem dX3_isFree_177 : decode cX3_isFree 177 = .ok (.iload 10, 2) := dk_21 10 (dk_at dksX3_isFree_7 15 rfl rfl)
theorem dX3_isFree_179 : decode cX3_isFree 179 = .ok (.iconst 3, 1) := dk_6 (dk_at dksX3_isFree_7 17 rfl rfl)
theorem dX3_isFree_180 : decode cX3_isFree 180 = .ok (.invokevirtual 285, 3) := dk_182 1 29 (dk_at dksX3_isFree_7 18 rfl rfl)
theorem dX3_isFree_183 : decode cX3_isFree 183 = .ok (.aload_n 0, 1) := dk_42 (dk_at dksX3_isFree_7 21 rfl rfl)
theorem dX3_isFree_184 : decode cX3_isFree 184 = .ok (.iload 10, 2) := dk_21 10 (dk_at dksX3_isFree_7 22 rfl rfl)
theorem dX3_isFree_186 : decode cX3_isFree 186 = .ok (.iconst 4, 1) := dk_7 (dk_at dksX3_isFree_8 0 rfl rfl)
theorem dX3_isFree_187 : decode cX3_isFree 187 = .ok (.invokevirtual 285, 3) := dk_182 1 29 (dk_at dksX3_isFree_8 1 rfl rfl)
theorem dX3_isFree_190 : decode cX3_isFree 190 = .ok (.aload_n 0, 1) := dk_42 (dk_at dksX3_isFree_8 4 rfl rfl)
theorem dX3_isFree_191 : decode cX3_isFree 191 = .ok (.iload 10, 2) := dk_21 10 (dk_at dksX3_isFree_8 5 rfl rfl)
theorem dX3_isFree_193 : decode cX3_isFree 193 = .ok (.bipush 6, 2) := dk_16 6 (dk_at dksX3_isFree_8 7 rfl rfl)
theorem dX3_isFree_195 : decode cX3_isFree 195 = .ok (.invokevirtual 285, 3) := dk_182 1 29 (dk_at dksX3_isFree_8 9 rfl rfl)
theorem dX3_isFree_198 : decode cX3_isFree 198 = .ok (.aload_n 0, 1) := dk_42 (dk_at dksX3_isFree_8 12 rfl rfl)
theorem dX3_isFree_199 : decode cX3_isFree 199 = .ok (.iload_n 1, 1) := dk_27 (dk_at dksX3_isFree_8 13 rfl rfl)
theorem dX3_isFree_200 : decode cX3_isFree 200 = .ok (.iconst 3, 1) := dk_6 (dk_at dksX3_isFree_8 14 rfl rfl)
theorem dX3_isFree_201 : decode cX3_isFree 201 = .ok (.invokevirtual 285, 3) := dk_182 1 29 (dk_at dksX3_isFree_8 15 rfl rfl)
theorem dX3_isFree_204 : decode cX3_isFree 204 = .ok (.aload_n 0, 1) := dk_42 (dk_at dksX3_isFree_8 18 rfl rfl)
theorem dX3_isFree_205 : decode cX3_isFree 205 = .ok (.iload_n 1, 1) := dk_27 (dk_at dksX3_isFree_8 19 rfl rfl)
theorem dX3_isFree_206 : decode cX3_isFree 206 = .ok (.iconst 4, 1) := dk_7 (dk_at dksX3_isFree_8 20 rfl rfl)
theorem dX3_isFree_207 : decode cX3_isFree 207 = .ok (.invokevirtual 285, 3) := dk_182 1 29 (dk_at dksX3_isFree_8 21 rfl rfl)
theorem dX3_isFree_210 : decode cX3_isFree 210 = .ok (.aload_n 0, 1) := dk_42 (dk_at dksX3_isFree_9 0 rfl rfl)
theorem dX3_isFree_211 : decode cX3_isFree 211 = .ok (.iload_n 1, 1) := dk_27 (dk_at dksX3_isFree_9 1 rfl rfl)
theorem dX3_isFree_212 : decode cX3_isFree 212 = .ok (.bipush 6, 2) := dk_16 6 (dk_at dksX3_isFree_9 2 rfl rfl)
theorem dX3_isFree_214 : decode cX3_isFree 214 = .ok (.invokevirtual 285, 3) := dk_182 1 29 (dk_at dksX3_isFree_9 4 rfl rfl)
theorem dX3_isFree_217 : decode cX3_isFree 217 = .ok (.invokevirtual 293, 3) := dk_182 1 37 (dk_at dksX3_isFree_9 7 rfl rfl)
theorem dX3_isFree_220 : decode cX3_isFree 220 = .ok (.ifCond .ne 7, 3) := dk_154 0 7 (dk_at dksX3_isFree_9 10 rfl rfl)
theorem dX3_isFree_223 : decode cX3_isFree 223 = .ok (.iconst 1, 1) := dk_4 (dk_at dksX3_isFree_9 13 rfl rfl)
theorem dX3_isFree_224 : decode cX3_isFree 224 = .ok (.goto 4, 3) := dk_167 0 4 (dk_at dksX3_isFree_9 14 rfl rfl)
theorem dX3_isFree_227 : decode cX3_isFree 227 = .ok (.iconst 0, 1) := dk_3 (dk_at dksX3_isFree_9 17 rfl rfl)
theorem dX3_isFree_228 : decode cX3_isFree 228 = .ok (.istore 9, 2) := dk_54 9 (dk_at dksX3_isFree_9 18 rfl rfl)
theorem dX3_isFree_230 : decode cX3_isFree 230 = .ok (.iinc 10 1, 3) := dk_132 10 1 (dk_at dksX3_isFree_9 20 rfl rfl)
theorem dX3_isFree_233 : decode cX3_isFree 233 = .ok (.goto (-169), 3) := dk_167 255 87 (dk_at dksX3_isFree_10 0 rfl rfl)
theorem dX3_isFree_236 : decode cX3_isFree 236 = .ok (.iload 9, 2) := dk_21 9 (dk_at dksX3_isFree_10 3 rfl rfl)
theorem dX3_isFree_238 : decode cX3_isFree 238 = .ok (.ireturn, 1) := dk_172 (dk_at dksX3_isFree_10 5 rfl rfl)
abbrev cX3_coin : ByteArray := prog_19_method_50_code
def yX3_coin : MethodName := ⟨RX3, "coin", "(IIII)I"⟩
def dkwX3_coin_4 : List UInt8 := [79, 42, 89, 180, 1, 84, 4, 96, 181, 1, 84, 42, 180, 1, 84, 172]
abbrev dktX3_coin_4 : List UInt8 := dkwX3_coin_4 ++ []
def dkwX3_coin_3 : List UInt8 := [180, 0, 66, 42, 180, 1, 84, 16, 96, 28, 104, 29, 96, 79, 42, 180, 0, 69, 42, 180, 1, 84, 21, 4]
abbrev dktX3_coin_3 : List UInt8 := dkwX3_coin_3 ++ dktX3_coin_4
def dkwX3_coin_2 : List UInt8 := [172, 42, 180, 1, 84, 16, 40, 160, 0, 6, 18, 141, 172, 42, 180, 0, 63, 42, 180, 1, 84, 27, 79, 42]
abbrev dktX3_coin_2 : List UInt8 := dkwX3_coin_2 ++ dktX3_coin_3
def dkwX3_coin_1 : List UInt8 := [20, 1, 20, 184, 0, 121, 153, 0, 16, 21, 4, 133, 10, 20, 1, 82, 184, 0, 121, 154, 0, 6, 18, 131]
abbrev dktX3_coin_1 : List UInt8 := dkwX3_coin_1 ++ dktX3_coin_2
def dkwX3_coin_0 : List UInt8 := [42, 3, 181, 0, 111, 27, 184, 0, 251, 153, 0, 35, 28, 184, 1, 17, 153, 0, 28, 29, 133, 9]
abbrev dktX3_coin_0 : List UInt8 := dkwX3_coin_0 ++ dktX3_coin_1
theorem dksX3_coin_0 : cX3_coin.data.toList.drop 0 = dktX3_coin_0 := by decide +kernel
theorem dksX3_coin_1 : cX3_coin.data.toList.drop 22 = dktX3_coin_1 := dk_seg dksX3_coin_0 22 rfl rfl
theorem dksX3_coin_2 : cX3_coin.data.toList.drop 46 = dktX3_coin_2 := dk_seg dksX3_coin_1 24 rfl rfl
theorem dksX3_coin_3 : cX3_coin.data.toList.drop 70 = dktX3_coin_3 := dk_seg dksX3_coin_2 24 rfl rfl
theorem dksX3_coin_4 : cX3_coin.data.toList.drop 94 = dktX3_coin_4 := dk_seg dksX3_coin_3 24 rfl rfl
theorem dX3_coin_0 : decode cX3_coin 0 = .ok (.aload_n 0, 1) := dk_42 (dk_at dksX3_coin_0 0 rfl rfl)
theorem dX3_coin_1 : decode cX3_coin 1 = .ok (.iconst 0, 1) := dk_3 (dk_at dksX3_coin_0 1 rfl rfl)
theorem dX3_coin_2 : decode cX3_coin 2 = .ok (.putfield 111, 3) := dk_181 0 111 (dk_at dksX3_coin_0 2 rfl rfl)
theorem dX3_coin_5 : decode cX3_coin 5 = .ok (.iload_n 1, 1) := dk_27 (dk_at dksX3_coin_0 5 rfl rfl)
theorem dX3_coin_6 : decode cX3_coin 6 = .ok (.invokestatic 251, 3) := dk_184 0 251 (dk_at dksX3_coin_0 6 rfl rfl)
theorem dX3_coin_9 : decode cX3_coin 9 = .ok (.ifCond .eq 35, 3) := dk_153 0 35 (dk_at dksX3_coin_0 9 rfl rfl)
theorem dX3_coin_12 : decode cX3_coin 12 = .ok (.iload_n 2, 1) := dk_28 (dk_at dksX3_coin_0 12 rfl rfl)
theorem dX3_coin_13 : decode cX3_coin 13 = .ok (.invokestatic 273, 3) := dk_184 1 17 (dk_at dksX3_coin_0 13 rfl rfl)
theorem dX3_coin_16 : decode cX3_coin 16 = .ok (.ifCond .eq 28, 3) := dk_153 0 28 (dk_at dksX3_coin_0 16 rfl rfl)
theorem dX3_coin_19 : decode cX3_coin 19 = .ok (.iload_n 3, 1) := dk_29 (dk_at dksX3_coin_0 19 rfl rfl)
theorem dX3_coin_20 : decode cX3_coin 20 = .ok (.i2l, 1) := dk_133 (dk_at dksX3_coin_0 20 rfl rfl)
theorem dX3_coin_21 : decode cX3_coin 21 = .ok (.lconst 0, 1) := dk_9 (dk_at dksX3_coin_0 21 rfl rfl)
theorem dX3_coin_22 : decode cX3_coin 22 = .ok (.ldc2_w 276, 3) := dk_20 1 20 (dk_at dksX3_coin_1 0 rfl rfl)
theorem dX3_coin_25 : decode cX3_coin 25 = .ok (.invokestatic 121, 3) := dk_184 0 121 (dk_at dksX3_coin_1 3 rfl rfl)
theorem dX3_coin_28 : decode cX3_coin 28 = .ok (.ifCond .eq 16, 3) := dk_153 0 16 (dk_at dksX3_coin_1 6 rfl rfl)
theorem dX3_coin_31 : decode cX3_coin 31 = .ok (.iload 4, 2) := dk_21 4 (dk_at dksX3_coin_1 9 rfl rfl)
theorem dX3_coin_33 : decode cX3_coin 33 = .ok (.i2l, 1) := dk_133 (dk_at dksX3_coin_1 11 rfl rfl)
theorem dX3_coin_34 : decode cX3_coin 34 = .ok (.lconst 1, 1) := dk_10 (dk_at dksX3_coin_1 12 rfl rfl)
theorem dX3_coin_35 : decode cX3_coin 35 = .ok (.ldc2_w 338, 3) := dk_20 1 82 (dk_at dksX3_coin_1 13 rfl rfl)
theorem dX3_coin_38 : decode cX3_coin 38 = .ok (.invokestatic 121, 3) := dk_184 0 121 (dk_at dksX3_coin_1 16 rfl rfl)
theorem dX3_coin_41 : decode cX3_coin 41 = .ok (.ifCond .ne 6, 3) := dk_154 0 6 (dk_at dksX3_coin_1 19 rfl rfl)
theorem dX3_coin_44 : decode cX3_coin 44 = .ok (.ldc 131, 2) := dk_18 131 (dk_at dksX3_coin_1 22 rfl rfl)
theorem dX3_coin_46 : decode cX3_coin 46 = .ok (.ireturn, 1) := dk_172 (dk_at dksX3_coin_2 0 rfl rfl)
theorem dX3_coin_47 : decode cX3_coin 47 = .ok (.aload_n 0, 1) := dk_42 (dk_at dksX3_coin_2 1 rfl rfl)
theorem dX3_coin_48 : decode cX3_coin 48 = .ok (.getfield 340, 3) := dk_180 1 84 (dk_at dksX3_coin_2 2 rfl rfl)
theorem dX3_coin_51 : decode cX3_coin 51 = .ok (.bipush 40, 2) := dk_16 40 (dk_at dksX3_coin_2 5 rfl rfl)
theorem dX3_coin_53 : decode cX3_coin 53 = .ok (.if_icmp .ne 6, 3) := dk_160 0 6 (dk_at dksX3_coin_2 7 rfl rfl)
theorem dX3_coin_56 : decode cX3_coin 56 = .ok (.ldc 141, 2) := dk_18 141 (dk_at dksX3_coin_2 10 rfl rfl)
theorem dX3_coin_58 : decode cX3_coin 58 = .ok (.ireturn, 1) := dk_172 (dk_at dksX3_coin_2 12 rfl rfl)
theorem dX3_coin_59 : decode cX3_coin 59 = .ok (.aload_n 0, 1) := dk_42 (dk_at dksX3_coin_2 13 rfl rfl)
theorem dX3_coin_60 : decode cX3_coin 60 = .ok (.getfield 63, 3) := dk_180 0 63 (dk_at dksX3_coin_2 14 rfl rfl)
theorem dX3_coin_63 : decode cX3_coin 63 = .ok (.aload_n 0, 1) := dk_42 (dk_at dksX3_coin_2 17 rfl rfl)
theorem dX3_coin_64 : decode cX3_coin 64 = .ok (.getfield 340, 3) := dk_180 1 84 (dk_at dksX3_coin_2 18 rfl rfl)
theorem dX3_coin_67 : decode cX3_coin 67 = .ok (.iload_n 1, 1) := dk_27 (dk_at dksX3_coin_2 21 rfl rfl)
theorem dX3_coin_68 : decode cX3_coin 68 = .ok (.iastore, 1) := dk_79 (dk_at dksX3_coin_2 22 rfl rfl)
theorem dX3_coin_69 : decode cX3_coin 69 = .ok (.aload_n 0, 1) := dk_42 (dk_at dksX3_coin_2 23 rfl rfl)
theorem dX3_coin_70 : decode cX3_coin 70 = .ok (.getfield 66, 3) := dk_180 0 66 (dk_at dksX3_coin_3 0 rfl rfl)
theorem dX3_coin_73 : decode cX3_coin 73 = .ok (.aload_n 0, 1) := dk_42 (dk_at dksX3_coin_3 3 rfl rfl)
theorem dX3_coin_74 : decode cX3_coin 74 = .ok (.getfield 340, 3) := dk_180 1 84 (dk_at dksX3_coin_3 4 rfl rfl)
theorem dX3_coin_77 : decode cX3_coin 77 = .ok (.bipush 96, 2) := dk_16 96 (dk_at dksX3_coin_3 7 rfl rfl)
theorem dX3_coin_79 : decode cX3_coin 79 = .ok (.iload_n 2, 1) := dk_28 (dk_at dksX3_coin_3 9 rfl rfl)
theorem dX3_coin_80 : decode cX3_coin 80 = .ok (.imul, 1) := dk_104 (dk_at dksX3_coin_3 10 rfl rfl)
theorem dX3_coin_81 : decode cX3_coin 81 = .ok (.iload_n 3, 1) := dk_29 (dk_at dksX3_coin_3 11 rfl rfl)
theorem dX3_coin_82 : decode cX3_coin 82 = .ok (.iadd, 1) := dk_96 (dk_at dksX3_coin_3 12 rfl rfl)
theorem dX3_coin_83 : decode cX3_coin 83 = .ok (.iastore, 1) := dk_79 (dk_at dksX3_coin_3 13 rfl rfl)
theorem dX3_coin_84 : decode cX3_coin 84 = .ok (.aload_n 0, 1) := dk_42 (dk_at dksX3_coin_3 14 rfl rfl)
theorem dX3_coin_85 : decode cX3_coin 85 = .ok (.getfield 69, 3) := dk_180 0 69 (dk_at dksX3_coin_3 15 rfl rfl)
theorem dX3_coin_88 : decode cX3_coin 88 = .ok (.aload_n 0, 1) := dk_42 (dk_at dksX3_coin_3 18 rfl rfl)
theorem dX3_coin_89 : decode cX3_coin 89 = .ok (.getfield 340, 3) := dk_180 1 84 (dk_at dksX3_coin_3 19 rfl rfl)
theorem dX3_coin_92 : decode cX3_coin 92 = .ok (.iload 4, 2) := dk_21 4 (dk_at dksX3_coin_3 22 rfl rfl)
theorem dX3_coin_94 : decode cX3_coin 94 = .ok (.iastore, 1) := dk_79 (dk_at dksX3_coin_4 0 rfl rfl)
theorem dX3_coin_95 : decode cX3_coin 95 = .ok (.aload_n 0, 1) := dk_42 (dk_at dksX3_coin_4 1 rfl rfl)
theorem dX3_coin_96 : decode cX3_coin 96 = .ok (.dup, 1) := dk_89 (dk_at dksX3_coin_4 2 rfl rfl)
theorem dX3_coin_97 : decode cX3_coin 97 = .ok (.getfield 340, 3) := dk_180 1 84 (dk_at dksX3_coin_4 3 rfl rfl)
theorem dX3_coin_100 : decode cX3_coin 100 = .ok (.iconst 1, 1) := dk_4 (dk_at dksX3_coin_4 6 rfl rfl)
theorem dX3_coin_101 : decode cX3_coin 101 = .ok (.iadd, 1) := dk_96 (dk_at dksX3_coin_4 7 rfl rfl)
theorem dX3_coin_102 : decode cX3_coin 102 = .ok (.putfield 340, 3) := dk_181 1 84 (dk_at dksX3_coin_4 8 rfl rfl)
theorem dX3_coin_105 : decode cX3_coin 105 = .ok (.aload_n 0, 1) := dk_42 (dk_at dksX3_coin_4 11 rfl rfl)
theorem dX3_coin_106 : decode cX3_coin 106 = .ok (.getfield 340, 3) := dk_180 1 84 (dk_at dksX3_coin_4 12 rfl rfl)
theorem dX3_coin_109 : decode cX3_coin 109 = .ok (.ireturn, 1) := dk_172 (dk_at dksX3_coin_4 15 rfl rfl)
abbrev cX3_run : ByteArray := prog_19_method_53_code
def yX3_run : MethodName := ⟨RX3, "run", "(III)I"⟩
def dkwX3_run_1 : List UInt8 := [182, 1, 90, 167, 0, 5, 18, 131, 172]
abbrev dktX3_run_1 : List UInt8 := dkwX3_run_1 ++ []
def dkwX3_run_0 : List UInt8 := [42, 3, 181, 0, 111, 27, 28, 29, 184, 1, 87, 153, 0, 17, 42, 27, 16, 96, 28, 104, 29, 96]
abbrev dktX3_run_0 : List UInt8 := dkwX3_run_0 ++ dktX3_run_1
theorem dksX3_run_0 : cX3_run.data.toList.drop 0 = dktX3_run_0 := by decide +kernel
theorem dksX3_run_1 : cX3_run.data.toList.drop 22 = dktX3_run_1 := dk_seg dksX3_run_0 22 rfl rfl
theorem dX3_run_0 : decode cX3_run 0 = .ok (.aload_n 0, 1) := dk_42 (dk_at dksX3_run_0 0 rfl rfl)
theorem dX3_run_1 : decode cX3_run 1 = .ok (.iconst 0, 1) := dk_3 (dk_at dksX3_run_0 1 rfl rfl)
theorem dX3_run_2 : decode cX3_run 2 = .ok (.putfield 111, 3) := dk_181 0 111 (dk_at dksX3_run_0 2 rfl rfl)
theorem dX3_run_5 : decode cX3_run 5 = .ok (.iload_n 1, 1) := dk_27 (dk_at dksX3_run_0 5 rfl rfl)
theorem dX3_run_6 : decode cX3_run 6 = .ok (.iload_n 2, 1) := dk_28 (dk_at dksX3_run_0 6 rfl rfl)
theorem dX3_run_7 : decode cX3_run 7 = .ok (.iload_n 3, 1) := dk_29 (dk_at dksX3_run_0 7 rfl rfl)
theorem dX3_run_8 : decode cX3_run 8 = .ok (.invokestatic 343, 3) := dk_184 1 87 (dk_at dksX3_run_0 8 rfl rfl)
theorem dX3_run_11 : decode cX3_run 11 = .ok (.ifCond .eq 17, 3) := dk_153 0 17 (dk_at dksX3_run_0 11 rfl rfl)
theorem dX3_run_14 : decode cX3_run 14 = .ok (.aload_n 0, 1) := dk_42 (dk_at dksX3_run_0 14 rfl rfl)
theorem dX3_run_15 : decode cX3_run 15 = .ok (.iload_n 1, 1) := dk_27 (dk_at dksX3_run_0 15 rfl rfl)
theorem dX3_run_16 : decode cX3_run 16 = .ok (.bipush 96, 2) := dk_16 96 (dk_at dksX3_run_0 16 rfl rfl)
theorem dX3_run_18 : decode cX3_run 18 = .ok (.iload_n 2, 1) := dk_28 (dk_at dksX3_run_0 18 rfl rfl)
theorem dX3_run_19 : decode cX3_run 19 = .ok (.imul, 1) := dk_104 (dk_at dksX3_run_0 19 rfl rfl)
theorem dX3_run_20 : decode cX3_run 20 = .ok (.iload_n 3, 1) := dk_29 (dk_at dksX3_run_0 20 rfl rfl)
theorem dX3_run_21 : decode cX3_run 21 = .ok (.iadd, 1) := dk_96 (dk_at dksX3_run_0 21 rfl rfl)
theorem dX3_run_22 : decode cX3_run 22 = .ok (.invokevirtual 346, 3) := dk_182 1 90 (dk_at dksX3_run_1 0 rfl rfl)
theorem dX3_run_25 : decode cX3_run 25 = .ok (.goto 5, 3) := dk_167 0 5 (dk_at dksX3_run_1 3 rfl rfl)
theorem dX3_run_28 : decode cX3_run 28 = .ok (.ldc 131, 2) := dk_18 131 (dk_at dksX3_run_1 6 rfl rfl)
theorem dX3_run_30 : decode cX3_run 30 = .ok (.ireturn, 1) := dk_172 (dk_at dksX3_run_1 8 rfl rfl)
abbrev cX3_isTime : ByteArray := prog_19_method_52_code
def yX3_isTime : MethodName := ⟨RX3, "isTime", "(III)Z"⟩
def dkwX3_isTime_1 : List UInt8 := [153, 0, 7, 4, 167, 0, 4, 3, 172]
abbrev dktX3_isTime_1 : List UInt8 := dkwX3_isTime_1 ++ []
def dkwX3_isTime_0 : List UInt8 := [26, 184, 0, 251, 153, 0, 26, 27, 184, 1, 17, 153, 0, 19, 28, 133, 9, 20, 1, 22, 184, 0, 121]
abbrev dktX3_isTime_0 : List UInt8 := dkwX3_isTime_0 ++ dktX3_isTime_1
theorem dksX3_isTime_0 : cX3_isTime.data.toList.drop 0 = dktX3_isTime_0 := by decide +kernel
theorem dksX3_isTime_1 : cX3_isTime.data.toList.drop 23 = dktX3_isTime_1 := dk_seg dksX3_isTime_0 23 rfl rfl
theorem dX3_isTime_0 : decode cX3_isTime 0 = .ok (.iload_n 0, 1) := dk_26 (dk_at dksX3_isTime_0 0 rfl rfl)
theorem dX3_isTime_1 : decode cX3_isTime 1 = .ok (.invokestatic 251, 3) := dk_184 0 251 (dk_at dksX3_isTime_0 1 rfl rfl)
theorem dX3_isTime_4 : decode cX3_isTime 4 = .ok (.ifCond .eq 26, 3) := dk_153 0 26 (dk_at dksX3_isTime_0 4 rfl rfl)
theorem dX3_isTime_7 : decode cX3_isTime 7 = .ok (.iload_n 1, 1) := dk_27 (dk_at dksX3_isTime_0 7 rfl rfl)
theorem dX3_isTime_8 : decode cX3_isTime 8 = .ok (.invokestatic 273, 3) := dk_184 1 17 (dk_at dksX3_isTime_0 8 rfl rfl)
theorem dX3_isTime_11 : decode cX3_isTime 11 = .ok (.ifCond .eq 19, 3) := dk_153 0 19 (dk_at dksX3_isTime_0 11 rfl rfl)
theorem dX3_isTime_14 : decode cX3_isTime 14 = .ok (.iload_n 2, 1) := dk_28 (dk_at dksX3_isTime_0 14 rfl rfl)
theorem dX3_isTime_15 : decode cX3_isTime 15 = .ok (.i2l, 1) := dk_133 (dk_at dksX3_isTime_0 15 rfl rfl)
theorem dX3_isTime_16 : decode cX3_isTime 16 = .ok (.lconst 0, 1) := dk_9 (dk_at dksX3_isTime_0 16 rfl rfl)
theorem dX3_isTime_17 : decode cX3_isTime 17 = .ok (.ldc2_w 278, 3) := dk_20 1 22 (dk_at dksX3_isTime_0 17 rfl rfl)
theorem dX3_isTime_20 : decode cX3_isTime 20 = .ok (.invokestatic 121, 3) := dk_184 0 121 (dk_at dksX3_isTime_0 20 rfl rfl)
theorem dX3_isTime_23 : decode cX3_isTime 23 = .ok (.ifCond .eq 7, 3) := dk_153 0 7 (dk_at dksX3_isTime_1 0 rfl rfl)
theorem dX3_isTime_26 : decode cX3_isTime 26 = .ok (.iconst 1, 1) := dk_4 (dk_at dksX3_isTime_1 3 rfl rfl)
theorem dX3_isTime_27 : decode cX3_isTime 27 = .ok (.goto 4, 3) := dk_167 0 4 (dk_at dksX3_isTime_1 4 rfl rfl)
theorem dX3_isTime_30 : decode cX3_isTime 30 = .ok (.iconst 0, 1) := dk_3 (dk_at dksX3_isTime_1 7 rfl rfl)
theorem dX3_isTime_31 : decode cX3_isTime 31 = .ok (.ireturn, 1) := dk_172 (dk_at dksX3_isTime_1 8 rfl rfl)
abbrev cX3_runTill : ByteArray := prog_19_method_51_code
def yX3_runTill : MethodName := ⟨RX3, "runTill", "(II)I"⟩
def dkwX3_runTill_9 : List UInt8 := [164, 0, 11, 21, 10, 21, 9, 100, 167, 0, 4, 3, 96, 54, 6, 167, 255, 40, 21, 6, 172]
abbrev dktX3_runTill_9 : List UInt8 := dkwX3_runTill_9 ++ []
def dkwX3_runTill_8 : List UInt8 := [16, 15, 28, 104, 162, 0, 8, 21, 5, 167, 0, 7, 16, 15, 28, 104, 54, 10, 21, 6, 21, 10, 21, 9]
abbrev dktX3_runTill_8 : List UInt8 := dkwX3_runTill_8 ++ dktX3_runTill_9
def dkwX3_runTill_7 : List UInt8 := [42, 180, 0, 66, 21, 8, 46, 104, 54, 9, 21, 9, 42, 180, 0, 69, 21, 8, 46, 96, 54, 5, 21, 5]
abbrev dktX3_runTill_7 : List UInt8 := dkwX3_runTill_7 ++ dktX3_runTill_8
def dkwX3_runTill_6 : List UInt8 := [129, 66, 21, 5, 16, 15, 42, 180, 0, 66, 21, 8, 46, 104, 164, 0, 8, 21, 5, 167, 0, 13, 16, 15]
abbrev dktX3_runTill_6 : List UInt8 := dkwX3_runTill_6 ++ dktX3_runTill_7
def dkwX3_runTill_5 : List UInt8 := [21, 8, 18, 147, 159, 0, 7, 4, 167, 0, 4, 3, 54, 7, 21, 7, 153, 0, 95, 33, 10, 21, 8, 121]
abbrev dktX3_runTill_5 : List UInt8 := dkwX3_runTill_5 ++ dktX3_runTill_6
def dkwX3_runTill_4 : List UInt8 := [180, 0, 66, 21, 8, 46, 162, 0, 8, 21, 9, 167, 0, 5, 21, 8, 54, 8, 132, 9, 1, 167, 255, 166]
abbrev dktX3_runTill_4 : List UInt8 := dkwX3_runTill_4 ++ dktX3_runTill_5
def dkwX3_runTill_3 : List UInt8 := [54, 10, 21, 10, 153, 0, 32, 21, 8, 18, 147, 159, 0, 20, 42, 180, 0, 66, 21, 9, 46, 42]
abbrev dktX3_runTill_3 : List UInt8 := dkwX3_runTill_3 ++ dktX3_runTill_4
def dkwX3_runTill_2 : List UInt8 := [21, 9, 46, 28, 163, 0, 18, 33, 21, 9, 123, 10, 127, 9, 148, 154, 0, 7, 4, 167, 0, 4, 3]
abbrev dktX3_runTill_2 : List UInt8 := dkwX3_runTill_2 ++ dktX3_runTill_3
def dkwX3_runTill_1 : List UInt8 := [21, 9, 42, 180, 1, 84, 162, 0, 87, 42, 180, 0, 63, 21, 9, 46, 27, 160, 0, 29, 42, 180, 0, 66]
abbrev dktX3_runTill_1 : List UInt8 := dkwX3_runTill_1 ++ dktX3_runTill_2
def dkwX3_runTill_0 : List UInt8 := [9, 66, 3, 54, 5, 3, 54, 6, 4, 54, 7, 21, 7, 153, 0, 217, 18, 147, 54, 8, 3, 54, 9]
abbrev dktX3_runTill_0 : List UInt8 := dkwX3_runTill_0 ++ dktX3_runTill_1
theorem dksX3_runTill_0 : cX3_runTill.data.toList.drop 0 = dktX3_runTill_0 := by decide +kernel
theorem dksX3_runTill_1 : cX3_runTill.data.toList.drop 23 = dktX3_runTill_1 := dk_seg dksX3_runTill_0 23 rfl rfl
theorem dksX3_runTill_2 : cX3_runTill.data.toList.drop 47 = dktX3_runTill_2 := dk_seg dksX3_runTill_1 24 rfl rfl
theorem dksX3_runTill_3 : cX3_runTill.data.toList.drop 70 = dktX3_runTill_3 := dk_seg dksX3_runTill_2 23 rfl rfl
theorem dksX3_runTill_4 : cX3_runTill.data.toList.drop 92 = dktX3_runTill_4 := dk_seg dksX3_runTill_3 22 rfl rfl
theorem dksX3_runTill_5 : cX3_runTill.data.toList.drop 116 = dktX3_runTill_5 := dk_seg dksX3_runTill_4 24 rfl rfl
theorem dksX3_runTill_6 : cX3_runTill.data.toList.drop 140 = dktX3_runTill_6 := dk_seg dksX3_runTill_5 24 rfl rfl
theorem dksX3_runTill_7 : cX3_runTill.data.toList.drop 164 = dktX3_runTill_7 := dk_seg dksX3_runTill_6 24 rfl rfl
theorem dksX3_runTill_8 : cX3_runTill.data.toList.drop 188 = dktX3_runTill_8 := dk_seg dksX3_runTill_7 24 rfl rfl
theorem dksX3_runTill_9 : cX3_runTill.data.toList.drop 212 = dktX3_runTill_9 := dk_seg dksX3_runTill_8 24 rfl rfl
theorem dX3_runTill_0 : decode cX3_runTill 0 = .ok (.lconst 0, 1) := dk_9 (dk_at dksX3_runTill_0 0 rfl rfl)
theorem dX3_runTill_1 : decode cX3_runTill 1 = .ok (.lstore_n 3, 1) := dk_66 (dk_at dksX3_runTill_0 1 rfl rfl)
theorem dX3_runTill_2 : decode cX3_runTill 2 = .ok (.iconst 0, 1) := dk_3 (dk_at dksX3_runTill_0 2 rfl rfl)
theorem dX3_runTill_3 : decode cX3_runTill 3 = .ok (.istore 5, 2) := dk_54 5 (dk_at dksX3_runTill_0 3 rfl rfl)
theorem dX3_runTill_5 : decode cX3_runTill 5 = .ok (.iconst 0, 1) := dk_3 (dk_at dksX3_runTill_0 5 rfl rfl)
theorem dX3_runTill_6 : decode cX3_runTill 6 = .ok (.istore 6, 2) := dk_54 6 (dk_at dksX3_runTill_0 6 rfl rfl)
theorem dX3_runTill_8 : decode cX3_runTill 8 = .ok (.iconst 1, 1) := dk_4 (dk_at dksX3_runTill_0 8 rfl rfl)
theorem dX3_runTill_9 : decode cX3_runTill 9 = .ok (.istore 7, 2) := dk_54 7 (dk_at dksX3_runTill_0 9 rfl rfl)
theorem dX3_runTill_11 : decode cX3_runTill 11 = .ok (.iload 7, 2) := dk_21 7 (dk_at dksX3_runTill_0 11 rfl rfl)
theorem dX3_runTill_13 : decode cX3_runTill 13 = .ok (.ifCond .eq 217, 3) := dk_153 0 217 (dk_at dksX3_runTill_0 13 rfl rfl)
theorem dX3_runTill_16 : decode cX3_runTill 16 = .ok (.ldc 147, 2) := dk_18 147 (dk_at dksX3_runTill_0 16 rfl rfl)
theorem dX3_runTill_18 : decode cX3_runTill 18 = .ok (.istore 8, 2) := dk_54 8 (dk_at dksX3_runTill_0 18 rfl rfl)
theorem dX3_runTill_20 : decode cX3_runTill 20 = .ok (.iconst 0, 1) := dk_3 (dk_at dksX3_runTill_0 20 rfl rfl)
theorem dX3_runTill_21 : decode cX3_runTill 21 = .ok (.istore 9, 2) := dk_54 9 (dk_at dksX3_runTill_0 21 rfl rfl)
theorem dX3_runTill_23 : decode cX3_runTill 23 = .ok (.iload 9, 2) := dk_21 9 (dk_at dksX3_runTill_1 0 rfl rfl)
theorem dX3_runTill_25 : decode cX3_runTill 25 = .ok (.aload_n 0, 1) := dk_42 (dk_at dksX3_runTill_1 2 rfl rfl)
theorem dX3_runTill_26 : decode cX3_runTill 26 = .ok (.getfield 340, 3) := dk_180 1 84 (dk_at dksX3_runTill_1 3 rfl rfl)
theorem dX3_runTill_29 : decode cX3_runTill 29 = .ok (.if_icmp .ge 87, 3) := dk_162 0 87 (dk_at dksX3_runTill_1 6 rfl rfl)
theorem dX3_runTill_32 : decode cX3_runTill 32 = .ok (.aload_n 0, 1) := dk_42 (dk_at dksX3_runTill_1 9 rfl rfl)
theorem dX3_runTill_33 : decode cX3_runTill 33 = .ok (.getfield 63, 3) := dk_180 0 63 (dk_at dksX3_runTill_1 10 rfl rfl)
theorem dX3_runTill_36 : decode cX3_runTill 36 = .ok (.iload 9, 2) := dk_21 9 (dk_at dksX3_runTill_1 13 rfl rfl)
theorem dX3_runTill_38 : decode cX3_runTill 38 = .ok (.iaload, 1) := dk_46 (dk_at dksX3_runTill_1 15 rfl rfl)
theorem dX3_runTill_39 : decode cX3_runTill 39 = .ok (.iload_n 1, 1) := dk_27 (dk_at dksX3_runTill_1 16 rfl rfl)
theorem dX3_runTill_40 : decode cX3_runTill 40 = .ok (.if_icmp .ne 29, 3) := dk_160 0 29 (dk_at dksX3_runTill_1 17 rfl rfl)
theorem dX3_runTill_43 : decode cX3_runTill 43 = .ok (.aload_n 0, 1) := dk_42 (dk_at dksX3_runTill_1 20 rfl rfl)
theorem dX3_runTill_44 : decode cX3_runTill 44 = .ok (.getfield 66, 3) := dk_180 0 66 (dk_at dksX3_runTill_1 21 rfl rfl)
theorem dX3_runTill_47 : decode cX3_runTill 47 = .ok (.iload 9, 2) := dk_21 9 (dk_at dksX3_runTill_2 0 rfl rfl)
theorem dX3_runTill_49 : decode cX3_runTill 49 = .ok (.iaload, 1) := dk_46 (dk_at dksX3_runTill_2 2 rfl rfl)
theorem dX3_runTill_50 : decode cX3_runTill 50 = .ok (.iload_n 2, 1) := dk_28 (dk_at dksX3_runTill_2 3 rfl rfl)
theorem dX3_runTill_51 : decode cX3_runTill 51 = .ok (.if_icmp .gt 18, 3) := dk_163 0 18 (dk_at dksX3_runTill_2 4 rfl rfl)
theorem dX3_runTill_54 : decode cX3_runTill 54 = .ok (.lload_n 3, 1) := dk_33 (dk_at dksX3_runTill_2 7 rfl rfl)
theorem dX3_runTill_55 : decode cX3_runTill 55 = .ok (.iload 9, 2) := dk_21 9 (dk_at dksX3_runTill_2 8 rfl rfl)
theorem dX3_runTill_57 : decode cX3_runTill 57 = .ok (.lshr, 1) := dk_123 (dk_at dksX3_runTill_2 10 rfl rfl)
theorem dX3_runTill_58 : decode cX3_runTill 58 = .ok (.lconst 1, 1) := dk_10 (dk_at dksX3_runTill_2 11 rfl rfl)
theorem dX3_runTill_59 : decode cX3_runTill 59 = .ok (.land, 1) := dk_127 (dk_at dksX3_runTill_2 12 rfl rfl)
theorem dX3_runTill_60 : decode cX3_runTill 60 = .ok (.lconst 0, 1) := dk_9 (dk_at dksX3_runTill_2 13 rfl rfl)
theorem dX3_runTill_61 : decode cX3_runTill 61 = .ok (.lcmp, 1) := dk_148 (dk_at dksX3_runTill_2 14 rfl rfl)
theorem dX3_runTill_62 : decode cX3_runTill 62 = .ok (.ifCond .ne 7, 3) := dk_154 0 7 (dk_at dksX3_runTill_2 15 rfl rfl)
theorem dX3_runTill_65 : decode cX3_runTill 65 = .ok (.iconst 1, 1) := dk_4 (dk_at dksX3_runTill_2 18 rfl rfl)
theorem dX3_runTill_66 : decode cX3_runTill 66 = .ok (.goto 4, 3) := dk_167 0 4 (dk_at dksX3_runTill_2 19 rfl rfl)
theorem dX3_runTill_69 : decode cX3_runTill 69 = .ok (.iconst 0, 1) := dk_3 (dk_at dksX3_runTill_2 22 rfl rfl)
theorem dX3_runTill_70 : decode cX3_runTill 70 = .ok (.istore 10, 2) := dk_54 10 (dk_at dksX3_runTill_3 0 rfl rfl)
theorem dX3_runTill_72 : decode cX3_runTill 72 = .ok (.iload 10, 2) := dk_21 10 (dk_at dksX3_runTill_3 2 rfl rfl)
theorem dX3_runTill_74 : decode cX3_runTill 74 = .ok (.ifCond .eq 32, 3) := dk_153 0 32 (dk_at dksX3_runTill_3 4 rfl rfl)
theorem dX3_runTill_77 : decode cX3_runTill 77 = .ok (.iload 8, 2) := dk_21 8 (dk_at dksX3_runTill_3 7 rfl rfl)
theorem dX3_runTill_79 : decode cX3_runTill 79 = .ok (.ldc 147, 2) := dk_18 147 (dk_at dksX3_runTill_3 9 rfl rfl)
theorem dX3_runTill_81 : decode cX3_runTill 81 = .ok (.if_icmp .eq 20, 3) := dk_159 0 20 (dk_at dksX3_runTill_3 11 rfl rfl)
theorem dX3_runTill_84 : decode cX3_runTill 84 = .ok (.aload_n 0, 1) := dk_42 (dk_at dksX3_runTill_3 14 rfl rfl)
theorem dX3_runTill_85 : decode cX3_runTill 85 = .ok (.getfield 66, 3) := dk_180 0 66 (dk_at dksX3_runTill_3 15 rfl rfl)
theorem dX3_runTill_88 : decode cX3_runTill 88 = .ok (.iload 9, 2) := dk_21 9 (dk_at dksX3_runTill_3 18 rfl rfl)
theorem dX3_runTill_90 : decode cX3_runTill 90 = .ok (.iaload, 1) := dk_46 (dk_at dksX3_runTill_3 20 rfl rfl)
theorem dX3_runTill_91 : decode cX3_runTill 91 = .ok (.aload_n 0, 1) := dk_42 (dk_at dksX3_runTill_3 21 rfl rfl)
theorem dX3_runTill_92 : decode cX3_runTill 92 = .ok (.getfield 66, 3) := dk_180 0 66 (dk_at dksX3_runTill_4 0 rfl rfl)
theorem dX3_runTill_95 : decode cX3_runTill 95 = .ok (.iload 8, 2) := dk_21 8 (dk_at dksX3_runTill_4 3 rfl rfl)
theorem dX3_runTill_97 : decode cX3_runTill 97 = .ok (.iaload, 1) := dk_46 (dk_at dksX3_runTill_4 5 rfl rfl)
theorem dX3_runTill_98 : decode cX3_runTill 98 = .ok (.if_icmp .ge 8, 3) := dk_162 0 8 (dk_at dksX3_runTill_4 6 rfl rfl)
theorem dX3_runTill_101 : decode cX3_runTill 101 = .ok (.iload 9, 2) := dk_21 9 (dk_at dksX3_runTill_4 9 rfl rfl)
theorem dX3_runTill_103 : decode cX3_runTill 103 = .ok (.goto 5, 3) := dk_167 0 5 (dk_at dksX3_runTill_4 11 rfl rfl)
theorem dX3_runTill_106 : decode cX3_runTill 106 = .ok (.iload 8, 2) := dk_21 8 (dk_at dksX3_runTill_4 14 rfl rfl)
theorem dX3_runTill_108 : decode cX3_runTill 108 = .ok (.istore 8, 2) := dk_54 8 (dk_at dksX3_runTill_4 16 rfl rfl)
theorem dX3_runTill_110 : decode cX3_runTill 110 = .ok (.iinc 9 1, 3) := dk_132 9 1 (dk_at dksX3_runTill_4 18 rfl rfl)
theorem dX3_runTill_113 : decode cX3_runTill 113 = .ok (.goto (-90), 3) := dk_167 255 166 (dk_at dksX3_runTill_4 21 rfl rfl)
theorem dX3_runTill_116 : decode cX3_runTill 116 = .ok (.iload 8, 2) := dk_21 8 (dk_at dksX3_runTill_5 0 rfl rfl)
theorem dX3_runTill_118 : decode cX3_runTill 118 = .ok (.ldc 147, 2) := dk_18 147 (dk_at dksX3_runTill_5 2 rfl rfl)
theorem dX3_runTill_120 : decode cX3_runTill 120 = .ok (.if_icmp .eq 7, 3) := dk_159 0 7 (dk_at dksX3_runTill_5 4 rfl rfl)
theorem dX3_runTill_123 : decode cX3_runTill 123 = .ok (.iconst 1, 1) := dk_4 (dk_at dksX3_runTill_5 7 rfl rfl)
theorem dX3_runTill_124 : decode cX3_runTill 124 = .ok (.goto 4, 3) := dk_167 0 4 (dk_at dksX3_runTill_5 8 rfl rfl)
theorem dX3_runTill_127 : decode cX3_runTill 127 = .ok (.iconst 0, 1) := dk_3 (dk_at dksX3_runTill_5 11 rfl rfl)
theorem dX3_runTill_128 : decode cX3_runTill 128 = .ok (.istore 7, 2) := dk_54 7 (dk_at dksX3_runTill_5 12 rfl rfl)
theorem dX3_runTill_130 : decode cX3_runTill 130 = .ok (.iload 7, 2) := dk_21 7 (dk_at dksX3_runTill_5 14 rfl rfl)
theorem dX3_runTill_132 : decode cX3_runTill 132 = .ok (.ifCond .eq 95, 3) := dk_153 0 95 (dk_at dksX3_runTill_5 16 rfl rfl)
theorem dX3_runTill_135 : decode cX3_runTill 135 = .ok (.lload_n 3, 1) := dk_33 (dk_at dksX3_runTill_5 19 rfl rfl)
theorem dX3_runTill_136 : decode cX3_runTill 136 = .ok (.lconst 1, 1) := dk_10 (dk_at dksX3_runTill_5 20 rfl rfl)
theorem dX3_runTill_137 : decode cX3_runTill 137 = .ok (.iload 8, 2) := dk_21 8 (dk_at dksX3_runTill_5 21 rfl rfl)
theorem dX3_runTill_139 : decode cX3_runTill 139 = .ok (.lshl, 1) := dk_121 (dk_at dksX3_runTill_5 23 rfl rfl)
theorem dX3_runTill_140 : decode cX3_runTill 140 = .ok (.lor, 1) := dk_129 (dk_at dksX3_runTill_6 0 rfl rfl)
theorem dX3_runTill_141 : decode cX3_runTill 141 = .ok (.lstore_n 3, 1) := dk_66 (dk_at dksX3_runTill_6 1 rfl rfl)
theorem dX3_runTill_142 : decode cX3_runTill 142 = .ok (.iload 5, 2) := dk_21 5 (dk_at dksX3_runTill_6 2 rfl rfl)
theorem dX3_runTill_144 : decode cX3_runTill 144 = .ok (.bipush 15, 2) := dk_16 15 (dk_at dksX3_runTill_6 4 rfl rfl)
theorem dX3_runTill_146 : decode cX3_runTill 146 = .ok (.aload_n 0, 1) := dk_42 (dk_at dksX3_runTill_6 6 rfl rfl)
theorem dX3_runTill_147 : decode cX3_runTill 147 = .ok (.getfield 66, 3) := dk_180 0 66 (dk_at dksX3_runTill_6 7 rfl rfl)
theorem dX3_runTill_150 : decode cX3_runTill 150 = .ok (.iload 8, 2) := dk_21 8 (dk_at dksX3_runTill_6 10 rfl rfl)
theorem dX3_runTill_152 : decode cX3_runTill 152 = .ok (.iaload, 1) := dk_46 (dk_at dksX3_runTill_6 12 rfl rfl)
theorem dX3_runTill_153 : decode cX3_runTill 153 = .ok (.imul, 1) := dk_104 (dk_at dksX3_runTill_6 13 rfl rfl)
theorem dX3_runTill_154 : decode cX3_runTill 154 = .ok (.if_icmp .le 8, 3) := dk_164 0 8 (dk_at dksX3_runTill_6 14 rfl rfl)
theorem dX3_runTill_157 : decode cX3_runTill 157 = .ok (.iload 5, 2) := dk_21 5 (dk_at dksX3_runTill_6 17 rfl rfl)
theorem dX3_runTill_159 : decode cX3_runTill 159 = .ok (.goto 13, 3) := dk_167 0 13 (dk_at dksX3_runTill_6 19 rfl rfl)
theorem dX3_runTill_162 : decode cX3_runTill 162 = .ok (.bipush 15, 2) := dk_16 15 (dk_at dksX3_runTill_6 22 rfl rfl)
theorem dX3_runTill_164 : decode cX3_runTill 164 = .ok (.aload_n 0, 1) := dk_42 (dk_at dksX3_runTill_7 0 rfl rfl)
theorem dX3_runTill_165 : decode cX3_runTill 165 = .ok (.getfield 66, 3) := dk_180 0 66 (dk_at dksX3_runTill_7 1 rfl rfl)
theorem dX3_runTill_168 : decode cX3_runTill 168 = .ok (.iload 8, 2) := dk_21 8 (dk_at dksX3_runTill_7 4 rfl rfl)
theorem dX3_runTill_170 : decode cX3_runTill 170 = .ok (.iaload, 1) := dk_46 (dk_at dksX3_runTill_7 6 rfl rfl)
theorem dX3_runTill_171 : decode cX3_runTill 171 = .ok (.imul, 1) := dk_104 (dk_at dksX3_runTill_7 7 rfl rfl)
theorem dX3_runTill_172 : decode cX3_runTill 172 = .ok (.istore 9, 2) := dk_54 9 (dk_at dksX3_runTill_7 8 rfl rfl)
theorem dX3_runTill_174 : decode cX3_runTill 174 = .ok (.iload 9, 2) := dk_21 9 (dk_at dksX3_runTill_7 10 rfl rfl)
theorem dX3_runTill_176 : decode cX3_runTill 176 = .ok (.aload_n 0, 1) := dk_42 (dk_at dksX3_runTill_7 12 rfl rfl)
theorem dX3_runTill_177 : decode cX3_runTill 177 = .ok (.getfield 69, 3) := dk_180 0 69 (dk_at dksX3_runTill_7 13 rfl rfl)
theorem dX3_runTill_180 : decode cX3_runTill 180 = .ok (.iload 8, 2) := dk_21 8 (dk_at dksX3_runTill_7 16 rfl rfl)
theorem dX3_runTill_182 : decode cX3_runTill 182 = .ok (.iaload, 1) := dk_46 (dk_at dksX3_runTill_7 18 rfl rfl)
theorem dX3_runTill_183 : decode cX3_runTill 183 = .ok (.iadd, 1) := dk_96 (dk_at dksX3_runTill_7 19 rfl rfl)
theorem dX3_runTill_184 : decode cX3_runTill 184 = .ok (.istore 5, 2) := dk_54 5 (dk_at dksX3_runTill_7 20 rfl rfl)
theorem dX3_runTill_186 : decode cX3_runTill 186 = .ok (.iload 5, 2) := dk_21 5 (dk_at dksX3_runTill_7 22 rfl rfl)
theorem dX3_runTill_188 : decode cX3_runTill 188 = .ok (.bipush 15, 2) := dk_16 15 (dk_at dksX3_runTill_8 0 rfl rfl)
theorem dX3_runTill_190 : decode cX3_runTill 190 = .ok (.iload_n 2, 1) := dk_28 (dk_at dksX3_runTill_8 2 rfl rfl)
theorem dX3_runTill_191 : decode cX3_runTill 191 = .ok (.imul, 1) := dk_104 (dk_at dksX3_runTill_8 3 rfl rfl)
theorem dX3_runTill_192 : decode cX3_runTill 192 = .ok (.if_icmp .ge 8, 3) := dk_162 0 8 (dk_at dksX3_runTill_8 4 rfl rfl)
theorem dX3_runTill_195 : decode cX3_runTill 195 = .ok (.iload 5, 2) := dk_21 5 (dk_at dksX3_runTill_8 7 rfl rfl)
theorem dX3_runTill_197 : decode cX3_runTill 197 = .ok (.goto 7, 3) := dk_167 0 7 (dk_at dksX3_runTill_8 9 rfl rfl)
theorem dX3_runTill_200 : decode cX3_runTill 200 = .ok (.bipush 15, 2) := dk_16 15 (dk_at dksX3_runTill_8 12 rfl rfl)
theorem dX3_runTill_202 : decode cX3_runTill 202 = .ok (.iload_n 2, 1) := dk_28 (dk_at dksX3_runTill_8 14 rfl rfl)
theorem dX3_runTill_203 : decode cX3_runTill 203 = .ok (.imul, 1) := dk_104 (dk_at dksX3_runTill_8 15 rfl rfl)
theorem dX3_runTill_204 : decode cX3_runTill 204 = .ok (.istore 10, 2) := dk_54 10 (dk_at dksX3_runTill_8 16 rfl rfl)
theorem dX3_runTill_206 : decode cX3_runTill 206 = .ok (.iload 6, 2) := dk_21 6 (dk_at dksX3_runTill_8 18 rfl rfl)
theorem dX3_runTill_208 : decode cX3_runTill 208 = .ok (.iload 10, 2) := dk_21 10 (dk_at dksX3_runTill_8 20 rfl rfl)
theorem dX3_runTill_210 : decode cX3_runTill 210 = .ok (.iload 9, 2) := dk_21 9 (dk_at dksX3_runTill_8 22 rfl rfl)
theorem dX3_runTill_212 : decode cX3_runTill 212 = .ok (.if_icmp .le 11, 3) := dk_164 0 11 (dk_at dksX3_runTill_9 0 rfl rfl)
theorem dX3_runTill_215 : decode cX3_runTill 215 = .ok (.iload 10, 2) := dk_21 10 (dk_at dksX3_runTill_9 3 rfl rfl)
theorem dX3_runTill_217 : decode cX3_runTill 217 = .ok (.iload 9, 2) := dk_21 9 (dk_at dksX3_runTill_9 5 rfl rfl)
theorem dX3_runTill_219 : decode cX3_runTill 219 = .ok (.isub, 1) := dk_100 (dk_at dksX3_runTill_9 7 rfl rfl)
theorem dX3_runTill_220 : decode cX3_runTill 220 = .ok (.goto 4, 3) := dk_167 0 4 (dk_at dksX3_runTill_9 8 rfl rfl)
theorem dX3_runTill_223 : decode cX3_runTill 223 = .ok (.iconst 0, 1) := dk_3 (dk_at dksX3_runTill_9 11 rfl rfl)
theorem dX3_runTill_224 : decode cX3_runTill 224 = .ok (.iadd, 1) := dk_96 (dk_at dksX3_runTill_9 12 rfl rfl)
theorem dX3_runTill_225 : decode cX3_runTill 225 = .ok (.istore 6, 2) := dk_54 6 (dk_at dksX3_runTill_9 13 rfl rfl)
theorem dX3_runTill_227 : decode cX3_runTill 227 = .ok (.goto (-216), 3) := dk_167 255 40 (dk_at dksX3_runTill_9 15 rfl rfl)
theorem dX3_runTill_230 : decode cX3_runTill 230 = .ok (.iload 6, 2) := dk_21 6 (dk_at dksX3_runTill_9 18 rfl rfl)
theorem dX3_runTill_232 : decode cX3_runTill 232 = .ok (.ireturn, 1) := dk_172 (dk_at dksX3_runTill_9 20 rfl rfl)
abbrev cX3_meter : ByteArray := prog_19_method_54_code
def yX3_meter : MethodName := ⟨RX3, "meter", "(IIII)I"⟩
def dkwX3_meter_2 : List UInt8 := [20, 1, 95, 20, 1, 97, 184, 0, 121, 153, 0, 7, 4, 167, 0, 4, 3, 172]
abbrev dktX3_meter_2 : List UInt8 := dkwX3_meter_2 ++ []
def dkwX3_meter_1 : List UInt8 := [154, 0, 8, 18, 131, 167, 0, 35, 21, 4, 42, 27, 16, 96, 28, 104, 29, 96, 182, 1, 90, 100, 133]
abbrev dktX3_meter_1 : List UInt8 := dkwX3_meter_1 ++ dktX3_meter_2
def dkwX3_meter_0 : List UInt8 := [42, 3, 181, 0, 111, 27, 28, 29, 184, 1, 87, 153, 0, 16, 21, 4, 133, 9, 20, 1, 93, 184, 0, 121]
abbrev dktX3_meter_0 : List UInt8 := dkwX3_meter_0 ++ dktX3_meter_1
theorem dksX3_meter_0 : cX3_meter.data.toList.drop 0 = dktX3_meter_0 := by decide +kernel
theorem dksX3_meter_1 : cX3_meter.data.toList.drop 24 = dktX3_meter_1 := dk_seg dksX3_meter_0 24 rfl rfl
theorem dksX3_meter_2 : cX3_meter.data.toList.drop 47 = dktX3_meter_2 := dk_seg dksX3_meter_1 23 rfl rfl
theorem dX3_meter_0 : decode cX3_meter 0 = .ok (.aload_n 0, 1) := dk_42 (dk_at dksX3_meter_0 0 rfl rfl)
theorem dX3_meter_1 : decode cX3_meter 1 = .ok (.iconst 0, 1) := dk_3 (dk_at dksX3_meter_0 1 rfl rfl)
theorem dX3_meter_2 : decode cX3_meter 2 = .ok (.putfield 111, 3) := dk_181 0 111 (dk_at dksX3_meter_0 2 rfl rfl)
theorem dX3_meter_5 : decode cX3_meter 5 = .ok (.iload_n 1, 1) := dk_27 (dk_at dksX3_meter_0 5 rfl rfl)
theorem dX3_meter_6 : decode cX3_meter 6 = .ok (.iload_n 2, 1) := dk_28 (dk_at dksX3_meter_0 6 rfl rfl)
theorem dX3_meter_7 : decode cX3_meter 7 = .ok (.iload_n 3, 1) := dk_29 (dk_at dksX3_meter_0 7 rfl rfl)
theorem dX3_meter_8 : decode cX3_meter 8 = .ok (.invokestatic 343, 3) := dk_184 1 87 (dk_at dksX3_meter_0 8 rfl rfl)
theorem dX3_meter_11 : decode cX3_meter 11 = .ok (.ifCond .eq 16, 3) := dk_153 0 16 (dk_at dksX3_meter_0 11 rfl rfl)
theorem dX3_meter_14 : decode cX3_meter 14 = .ok (.iload 4, 2) := dk_21 4 (dk_at dksX3_meter_0 14 rfl rfl)
theorem dX3_meter_16 : decode cX3_meter 16 = .ok (.i2l, 1) := dk_133 (dk_at dksX3_meter_0 16 rfl rfl)
theorem dX3_meter_17 : decode cX3_meter 17 = .ok (.lconst 0, 1) := dk_9 (dk_at dksX3_meter_0 17 rfl rfl)
theorem dX3_meter_18 : decode cX3_meter 18 = .ok (.ldc2_w 349, 3) := dk_20 1 93 (dk_at dksX3_meter_0 18 rfl rfl)
theorem dX3_meter_21 : decode cX3_meter 21 = .ok (.invokestatic 121, 3) := dk_184 0 121 (dk_at dksX3_meter_0 21 rfl rfl)
theorem dX3_meter_24 : decode cX3_meter 24 = .ok (.ifCond .ne 8, 3) := dk_154 0 8 (dk_at dksX3_meter_1 0 rfl rfl)
theorem dX3_meter_27 : decode cX3_meter 27 = .ok (.ldc 131, 2) := dk_18 131 (dk_at dksX3_meter_1 3 rfl rfl)
theorem dX3_meter_29 : decode cX3_meter 29 = .ok (.goto 35, 3) := dk_167 0 35 (dk_at dksX3_meter_1 5 rfl rfl)
theorem dX3_meter_32 : decode cX3_meter 32 = .ok (.iload 4, 2) := dk_21 4 (dk_at dksX3_meter_1 8 rfl rfl)
theorem dX3_meter_34 : decode cX3_meter 34 = .ok (.aload_n 0, 1) := dk_42 (dk_at dksX3_meter_1 10 rfl rfl)
theorem dX3_meter_35 : decode cX3_meter 35 = .ok (.iload_n 1, 1) := dk_27 (dk_at dksX3_meter_1 11 rfl rfl)
theorem dX3_meter_36 : decode cX3_meter 36 = .ok (.bipush 96, 2) := dk_16 96 (dk_at dksX3_meter_1 12 rfl rfl)
theorem dX3_meter_38 : decode cX3_meter 38 = .ok (.iload_n 2, 1) := dk_28 (dk_at dksX3_meter_1 14 rfl rfl)
theorem dX3_meter_39 : decode cX3_meter 39 = .ok (.imul, 1) := dk_104 (dk_at dksX3_meter_1 15 rfl rfl)
theorem dX3_meter_40 : decode cX3_meter 40 = .ok (.iload_n 3, 1) := dk_29 (dk_at dksX3_meter_1 16 rfl rfl)
theorem dX3_meter_41 : decode cX3_meter 41 = .ok (.iadd, 1) := dk_96 (dk_at dksX3_meter_1 17 rfl rfl)
theorem dX3_meter_42 : decode cX3_meter 42 = .ok (.invokevirtual 346, 3) := dk_182 1 90 (dk_at dksX3_meter_1 18 rfl rfl)
theorem dX3_meter_45 : decode cX3_meter 45 = .ok (.isub, 1) := dk_100 (dk_at dksX3_meter_1 21 rfl rfl)
theorem dX3_meter_46 : decode cX3_meter 46 = .ok (.i2l, 1) := dk_133 (dk_at dksX3_meter_1 22 rfl rfl)
theorem dX3_meter_47 : decode cX3_meter 47 = .ok (.ldc2_w 351, 3) := dk_20 1 95 (dk_at dksX3_meter_2 0 rfl rfl)
theorem dX3_meter_50 : decode cX3_meter 50 = .ok (.ldc2_w 353, 3) := dk_20 1 97 (dk_at dksX3_meter_2 3 rfl rfl)
theorem dX3_meter_53 : decode cX3_meter 53 = .ok (.invokestatic 121, 3) := dk_184 0 121 (dk_at dksX3_meter_2 6 rfl rfl)
theorem dX3_meter_56 : decode cX3_meter 56 = .ok (.ifCond .eq 7, 3) := dk_153 0 7 (dk_at dksX3_meter_2 9 rfl rfl)
theorem dX3_meter_59 : decode cX3_meter 59 = .ok (.iconst 1, 1) := dk_4 (dk_at dksX3_meter_2 12 rfl rfl)
theorem dX3_meter_60 : decode cX3_meter 60 = .ok (.goto 4, 3) := dk_167 0 4 (dk_at dksX3_meter_2 13 rfl rfl)
theorem dX3_meter_63 : decode cX3_meter 63 = .ok (.iconst 0, 1) := dk_3 (dk_at dksX3_meter_2 16 rfl rfl)
theorem dX3_meter_64 : decode cX3_meter 64 = .ok (.ireturn, 1) := dk_172 (dk_at dksX3_meter_2 17 rfl rfl)
abbrev cX3_give : ByteArray := prog_19_method_55_code
def yX3_give : MethodName := ⟨RX3, "give", "(IIII)I"⟩
def dkwX3_give_5 : List UInt8 := [181, 1, 99, 42, 180, 1, 99, 172]
abbrev dktX3_give_5 : List UInt8 := dkwX3_give_5 ++ []
def dkwX3_give_4 : List UInt8 := [180, 1, 99, 29, 79, 42, 180, 0, 81, 42, 180, 1, 99, 21, 4, 79, 42, 89, 180, 1, 99, 4, 96]
abbrev dktX3_give_4 : List UInt8 := dkwX3_give_4 ++ dktX3_give_5
def dkwX3_give_3 : List UInt8 := [180, 0, 72, 42, 180, 1, 99, 27, 79, 42, 180, 0, 75, 42, 180, 1, 99, 28, 79, 42, 180, 0, 78, 42]
abbrev dktX3_give_3 : List UInt8 := dkwX3_give_3 ++ dktX3_give_4
def dkwX3_give_2 : List UInt8 := [21, 4, 184, 1, 17, 154, 0, 6, 18, 131, 172, 42, 180, 1, 99, 16, 40, 160, 0, 6, 18, 141, 172, 42]
abbrev dktX3_give_2 : List UInt8 := dkwX3_give_2 ++ dktX3_give_3
def dkwX3_give_1 : List UInt8 := [184, 0, 121, 153, 0, 28, 29, 133, 9, 20, 1, 15, 184, 0, 121, 153, 0, 16, 28, 29, 159, 0, 11]
abbrev dktX3_give_1 : List UInt8 := dkwX3_give_1 ++ dktX3_give_2
def dkwX3_give_0 : List UInt8 := [42, 3, 181, 0, 111, 27, 133, 9, 20, 0, 249, 184, 0, 121, 153, 0, 40, 28, 133, 9, 20, 1, 15]
abbrev dktX3_give_0 : List UInt8 := dkwX3_give_0 ++ dktX3_give_1
theorem dksX3_give_0 : cX3_give.data.toList.drop 0 = dktX3_give_0 := by decide +kernel
theorem dksX3_give_1 : cX3_give.data.toList.drop 23 = dktX3_give_1 := dk_seg dksX3_give_0 23 rfl rfl
theorem dksX3_give_2 : cX3_give.data.toList.drop 46 = dktX3_give_2 := dk_seg dksX3_give_1 23 rfl rfl
theorem dksX3_give_3 : cX3_give.data.toList.drop 70 = dktX3_give_3 := dk_seg dksX3_give_2 24 rfl rfl
theorem dksX3_give_4 : cX3_give.data.toList.drop 94 = dktX3_give_4 := dk_seg dksX3_give_3 24 rfl rfl
theorem dksX3_give_5 : cX3_give.data.toList.drop 117 = dktX3_give_5 := dk_seg dksX3_give_4 23 rfl rfl
theorem dX3_give_0 : decode cX3_give 0 = .ok (.aload_n 0, 1) := dk_42 (dk_at dksX3_give_0 0 rfl rfl)
theorem dX3_give_1 : decode cX3_give 1 = .ok (.iconst 0, 1) := dk_3 (dk_at dksX3_give_0 1 rfl rfl)
theorem dX3_give_2 : decode cX3_give 2 = .ok (.putfield 111, 3) := dk_181 0 111 (dk_at dksX3_give_0 2 rfl rfl)
theorem dX3_give_5 : decode cX3_give 5 = .ok (.iload_n 1, 1) := dk_27 (dk_at dksX3_give_0 5 rfl rfl)
theorem dX3_give_6 : decode cX3_give 6 = .ok (.i2l, 1) := dk_133 (dk_at dksX3_give_0 6 rfl rfl)
theorem dX3_give_7 : decode cX3_give 7 = .ok (.lconst 0, 1) := dk_9 (dk_at dksX3_give_0 7 rfl rfl)
theorem dX3_give_8 : decode cX3_give 8 = .ok (.ldc2_w 249, 3) := dk_20 0 249 (dk_at dksX3_give_0 8 rfl rfl)
theorem dX3_give_11 : decode cX3_give 11 = .ok (.invokestatic 121, 3) := dk_184 0 121 (dk_at dksX3_give_0 11 rfl rfl)
theorem dX3_give_14 : decode cX3_give 14 = .ok (.ifCond .eq 40, 3) := dk_153 0 40 (dk_at dksX3_give_0 14 rfl rfl)
theorem dX3_give_17 : decode cX3_give 17 = .ok (.iload_n 2, 1) := dk_28 (dk_at dksX3_give_0 17 rfl rfl)
theorem dX3_give_18 : decode cX3_give 18 = .ok (.i2l, 1) := dk_133 (dk_at dksX3_give_0 18 rfl rfl)
theorem dX3_give_19 : decode cX3_give 19 = .ok (.lconst 0, 1) := dk_9 (dk_at dksX3_give_0 19 rfl rfl)
theorem dX3_give_20 : decode cX3_give 20 = .ok (.ldc2_w 271, 3) := dk_20 1 15 (dk_at dksX3_give_0 20 rfl rfl)
theorem dX3_give_23 : decode cX3_give 23 = .ok (.invokestatic 121, 3) := dk_184 0 121 (dk_at dksX3_give_1 0 rfl rfl)
theorem dX3_give_26 : decode cX3_give 26 = .ok (.ifCond .eq 28, 3) := dk_153 0 28 (dk_at dksX3_give_1 3 rfl rfl)
theorem dX3_give_29 : decode cX3_give 29 = .ok (.iload_n 3, 1) := dk_29 (dk_at dksX3_give_1 6 rfl rfl)
theorem dX3_give_30 : decode cX3_give 30 = .ok (.i2l, 1) := dk_133 (dk_at dksX3_give_1 7 rfl rfl)
theorem dX3_give_31 : decode cX3_give 31 = .ok (.lconst 0, 1) := dk_9 (dk_at dksX3_give_1 8 rfl rfl)
theorem dX3_give_32 : decode cX3_give 32 = .ok (.ldc2_w 271, 3) := dk_20 1 15 (dk_at dksX3_give_1 9 rfl rfl)
theorem dX3_give_35 : decode cX3_give 35 = .ok (.invokestatic 121, 3) := dk_184 0 121 (dk_at dksX3_give_1 12 rfl rfl)
theorem dX3_give_38 : decode cX3_give 38 = .ok (.ifCond .eq 16, 3) := dk_153 0 16 (dk_at dksX3_give_1 15 rfl rfl)
theorem dX3_give_41 : decode cX3_give 41 = .ok (.iload_n 2, 1) := dk_28 (dk_at dksX3_give_1 18 rfl rfl)
theorem dX3_give_42 : decode cX3_give 42 = .ok (.iload_n 3, 1) := dk_29 (dk_at dksX3_give_1 19 rfl rfl)
theorem dX3_give_43 : decode cX3_give 43 = .ok (.if_icmp .eq 11, 3) := dk_159 0 11 (dk_at dksX3_give_1 20 rfl rfl)
theorem dX3_give_46 : decode cX3_give 46 = .ok (.iload 4, 2) := dk_21 4 (dk_at dksX3_give_2 0 rfl rfl)
theorem dX3_give_48 : decode cX3_give 48 = .ok (.invokestatic 273, 3) := dk_184 1 17 (dk_at dksX3_give_2 2 rfl rfl)
theorem dX3_give_51 : decode cX3_give 51 = .ok (.ifCond .ne 6, 3) := dk_154 0 6 (dk_at dksX3_give_2 5 rfl rfl)
theorem dX3_give_54 : decode cX3_give 54 = .ok (.ldc 131, 2) := dk_18 131 (dk_at dksX3_give_2 8 rfl rfl)
theorem dX3_give_56 : decode cX3_give 56 = .ok (.ireturn, 1) := dk_172 (dk_at dksX3_give_2 10 rfl rfl)
theorem dX3_give_57 : decode cX3_give 57 = .ok (.aload_n 0, 1) := dk_42 (dk_at dksX3_give_2 11 rfl rfl)
theorem dX3_give_58 : decode cX3_give 58 = .ok (.getfield 355, 3) := dk_180 1 99 (dk_at dksX3_give_2 12 rfl rfl)
theorem dX3_give_61 : decode cX3_give 61 = .ok (.bipush 40, 2) := dk_16 40 (dk_at dksX3_give_2 15 rfl rfl)
theorem dX3_give_63 : decode cX3_give 63 = .ok (.if_icmp .ne 6, 3) := dk_160 0 6 (dk_at dksX3_give_2 17 rfl rfl)
theorem dX3_give_66 : decode cX3_give 66 = .ok (.ldc 141, 2) := dk_18 141 (dk_at dksX3_give_2 20 rfl rfl)
theorem dX3_give_68 : decode cX3_give 68 = .ok (.ireturn, 1) := dk_172 (dk_at dksX3_give_2 22 rfl rfl)
theorem dX3_give_69 : decode cX3_give 69 = .ok (.aload_n 0, 1) := dk_42 (dk_at dksX3_give_2 23 rfl rfl)
theorem dX3_give_70 : decode cX3_give 70 = .ok (.getfield 72, 3) := dk_180 0 72 (dk_at dksX3_give_3 0 rfl rfl)
theorem dX3_give_73 : decode cX3_give 73 = .ok (.aload_n 0, 1) := dk_42 (dk_at dksX3_give_3 3 rfl rfl)
theorem dX3_give_74 : decode cX3_give 74 = .ok (.getfield 355, 3) := dk_180 1 99 (dk_at dksX3_give_3 4 rfl rfl)
theorem dX3_give_77 : decode cX3_give 77 = .ok (.iload_n 1, 1) := dk_27 (dk_at dksX3_give_3 7 rfl rfl)
theorem dX3_give_78 : decode cX3_give 78 = .ok (.iastore, 1) := dk_79 (dk_at dksX3_give_3 8 rfl rfl)
theorem dX3_give_79 : decode cX3_give 79 = .ok (.aload_n 0, 1) := dk_42 (dk_at dksX3_give_3 9 rfl rfl)
theorem dX3_give_80 : decode cX3_give 80 = .ok (.getfield 75, 3) := dk_180 0 75 (dk_at dksX3_give_3 10 rfl rfl)
theorem dX3_give_83 : decode cX3_give 83 = .ok (.aload_n 0, 1) := dk_42 (dk_at dksX3_give_3 13 rfl rfl)
theorem dX3_give_84 : decode cX3_give 84 = .ok (.getfield 355, 3) := dk_180 1 99 (dk_at dksX3_give_3 14 rfl rfl)
theorem dX3_give_87 : decode cX3_give 87 = .ok (.iload_n 2, 1) := dk_28 (dk_at dksX3_give_3 17 rfl rfl)
theorem dX3_give_88 : decode cX3_give 88 = .ok (.iastore, 1) := dk_79 (dk_at dksX3_give_3 18 rfl rfl)
theorem dX3_give_89 : decode cX3_give 89 = .ok (.aload_n 0, 1) := dk_42 (dk_at dksX3_give_3 19 rfl rfl)
theorem dX3_give_90 : decode cX3_give 90 = .ok (.getfield 78, 3) := dk_180 0 78 (dk_at dksX3_give_3 20 rfl rfl)
theorem dX3_give_93 : decode cX3_give 93 = .ok (.aload_n 0, 1) := dk_42 (dk_at dksX3_give_3 23 rfl rfl)
theorem dX3_give_94 : decode cX3_give 94 = .ok (.getfield 355, 3) := dk_180 1 99 (dk_at dksX3_give_4 0 rfl rfl)
theorem dX3_give_97 : decode cX3_give 97 = .ok (.iload_n 3, 1) := dk_29 (dk_at dksX3_give_4 3 rfl rfl)
theorem dX3_give_98 : decode cX3_give 98 = .ok (.iastore, 1) := dk_79 (dk_at dksX3_give_4 4 rfl rfl)
theorem dX3_give_99 : decode cX3_give 99 = .ok (.aload_n 0, 1) := dk_42 (dk_at dksX3_give_4 5 rfl rfl)
theorem dX3_give_100 : decode cX3_give 100 = .ok (.getfield 81, 3) := dk_180 0 81 (dk_at dksX3_give_4 6 rfl rfl)
theorem dX3_give_103 : decode cX3_give 103 = .ok (.aload_n 0, 1) := dk_42 (dk_at dksX3_give_4 9 rfl rfl)
theorem dX3_give_104 : decode cX3_give 104 = .ok (.getfield 355, 3) := dk_180 1 99 (dk_at dksX3_give_4 10 rfl rfl)
theorem dX3_give_107 : decode cX3_give 107 = .ok (.iload 4, 2) := dk_21 4 (dk_at dksX3_give_4 13 rfl rfl)
theorem dX3_give_109 : decode cX3_give 109 = .ok (.iastore, 1) := dk_79 (dk_at dksX3_give_4 15 rfl rfl)
theorem dX3_give_110 : decode cX3_give 110 = .ok (.aload_n 0, 1) := dk_42 (dk_at dksX3_give_4 16 rfl rfl)
theorem dX3_give_111 : decode cX3_give 111 = .ok (.dup, 1) := dk_89 (dk_at dksX3_give_4 17 rfl rfl)
theorem dX3_give_112 : decode cX3_give 112 = .ok (.getfield 355, 3) := dk_180 1 99 (dk_at dksX3_give_4 18 rfl rfl)
theorem dX3_give_115 : decode cX3_give 115 = .ok (.iconst 1, 1) := dk_4 (dk_at dksX3_give_4 21 rfl rfl)
theorem dX3_give_116 : decode cX3_give 116 = .ok (.iadd, 1) := dk_96 (dk_at dksX3_give_4 22 rfl rfl)
theorem dX3_give_117 : decode cX3_give 117 = .ok (.putfield 355, 3) := dk_181 1 99 (dk_at dksX3_give_5 0 rfl rfl)
theorem dX3_give_120 : decode cX3_give 120 = .ok (.aload_n 0, 1) := dk_42 (dk_at dksX3_give_5 3 rfl rfl)
theorem dX3_give_121 : decode cX3_give 121 = .ok (.getfield 355, 3) := dk_180 1 99 (dk_at dksX3_give_5 4 rfl rfl)
theorem dX3_give_124 : decode cX3_give 124 = .ok (.ireturn, 1) := dk_172 (dk_at dksX3_give_5 7 rfl rfl)
abbrev cX3_key : ByteArray := prog_19_method_56_code
def yX3_key : MethodName := ⟨RX3, "key", "(III)I"⟩
def dkwX3_key_7 : List UInt8 := [21, 4, 167, 0, 5, 21, 5, 172]
abbrev dktX3_key_7 : List UInt8 := dkwX3_key_7 ++ []
def dkwX3_key_6 : List UInt8 := [167, 0, 4, 4, 96, 54, 5, 132, 7, 1, 167, 255, 161, 132, 6, 1, 167, 255, 146, 29, 154, 0, 8]
abbrev dktX3_key_6 : List UInt8 := dkwX3_key_6 ++ dktX3_key_7
def dkwX3_key_5 : List UInt8 := [42, 180, 0, 78, 21, 7, 46, 167, 0, 5, 21, 4, 54, 4, 21, 5, 21, 8, 153, 0, 7, 3]
abbrev dktX3_key_5 : List UInt8 := dkwX3_key_5 ++ dktX3_key_6
def dkwX3_key_4 : List UInt8 := [42, 180, 0, 75, 21, 7, 46, 21, 4, 160, 0, 7, 4, 167, 0, 4, 3, 54, 8, 21, 8, 153, 0, 13]
abbrev dktX3_key_4 : List UInt8 := dkwX3_key_4 ++ dktX3_key_5
def dkwX3_key_3 : List UInt8 := [46, 27, 160, 0, 75, 42, 180, 0, 81, 21, 7, 46, 21, 6, 160, 0, 63, 21, 4, 18, 147, 159, 0, 15]
abbrev dktX3_key_3 : List UInt8 := dkwX3_key_3 ++ dktX3_key_4
def dkwX3_key_2 : List UInt8 := [21, 6, 28, 163, 0, 110, 3, 54, 7, 21, 7, 42, 180, 1, 99, 162, 0, 92, 42, 180, 0, 72, 21, 7]
abbrev dktX3_key_2 : List UInt8 := dkwX3_key_2 ++ dktX3_key_3
def dkwX3_key_1 : List UInt8 := [29, 133, 9, 10, 184, 0, 121, 154, 0, 6, 18, 131, 172, 18, 147, 54, 4, 3, 54, 5, 3, 54, 6]
abbrev dktX3_key_1 : List UInt8 := dkwX3_key_1 ++ dktX3_key_2
def dkwX3_key_0 : List UInt8 := [42, 3, 181, 0, 111, 27, 133, 9, 20, 0, 249, 184, 0, 121, 153, 0, 20, 28, 184, 1, 17, 153, 0, 13]
abbrev dktX3_key_0 : List UInt8 := dkwX3_key_0 ++ dktX3_key_1
theorem dksX3_key_0 : cX3_key.data.toList.drop 0 = dktX3_key_0 := by decide +kernel
theorem dksX3_key_1 : cX3_key.data.toList.drop 24 = dktX3_key_1 := dk_seg dksX3_key_0 24 rfl rfl
theorem dksX3_key_2 : cX3_key.data.toList.drop 47 = dktX3_key_2 := dk_seg dksX3_key_1 23 rfl rfl
theorem dksX3_key_3 : cX3_key.data.toList.drop 71 = dktX3_key_3 := dk_seg dksX3_key_2 24 rfl rfl
theorem dksX3_key_4 : cX3_key.data.toList.drop 95 = dktX3_key_4 := dk_seg dksX3_key_3 24 rfl rfl
theorem dksX3_key_5 : cX3_key.data.toList.drop 119 = dktX3_key_5 := dk_seg dksX3_key_4 24 rfl rfl
theorem dksX3_key_6 : cX3_key.data.toList.drop 141 = dktX3_key_6 := dk_seg dksX3_key_5 22 rfl rfl
theorem dksX3_key_7 : cX3_key.data.toList.drop 164 = dktX3_key_7 := dk_seg dksX3_key_6 23 rfl rfl
theorem dX3_key_0 : decode cX3_key 0 = .ok (.aload_n 0, 1) := dk_42 (dk_at dksX3_key_0 0 rfl rfl)
theorem dX3_key_1 : decode cX3_key 1 = .ok (.iconst 0, 1) := dk_3 (dk_at dksX3_key_0 1 rfl rfl)
theorem dX3_key_2 : decode cX3_key 2 = .ok (.putfield 111, 3) := dk_181 0 111 (dk_at dksX3_key_0 2 rfl rfl)
theorem dX3_key_5 : decode cX3_key 5 = .ok (.iload_n 1, 1) := dk_27 (dk_at dksX3_key_0 5 rfl rfl)
theorem dX3_key_6 : decode cX3_key 6 = .ok (.i2l, 1) := dk_133 (dk_at dksX3_key_0 6 rfl rfl)
theorem dX3_key_7 : decode cX3_key 7 = .ok (.lconst 0, 1) := dk_9 (dk_at dksX3_key_0 7 rfl rfl)
theorem dX3_key_8 : decode cX3_key 8 = .ok (.ldc2_w 249, 3) := dk_20 0 249 (dk_at dksX3_key_0 8 rfl rfl)
theorem dX3_key_11 : decode cX3_key 11 = .ok (.invokestatic 121, 3) := dk_184 0 121 (dk_at dksX3_key_0 11 rfl rfl)
theorem dX3_key_14 : decode cX3_key 14 = .ok (.ifCond .eq 20, 3) := dk_153 0 20 (dk_at dksX3_key_0 14 rfl rfl)
theorem dX3_key_17 : decode cX3_key 17 = .ok (.iload_n 2, 1) := dk_28 (dk_at dksX3_key_0 17 rfl rfl)
theorem dX3_key_18 : decode cX3_key 18 = .ok (.invokestatic 273, 3) := dk_184 1 17 (dk_at dksX3_key_0 18 rfl rfl)
theorem dX3_key_21 : decode cX3_key 21 = .ok (.ifCond .eq 13, 3) := dk_153 0 13 (dk_at dksX3_key_0 21 rfl rfl)
theorem dX3_key_24 : decode cX3_key 24 = .ok (.iload_n 3, 1) := dk_29 (dk_at dksX3_key_1 0 rfl rfl)
theorem dX3_key_25 : decode cX3_key 25 = .ok (.i2l, 1) := dk_133 (dk_at dksX3_key_1 1 rfl rfl)
theorem dX3_key_26 : decode cX3_key 26 = .ok (.lconst 0, 1) := dk_9 (dk_at dksX3_key_1 2 rfl rfl)
theorem dX3_key_27 : decode cX3_key 27 = .ok (.lconst 1, 1) := dk_10 (dk_at dksX3_key_1 3 rfl rfl)
theorem dX3_key_28 : decode cX3_key 28 = .ok (.invokestatic 121, 3) := dk_184 0 121 (dk_at dksX3_key_1 4 rfl rfl)
theorem dX3_key_31 : decode cX3_key 31 = .ok (.ifCond .ne 6, 3) := dk_154 0 6 (dk_at dksX3_key_1 7 rfl rfl)
theorem dX3_key_34 : decode cX3_key 34 = .ok (.ldc 131, 2) := dk_18 131 (dk_at dksX3_key_1 10 rfl rfl)
theorem dX3_key_36 : decode cX3_key 36 = .ok (.ireturn, 1) := dk_172 (dk_at dksX3_key_1 12 rfl rfl)
theorem dX3_key_37 : decode cX3_key 37 = .ok (.ldc 147, 2) := dk_18 147 (dk_at dksX3_key_1 13 rfl rfl)
theorem dX3_key_39 : decode cX3_key 39 = .ok (.istore 4, 2) := dk_54 4 (dk_at dksX3_key_1 15 rfl rfl)
theorem dX3_key_41 : decode cX3_key 41 = .ok (.iconst 0, 1) := dk_3 (dk_at dksX3_key_1 17 rfl rfl)
theorem dX3_key_42 : decode cX3_key 42 = .ok (.istore 5, 2) := dk_54 5 (dk_at dksX3_key_1 18 rfl rfl)
theorem dX3_key_44 : decode cX3_key 44 = .ok (.iconst 0, 1) := dk_3 (dk_at dksX3_key_1 20 rfl rfl)
theorem dX3_key_45 : decode cX3_key 45 = .ok (.istore 6, 2) := dk_54 6 (dk_at dksX3_key_1 21 rfl rfl)
theorem dX3_key_47 : decode cX3_key 47 = .ok (.iload 6, 2) := dk_21 6 (dk_at dksX3_key_2 0 rfl rfl)
theorem dX3_key_49 : decode cX3_key 49 = .ok (.iload_n 2, 1) := dk_28 (dk_at dksX3_key_2 2 rfl rfl)
theorem dX3_key_50 : decode cX3_key 50 = .ok (.if_icmp .gt 110, 3) := dk_163 0 110 (dk_at dksX3_key_2 3 rfl rfl)
theorem dX3_key_53 : decode cX3_key 53 = .ok (.iconst 0, 1) := dk_3 (dk_at dksX3_key_2 6 rfl rfl)
theorem dX3_key_54 : decode cX3_key 54 = .ok (.istore 7, 2) := dk_54 7 (dk_at dksX3_key_2 7 rfl rfl)
theorem dX3_key_56 : decode cX3_key 56 = .ok (.iload 7, 2) := dk_21 7 (dk_at dksX3_key_2 9 rfl rfl)
theorem dX3_key_58 : decode cX3_key 58 = .ok (.aload_n 0, 1) := dk_42 (dk_at dksX3_key_2 11 rfl rfl)
theorem dX3_key_59 : decode cX3_key 59 = .ok (.getfield 355, 3) := dk_180 1 99 (dk_at dksX3_key_2 12 rfl rfl)
theorem dX3_key_62 : decode cX3_key 62 = .ok (.if_icmp .ge 92, 3) := dk_162 0 92 (dk_at dksX3_key_2 15 rfl rfl)
theorem dX3_key_65 : decode cX3_key 65 = .ok (.aload_n 0, 1) := dk_42 (dk_at dksX3_key_2 18 rfl rfl)
theorem dX3_key_66 : decode cX3_key 66 = .ok (.getfield 72, 3) := dk_180 0 72 (dk_at dksX3_key_2 19 rfl rfl)
theorem dX3_key_69 : decode cX3_key 69 = .ok (.iload 7, 2) := dk_21 7 (dk_at dksX3_key_2 22 rfl rfl)
theorem dX3_key_71 : decode cX3_key 71 = .ok (.iaload, 1) := dk_46 (dk_at dksX3_key_3 0 rfl rfl)
theorem dX3_key_72 : decode cX3_key 72 = .ok (.iload_n 1, 1) := dk_27 (dk_at dksX3_key_3 1 rfl rfl)
theorem dX3_key_73 : decode cX3_key 73 = .ok (.if_icmp .ne 75, 3) := dk_160 0 75 (dk_at dksX3_key_3 2 rfl rfl)
theorem dX3_key_76 : decode cX3_key 76 = .ok (.aload_n 0, 1) := dk_42 (dk_at dksX3_key_3 5 rfl rfl)
theorem dX3_key_77 : decode cX3_key 77 = .ok (.getfield 81, 3) := dk_180 0 81 (dk_at dksX3_key_3 6 rfl rfl)
theorem dX3_key_80 : decode cX3_key 80 = .ok (.iload 7, 2) := dk_21 7 (dk_at dksX3_key_3 9 rfl rfl)
theorem dX3_key_82 : decode cX3_key 82 = .ok (.iaload, 1) := dk_46 (dk_at dksX3_key_3 11 rfl rfl)
theorem dX3_key_83 : decode cX3_key 83 = .ok (.iload 6, 2) := dk_21 6 (dk_at dksX3_key_3 12 rfl rfl)
theorem dX3_key_85 : decode cX3_key 85 = .ok (.if_icmp .ne 63, 3) := dk_160 0 63 (dk_at dksX3_key_3 14 rfl rfl)
theorem dX3_key_88 : decode cX3_key 88 = .ok (.iload 4, 2) := dk_21 4 (dk_at dksX3_key_3 17 rfl rfl)
theorem dX3_key_90 : decode cX3_key 90 = .ok (.ldc 147, 2) := dk_18 147 (dk_at dksX3_key_3 19 rfl rfl)
theorem dX3_key_92 : decode cX3_key 92 = .ok (.if_icmp .eq 15, 3) := dk_159 0 15 (dk_at dksX3_key_3 21 rfl rfl)
theorem dX3_key_95 : decode cX3_key 95 = .ok (.aload_n 0, 1) := dk_42 (dk_at dksX3_key_4 0 rfl rfl)
theorem dX3_key_96 : decode cX3_key 96 = .ok (.getfield 75, 3) := dk_180 0 75 (dk_at dksX3_key_4 1 rfl rfl)
theorem dX3_key_99 : decode cX3_key 99 = .ok (.iload 7, 2) := dk_21 7 (dk_at dksX3_key_4 4 rfl rfl)
theorem dX3_key_101 : decode cX3_key 101 = .ok (.iaload, 1) := dk_46 (dk_at dksX3_key_4 6 rfl rfl)
theorem dX3_key_102 : decode cX3_key 102 = .ok (.iload 4, 2) := dk_21 4 (dk_at dksX3_key_4 7 rfl rfl)
theorem dX3_key_104 : decode cX3_key 104 = .ok (.if_icmp .ne 7, 3) := dk_160 0 7 (dk_at dksX3_key_4 9 rfl rfl)
theorem dX3_key_107 : decode cX3_key 107 = .ok (.iconst 1, 1) := dk_4 (dk_at dksX3_key_4 12 rfl rfl)
theorem dX3_key_108 : decode cX3_key 108 = .ok (.goto 4, 3) := dk_167 0 4 (dk_at dksX3_key_4 13 rfl rfl)
theorem dX3_key_111 : decode cX3_key 111 = .ok (.iconst 0, 1) := dk_3 (dk_at dksX3_key_4 16 rfl rfl)
theorem dX3_key_112 : decode cX3_key 112 = .ok (.istore 8, 2) := dk_54 8 (dk_at dksX3_key_4 17 rfl rfl)
theorem dX3_key_114 : decode cX3_key 114 = .ok (.iload 8, 2) := dk_21 8 (dk_at dksX3_key_4 19 rfl rfl)
theorem dX3_key_116 : decode cX3_key 116 = .ok (.ifCond .eq 13, 3) := dk_153 0 13 (dk_at dksX3_key_4 21 rfl rfl)
theorem dX3_key_119 : decode cX3_key 119 = .ok (.aload_n 0, 1) := dk_42 (dk_at dksX3_key_5 0 rfl rfl)
theorem dX3_key_120 : decode cX3_key 120 = .ok (.getfield 78, 3) := dk_180 0 78 (dk_at dksX3_key_5 1 rfl rfl)
theorem dX3_key_123 : decode cX3_key 123 = .ok (.iload 7, 2) := dk_21 7 (dk_at dksX3_key_5 4 rfl rfl)
theorem dX3_key_125 : decode cX3_key 125 = .ok (.iaload, 1) := dk_46 (dk_at dksX3_key_5 6 rfl rfl)
theorem dX3_key_126 : decode cX3_key 126 = .ok (.goto 5, 3) := dk_167 0 5 (dk_at dksX3_key_5 7 rfl rfl)
theorem dX3_key_129 : decode cX3_key 129 = .ok (.iload 4, 2) := dk_21 4 (dk_at dksX3_key_5 10 rfl rfl)
theorem dX3_key_131 : decode cX3_key 131 = .ok (.istore 4, 2) := dk_54 4 (dk_at dksX3_key_5 12 rfl rfl)
theorem dX3_key_133 : decode cX3_key 133 = .ok (.iload 5, 2) := dk_21 5 (dk_at dksX3_key_5 14 rfl rfl)
theorem dX3_key_135 : decode cX3_key 135 = .ok (.iload 8, 2) := dk_21 8 (dk_at dksX3_key_5 16 rfl rfl)
theorem dX3_key_137 : decode cX3_key 137 = .ok (.ifCond .eq 7, 3) := dk_153 0 7 (dk_at dksX3_key_5 18 rfl rfl)
theorem dX3_key_140 : decode cX3_key 140 = .ok (.iconst 0, 1) := dk_3 (dk_at dksX3_key_5 21 rfl rfl)
theorem dX3_key_141 : decode cX3_key 141 = .ok (.goto 4, 3) := dk_167 0 4 (dk_at dksX3_key_6 0 rfl rfl)
theorem dX3_key_144 : decode cX3_key 144 = .ok (.iconst 1, 1) := dk_4 (dk_at dksX3_key_6 3 rfl rfl)
theorem dX3_key_145 : decode cX3_key 145 = .ok (.iadd, 1) := dk_96 (dk_at dksX3_key_6 4 rfl rfl)
theorem dX3_key_146 : decode cX3_key 146 = .ok (.istore 5, 2) := dk_54 5 (dk_at dksX3_key_6 5 rfl rfl)
theorem dX3_key_148 : decode cX3_key 148 = .ok (.iinc 7 1, 3) := dk_132 7 1 (dk_at dksX3_key_6 7 rfl rfl)
theorem dX3_key_151 : decode cX3_key 151 = .ok (.goto (-95), 3) := dk_167 255 161 (dk_at dksX3_key_6 10 rfl rfl)
theorem dX3_key_154 : decode cX3_key 154 = .ok (.iinc 6 1, 3) := dk_132 6 1 (dk_at dksX3_key_6 13 rfl rfl)
theorem dX3_key_157 : decode cX3_key 157 = .ok (.goto (-110), 3) := dk_167 255 146 (dk_at dksX3_key_6 16 rfl rfl)
theorem dX3_key_160 : decode cX3_key 160 = .ok (.iload_n 3, 1) := dk_29 (dk_at dksX3_key_6 19 rfl rfl)
theorem dX3_key_161 : decode cX3_key 161 = .ok (.ifCond .ne 8, 3) := dk_154 0 8 (dk_at dksX3_key_6 20 rfl rfl)
theorem dX3_key_164 : decode cX3_key 164 = .ok (.iload 4, 2) := dk_21 4 (dk_at dksX3_key_7 0 rfl rfl)
theorem dX3_key_166 : decode cX3_key 166 = .ok (.goto 5, 3) := dk_167 0 5 (dk_at dksX3_key_7 2 rfl rfl)
theorem dX3_key_169 : decode cX3_key 169 = .ok (.iload 5, 2) := dk_21 5 (dk_at dksX3_key_7 5 rfl rfl)
theorem dX3_key_171 : decode cX3_key 171 = .ok (.ireturn, 1) := dk_172 (dk_at dksX3_key_7 7 rfl rfl)
abbrev cX3_look : ByteArray := prog_19_method_57_code
def yX3_look : MethodName := ⟨RX3, "look", "(IIII)I"⟩
def dkwX3_look_4 : List UInt8 := [79, 42, 89, 180, 1, 102, 4, 96, 181, 1, 102, 42, 180, 1, 102, 172]
abbrev dktX3_look_4 : List UInt8 := dkwX3_look_4 ++ []
def dkwX3_look_3 : List UInt8 := [180, 0, 87, 42, 180, 1, 102, 16, 96, 28, 104, 29, 96, 79, 42, 180, 0, 90, 42, 180, 1, 102, 21, 4]
abbrev dktX3_look_3 : List UInt8 := dkwX3_look_3 ++ dktX3_look_4
def dkwX3_look_2 : List UInt8 := [172, 42, 180, 1, 102, 16, 40, 160, 0, 6, 18, 141, 172, 42, 180, 0, 84, 42, 180, 1, 102, 27, 79, 42]
abbrev dktX3_look_2 : List UInt8 := dkwX3_look_2 ++ dktX3_look_3
def dkwX3_look_1 : List UInt8 := [20, 1, 20, 184, 0, 121, 153, 0, 16, 21, 4, 133, 9, 20, 0, 142, 184, 0, 121, 154, 0, 6, 18, 131]
abbrev dktX3_look_1 : List UInt8 := dkwX3_look_1 ++ dktX3_look_2
def dkwX3_look_0 : List UInt8 := [42, 3, 181, 0, 111, 27, 184, 0, 251, 153, 0, 35, 28, 184, 1, 17, 153, 0, 28, 29, 133, 9]
abbrev dktX3_look_0 : List UInt8 := dkwX3_look_0 ++ dktX3_look_1
theorem dksX3_look_0 : cX3_look.data.toList.drop 0 = dktX3_look_0 := by decide +kernel
theorem dksX3_look_1 : cX3_look.data.toList.drop 22 = dktX3_look_1 := dk_seg dksX3_look_0 22 rfl rfl
theorem dksX3_look_2 : cX3_look.data.toList.drop 46 = dktX3_look_2 := dk_seg dksX3_look_1 24 rfl rfl
theorem dksX3_look_3 : cX3_look.data.toList.drop 70 = dktX3_look_3 := dk_seg dksX3_look_2 24 rfl rfl
theorem dksX3_look_4 : cX3_look.data.toList.drop 94 = dktX3_look_4 := dk_seg dksX3_look_3 24 rfl rfl
theorem dX3_look_0 : decode cX3_look 0 = .ok (.aload_n 0, 1) := dk_42 (dk_at dksX3_look_0 0 rfl rfl)
theorem dX3_look_1 : decode cX3_look 1 = .ok (.iconst 0, 1) := dk_3 (dk_at dksX3_look_0 1 rfl rfl)
theorem dX3_look_2 : decode cX3_look 2 = .ok (.putfield 111, 3) := dk_181 0 111 (dk_at dksX3_look_0 2 rfl rfl)
theorem dX3_look_5 : decode cX3_look 5 = .ok (.iload_n 1, 1) := dk_27 (dk_at dksX3_look_0 5 rfl rfl)
theorem dX3_look_6 : decode cX3_look 6 = .ok (.invokestatic 251, 3) := dk_184 0 251 (dk_at dksX3_look_0 6 rfl rfl)
theorem dX3_look_9 : decode cX3_look 9 = .ok (.ifCond .eq 35, 3) := dk_153 0 35 (dk_at dksX3_look_0 9 rfl rfl)
theorem dX3_look_12 : decode cX3_look 12 = .ok (.iload_n 2, 1) := dk_28 (dk_at dksX3_look_0 12 rfl rfl)
theorem dX3_look_13 : decode cX3_look 13 = .ok (.invokestatic 273, 3) := dk_184 1 17 (dk_at dksX3_look_0 13 rfl rfl)
theorem dX3_look_16 : decode cX3_look 16 = .ok (.ifCond .eq 28, 3) := dk_153 0 28 (dk_at dksX3_look_0 16 rfl rfl)
theorem dX3_look_19 : decode cX3_look 19 = .ok (.iload_n 3, 1) := dk_29 (dk_at dksX3_look_0 19 rfl rfl)
theorem dX3_look_20 : decode cX3_look 20 = .ok (.i2l, 1) := dk_133 (dk_at dksX3_look_0 20 rfl rfl)
theorem dX3_look_21 : decode cX3_look 21 = .ok (.lconst 0, 1) := dk_9 (dk_at dksX3_look_0 21 rfl rfl)
theorem dX3_look_22 : decode cX3_look 22 = .ok (.ldc2_w 276, 3) := dk_20 1 20 (dk_at dksX3_look_1 0 rfl rfl)
theorem dX3_look_25 : decode cX3_look 25 = .ok (.invokestatic 121, 3) := dk_184 0 121 (dk_at dksX3_look_1 3 rfl rfl)
theorem dX3_look_28 : decode cX3_look 28 = .ok (.ifCond .eq 16, 3) := dk_153 0 16 (dk_at dksX3_look_1 6 rfl rfl)
theorem dX3_look_31 : decode cX3_look 31 = .ok (.iload 4, 2) := dk_21 4 (dk_at dksX3_look_1 9 rfl rfl)
theorem dX3_look_33 : decode cX3_look 33 = .ok (.i2l, 1) := dk_133 (dk_at dksX3_look_1 11 rfl rfl)
theorem dX3_look_34 : decode cX3_look 34 = .ok (.lconst 0, 1) := dk_9 (dk_at dksX3_look_1 12 rfl rfl)
theorem dX3_look_35 : decode cX3_look 35 = .ok (.ldc2_w 142, 3) := dk_20 0 142 (dk_at dksX3_look_1 13 rfl rfl)
theorem dX3_look_38 : decode cX3_look 38 = .ok (.invokestatic 121, 3) := dk_184 0 121 (dk_at dksX3_look_1 16 rfl rfl)
theorem dX3_look_41 : decode cX3_look 41 = .ok (.ifCond .ne 6, 3) := dk_154 0 6 (dk_at dksX3_look_1 19 rfl rfl)
theorem dX3_look_44 : decode cX3_look 44 = .ok (.ldc 131, 2) := dk_18 131 (dk_at dksX3_look_1 22 rfl rfl)
theorem dX3_look_46 : decode cX3_look 46 = .ok (.ireturn, 1) := dk_172 (dk_at dksX3_look_2 0 rfl rfl)
theorem dX3_look_47 : decode cX3_look 47 = .ok (.aload_n 0, 1) := dk_42 (dk_at dksX3_look_2 1 rfl rfl)
theorem dX3_look_48 : decode cX3_look 48 = .ok (.getfield 358, 3) := dk_180 1 102 (dk_at dksX3_look_2 2 rfl rfl)
theorem dX3_look_51 : decode cX3_look 51 = .ok (.bipush 40, 2) := dk_16 40 (dk_at dksX3_look_2 5 rfl rfl)
theorem dX3_look_53 : decode cX3_look 53 = .ok (.if_icmp .ne 6, 3) := dk_160 0 6 (dk_at dksX3_look_2 7 rfl rfl)
theorem dX3_look_56 : decode cX3_look 56 = .ok (.ldc 141, 2) := dk_18 141 (dk_at dksX3_look_2 10 rfl rfl)
theorem dX3_look_58 : decode cX3_look 58 = .ok (.ireturn, 1) := dk_172 (dk_at dksX3_look_2 12 rfl rfl)
theorem dX3_look_59 : decode cX3_look 59 = .ok (.aload_n 0, 1) := dk_42 (dk_at dksX3_look_2 13 rfl rfl)
theorem dX3_look_60 : decode cX3_look 60 = .ok (.getfield 84, 3) := dk_180 0 84 (dk_at dksX3_look_2 14 rfl rfl)
theorem dX3_look_63 : decode cX3_look 63 = .ok (.aload_n 0, 1) := dk_42 (dk_at dksX3_look_2 17 rfl rfl)
theorem dX3_look_64 : decode cX3_look 64 = .ok (.getfield 358, 3) := dk_180 1 102 (dk_at dksX3_look_2 18 rfl rfl)
theorem dX3_look_67 : decode cX3_look 67 = .ok (.iload_n 1, 1) := dk_27 (dk_at dksX3_look_2 21 rfl rfl)
theorem dX3_look_68 : decode cX3_look 68 = .ok (.iastore, 1) := dk_79 (dk_at dksX3_look_2 22 rfl rfl)
theorem dX3_look_69 : decode cX3_look 69 = .ok (.aload_n 0, 1) := dk_42 (dk_at dksX3_look_2 23 rfl rfl)
theorem dX3_look_70 : decode cX3_look 70 = .ok (.getfield 87, 3) := dk_180 0 87 (dk_at dksX3_look_3 0 rfl rfl)
theorem dX3_look_73 : decode cX3_look 73 = .ok (.aload_n 0, 1) := dk_42 (dk_at dksX3_look_3 3 rfl rfl)
theorem dX3_look_74 : decode cX3_look 74 = .ok (.getfield 358, 3) := dk_180 1 102 (dk_at dksX3_look_3 4 rfl rfl)
theorem dX3_look_77 : decode cX3_look 77 = .ok (.bipush 96, 2) := dk_16 96 (dk_at dksX3_look_3 7 rfl rfl)
theorem dX3_look_79 : decode cX3_look 79 = .ok (.iload_n 2, 1) := dk_28 (dk_at dksX3_look_3 9 rfl rfl)
theorem dX3_look_80 : decode cX3_look 80 = .ok (.imul, 1) := dk_104 (dk_at dksX3_look_3 10 rfl rfl)
theorem dX3_look_81 : decode cX3_look 81 = .ok (.iload_n 3, 1) := dk_29 (dk_at dksX3_look_3 11 rfl rfl)
theorem dX3_look_82 : decode cX3_look 82 = .ok (.iadd, 1) := dk_96 (dk_at dksX3_look_3 12 rfl rfl)
theorem dX3_look_83 : decode cX3_look 83 = .ok (.iastore, 1) := dk_79 (dk_at dksX3_look_3 13 rfl rfl)
theorem dX3_look_84 : decode cX3_look 84 = .ok (.aload_n 0, 1) := dk_42 (dk_at dksX3_look_3 14 rfl rfl)
theorem dX3_look_85 : decode cX3_look 85 = .ok (.getfield 90, 3) := dk_180 0 90 (dk_at dksX3_look_3 15 rfl rfl)
theorem dX3_look_88 : decode cX3_look 88 = .ok (.aload_n 0, 1) := dk_42 (dk_at dksX3_look_3 18 rfl rfl)
theorem dX3_look_89 : decode cX3_look 89 = .ok (.getfield 358, 3) := dk_180 1 102 (dk_at dksX3_look_3 19 rfl rfl)
theorem dX3_look_92 : decode cX3_look 92 = .ok (.iload 4, 2) := dk_21 4 (dk_at dksX3_look_3 22 rfl rfl)
theorem dX3_look_94 : decode cX3_look 94 = .ok (.iastore, 1) := dk_79 (dk_at dksX3_look_4 0 rfl rfl)
theorem dX3_look_95 : decode cX3_look 95 = .ok (.aload_n 0, 1) := dk_42 (dk_at dksX3_look_4 1 rfl rfl)
theorem dX3_look_96 : decode cX3_look 96 = .ok (.dup, 1) := dk_89 (dk_at dksX3_look_4 2 rfl rfl)
theorem dX3_look_97 : decode cX3_look 97 = .ok (.getfield 358, 3) := dk_180 1 102 (dk_at dksX3_look_4 3 rfl rfl)
theorem dX3_look_100 : decode cX3_look 100 = .ok (.iconst 1, 1) := dk_4 (dk_at dksX3_look_4 6 rfl rfl)
theorem dX3_look_101 : decode cX3_look 101 = .ok (.iadd, 1) := dk_96 (dk_at dksX3_look_4 7 rfl rfl)
theorem dX3_look_102 : decode cX3_look 102 = .ok (.putfield 358, 3) := dk_181 1 102 (dk_at dksX3_look_4 8 rfl rfl)
theorem dX3_look_105 : decode cX3_look 105 = .ok (.aload_n 0, 1) := dk_42 (dk_at dksX3_look_4 11 rfl rfl)
theorem dX3_look_106 : decode cX3_look 106 = .ok (.getfield 358, 3) := dk_180 1 102 (dk_at dksX3_look_4 12 rfl rfl)
theorem dX3_look_109 : decode cX3_look 109 = .ok (.ireturn, 1) := dk_172 (dk_at dksX3_look_4 15 rfl rfl)
abbrev cX3_home : ByteArray := prog_19_method_58_code
def yX3_home : MethodName := ⟨RX3, "home", "(II)I"⟩
def dkwX3_home_17 : List UInt8 := [132, 7, 1, 132, 8, 1, 167, 255, 164, 21, 7, 4, 160, 0, 8, 21, 6, 167, 0, 5, 18, 147, 172]
abbrev dktX3_home_17 : List UInt8 := dkwX3_home_17 ++ []
def dkwX3_home_16 : List UInt8 := [42, 21, 8, 7, 182, 1, 29, 96, 42, 180, 0, 87, 21, 4, 46, 164, 0, 10, 21, 8, 54, 6]
abbrev dktX3_home_16 : List UInt8 := dkwX3_home_16 ++ dktX3_home_17
def dkwX3_home_15 : List UInt8 := [160, 0, 49, 21, 9, 42, 21, 8, 6, 182, 1, 29, 96, 42, 180, 0, 87, 29, 46, 162, 0, 30, 21, 9]
abbrev dktX3_home_15 : List UInt8 := dkwX3_home_15 ++ dktX3_home_16
def dkwX3_home_14 : List UInt8 := [104, 54, 9, 21, 5, 21, 8, 122, 4, 126, 4, 160, 0, 60, 42, 21, 8, 3, 182, 1, 29, 27]
abbrev dktX3_home_14 : List UInt8 := dkwX3_home_14 ++ dktX3_home_15
def dkwX3_home_13 : List UInt8 := [3, 54, 7, 3, 54, 8, 21, 8, 42, 180, 1, 12, 162, 0, 89, 16, 96, 42, 21, 8, 5, 182, 1, 29]
abbrev dktX3_home_13 : List UInt8 := dkwX3_home_13 ++ dktX3_home_14
def dkwX3_home_12 : List UInt8 := [180, 0, 87, 29, 46, 160, 0, 6, 18, 147, 172, 42, 17, 1, 108, 182, 1, 58, 54, 5, 18, 147, 54, 6]
abbrev dktX3_home_12 : List UInt8 := dkwX3_home_12 ++ dktX3_home_13
def dkwX3_home_11 : List UInt8 := [54, 4, 132, 5, 1, 167, 255, 124, 21, 4, 18, 147, 159, 0, 19, 42, 180, 0, 87, 21, 4, 46, 42]
abbrev dktX3_home_11 : List UInt8 := dkwX3_home_11 ++ dktX3_home_12
def dkwX3_home_10 : List UInt8 := [42, 180, 0, 87, 21, 5, 46, 42, 180, 0, 87, 21, 4, 46, 161, 0, 8, 21, 5, 167, 0, 5, 21, 4]
abbrev dktX3_home_10 : List UInt8 := dkwX3_home_10 ++ dktX3_home_11
def dkwX3_home_9 : List UInt8 := [4, 126, 154, 0, 7, 4, 167, 0, 4, 3, 54, 7, 21, 7, 153, 0, 32, 21, 4, 18, 147, 159, 0, 20]
abbrev dktX3_home_9 : List UInt8 := dkwX3_home_9 ++ dktX3_home_10
def dkwX3_home_8 : List UInt8 := [180, 0, 84, 21, 5, 46, 27, 160, 0, 26, 21, 6, 153, 0, 21, 42, 180, 0, 90, 21, 5, 46, 28, 122]
abbrev dktX3_home_8 : List UInt8 := dkwX3_home_8 ++ dktX3_home_9
def dkwX3_home_7 : List UInt8 := [180, 0, 87, 29, 46, 160, 0, 13, 21, 5, 29, 162, 0, 7, 4, 167, 0, 4, 3, 54, 6, 42]
abbrev dktX3_home_7 : List UInt8 := dkwX3_home_7 ++ dktX3_home_8
def dkwX3_home_6 : List UInt8 := [180, 0, 87, 21, 5, 46, 42, 180, 0, 87, 29, 46, 161, 0, 25, 42, 180, 0, 87, 21, 5, 46, 42]
abbrev dktX3_home_6 : List UInt8 := dkwX3_home_6 ++ dktX3_home_7
def dkwX3_home_5 : List UInt8 := [160, 0, 6, 18, 147, 172, 18, 147, 54, 4, 3, 54, 5, 21, 5, 42, 180, 1, 102, 162, 0, 129, 42]
abbrev dktX3_home_5 : List UInt8 := dkwX3_home_5 ++ dktX3_home_6
def dkwX3_home_4 : List UInt8 := [180, 0, 87, 29, 46, 162, 0, 8, 21, 4, 167, 0, 4, 29, 62, 132, 4, 1, 167, 255, 177, 29, 18, 147]
abbrev dktX3_home_4 : List UInt8 := dkwX3_home_4 ++ dktX3_home_5
def dkwX3_home_3 : List UInt8 := [3, 54, 5, 21, 5, 153, 0, 30, 29, 18, 147, 159, 0, 19, 42, 180, 0, 87, 21, 4, 46, 42]
abbrev dktX3_home_3 : List UInt8 := dkwX3_home_3 ++ dktX3_home_4
def dkwX3_home_2 : List UInt8 := [46, 27, 160, 0, 22, 42, 180, 0, 90, 21, 4, 46, 28, 122, 4, 126, 4, 160, 0, 7, 4, 167, 0, 4]
abbrev dktX3_home_2 : List UInt8 := dkwX3_home_2 ++ dktX3_home_3
def dkwX3_home_1 : List UInt8 := [18, 131, 172, 18, 147, 62, 3, 54, 4, 21, 4, 42, 180, 1, 102, 162, 0, 76, 42, 180, 0, 84, 21, 4]
abbrev dktX3_home_1 : List UInt8 := dkwX3_home_1 ++ dktX3_home_2
def dkwX3_home_0 : List UInt8 := [42, 3, 181, 0, 111, 27, 184, 0, 251, 153, 0, 15, 28, 133, 9, 20, 0, 119, 184, 0, 121, 154, 0, 6]
abbrev dktX3_home_0 : List UInt8 := dkwX3_home_0 ++ dktX3_home_1
theorem dksX3_home_0 : cX3_home.data.toList.drop 0 = dktX3_home_0 := by decide +kernel
theorem dksX3_home_1 : cX3_home.data.toList.drop 24 = dktX3_home_1 := dk_seg dksX3_home_0 24 rfl rfl
theorem dksX3_home_2 : cX3_home.data.toList.drop 48 = dktX3_home_2 := dk_seg dksX3_home_1 24 rfl rfl
theorem dksX3_home_3 : cX3_home.data.toList.drop 72 = dktX3_home_3 := dk_seg dksX3_home_2 24 rfl rfl
theorem dksX3_home_4 : cX3_home.data.toList.drop 94 = dktX3_home_4 := dk_seg dksX3_home_3 22 rfl rfl
theorem dksX3_home_5 : cX3_home.data.toList.drop 118 = dktX3_home_5 := dk_seg dksX3_home_4 24 rfl rfl
theorem dksX3_home_6 : cX3_home.data.toList.drop 141 = dktX3_home_6 := dk_seg dksX3_home_5 23 rfl rfl
theorem dksX3_home_7 : cX3_home.data.toList.drop 164 = dktX3_home_7 := dk_seg dksX3_home_6 23 rfl rfl
theorem dksX3_home_8 : cX3_home.data.toList.drop 186 = dktX3_home_8 := dk_seg dksX3_home_7 22 rfl rfl
theorem dksX3_home_9 : cX3_home.data.toList.drop 210 = dktX3_home_9 := dk_seg dksX3_home_8 24 rfl rfl
theorem dksX3_home_10 : cX3_home.data.toList.drop 234 = dktX3_home_10 := dk_seg dksX3_home_9 24 rfl rfl
theorem dksX3_home_11 : cX3_home.data.toList.drop 258 = dktX3_home_11 := dk_seg dksX3_home_10 24 rfl rfl
theorem dksX3_home_12 : cX3_home.data.toList.drop 281 = dktX3_home_12 := dk_seg dksX3_home_11 23 rfl rfl
theorem dksX3_home_13 : cX3_home.data.toList.drop 305 = dktX3_home_13 := dk_seg dksX3_home_12 24 rfl rfl
theorem dksX3_home_14 : cX3_home.data.toList.drop 329 = dktX3_home_14 := dk_seg dksX3_home_13 24 rfl rfl
theorem dksX3_home_15 : cX3_home.data.toList.drop 351 = dktX3_home_15 := dk_seg dksX3_home_14 22 rfl rfl
theorem dksX3_home_16 : cX3_home.data.toList.drop 375 = dktX3_home_16 := dk_seg dksX3_home_15 24 rfl rfl
theorem dksX3_home_17 : cX3_home.data.toList.drop 397 = dktX3_home_17 := dk_seg dksX3_home_16 22 rfl rfl
theorem dX3_home_0 : decode cX3_home 0 = .ok (.aload_n 0, 1) := dk_42 (dk_at dksX3_home_0 0 rfl rfl)
theorem dX3_home_1 : decode cX3_home 1 = .ok (.iconst 0, 1) := dk_3 (dk_at dksX3_home_0 1 rfl rfl)
theorem dX3_home_2 : decode cX3_home 2 = .ok (.putfield 111, 3) := dk_181 0 111 (dk_at dksX3_home_0 2 rfl rfl)
theorem dX3_home_5 : decode cX3_home 5 = .ok (.iload_n 1, 1) := dk_27 (dk_at dksX3_home_0 5 rfl rfl)
theorem dX3_home_6 : decode cX3_home 6 = .ok (.invokestatic 251, 3) := dk_184 0 251 (dk_at dksX3_home_0 6 rfl rfl)
theorem dX3_home_9 : decode cX3_home 9 = .ok (.ifCond .eq 15, 3) := dk_153 0 15 (dk_at dksX3_home_0 9 rfl rfl)
theorem dX3_home_12 : decode cX3_home 12 = .ok (.iload_n 2, 1) := dk_28 (dk_at dksX3_home_0 12 rfl rfl)
theorem dX3_home_13 : decode cX3_home 13 = .ok (.i2l, 1) := dk_133 (dk_at dksX3_home_0 13 rfl rfl)
theorem dX3_home_14 : decode cX3_home 14 = .ok (.lconst 0, 1) := dk_9 (dk_at dksX3_home_0 14 rfl rfl)
theorem dX3_home_15 : decode cX3_home 15 = .ok (.ldc2_w 119, 3) := dk_20 0 119 (dk_at dksX3_home_0 15 rfl rfl)
theorem dX3_home_18 : decode cX3_home 18 = .ok (.invokestatic 121, 3) := dk_184 0 121 (dk_at dksX3_home_0 18 rfl rfl)
theorem dX3_home_21 : decode cX3_home 21 = .ok (.ifCond .ne 6, 3) := dk_154 0 6 (dk_at dksX3_home_0 21 rfl rfl)
theorem dX3_home_24 : decode cX3_home 24 = .ok (.ldc 131, 2) := dk_18 131 (dk_at dksX3_home_1 0 rfl rfl)
theorem dX3_home_26 : decode cX3_home 26 = .ok (.ireturn, 1) := dk_172 (dk_at dksX3_home_1 2 rfl rfl)
theorem dX3_home_27 : decode cX3_home 27 = .ok (.ldc 147, 2) := dk_18 147 (dk_at dksX3_home_1 3 rfl rfl)
theorem dX3_home_29 : decode cX3_home 29 = .ok (.istore_n 3, 1) := dk_62 (dk_at dksX3_home_1 5 rfl rfl)
theorem dX3_home_30 : decode cX3_home 30 = .ok (.iconst 0, 1) := dk_3 (dk_at dksX3_home_1 6 rfl rfl)
theorem dX3_home_31 : decode cX3_home 31 = .ok (.istore 4, 2) := dk_54 4 (dk_at dksX3_home_1 7 rfl rfl)
theorem dX3_home_33 : decode cX3_home 33 = .ok (.iload 4, 2) := dk_21 4 (dk_at dksX3_home_1 9 rfl rfl)
theorem dX3_home_35 : decode cX3_home 35 = .ok (.aload_n 0, 1) := dk_42 (dk_at dksX3_home_1 11 rfl rfl)
theorem dX3_home_36 : decode cX3_home 36 = .ok (.getfield 358, 3) := dk_180 1 102 (dk_at dksX3_home_1 12 rfl rfl)
theorem dX3_home_39 : decode cX3_home 39 = .ok (.if_icmp .ge 76, 3) := dk_162 0 76 (dk_at dksX3_home_1 15 rfl rfl)
theorem dX3_home_42 : decode cX3_home 42 = .ok (.aload_n 0, 1) := dk_42 (dk_at dksX3_home_1 18 rfl rfl)
theorem dX3_home_43 : decode cX3_home 43 = .ok (.getfield 84, 3) := dk_180 0 84 (dk_at dksX3_home_1 19 rfl rfl)
theorem dX3_home_46 : decode cX3_home 46 = .ok (.iload 4, 2) := dk_21 4 (dk_at dksX3_home_1 22 rfl rfl)
theorem dX3_home_48 : decode cX3_home 48 = .ok (.iaload, 1) := dk_46 (dk_at dksX3_home_2 0 rfl rfl)
theorem dX3_home_49 : decode cX3_home 49 = .ok (.iload_n 1, 1) := dk_27 (dk_at dksX3_home_2 1 rfl rfl)
theorem dX3_home_50 : decode cX3_home 50 = .ok (.if_icmp .ne 22, 3) := dk_160 0 22 (dk_at dksX3_home_2 2 rfl rfl)
theorem dX3_home_53 : decode cX3_home 53 = .ok (.aload_n 0, 1) := dk_42 (dk_at dksX3_home_2 5 rfl rfl)
theorem dX3_home_54 : decode cX3_home 54 = .ok (.getfield 90, 3) := dk_180 0 90 (dk_at dksX3_home_2 6 rfl rfl)
theorem dX3_home_57 : decode cX3_home 57 = .ok (.iload 4, 2) := dk_21 4 (dk_at dksX3_home_2 9 rfl rfl)
theorem dX3_home_59 : decode cX3_home 59 = .ok (.iaload, 1) := dk_46 (dk_at dksX3_home_2 11 rfl rfl)
theorem dX3_home_60 : decode cX3_home 60 = .ok (.iload_n 2, 1) := dk_28 (dk_at dksX3_home_2 12 rfl rfl)
theorem dX3_home_61 : decode cX3_home 61 = .ok (.ishr, 1) := dk_122 (dk_at dksX3_home_2 13 rfl rfl)
theorem dX3_home_62 : decode cX3_home 62 = .ok (.iconst 1, 1) := dk_4 (dk_at dksX3_home_2 14 rfl rfl)
theorem dX3_home_63 : decode cX3_home 63 = .ok (.iand, 1) := dk_126 (dk_at dksX3_home_2 15 rfl rfl)
theorem dX3_home_64 : decode cX3_home 64 = .ok (.iconst 1, 1) := dk_4 (dk_at dksX3_home_2 16 rfl rfl)
theorem dX3_home_65 : decode cX3_home 65 = .ok (.if_icmp .ne 7, 3) := dk_160 0 7 (dk_at dksX3_home_2 17 rfl rfl)
theorem dX3_home_68 : decode cX3_home 68 = .ok (.iconst 1, 1) := dk_4 (dk_at dksX3_home_2 20 rfl rfl)
theorem dX3_home_69 : decode cX3_home 69 = .ok (.goto 4, 3) := dk_167 0 4 (dk_at dksX3_home_2 21 rfl rfl)
theorem dX3_home_72 : decode cX3_home 72 = .ok (.iconst 0, 1) := dk_3 (dk_at dksX3_home_3 0 rfl rfl)
theorem dX3_home_73 : decode cX3_home 73 = .ok (.istore 5, 2) := dk_54 5 (dk_at dksX3_home_3 1 rfl rfl)
theorem dX3_home_75 : decode cX3_home 75 = .ok (.iload 5, 2) := dk_21 5 (dk_at dksX3_home_3 3 rfl rfl)
theorem dX3_home_77 : decode cX3_home 77 = .ok (.ifCond .eq 30, 3) := dk_153 0 30 (dk_at dksX3_home_3 5 rfl rfl)
theorem dX3_home_80 : decode cX3_home 80 = .ok (.iload_n 3, 1) := dk_29 (dk_at dksX3_home_3 8 rfl rfl)
theorem dX3_home_81 : decode cX3_home 81 = .ok (.ldc 147, 2) := dk_18 147 (dk_at dksX3_home_3 9 rfl rfl)
theorem dX3_home_83 : decode cX3_home 83 = .ok (.if_icmp .eq 19, 3) := dk_159 0 19 (dk_at dksX3_home_3 11 rfl rfl)
theorem dX3_home_86 : decode cX3_home 86 = .ok (.aload_n 0, 1) := dk_42 (dk_at dksX3_home_3 14 rfl rfl)
theorem dX3_home_87 : decode cX3_home 87 = .ok (.getfield 87, 3) := dk_180 0 87 (dk_at dksX3_home_3 15 rfl rfl)
theorem dX3_home_90 : decode cX3_home 90 = .ok (.iload 4, 2) := dk_21 4 (dk_at dksX3_home_3 18 rfl rfl)
theorem dX3_home_92 : decode cX3_home 92 = .ok (.iaload, 1) := dk_46 (dk_at dksX3_home_3 20 rfl rfl)
theorem dX3_home_93 : decode cX3_home 93 = .ok (.aload_n 0, 1) := dk_42 (dk_at dksX3_home_3 21 rfl rfl)
theorem dX3_home_94 : decode cX3_home 94 = .ok (.getfield 87, 3) := dk_180 0 87 (dk_at dksX3_home_4 0 rfl rfl)
theorem dX3_home_97 : decode cX3_home 97 = .ok (.iload_n 3, 1) := dk_29 (dk_at dksX3_home_4 3 rfl rfl)
theorem dX3_home_98 : decode cX3_home 98 = .ok (.iaload, 1) := dk_46 (dk_at dksX3_home_4 4 rfl rfl)
theorem dX3_home_99 : decode cX3_home 99 = .ok (.if_icmp .ge 8, 3) := dk_162 0 8 (dk_at dksX3_home_4 5 rfl rfl)
theorem dX3_home_102 : decode cX3_home 102 = .ok (.iload 4, 2) := dk_21 4 (dk_at dksX3_home_4 8 rfl rfl)
theorem dX3_home_104 : decode cX3_home 104 = .ok (.goto 4, 3) := dk_167 0 4 (dk_at dksX3_home_4 10 rfl rfl)
theorem dX3_home_107 : decode cX3_home 107 = .ok (.iload_n 3, 1) := dk_29 (dk_at dksX3_home_4 13 rfl rfl)
theorem dX3_home_108 : decode cX3_home 108 = .ok (.istore_n 3, 1) := dk_62 (dk_at dksX3_home_4 14 rfl rfl)
theorem dX3_home_109 : decode cX3_home 109 = .ok (.iinc 4 1, 3) := dk_132 4 1 (dk_at dksX3_home_4 15 rfl rfl)
theorem dX3_home_112 : decode cX3_home 112 = .ok (.goto (-79), 3) := dk_167 255 177 (dk_at dksX3_home_4 18 rfl rfl)
theorem dX3_home_115 : decode cX3_home 115 = .ok (.iload_n 3, 1) := dk_29 (dk_at dksX3_home_4 21 rfl rfl)
theorem dX3_home_116 : decode cX3_home 116 = .ok (.ldc 147, 2) := dk_18 147 (dk_at dksX3_home_4 22 rfl rfl)
theorem dX3_home_118 : decode cX3_home 118 = .ok (.if_icmp .ne 6, 3) := dk_160 0 6 (dk_at dksX3_home_5 0 rfl rfl)
theorem dX3_home_121 : decode cX3_home 121 = .ok (.ldc 147, 2) := dk_18 147 (dk_at dksX3_home_5 3 rfl rfl)
theorem dX3_home_123 : decode cX3_home 123 = .ok (.ireturn, 1) := dk_172 (dk_at dksX3_home_5 5 rfl rfl)
theorem dX3_home_124 : decode cX3_home 124 = .ok (.ldc 147, 2) := dk_18 147 (dk_at dksX3_home_5 6 rfl rfl)
theorem dX3_home_126 : decode cX3_home 126 = .ok (.istore 4, 2) := dk_54 4 (dk_at dksX3_home_5 8 rfl rfl)
theorem dX3_home_128 : decode cX3_home 128 = .ok (.iconst 0, 1) := dk_3 (dk_at dksX3_home_5 10 rfl rfl)
theorem dX3_home_129 : decode cX3_home 129 = .ok (.istore 5, 2) := dk_54 5 (dk_at dksX3_home_5 11 rfl rfl)
theorem dX3_home_131 : decode cX3_home 131 = .ok (.iload 5, 2) := dk_21 5 (dk_at dksX3_home_5 13 rfl rfl)
theorem dX3_home_133 : decode cX3_home 133 = .ok (.aload_n 0, 1) := dk_42 (dk_at dksX3_home_5 15 rfl rfl)
theorem dX3_home_134 : decode cX3_home 134 = .ok (.getfield 358, 3) := dk_180 1 102 (dk_at dksX3_home_5 16 rfl rfl)
theorem dX3_home_137 : decode cX3_home 137 = .ok (.if_icmp .ge 129, 3) := dk_162 0 129 (dk_at dksX3_home_5 19 rfl rfl)
theorem dX3_home_140 : decode cX3_home 140 = .ok (.aload_n 0, 1) := dk_42 (dk_at dksX3_home_5 22 rfl rfl)
theorem dX3_home_141 : decode cX3_home 141 = .ok (.getfield 87, 3) := dk_180 0 87 (dk_at dksX3_home_6 0 rfl rfl)
theorem dX3_home_144 : decode cX3_home 144 = .ok (.iload 5, 2) := dk_21 5 (dk_at dksX3_home_6 3 rfl rfl)
theorem dX3_home_146 : decode cX3_home 146 = .ok (.iaload, 1) := dk_46 (dk_at dksX3_home_6 5 rfl rfl)
theorem dX3_home_147 : decode cX3_home 147 = .ok (.aload_n 0, 1) := dk_42 (dk_at dksX3_home_6 6 rfl rfl)
theorem dX3_home_148 : decode cX3_home 148 = .ok (.getfield 87, 3) := dk_180 0 87 (dk_at dksX3_home_6 7 rfl rfl)
theorem dX3_home_151 : decode cX3_home 151 = .ok (.iload_n 3, 1) := dk_29 (dk_at dksX3_home_6 10 rfl rfl)
theorem dX3_home_152 : decode cX3_home 152 = .ok (.iaload, 1) := dk_46 (dk_at dksX3_home_6 11 rfl rfl)
theorem dX3_home_153 : decode cX3_home 153 = .ok (.if_icmp .lt 25, 3) := dk_161 0 25 (dk_at dksX3_home_6 12 rfl rfl)
theorem dX3_home_156 : decode cX3_home 156 = .ok (.aload_n 0, 1) := dk_42 (dk_at dksX3_home_6 15 rfl rfl)
theorem dX3_home_157 : decode cX3_home 157 = .ok (.getfield 87, 3) := dk_180 0 87 (dk_at dksX3_home_6 16 rfl rfl)
theorem dX3_home_160 : decode cX3_home 160 = .ok (.iload 5, 2) := dk_21 5 (dk_at dksX3_home_6 19 rfl rfl)
theorem dX3_home_162 : decode cX3_home 162 = .ok (.iaload, 1) := dk_46 (dk_at dksX3_home_6 21 rfl rfl)
theorem dX3_home_163 : decode cX3_home 163 = .ok (.aload_n 0, 1) := dk_42 (dk_at dksX3_home_6 22 rfl rfl)
theorem dX3_home_164 : decode cX3_home 164 = .ok (.getfield 87, 3) := dk_180 0 87 (dk_at dksX3_home_7 0 rfl rfl)
theorem dX3_home_167 : decode cX3_home 167 = .ok (.iload_n 3, 1) := dk_29 (dk_at dksX3_home_7 3 rfl rfl)
theorem dX3_home_168 : decode cX3_home 168 = .ok (.iaload, 1) := dk_46 (dk_at dksX3_home_7 4 rfl rfl)
theorem dX3_home_169 : decode cX3_home 169 = .ok (.if_icmp .ne 13, 3) := dk_160 0 13 (dk_at dksX3_home_7 5 rfl rfl)
theorem dX3_home_172 : decode cX3_home 172 = .ok (.iload 5, 2) := dk_21 5 (dk_at dksX3_home_7 8 rfl rfl)
theorem dX3_home_174 : decode cX3_home 174 = .ok (.iload_n 3, 1) := dk_29 (dk_at dksX3_home_7 10 rfl rfl)
theorem dX3_home_175 : decode cX3_home 175 = .ok (.if_icmp .ge 7, 3) := dk_162 0 7 (dk_at dksX3_home_7 11 rfl rfl)
theorem dX3_home_178 : decode cX3_home 178 = .ok (.iconst 1, 1) := dk_4 (dk_at dksX3_home_7 14 rfl rfl)
theorem dX3_home_179 : decode cX3_home 179 = .ok (.goto 4, 3) := dk_167 0 4 (dk_at dksX3_home_7 15 rfl rfl)
theorem dX3_home_182 : decode cX3_home 182 = .ok (.iconst 0, 1) := dk_3 (dk_at dksX3_home_7 18 rfl rfl)
theorem dX3_home_183 : decode cX3_home 183 = .ok (.istore 6, 2) := dk_54 6 (dk_at dksX3_home_7 19 rfl rfl)
theorem dX3_home_185 : decode cX3_home 185 = .ok (.aload_n 0, 1) := dk_42 (dk_at dksX3_home_7 21 rfl rfl)
theorem dX3_home_186 : decode cX3_home 186 = .ok (.getfield 84, 3) := dk_180 0 84 (dk_at dksX3_home_8 0 rfl rfl)
theorem dX3_home_189 : decode cX3_home 189 = .ok (.iload 5, 2) := dk_21 5 (dk_at dksX3_home_8 3 rfl rfl)
theorem dX3_home_191 : decode cX3_home 191 = .ok (.iaload, 1) := dk_46 (dk_at dksX3_home_8 5 rfl rfl)
theorem dX3_home_192 : decode cX3_home 192 = .ok (.iload_n 1, 1) := dk_27 (dk_at dksX3_home_8 6 rfl rfl)
theorem dX3_home_193 : decode cX3_home 193 = .ok (.if_icmp .ne 26, 3) := dk_160 0 26 (dk_at dksX3_home_8 7 rfl rfl)
theorem dX3_home_196 : decode cX3_home 196 = .ok (.iload 6, 2) := dk_21 6 (dk_at dksX3_home_8 10 rfl rfl)
theorem dX3_home_198 : decode cX3_home 198 = .ok (.ifCond .eq 21, 3) := dk_153 0 21 (dk_at dksX3_home_8 12 rfl rfl)
theorem dX3_home_201 : decode cX3_home 201 = .ok (.aload_n 0, 1) := dk_42 (dk_at dksX3_home_8 15 rfl rfl)
theorem dX3_home_202 : decode cX3_home 202 = .ok (.getfield 90, 3) := dk_180 0 90 (dk_at dksX3_home_8 16 rfl rfl)
theorem dX3_home_205 : decode cX3_home 205 = .ok (.iload 5, 2) := dk_21 5 (dk_at dksX3_home_8 19 rfl rfl)
theorem dX3_home_207 : decode cX3_home 207 = .ok (.iaload, 1) := dk_46 (dk_at dksX3_home_8 21 rfl rfl)
theorem dX3_home_208 : decode cX3_home 208 = .ok (.iload_n 2, 1) := dk_28 (dk_at dksX3_home_8 22 rfl rfl)
theorem dX3_home_209 : decode cX3_home 209 = .ok (.ishr, 1) := dk_122 (dk_at dksX3_home_8 23 rfl rfl)
theorem dX3_home_210 : decode cX3_home 210 = .ok (.iconst 1, 1) := dk_4 (dk_at dksX3_home_9 0 rfl rfl)
theorem dX3_home_211 : decode cX3_home 211 = .ok (.iand, 1) := dk_126 (dk_at dksX3_home_9 1 rfl rfl)
theorem dX3_home_212 : decode cX3_home 212 = .ok (.ifCond .ne 7, 3) := dk_154 0 7 (dk_at dksX3_home_9 2 rfl rfl)
theorem dX3_home_215 : decode cX3_home 215 = .ok (.iconst 1, 1) := dk_4 (dk_at dksX3_home_9 5 rfl rfl)
theorem dX3_home_216 : decode cX3_home 216 = .ok (.goto 4, 3) := dk_167 0 4 (dk_at dksX3_home_9 6 rfl rfl)
theorem dX3_home_219 : decode cX3_home 219 = .ok (.iconst 0, 1) := dk_3 (dk_at dksX3_home_9 9 rfl rfl)
theorem dX3_home_220 : decode cX3_home 220 = .ok (.istore 7, 2) := dk_54 7 (dk_at dksX3_home_9 10 rfl rfl)
theorem dX3_home_222 : decode cX3_home 222 = .ok (.iload 7, 2) := dk_21 7 (dk_at dksX3_home_9 12 rfl rfl)
theorem dX3_home_224 : decode cX3_home 224 = .ok (.ifCond .eq 32, 3) := dk_153 0 32 (dk_at dksX3_home_9 14 rfl rfl)
theorem dX3_home_227 : decode cX3_home 227 = .ok (.iload 4, 2) := dk_21 4 (dk_at dksX3_home_9 17 rfl rfl)
theorem dX3_home_229 : decode cX3_home 229 = .ok (.ldc 147, 2) := dk_18 147 (dk_at dksX3_home_9 19 rfl rfl)
theorem dX3_home_231 : decode cX3_home 231 = .ok (.if_icmp .eq 20, 3) := dk_159 0 20 (dk_at dksX3_home_9 21 rfl rfl)
theorem dX3_home_234 : decode cX3_home 234 = .ok (.aload_n 0, 1) := dk_42 (dk_at dksX3_home_10 0 rfl rfl)
theorem dX3_home_235 : decode cX3_home 235 = .ok (.getfield 87, 3) := dk_180 0 87 (dk_at dksX3_home_10 1 rfl rfl)
theorem dX3_home_238 : decode cX3_home 238 = .ok (.iload 5, 2) := dk_21 5 (dk_at dksX3_home_10 4 rfl rfl)
theorem dX3_home_240 : decode cX3_home 240 = .ok (.iaload, 1) := dk_46 (dk_at dksX3_home_10 6 rfl rfl)
theorem dX3_home_241 : decode cX3_home 241 = .ok (.aload_n 0, 1) := dk_42 (dk_at dksX3_home_10 7 rfl rfl)
theorem dX3_home_242 : decode cX3_home 242 = .ok (.getfield 87, 3) := dk_180 0 87 (dk_at dksX3_home_10 8 rfl rfl)
theorem dX3_home_245 : decode cX3_home 245 = .ok (.iload 4, 2) := dk_21 4 (dk_at dksX3_home_10 11 rfl rfl)
theorem dX3_home_247 : decode cX3_home 247 = .ok (.iaload, 1) := dk_46 (dk_at dksX3_home_10 13 rfl rfl)
theorem dX3_home_248 : decode cX3_home 248 = .ok (.if_icmp .lt 8, 3) := dk_161 0 8 (dk_at dksX3_home_10 14 rfl rfl)
theorem dX3_home_251 : decode cX3_home 251 = .ok (.iload 5, 2) := dk_21 5 (dk_at dksX3_home_10 17 rfl rfl)
theorem dX3_home_253 : decode cX3_home 253 = .ok (.goto 5, 3) := dk_167 0 5 (dk_at dksX3_home_10 19 rfl rfl)
theorem dX3_home_256 : decode cX3_home 256 = .ok (.iload 4, 2) := dk_21 4 (dk_at dksX3_home_10 22 rfl rfl)
theorem dX3_home_258 : decode cX3_home 258 = .ok (.istore 4, 2) := dk_54 4 (dk_at dksX3_home_11 0 rfl rfl)
theorem dX3_home_260 : decode cX3_home 260 = .ok (.iinc 5 1, 3) := dk_132 5 1 (dk_at dksX3_home_11 2 rfl rfl)
theorem dX3_home_263 : decode cX3_home 263 = .ok (.goto (-132), 3) := dk_167 255 124 (dk_at dksX3_home_11 5 rfl rfl)
theorem dX3_home_266 : decode cX3_home 266 = .ok (.iload 4, 2) := dk_21 4 (dk_at dksX3_home_11 8 rfl rfl)
theorem dX3_home_268 : decode cX3_home 268 = .ok (.ldc 147, 2) := dk_18 147 (dk_at dksX3_home_11 10 rfl rfl)
theorem dX3_home_270 : decode cX3_home 270 = .ok (.if_icmp .eq 19, 3) := dk_159 0 19 (dk_at dksX3_home_11 12 rfl rfl)
theorem dX3_home_273 : decode cX3_home 273 = .ok (.aload_n 0, 1) := dk_42 (dk_at dksX3_home_11 15 rfl rfl)
theorem dX3_home_274 : decode cX3_home 274 = .ok (.getfield 87, 3) := dk_180 0 87 (dk_at dksX3_home_11 16 rfl rfl)
theorem dX3_home_277 : decode cX3_home 277 = .ok (.iload 4, 2) := dk_21 4 (dk_at dksX3_home_11 19 rfl rfl)
theorem dX3_home_279 : decode cX3_home 279 = .ok (.iaload, 1) := dk_46 (dk_at dksX3_home_11 21 rfl rfl)
theorem dX3_home_280 : decode cX3_home 280 = .ok (.aload_n 0, 1) := dk_42 (dk_at dksX3_home_11 22 rfl rfl)
theorem dX3_home_281 : decode cX3_home 281 = .ok (.getfield 87, 3) := dk_180 0 87 (dk_at dksX3_home_12 0 rfl rfl)
theorem dX3_home_284 : decode cX3_home 284 = .ok (.iload_n 3, 1) := dk_29 (dk_at dksX3_home_12 3 rfl rfl)
theorem dX3_home_285 : decode cX3_home 285 = .ok (.iaload, 1) := dk_46 (dk_at dksX3_home_12 4 rfl rfl)
theorem dX3_home_286 : decode cX3_home 286 = .ok (.if_icmp .ne 6, 3) := dk_160 0 6 (dk_at dksX3_home_12 5 rfl rfl)
theorem dX3_home_289 : decode cX3_home 289 = .ok (.ldc 147, 2) := dk_18 147 (dk_at dksX3_home_12 8 rfl rfl)
theorem dX3_home_291 : decode cX3_home 291 = .ok (.ireturn, 1) := dk_172 (dk_at dksX3_home_12 10 rfl rfl)
theorem dX3_home_292 : decode cX3_home 292 = .ok (.aload_n 0, 1) := dk_42 (dk_at dksX3_home_12 11 rfl rfl)
theorem dX3_home_293 : decode cX3_home 293 = .ok (.sipush 364, 3) := dk_17 1 108 (dk_at dksX3_home_12 12 rfl rfl)
theorem dX3_home_296 : decode cX3_home 296 = .ok (.invokevirtual 314, 3) := dk_182 1 58 (dk_at dksX3_home_12 15 rfl rfl)
theorem dX3_home_299 : decode cX3_home 299 = .ok (.istore 5, 2) := dk_54 5 (dk_at dksX3_home_12 18 rfl rfl)
theorem dX3_home_301 : decode cX3_home 301 = .ok (.ldc 147, 2) := dk_18 147 (dk_at dksX3_home_12 20 rfl rfl)
theorem dX3_home_303 : decode cX3_home 303 = .ok (.istore 6, 2) := dk_54 6 (dk_at dksX3_home_12 22 rfl rfl)
theorem dX3_home_305 : decode cX3_home 305 = .ok (.iconst 0, 1) := dk_3 (dk_at dksX3_home_13 0 rfl rfl)
theorem dX3_home_306 : decode cX3_home 306 = .ok (.istore 7, 2) := dk_54 7 (dk_at dksX3_home_13 1 rfl rfl)
theorem dX3_home_308 : decode cX3_home 308 = .ok (.iconst 0, 1) := dk_3 (dk_at dksX3_home_13 3 rfl rfl)
theorem dX3_home_309 : decode cX3_home 309 = .ok (.istore 8, 2) := dk_54 8 (dk_at dksX3_home_13 4 rfl rfl)
theorem dX3_home_311 : decode cX3_home 311 = .ok (.iload 8, 2) := dk_21 8 (dk_at dksX3_home_13 6 rfl rfl)
theorem dX3_home_313 : decode cX3_home 313 = .ok (.aload_n 0, 1) := dk_42 (dk_at dksX3_home_13 8 rfl rfl)
theorem dX3_home_314 : decode cX3_home 314 = .ok (.getfield 268, 3) := dk_180 1 12 (dk_at dksX3_home_13 9 rfl rfl)
theorem dX3_home_317 : decode cX3_home 317 = .ok (.if_icmp .ge 89, 3) := dk_162 0 89 (dk_at dksX3_home_13 12 rfl rfl)
theorem dX3_home_320 : decode cX3_home 320 = .ok (.bipush 96, 2) := dk_16 96 (dk_at dksX3_home_13 15 rfl rfl)
theorem dX3_home_322 : decode cX3_home 322 = .ok (.aload_n 0, 1) := dk_42 (dk_at dksX3_home_13 17 rfl rfl)
theorem dX3_home_323 : decode cX3_home 323 = .ok (.iload 8, 2) := dk_21 8 (dk_at dksX3_home_13 18 rfl rfl)
theorem dX3_home_325 : decode cX3_home 325 = .ok (.iconst 2, 1) := dk_5 (dk_at dksX3_home_13 20 rfl rfl)
theorem dX3_home_326 : decode cX3_home 326 = .ok (.invokevirtual 285, 3) := dk_182 1 29 (dk_at dksX3_home_13 21 rfl rfl)
theorem dX3_home_329 : decode cX3_home 329 = .ok (.imul, 1) := dk_104 (dk_at dksX3_home_14 0 rfl rfl)
theorem dX3_home_330 : decode cX3_home 330 = .ok (.istore 9, 2) := dk_54 9 (dk_at dksX3_home_14 1 rfl rfl)
theorem dX3_home_332 : decode cX3_home 332 = .ok (.iload 5, 2) := dk_21 5 (dk_at dksX3_home_14 3 rfl rfl)
theorem dX3_home_334 : decode cX3_home 334 = .ok (.iload 8, 2) := dk_21 8 (dk_at dksX3_home_14 5 rfl rfl)
theorem dX3_home_336 : decode cX3_home 336 = .ok (.ishr, 1) := dk_122 (dk_at dksX3_home_14 7 rfl rfl)
theorem dX3_home_337 : decode cX3_home 337 = .ok (.iconst 1, 1) := dk_4 (dk_at dksX3_home_14 8 rfl rfl)
theorem dX3_home_338 : decode cX3_home 338 = .ok (.iand, 1) := dk_126 (dk_at dksX3_home_14 9 rfl rfl)
theorem dX3_home_339 : decode cX3_home 339 = .ok (.iconst 1, 1) := dk_4 (dk_at dksX3_home_14 10 rfl rfl)
theorem dX3_home_340 : decode cX3_home 340 = .ok (.if_icmp .ne 60, 3) := dk_160 0 60 (dk_at dksX3_home_14 11 rfl rfl)
theorem dX3_home_343 : decode cX3_home 343 = .ok (.aload_n 0, 1) := dk_42 (dk_at dksX3_home_14 14 rfl rfl)
theorem dX3_home_344 : decode cX3_home 344 = .ok (.iload 8, 2) := dk_21 8 (dk_at dksX3_home_14 15 rfl rfl)
theorem dX3_home_346 : decode cX3_home 346 = .ok (.iconst 0, 1) := dk_3 (dk_at dksX3_home_14 17 rfl rfl)
theorem dX3_home_347 : decode cX3_home 347 = .ok (.invokevirtual 285, 3) := dk_182 1 29 (dk_at dksX3_home_14 18 rfl rfl)
theorem dX3_home_350 : decode cX3_home 350 = .ok (.iload_n 1, 1) := dk_27 (dk_at dksX3_home_14 21 rfl rfl)
theorem dX3_home_351 : decode cX3_home 351 = .ok (.if_icmp .ne 49, 3) := dk_160 0 49 (dk_at dksX3_home_15 0 rfl rfl)
theorem dX3_home_354 : decode cX3_home 354 = .ok (.iload 9, 2) := dk_21 9 (dk_at dksX3_home_15 3 rfl rfl)
theorem dX3_home_356 : decode cX3_home 356 = .ok (.aload_n 0, 1) := dk_42 (dk_at dksX3_home_15 5 rfl rfl)
theorem dX3_home_357 : decode cX3_home 357 = .ok (.iload 8, 2) := dk_21 8 (dk_at dksX3_home_15 6 rfl rfl)
theorem dX3_home_359 : decode cX3_home 359 = .ok (.iconst 3, 1) := dk_6 (dk_at dksX3_home_15 8 rfl rfl)
theorem dX3_home_360 : decode cX3_home 360 = .ok (.invokevirtual 285, 3) := dk_182 1 29 (dk_at dksX3_home_15 9 rfl rfl)
theorem dX3_home_363 : decode cX3_home 363 = .ok (.iadd, 1) := dk_96 (dk_at dksX3_home_15 12 rfl rfl)
theorem dX3_home_364 : decode cX3_home 364 = .ok (.aload_n 0, 1) := dk_42 (dk_at dksX3_home_15 13 rfl rfl)
theorem dX3_home_365 : decode cX3_home 365 = .ok (.getfield 87, 3) := dk_180 0 87 (dk_at dksX3_home_15 14 rfl rfl)
theorem dX3_home_368 : decode cX3_home 368 = .ok (.iload_n 3, 1) := dk_29 (dk_at dksX3_home_15 17 rfl rfl)
theorem dX3_home_369 : decode cX3_home 369 = .ok (.iaload, 1) := dk_46 (dk_at dksX3_home_15 18 rfl rfl)
theorem dX3_home_370 : decode cX3_home 370 = .ok (.if_icmp .ge 30, 3) := dk_162 0 30 (dk_at dksX3_home_15 19 rfl rfl)
theorem dX3_home_373 : decode cX3_home 373 = .ok (.iload 9, 2) := dk_21 9 (dk_at dksX3_home_15 22 rfl rfl)
theorem dX3_home_375 : decode cX3_home 375 = .ok (.aload_n 0, 1) := dk_42 (dk_at dksX3_home_16 0 rfl rfl)
theorem dX3_home_376 : decode cX3_home 376 = .ok (.iload 8, 2) := dk_21 8 (dk_at dksX3_home_16 1 rfl rfl)
theorem dX3_home_378 : decode cX3_home 378 = .ok (.iconst 4, 1) := dk_7 (dk_at dksX3_home_16 3 rfl rfl)
theorem dX3_home_379 : decode cX3_home 379 = .ok (.invokevirtual 285, 3) := dk_182 1 29 (dk_at dksX3_home_16 4 rfl rfl)
theorem dX3_home_382 : decode cX3_home 382 = .ok (.iadd, 1) := dk_96 (dk_at dksX3_home_16 7 rfl rfl)
theorem dX3_home_383 : decode cX3_home 383 = .ok (.aload_n 0, 1) := dk_42 (dk_at dksX3_home_16 8 rfl rfl)
theorem dX3_home_384 : decode cX3_home 384 = .ok (.getfield 87, 3) := dk_180 0 87 (dk_at dksX3_home_16 9 rfl rfl)
theorem dX3_home_387 : decode cX3_home 387 = .ok (.iload 4, 2) := dk_21 4 (dk_at dksX3_home_16 12 rfl rfl)
theorem dX3_home_389 : decode cX3_home 389 = .ok (.iaload, 1) := dk_46 (dk_at dksX3_home_16 14 rfl rfl)
theorem dX3_home_390 : decode cX3_home 390 = .ok (.if_icmp .le 10, 3) := dk_164 0 10 (dk_at dksX3_home_16 15 rfl rfl)
theorem dX3_home_393 : decode cX3_home 393 = .ok (.iload 8, 2) := dk_21 8 (dk_at dksX3_home_16 18 rfl rfl)
theorem dX3_home_395 : decode cX3_home 395 = .ok (.istore 6, 2) := dk_54 6 (dk_at dksX3_home_16 20 rfl rfl)
theorem dX3_home_397 : decode cX3_home 397 = .ok (.iinc 7 1, 3) := dk_132 7 1 (dk_at dksX3_home_17 0 rfl rfl)
theorem dX3_home_400 : decode cX3_home 400 = .ok (.iinc 8 1, 3) := dk_132 8 1 (dk_at dksX3_home_17 3 rfl rfl)
theorem dX3_home_403 : decode cX3_home 403 = .ok (.goto (-92), 3) := dk_167 255 164 (dk_at dksX3_home_17 6 rfl rfl)
theorem dX3_home_406 : decode cX3_home 406 = .ok (.iload 7, 2) := dk_21 7 (dk_at dksX3_home_17 9 rfl rfl)
theorem dX3_home_408 : decode cX3_home 408 = .ok (.iconst 1, 1) := dk_4 (dk_at dksX3_home_17 11 rfl rfl)
theorem dX3_home_409 : decode cX3_home 409 = .ok (.if_icmp .ne 8, 3) := dk_160 0 8 (dk_at dksX3_home_17 12 rfl rfl)
theorem dX3_home_412 : decode cX3_home 412 = .ok (.iload 6, 2) := dk_21 6 (dk_at dksX3_home_17 15 rfl rfl)
theorem dX3_home_414 : decode cX3_home 414 = .ok (.goto 5, 3) := dk_167 0 5 (dk_at dksX3_home_17 17 rfl rfl)
theorem dX3_home_417 : decode cX3_home 417 = .ok (.ldc 147, 2) := dk_18 147 (dk_at dksX3_home_17 20 rfl rfl)
theorem dX3_home_419 : decode cX3_home 419 = .ok (.ireturn, 1) := dk_172 (dk_at dksX3_home_17 22 rfl rfl)
abbrev cX3_meeting : ByteArray := prog_19_method_59_code
def yX3_meeting : MethodName := ⟨RX3, "meeting", "(IIIII)I"⟩
def dkwX3_meeting_7 : List UInt8 := [42, 180, 1, 107, 4, 100, 172]
abbrev dktX3_meeting_7 : List UInt8 := dkwX3_meeting_7 ++ []
def dkwX3_meeting_6 : List UInt8 := [21, 4, 79, 42, 180, 0, 105, 42, 180, 1, 107, 21, 5, 79, 42, 89, 180, 1, 107, 4, 96, 181, 1, 107]
abbrev dktX3_meeting_6 : List UInt8 := dkwX3_meeting_6 ++ dktX3_meeting_7
def dkwX3_meeting_5 : List UInt8 := [180, 1, 107, 28, 79, 42, 180, 0, 99, 42, 180, 1, 107, 29, 79, 42, 180, 0, 102, 42, 180, 1, 107]
abbrev dktX3_meeting_5 : List UInt8 := dkwX3_meeting_5 ++ dktX3_meeting_6
def dkwX3_meeting_4 : List UInt8 := [16, 10, 160, 0, 6, 18, 141, 172, 42, 180, 0, 93, 42, 180, 1, 107, 27, 79, 42, 180, 0, 96, 42]
abbrev dktX3_meeting_4 : List UInt8 := dkwX3_meeting_4 ++ dktX3_meeting_5
def dkwX3_meeting_3 : List UInt8 := [21, 5, 133, 9, 42, 180, 1, 107, 4, 100, 133, 184, 0, 121, 154, 0, 6, 18, 131, 172, 42, 180, 1, 107]
abbrev dktX3_meeting_3 : List UInt8 := dkwX3_meeting_3 ++ dktX3_meeting_4
def dkwX3_meeting_2 : List UInt8 := [163, 0, 40, 21, 4, 133, 9, 20, 1, 105, 184, 0, 121, 153, 0, 27, 21, 5, 18, 147, 159, 0, 23]
abbrev dktX3_meeting_2 : List UInt8 := dkwX3_meeting_2 ++ dktX3_meeting_3
def dkwX3_meeting_1 : List UInt8 := [184, 0, 121, 153, 0, 59, 29, 133, 9, 20, 1, 105, 184, 0, 121, 153, 0, 47, 28, 29, 96, 27]
abbrev dktX3_meeting_1 : List UInt8 := dkwX3_meeting_1 ++ dktX3_meeting_2
def dkwX3_meeting_0 : List UInt8 := [42, 3, 181, 0, 111, 27, 133, 10, 20, 1, 105, 184, 0, 121, 153, 0, 71, 28, 133, 9, 20, 1, 105]
abbrev dktX3_meeting_0 : List UInt8 := dkwX3_meeting_0 ++ dktX3_meeting_1
theorem dksX3_meeting_0 : cX3_meeting.data.toList.drop 0 = dktX3_meeting_0 := by decide +kernel
theorem dksX3_meeting_1 : cX3_meeting.data.toList.drop 23 = dktX3_meeting_1 := dk_seg dksX3_meeting_0 23 rfl rfl
theorem dksX3_meeting_2 : cX3_meeting.data.toList.drop 45 = dktX3_meeting_2 := dk_seg dksX3_meeting_1 22 rfl rfl
theorem dksX3_meeting_3 : cX3_meeting.data.toList.drop 68 = dktX3_meeting_3 := dk_seg dksX3_meeting_2 23 rfl rfl
theorem dksX3_meeting_4 : cX3_meeting.data.toList.drop 92 = dktX3_meeting_4 := dk_seg dksX3_meeting_3 24 rfl rfl
theorem dksX3_meeting_5 : cX3_meeting.data.toList.drop 115 = dktX3_meeting_5 := dk_seg dksX3_meeting_4 23 rfl rfl
theorem dksX3_meeting_6 : cX3_meeting.data.toList.drop 138 = dktX3_meeting_6 := dk_seg dksX3_meeting_5 23 rfl rfl
theorem dksX3_meeting_7 : cX3_meeting.data.toList.drop 162 = dktX3_meeting_7 := dk_seg dksX3_meeting_6 24 rfl rfl
theorem dX3_meeting_0 : decode cX3_meeting 0 = .ok (.aload_n 0, 1) := dk_42 (dk_at dksX3_meeting_0 0 rfl rfl)
theorem dX3_meeting_1 : decode cX3_meeting 1 = .ok (.iconst 0, 1) := dk_3 (dk_at dksX3_meeting_0 1 rfl rfl)
theorem dX3_meeting_2 : decode cX3_meeting 2 = .ok (.putfield 111, 3) := dk_181 0 111 (dk_at dksX3_meeting_0 2 rfl rfl)
theorem dX3_meeting_5 : decode cX3_meeting 5 = .ok (.iload_n 1, 1) := dk_27 (dk_at dksX3_meeting_0 5 rfl rfl)
theorem dX3_meeting_6 : decode cX3_meeting 6 = .ok (.i2l, 1) := dk_133 (dk_at dksX3_meeting_0 6 rfl rfl)
theorem dX3_meeting_7 : decode cX3_meeting 7 = .ok (.lconst 1, 1) := dk_10 (dk_at dksX3_meeting_0 7 rfl rfl)
theorem dX3_meeting_8 : decode cX3_meeting 8 = .ok (.ldc2_w 361, 3) := dk_20 1 105 (dk_at dksX3_meeting_0 8 rfl rfl)
theorem dX3_meeting_11 : decode cX3_meeting 11 = .ok (.invokestatic 121, 3) := dk_184 0 121 (dk_at dksX3_meeting_0 11 rfl rfl)
theorem dX3_meeting_14 : decode cX3_meeting 14 = .ok (.ifCond .eq 71, 3) := dk_153 0 71 (dk_at dksX3_meeting_0 14 rfl rfl)
theorem dX3_meeting_17 : decode cX3_meeting 17 = .ok (.iload_n 2, 1) := dk_28 (dk_at dksX3_meeting_0 17 rfl rfl)
theorem dX3_meeting_18 : decode cX3_meeting 18 = .ok (.i2l, 1) := dk_133 (dk_at dksX3_meeting_0 18 rfl rfl)
theorem dX3_meeting_19 : decode cX3_meeting 19 = .ok (.lconst 0, 1) := dk_9 (dk_at dksX3_meeting_0 19 rfl rfl)
theorem dX3_meeting_20 : decode cX3_meeting 20 = .ok (.ldc2_w 361, 3) := dk_20 1 105 (dk_at dksX3_meeting_0 20 rfl rfl)
theorem dX3_meeting_23 : decode cX3_meeting 23 = .ok (.invokestatic 121, 3) := dk_184 0 121 (dk_at dksX3_meeting_1 0 rfl rfl)
theorem dX3_meeting_26 : decode cX3_meeting 26 = .ok (.ifCond .eq 59, 3) := dk_153 0 59 (dk_at dksX3_meeting_1 3 rfl rfl)
theorem dX3_meeting_29 : decode cX3_meeting 29 = .ok (.iload_n 3, 1) := dk_29 (dk_at dksX3_meeting_1 6 rfl rfl)
theorem dX3_meeting_30 : decode cX3_meeting 30 = .ok (.i2l, 1) := dk_133 (dk_at dksX3_meeting_1 7 rfl rfl)
theorem dX3_meeting_31 : decode cX3_meeting 31 = .ok (.lconst 0, 1) := dk_9 (dk_at dksX3_meeting_1 8 rfl rfl)
theorem dX3_meeting_32 : decode cX3_meeting 32 = .ok (.ldc2_w 361, 3) := dk_20 1 105 (dk_at dksX3_meeting_1 9 rfl rfl)
theorem dX3_meeting_35 : decode cX3_meeting 35 = .ok (.invokestatic 121, 3) := dk_184 0 121 (dk_at dksX3_meeting_1 12 rfl rfl)
theorem dX3_meeting_38 : decode cX3_meeting 38 = .ok (.ifCond .eq 47, 3) := dk_153 0 47 (dk_at dksX3_meeting_1 15 rfl rfl)
theorem dX3_meeting_41 : decode cX3_meeting 41 = .ok (.iload_n 2, 1) := dk_28 (dk_at dksX3_meeting_1 18 rfl rfl)
theorem dX3_meeting_42 : decode cX3_meeting 42 = .ok (.iload_n 3, 1) := dk_29 (dk_at dksX3_meeting_1 19 rfl rfl)
theorem dX3_meeting_43 : decode cX3_meeting 43 = .ok (.iadd, 1) := dk_96 (dk_at dksX3_meeting_1 20 rfl rfl)
theorem dX3_meeting_44 : decode cX3_meeting 44 = .ok (.iload_n 1, 1) := dk_27 (dk_at dksX3_meeting_1 21 rfl rfl)
theorem dX3_meeting_45 : decode cX3_meeting 45 = .ok (.if_icmp .gt 40, 3) := dk_163 0 40 (dk_at dksX3_meeting_2 0 rfl rfl)
theorem dX3_meeting_48 : decode cX3_meeting 48 = .ok (.iload 4, 2) := dk_21 4 (dk_at dksX3_meeting_2 3 rfl rfl)
theorem dX3_meeting_50 : decode cX3_meeting 50 = .ok (.i2l, 1) := dk_133 (dk_at dksX3_meeting_2 5 rfl rfl)
theorem dX3_meeting_51 : decode cX3_meeting 51 = .ok (.lconst 0, 1) := dk_9 (dk_at dksX3_meeting_2 6 rfl rfl)
theorem dX3_meeting_52 : decode cX3_meeting 52 = .ok (.ldc2_w 361, 3) := dk_20 1 105 (dk_at dksX3_meeting_2 7 rfl rfl)
theorem dX3_meeting_55 : decode cX3_meeting 55 = .ok (.invokestatic 121, 3) := dk_184 0 121 (dk_at dksX3_meeting_2 10 rfl rfl)
theorem dX3_meeting_58 : decode cX3_meeting 58 = .ok (.ifCond .eq 27, 3) := dk_153 0 27 (dk_at dksX3_meeting_2 13 rfl rfl)
theorem dX3_meeting_61 : decode cX3_meeting 61 = .ok (.iload 5, 2) := dk_21 5 (dk_at dksX3_meeting_2 16 rfl rfl)
theorem dX3_meeting_63 : decode cX3_meeting 63 = .ok (.ldc 147, 2) := dk_18 147 (dk_at dksX3_meeting_2 18 rfl rfl)
theorem dX3_meeting_65 : decode cX3_meeting 65 = .ok (.if_icmp .eq 23, 3) := dk_159 0 23 (dk_at dksX3_meeting_2 20 rfl rfl)
theorem dX3_meeting_68 : decode cX3_meeting 68 = .ok (.iload 5, 2) := dk_21 5 (dk_at dksX3_meeting_3 0 rfl rfl)
theorem dX3_meeting_70 : decode cX3_meeting 70 = .ok (.i2l, 1) := dk_133 (dk_at dksX3_meeting_3 2 rfl rfl)
theorem dX3_meeting_71 : decode cX3_meeting 71 = .ok (.lconst 0, 1) := dk_9 (dk_at dksX3_meeting_3 3 rfl rfl)
theorem dX3_meeting_72 : decode cX3_meeting 72 = .ok (.aload_n 0, 1) := dk_42 (dk_at dksX3_meeting_3 4 rfl rfl)
theorem dX3_meeting_73 : decode cX3_meeting 73 = .ok (.getfield 363, 3) := dk_180 1 107 (dk_at dksX3_meeting_3 5 rfl rfl)
theorem dX3_meeting_76 : decode cX3_meeting 76 = .ok (.iconst 1, 1) := dk_4 (dk_at dksX3_meeting_3 8 rfl rfl)
theorem dX3_meeting_77 : decode cX3_meeting 77 = .ok (.isub, 1) := dk_100 (dk_at dksX3_meeting_3 9 rfl rfl)
theorem dX3_meeting_78 : decode cX3_meeting 78 = .ok (.i2l, 1) := dk_133 (dk_at dksX3_meeting_3 10 rfl rfl)
theorem dX3_meeting_79 : decode cX3_meeting 79 = .ok (.invokestatic 121, 3) := dk_184 0 121 (dk_at dksX3_meeting_3 11 rfl rfl)
theorem dX3_meeting_82 : decode cX3_meeting 82 = .ok (.ifCond .ne 6, 3) := dk_154 0 6 (dk_at dksX3_meeting_3 14 rfl rfl)
theorem dX3_meeting_85 : decode cX3_meeting 85 = .ok (.ldc 131, 2) := dk_18 131 (dk_at dksX3_meeting_3 17 rfl rfl)
theorem dX3_meeting_87 : decode cX3_meeting 87 = .ok (.ireturn, 1) := dk_172 (dk_at dksX3_meeting_3 19 rfl rfl)
theorem dX3_meeting_88 : decode cX3_meeting 88 = .ok (.aload_n 0, 1) := dk_42 (dk_at dksX3_meeting_3 20 rfl rfl)
theorem dX3_meeting_89 : decode cX3_meeting 89 = .ok (.getfield 363, 3) := dk_180 1 107 (dk_at dksX3_meeting_3 21 rfl rfl)
theorem dX3_meeting_92 : decode cX3_meeting 92 = .ok (.bipush 10, 2) := dk_16 10 (dk_at dksX3_meeting_4 0 rfl rfl)
theorem dX3_meeting_94 : decode cX3_meeting 94 = .ok (.if_icmp .ne 6, 3) := dk_160 0 6 (dk_at dksX3_meeting_4 2 rfl rfl)
theorem dX3_meeting_97 : decode cX3_meeting 97 = .ok (.ldc 141, 2) := dk_18 141 (dk_at dksX3_meeting_4 5 rfl rfl)
theorem dX3_meeting_99 : decode cX3_meeting 99 = .ok (.ireturn, 1) := dk_172 (dk_at dksX3_meeting_4 7 rfl rfl)
theorem dX3_meeting_100 : decode cX3_meeting 100 = .ok (.aload_n 0, 1) := dk_42 (dk_at dksX3_meeting_4 8 rfl rfl)
theorem dX3_meeting_101 : decode cX3_meeting 101 = .ok (.getfield 93, 3) := dk_180 0 93 (dk_at dksX3_meeting_4 9 rfl rfl)
theorem dX3_meeting_104 : decode cX3_meeting 104 = .ok (.aload_n 0, 1) := dk_42 (dk_at dksX3_meeting_4 12 rfl rfl)
theorem dX3_meeting_105 : decode cX3_meeting 105 = .ok (.getfield 363, 3) := dk_180 1 107 (dk_at dksX3_meeting_4 13 rfl rfl)
theorem dX3_meeting_108 : decode cX3_meeting 108 = .ok (.iload_n 1, 1) := dk_27 (dk_at dksX3_meeting_4 16 rfl rfl)
theorem dX3_meeting_109 : decode cX3_meeting 109 = .ok (.iastore, 1) := dk_79 (dk_at dksX3_meeting_4 17 rfl rfl)
theorem dX3_meeting_110 : decode cX3_meeting 110 = .ok (.aload_n 0, 1) := dk_42 (dk_at dksX3_meeting_4 18 rfl rfl)
theorem dX3_meeting_111 : decode cX3_meeting 111 = .ok (.getfield 96, 3) := dk_180 0 96 (dk_at dksX3_meeting_4 19 rfl rfl)
theorem dX3_meeting_114 : decode cX3_meeting 114 = .ok (.aload_n 0, 1) := dk_42 (dk_at dksX3_meeting_4 22 rfl rfl)
theorem dX3_meeting_115 : decode cX3_meeting 115 = .ok (.getfield 363, 3) := dk_180 1 107 (dk_at dksX3_meeting_5 0 rfl rfl)
theorem dX3_meeting_118 : decode cX3_meeting 118 = .ok (.iload_n 2, 1) := dk_28 (dk_at dksX3_meeting_5 3 rfl rfl)
theorem dX3_meeting_119 : decode cX3_meeting 119 = .ok (.iastore, 1) := dk_79 (dk_at dksX3_meeting_5 4 rfl rfl)
theorem dX3_meeting_120 : decode cX3_meeting 120 = .ok (.aload_n 0, 1) := dk_42 (dk_at dksX3_meeting_5 5 rfl rfl)
theorem dX3_meeting_121 : decode cX3_meeting 121 = .ok (.getfield 99, 3) := dk_180 0 99 (dk_at dksX3_meeting_5 6 rfl rfl)
theorem dX3_meeting_124 : decode cX3_meeting 124 = .ok (.aload_n 0, 1) := dk_42 (dk_at dksX3_meeting_5 9 rfl rfl)
theorem dX3_meeting_125 : decode cX3_meeting 125 = .ok (.getfield 363, 3) := dk_180 1 107 (dk_at dksX3_meeting_5 10 rfl rfl)
theorem dX3_meeting_128 : decode cX3_meeting 128 = .ok (.iload_n 3, 1) := dk_29 (dk_at dksX3_meeting_5 13 rfl rfl)
theorem dX3_meeting_129 : decode cX3_meeting 129 = .ok (.iastore, 1) := dk_79 (dk_at dksX3_meeting_5 14 rfl rfl)
theorem dX3_meeting_130 : decode cX3_meeting 130 = .ok (.aload_n 0, 1) := dk_42 (dk_at dksX3_meeting_5 15 rfl rfl)
theorem dX3_meeting_131 : decode cX3_meeting 131 = .ok (.getfield 102, 3) := dk_180 0 102 (dk_at dksX3_meeting_5 16 rfl rfl)
theorem dX3_meeting_134 : decode cX3_meeting 134 = .ok (.aload_n 0, 1) := dk_42 (dk_at dksX3_meeting_5 19 rfl rfl)
theorem dX3_meeting_135 : decode cX3_meeting 135 = .ok (.getfield 363, 3) := dk_180 1 107 (dk_at dksX3_meeting_5 20 rfl rfl)
theorem dX3_meeting_138 : decode cX3_meeting 138 = .ok (.iload 4, 2) := dk_21 4 (dk_at dksX3_meeting_6 0 rfl rfl)
theorem dX3_meeting_140 : decode cX3_meeting 140 = .ok (.iastore, 1) := dk_79 (dk_at dksX3_meeting_6 2 rfl rfl)
theorem dX3_meeting_141 : decode cX3_meeting 141 = .ok (.aload_n 0, 1) := dk_42 (dk_at dksX3_meeting_6 3 rfl rfl)
theorem dX3_meeting_142 : decode cX3_meeting 142 = .ok (.getfield 105, 3) := dk_180 0 105 (dk_at dksX3_meeting_6 4 rfl rfl)
theorem dX3_meeting_145 : decode cX3_meeting 145 = .ok (.aload_n 0, 1) := dk_42 (dk_at dksX3_meeting_6 7 rfl rfl)
theorem dX3_meeting_146 : decode cX3_meeting 146 = .ok (.getfield 363, 3) := dk_180 1 107 (dk_at dksX3_meeting_6 8 rfl rfl)
theorem dX3_meeting_149 : decode cX3_meeting 149 = .ok (.iload 5, 2) := dk_21 5 (dk_at dksX3_meeting_6 11 rfl rfl)
theorem dX3_meeting_151 : decode cX3_meeting 151 = .ok (.iastore, 1) := dk_79 (dk_at dksX3_meeting_6 13 rfl rfl)
theorem dX3_meeting_152 : decode cX3_meeting 152 = .ok (.aload_n 0, 1) := dk_42 (dk_at dksX3_meeting_6 14 rfl rfl)
theorem dX3_meeting_153 : decode cX3_meeting 153 = .ok (.dup, 1) := dk_89 (dk_at dksX3_meeting_6 15 rfl rfl)
theorem dX3_meeting_154 : decode cX3_meeting 154 = .ok (.getfield 363, 3) := dk_180 1 107 (dk_at dksX3_meeting_6 16 rfl rfl)
theorem dX3_meeting_157 : decode cX3_meeting 157 = .ok (.iconst 1, 1) := dk_4 (dk_at dksX3_meeting_6 19 rfl rfl)
theorem dX3_meeting_158 : decode cX3_meeting 158 = .ok (.iadd, 1) := dk_96 (dk_at dksX3_meeting_6 20 rfl rfl)
theorem dX3_meeting_159 : decode cX3_meeting 159 = .ok (.putfield 363, 3) := dk_181 1 107 (dk_at dksX3_meeting_6 21 rfl rfl)
theorem dX3_meeting_162 : decode cX3_meeting 162 = .ok (.aload_n 0, 1) := dk_42 (dk_at dksX3_meeting_7 0 rfl rfl)
theorem dX3_meeting_163 : decode cX3_meeting 163 = .ok (.getfield 363, 3) := dk_180 1 107 (dk_at dksX3_meeting_7 1 rfl rfl)
theorem dX3_meeting_166 : decode cX3_meeting 166 = .ok (.iconst 1, 1) := dk_4 (dk_at dksX3_meeting_7 4 rfl rfl)
theorem dX3_meeting_167 : decode cX3_meeting 167 = .ok (.isub, 1) := dk_100 (dk_at dksX3_meeting_7 5 rfl rfl)
theorem dX3_meeting_168 : decode cX3_meeting 168 = .ok (.ireturn, 1) := dk_172 (dk_at dksX3_meeting_7 6 rfl rfl)
abbrev cX3_met : ByteArray := prog_19_method_61_code
def yX3_met : MethodName := ⟨RX3, "met", "(II)I"⟩
def dkwX3_met_6 : List UInt8 := [62, 132, 4, 1, 167, 255, 196, 29, 172]
abbrev dktX3_met_6 : List UInt8 := dkwX3_met_6 ++ []
def dkwX3_met_5 : List UInt8 := [180, 0, 105, 21, 5, 46, 54, 5, 167, 255, 234, 29, 21, 5, 27, 160, 0, 7, 4, 167, 0, 4, 3, 96]
abbrev dktX3_met_5 : List UInt8 := dkwX3_met_5 ++ dktX3_met_6
def dkwX3_met_4 : List UInt8 := [180, 0, 105, 21, 4, 46, 54, 5, 21, 5, 18, 147, 159, 0, 21, 21, 5, 27, 159, 0, 15, 42]
abbrev dktX3_met_4 : List UInt8 := dkwX3_met_4 ++ dktX3_met_5
def dkwX3_met_3 : List UInt8 := [167, 0, 4, 3, 172, 3, 62, 27, 4, 96, 54, 4, 21, 4, 42, 180, 1, 107, 162, 0, 57, 42]
abbrev dktX3_met_3 : List UInt8 := dkwX3_met_3 ++ dktX3_met_4
def dkwX3_met_2 : List UInt8 := [153, 0, 26, 28, 153, 0, 18, 42, 180, 0, 96, 27, 46, 42, 180, 0, 99, 27, 46, 164, 0, 7, 4]
abbrev dktX3_met_2 : List UInt8 := dkwX3_met_2 ++ dktX3_met_3
def dkwX3_met_1 : List UInt8 := [20, 0, 129, 184, 0, 121, 154, 0, 6, 18, 131, 172, 28, 5, 162, 0, 36, 42, 27, 182, 1, 110]
abbrev dktX3_met_1 : List UInt8 := dkwX3_met_1 ++ dktX3_met_2
def dkwX3_met_0 : List UInt8 := [42, 3, 181, 0, 111, 27, 133, 9, 42, 180, 1, 107, 4, 100, 133, 184, 0, 121, 153, 0, 15, 28, 133, 9]
abbrev dktX3_met_0 : List UInt8 := dkwX3_met_0 ++ dktX3_met_1
theorem dksX3_met_0 : cX3_met.data.toList.drop 0 = dktX3_met_0 := by decide +kernel
theorem dksX3_met_1 : cX3_met.data.toList.drop 24 = dktX3_met_1 := dk_seg dksX3_met_0 24 rfl rfl
theorem dksX3_met_2 : cX3_met.data.toList.drop 46 = dktX3_met_2 := dk_seg dksX3_met_1 22 rfl rfl
theorem dksX3_met_3 : cX3_met.data.toList.drop 69 = dktX3_met_3 := dk_seg dksX3_met_2 23 rfl rfl
theorem dksX3_met_4 : cX3_met.data.toList.drop 91 = dktX3_met_4 := dk_seg dksX3_met_3 22 rfl rfl
theorem dksX3_met_5 : cX3_met.data.toList.drop 113 = dktX3_met_5 := dk_seg dksX3_met_4 22 rfl rfl
theorem dksX3_met_6 : cX3_met.data.toList.drop 137 = dktX3_met_6 := dk_seg dksX3_met_5 24 rfl rfl
theorem dX3_met_0 : decode cX3_met 0 = .ok (.aload_n 0, 1) := dk_42 (dk_at dksX3_met_0 0 rfl rfl)
theorem dX3_met_1 : decode cX3_met 1 = .ok (.iconst 0, 1) := dk_3 (dk_at dksX3_met_0 1 rfl rfl)
theorem dX3_met_2 : decode cX3_met 2 = .ok (.putfield 111, 3) := dk_181 0 111 (dk_at dksX3_met_0 2 rfl rfl)
theorem dX3_met_5 : decode cX3_met 5 = .ok (.iload_n 1, 1) := dk_27 (dk_at dksX3_met_0 5 rfl rfl)
theorem dX3_met_6 : decode cX3_met 6 = .ok (.i2l, 1) := dk_133 (dk_at dksX3_met_0 6 rfl rfl)
theorem dX3_met_7 : decode cX3_met 7 = .ok (.lconst 0, 1) := dk_9 (dk_at dksX3_met_0 7 rfl rfl)
theorem dX3_met_8 : decode cX3_met 8 = .ok (.aload_n 0, 1) := dk_42 (dk_at dksX3_met_0 8 rfl rfl)
theorem dX3_met_9 : decode cX3_met 9 = .ok (.getfield 363, 3) := dk_180 1 107 (dk_at dksX3_met_0 9 rfl rfl)
theorem dX3_met_12 : decode cX3_met 12 = .ok (.iconst 1, 1) := dk_4 (dk_at dksX3_met_0 12 rfl rfl)
theorem dX3_met_13 : decode cX3_met 13 = .ok (.isub, 1) := dk_100 (dk_at dksX3_met_0 13 rfl rfl)
theorem dX3_met_14 : decode cX3_met 14 = .ok (.i2l, 1) := dk_133 (dk_at dksX3_met_0 14 rfl rfl)
theorem dX3_met_15 : decode cX3_met 15 = .ok (.invokestatic 121, 3) := dk_184 0 121 (dk_at dksX3_met_0 15 rfl rfl)
theorem dX3_met_18 : decode cX3_met 18 = .ok (.ifCond .eq 15, 3) := dk_153 0 15 (dk_at dksX3_met_0 18 rfl rfl)
theorem dX3_met_21 : decode cX3_met 21 = .ok (.iload_n 2, 1) := dk_28 (dk_at dksX3_met_0 21 rfl rfl)
theorem dX3_met_22 : decode cX3_met 22 = .ok (.i2l, 1) := dk_133 (dk_at dksX3_met_0 22 rfl rfl)
theorem dX3_met_23 : decode cX3_met 23 = .ok (.lconst 0, 1) := dk_9 (dk_at dksX3_met_0 23 rfl rfl)
theorem dX3_met_24 : decode cX3_met 24 = .ok (.ldc2_w 129, 3) := dk_20 0 129 (dk_at dksX3_met_1 0 rfl rfl)
theorem dX3_met_27 : decode cX3_met 27 = .ok (.invokestatic 121, 3) := dk_184 0 121 (dk_at dksX3_met_1 3 rfl rfl)
theorem dX3_met_30 : decode cX3_met 30 = .ok (.ifCond .ne 6, 3) := dk_154 0 6 (dk_at dksX3_met_1 6 rfl rfl)
theorem dX3_met_33 : decode cX3_met 33 = .ok (.ldc 131, 2) := dk_18 131 (dk_at dksX3_met_1 9 rfl rfl)
theorem dX3_met_35 : decode cX3_met 35 = .ok (.ireturn, 1) := dk_172 (dk_at dksX3_met_1 11 rfl rfl)
theorem dX3_met_36 : decode cX3_met 36 = .ok (.iload_n 2, 1) := dk_28 (dk_at dksX3_met_1 12 rfl rfl)
theorem dX3_met_37 : decode cX3_met 37 = .ok (.iconst 2, 1) := dk_5 (dk_at dksX3_met_1 13 rfl rfl)
theorem dX3_met_38 : decode cX3_met 38 = .ok (.if_icmp .ge 36, 3) := dk_162 0 36 (dk_at dksX3_met_1 14 rfl rfl)
theorem dX3_met_41 : decode cX3_met 41 = .ok (.aload_n 0, 1) := dk_42 (dk_at dksX3_met_1 17 rfl rfl)
theorem dX3_met_42 : decode cX3_met 42 = .ok (.iload_n 1, 1) := dk_27 (dk_at dksX3_met_1 18 rfl rfl)
theorem dX3_met_43 : decode cX3_met 43 = .ok (.invokevirtual 366, 3) := dk_182 1 110 (dk_at dksX3_met_1 19 rfl rfl)
theorem dX3_met_46 : decode cX3_met 46 = .ok (.ifCond .eq 26, 3) := dk_153 0 26 (dk_at dksX3_met_2 0 rfl rfl)
theorem dX3_met_49 : decode cX3_met 49 = .ok (.iload_n 2, 1) := dk_28 (dk_at dksX3_met_2 3 rfl rfl)
theorem dX3_met_50 : decode cX3_met 50 = .ok (.ifCond .eq 18, 3) := dk_153 0 18 (dk_at dksX3_met_2 4 rfl rfl)
theorem dX3_met_53 : decode cX3_met 53 = .ok (.aload_n 0, 1) := dk_42 (dk_at dksX3_met_2 7 rfl rfl)
theorem dX3_met_54 : decode cX3_met 54 = .ok (.getfield 96, 3) := dk_180 0 96 (dk_at dksX3_met_2 8 rfl rfl)
theorem dX3_met_57 : decode cX3_met 57 = .ok (.iload_n 1, 1) := dk_27 (dk_at dksX3_met_2 11 rfl rfl)
theorem dX3_met_58 : decode cX3_met 58 = .ok (.iaload, 1) := dk_46 (dk_at dksX3_met_2 12 rfl rfl)
theorem dX3_met_59 : decode cX3_met 59 = .ok (.aload_n 0, 1) := dk_42 (dk_at dksX3_met_2 13 rfl rfl)
theorem dX3_met_60 : decode cX3_met 60 = .ok (.getfield 99, 3) := dk_180 0 99 (dk_at dksX3_met_2 14 rfl rfl)
theorem dX3_met_63 : decode cX3_met 63 = .ok (.iload_n 1, 1) := dk_27 (dk_at dksX3_met_2 17 rfl rfl)
theorem dX3_met_64 : decode cX3_met 64 = .ok (.iaload, 1) := dk_46 (dk_at dksX3_met_2 18 rfl rfl)
theorem dX3_met_65 : decode cX3_met 65 = .ok (.if_icmp .le 7, 3) := dk_164 0 7 (dk_at dksX3_met_2 19 rfl rfl)
theorem dX3_met_68 : decode cX3_met 68 = .ok (.iconst 1, 1) := dk_4 (dk_at dksX3_met_2 22 rfl rfl)
theorem dX3_met_69 : decode cX3_met 69 = .ok (.goto 4, 3) := dk_167 0 4 (dk_at dksX3_met_3 0 rfl rfl)
theorem dX3_met_72 : decode cX3_met 72 = .ok (.iconst 0, 1) := dk_3 (dk_at dksX3_met_3 3 rfl rfl)
theorem dX3_met_73 : decode cX3_met 73 = .ok (.ireturn, 1) := dk_172 (dk_at dksX3_met_3 4 rfl rfl)
theorem dX3_met_74 : decode cX3_met 74 = .ok (.iconst 0, 1) := dk_3 (dk_at dksX3_met_3 5 rfl rfl)
theorem dX3_met_75 : decode cX3_met 75 = .ok (.istore_n 3, 1) := dk_62 (dk_at dksX3_met_3 6 rfl rfl)
theorem dX3_met_76 : decode cX3_met 76 = .ok (.iload_n 1, 1) := dk_27 (dk_at dksX3_met_3 7 rfl rfl)
theorem dX3_met_77 : decode cX3_met 77 = .ok (.iconst 1, 1) := dk_4 (dk_at dksX3_met_3 8 rfl rfl)
theorem dX3_met_78 : decode cX3_met 78 = .ok (.iadd, 1) := dk_96 (dk_at dksX3_met_3 9 rfl rfl)
theorem dX3_met_79 : decode cX3_met 79 = .ok (.istore 4, 2) := dk_54 4 (dk_at dksX3_met_3 10 rfl rfl)
theorem dX3_met_81 : decode cX3_met 81 = .ok (.iload 4, 2) := dk_21 4 (dk_at dksX3_met_3 12 rfl rfl)
theorem dX3_met_83 : decode cX3_met 83 = .ok (.aload_n 0, 1) := dk_42 (dk_at dksX3_met_3 14 rfl rfl)
theorem dX3_met_84 : decode cX3_met 84 = .ok (.getfield 363, 3) := dk_180 1 107 (dk_at dksX3_met_3 15 rfl rfl)
theorem dX3_met_87 : decode cX3_met 87 = .ok (.if_icmp .ge 57, 3) := dk_162 0 57 (dk_at dksX3_met_3 18 rfl rfl)
theorem dX3_met_90 : decode cX3_met 90 = .ok (.aload_n 0, 1) := dk_42 (dk_at dksX3_met_3 21 rfl rfl)
theorem dX3_met_91 : decode cX3_met 91 = .ok (.getfield 105, 3) := dk_180 0 105 (dk_at dksX3_met_4 0 rfl rfl)
theorem dX3_met_94 : decode cX3_met 94 = .ok (.iload 4, 2) := dk_21 4 (dk_at dksX3_met_4 3 rfl rfl)
theorem dX3_met_96 : decode cX3_met 96 = .ok (.iaload, 1) := dk_46 (dk_at dksX3_met_4 5 rfl rfl)
theorem dX3_met_97 : decode cX3_met 97 = .ok (.istore 5, 2) := dk_54 5 (dk_at dksX3_met_4 6 rfl rfl)
theorem dX3_met_99 : decode cX3_met 99 = .ok (.iload 5, 2) := dk_21 5 (dk_at dksX3_met_4 8 rfl rfl)
theorem dX3_met_101 : decode cX3_met 101 = .ok (.ldc 147, 2) := dk_18 147 (dk_at dksX3_met_4 10 rfl rfl)
theorem dX3_met_103 : decode cX3_met 103 = .ok (.if_icmp .eq 21, 3) := dk_159 0 21 (dk_at dksX3_met_4 12 rfl rfl)
theorem dX3_met_106 : decode cX3_met 106 = .ok (.iload 5, 2) := dk_21 5 (dk_at dksX3_met_4 15 rfl rfl)
theorem dX3_met_108 : decode cX3_met 108 = .ok (.iload_n 1, 1) := dk_27 (dk_at dksX3_met_4 17 rfl rfl)
theorem dX3_met_109 : decode cX3_met 109 = .ok (.if_icmp .eq 15, 3) := dk_159 0 15 (dk_at dksX3_met_4 18 rfl rfl)
theorem dX3_met_112 : decode cX3_met 112 = .ok (.aload_n 0, 1) := dk_42 (dk_at dksX3_met_4 21 rfl rfl)
theorem dX3_met_113 : decode cX3_met 113 = .ok (.getfield 105, 3) := dk_180 0 105 (dk_at dksX3_met_5 0 rfl rfl)
theorem dX3_met_116 : decode cX3_met 116 = .ok (.iload 5, 2) := dk_21 5 (dk_at dksX3_met_5 3 rfl rfl)
theorem dX3_met_118 : decode cX3_met 118 = .ok (.iaload, 1) := dk_46 (dk_at dksX3_met_5 5 rfl rfl)
theorem dX3_met_119 : decode cX3_met 119 = .ok (.istore 5, 2) := dk_54 5 (dk_at dksX3_met_5 6 rfl rfl)
theorem dX3_met_121 : decode cX3_met 121 = .ok (.goto (-22), 3) := dk_167 255 234 (dk_at dksX3_met_5 8 rfl rfl)
theorem dX3_met_124 : decode cX3_met 124 = .ok (.iload_n 3, 1) := dk_29 (dk_at dksX3_met_5 11 rfl rfl)
theorem dX3_met_125 : decode cX3_met 125 = .ok (.iload 5, 2) := dk_21 5 (dk_at dksX3_met_5 12 rfl rfl)
theorem dX3_met_127 : decode cX3_met 127 = .ok (.iload_n 1, 1) := dk_27 (dk_at dksX3_met_5 14 rfl rfl)
theorem dX3_met_128 : decode cX3_met 128 = .ok (.if_icmp .ne 7, 3) := dk_160 0 7 (dk_at dksX3_met_5 15 rfl rfl)
theorem dX3_met_131 : decode cX3_met 131 = .ok (.iconst 1, 1) := dk_4 (dk_at dksX3_met_5 18 rfl rfl)
theorem dX3_met_132 : decode cX3_met 132 = .ok (.goto 4, 3) := dk_167 0 4 (dk_at dksX3_met_5 19 rfl rfl)
theorem dX3_met_135 : decode cX3_met 135 = .ok (.iconst 0, 1) := dk_3 (dk_at dksX3_met_5 22 rfl rfl)
theorem dX3_met_136 : decode cX3_met 136 = .ok (.iadd, 1) := dk_96 (dk_at dksX3_met_5 23 rfl rfl)
theorem dX3_met_137 : decode cX3_met 137 = .ok (.istore_n 3, 1) := dk_62 (dk_at dksX3_met_6 0 rfl rfl)
theorem dX3_met_138 : decode cX3_met 138 = .ok (.iinc 4 1, 3) := dk_132 4 1 (dk_at dksX3_met_6 1 rfl rfl)
theorem dX3_met_141 : decode cX3_met 141 = .ok (.goto (-60), 3) := dk_167 255 196 (dk_at dksX3_met_6 4 rfl rfl)
theorem dX3_met_144 : decode cX3_met 144 = .ok (.iload_n 3, 1) := dk_29 (dk_at dksX3_met_6 7 rfl rfl)
theorem dX3_met_145 : decode cX3_met 145 = .ok (.ireturn, 1) := dk_172 (dk_at dksX3_met_6 8 rfl rfl)
abbrev cX3_isValid : ByteArray := prog_19_method_60_code
def yX3_isValid : MethodName := ⟨RX3, "isValid", "(I)Z"⟩
def dkwX3_isValid_3 : List UInt8 := [28, 172]
abbrev dktX3_isValid_3 : List UInt8 := dkwX3_isValid_3 ++ []
def dkwX3_isValid_2 : List UInt8 := [180, 0, 99, 29, 46, 164, 0, 7, 4, 167, 0, 4, 3, 61, 42, 180, 0, 105, 29, 46, 62, 167, 255, 191]
abbrev dktX3_isValid_2 : List UInt8 := dkwX3_isValid_2 ++ dktX3_isValid_3
def dkwX3_isValid_1 : List UInt8 := [29, 46, 96, 42, 180, 0, 102, 29, 46, 161, 0, 27, 29, 27, 159, 0, 18, 42, 180, 0, 96, 29, 46, 42]
abbrev dktX3_isValid_1 : List UInt8 := dkwX3_isValid_1 ++ dktX3_isValid_2
def dkwX3_isValid_0 : List UInt8 := [4, 61, 27, 62, 29, 18, 147, 159, 0, 65, 28, 153, 0, 49, 42, 180, 0, 96, 29, 46, 42, 180, 0, 99]
abbrev dktX3_isValid_0 : List UInt8 := dkwX3_isValid_0 ++ dktX3_isValid_1
theorem dksX3_isValid_0 : cX3_isValid.data.toList.drop 0 = dktX3_isValid_0 := by decide +kernel
theorem dksX3_isValid_1 : cX3_isValid.data.toList.drop 24 = dktX3_isValid_1 := dk_seg dksX3_isValid_0 24 rfl rfl
theorem dksX3_isValid_2 : cX3_isValid.data.toList.drop 48 = dktX3_isValid_2 := dk_seg dksX3_isValid_1 24 rfl rfl
theorem dksX3_isValid_3 : cX3_isValid.data.toList.drop 72 = dktX3_isValid_3 := dk_seg dksX3_isValid_2 24 rfl rfl
theorem dX3_isValid_0 : decode cX3_isValid 0 = .ok (.iconst 1, 1) := dk_4 (dk_at dksX3_isValid_0 0 rfl rfl)
theorem dX3_isValid_1 : decode cX3_isValid 1 = .ok (.istore_n 2, 1) := dk_61 (dk_at dksX3_isValid_0 1 rfl rfl)
theorem dX3_isValid_2 : decode cX3_isValid 2 = .ok (.iload_n 1, 1) := dk_27 (dk_at dksX3_isValid_0 2 rfl rfl)
theorem dX3_isValid_3 : decode cX3_isValid 3 = .ok (.istore_n 3, 1) := dk_62 (dk_at dksX3_isValid_0 3 rfl rfl)
theorem dX3_isValid_4 : decode cX3_isValid 4 = .ok (.iload_n 3, 1) := dk_29 (dk_at dksX3_isValid_0 4 rfl rfl)
theorem dX3_isValid_5 : decode cX3_isValid 5 = .ok (.ldc 147, 2) := dk_18 147 (dk_at dksX3_isValid_0 5 rfl rfl)
theorem dX3_isValid_7 : decode cX3_isValid 7 = .ok (.if_icmp .eq 65, 3) := dk_159 0 65 (dk_at dksX3_isValid_0 7 rfl rfl)
theorem dX3_isValid_10 : decode cX3_isValid 10 = .ok (.iload_n 2, 1) := dk_28 (dk_at dksX3_isValid_0 10 rfl rfl)
theorem dX3_isValid_11 : decode cX3_isValid 11 = .ok (.ifCond .eq 49, 3) := dk_153 0 49 (dk_at dksX3_isValid_0 11 rfl rfl)
theorem dX3_isValid_14 : decode cX3_isValid 14 = .ok (.aload_n 0, 1) := dk_42 (dk_at dksX3_isValid_0 14 rfl rfl)
theorem dX3_isValid_15 : decode cX3_isValid 15 = .ok (.getfield 96, 3) := dk_180 0 96 (dk_at dksX3_isValid_0 15 rfl rfl)
theorem dX3_isValid_18 : decode cX3_isValid 18 = .ok (.iload_n 3, 1) := dk_29 (dk_at dksX3_isValid_0 18 rfl rfl)
theorem dX3_isValid_19 : decode cX3_isValid 19 = .ok (.iaload, 1) := dk_46 (dk_at dksX3_isValid_0 19 rfl rfl)
theorem dX3_isValid_20 : decode cX3_isValid 20 = .ok (.aload_n 0, 1) := dk_42 (dk_at dksX3_isValid_0 20 rfl rfl)
theorem dX3_isValid_21 : decode cX3_isValid 21 = .ok (.getfield 99, 3) := dk_180 0 99 (dk_at dksX3_isValid_0 21 rfl rfl)
theorem dX3_isValid_24 : decode cX3_isValid 24 = .ok (.iload_n 3, 1) := dk_29 (dk_at dksX3_isValid_1 0 rfl rfl)
theorem dX3_isValid_25 : decode cX3_isValid 25 = .ok (.iaload, 1) := dk_46 (dk_at dksX3_isValid_1 1 rfl rfl)
theorem dX3_isValid_26 : decode cX3_isValid 26 = .ok (.iadd, 1) := dk_96 (dk_at dksX3_isValid_1 2 rfl rfl)
theorem dX3_isValid_27 : decode cX3_isValid 27 = .ok (.aload_n 0, 1) := dk_42 (dk_at dksX3_isValid_1 3 rfl rfl)
theorem dX3_isValid_28 : decode cX3_isValid 28 = .ok (.getfield 102, 3) := dk_180 0 102 (dk_at dksX3_isValid_1 4 rfl rfl)
theorem dX3_isValid_31 : decode cX3_isValid 31 = .ok (.iload_n 3, 1) := dk_29 (dk_at dksX3_isValid_1 7 rfl rfl)
theorem dX3_isValid_32 : decode cX3_isValid 32 = .ok (.iaload, 1) := dk_46 (dk_at dksX3_isValid_1 8 rfl rfl)
theorem dX3_isValid_33 : decode cX3_isValid 33 = .ok (.if_icmp .lt 27, 3) := dk_161 0 27 (dk_at dksX3_isValid_1 9 rfl rfl)
theorem dX3_isValid_36 : decode cX3_isValid 36 = .ok (.iload_n 3, 1) := dk_29 (dk_at dksX3_isValid_1 12 rfl rfl)
theorem dX3_isValid_37 : decode cX3_isValid 37 = .ok (.iload_n 1, 1) := dk_27 (dk_at dksX3_isValid_1 13 rfl rfl)
theorem dX3_isValid_38 : decode cX3_isValid 38 = .ok (.if_icmp .eq 18, 3) := dk_159 0 18 (dk_at dksX3_isValid_1 14 rfl rfl)
theorem dX3_isValid_41 : decode cX3_isValid 41 = .ok (.aload_n 0, 1) := dk_42 (dk_at dksX3_isValid_1 17 rfl rfl)
theorem dX3_isValid_42 : decode cX3_isValid 42 = .ok (.getfield 96, 3) := dk_180 0 96 (dk_at dksX3_isValid_1 18 rfl rfl)
theorem dX3_isValid_45 : decode cX3_isValid 45 = .ok (.iload_n 3, 1) := dk_29 (dk_at dksX3_isValid_1 21 rfl rfl)
theorem dX3_isValid_46 : decode cX3_isValid 46 = .ok (.iaload, 1) := dk_46 (dk_at dksX3_isValid_1 22 rfl rfl)
theorem dX3_isValid_47 : decode cX3_isValid 47 = .ok (.aload_n 0, 1) := dk_42 (dk_at dksX3_isValid_1 23 rfl rfl)
theorem dX3_isValid_48 : decode cX3_isValid 48 = .ok (.getfield 99, 3) := dk_180 0 99 (dk_at dksX3_isValid_2 0 rfl rfl)
theorem dX3_isValid_51 : decode cX3_isValid 51 = .ok (.iload_n 3, 1) := dk_29 (dk_at dksX3_isValid_2 3 rfl rfl)
theorem dX3_isValid_52 : decode cX3_isValid 52 = .ok (.iaload, 1) := dk_46 (dk_at dksX3_isValid_2 4 rfl rfl)
theorem dX3_isValid_53 : decode cX3_isValid 53 = .ok (.if_icmp .le 7, 3) := dk_164 0 7 (dk_at dksX3_isValid_2 5 rfl rfl)
theorem dX3_isValid_56 : decode cX3_isValid 56 = .ok (.iconst 1, 1) := dk_4 (dk_at dksX3_isValid_2 8 rfl rfl)
theorem dX3_isValid_57 : decode cX3_isValid 57 = .ok (.goto 4, 3) := dk_167 0 4 (dk_at dksX3_isValid_2 9 rfl rfl)
theorem dX3_isValid_60 : decode cX3_isValid 60 = .ok (.iconst 0, 1) := dk_3 (dk_at dksX3_isValid_2 12 rfl rfl)
theorem dX3_isValid_61 : decode cX3_isValid 61 = .ok (.istore_n 2, 1) := dk_61 (dk_at dksX3_isValid_2 13 rfl rfl)
theorem dX3_isValid_62 : decode cX3_isValid 62 = .ok (.aload_n 0, 1) := dk_42 (dk_at dksX3_isValid_2 14 rfl rfl)
theorem dX3_isValid_63 : decode cX3_isValid 63 = .ok (.getfield 105, 3) := dk_180 0 105 (dk_at dksX3_isValid_2 15 rfl rfl)
theorem dX3_isValid_66 : decode cX3_isValid 66 = .ok (.iload_n 3, 1) := dk_29 (dk_at dksX3_isValid_2 18 rfl rfl)
theorem dX3_isValid_67 : decode cX3_isValid 67 = .ok (.iaload, 1) := dk_46 (dk_at dksX3_isValid_2 19 rfl rfl)
theorem dX3_isValid_68 : decode cX3_isValid 68 = .ok (.istore_n 3, 1) := dk_62 (dk_at dksX3_isValid_2 20 rfl rfl)
theorem dX3_isValid_69 : decode cX3_isValid 69 = .ok (.goto (-65), 3) := dk_167 255 191 (dk_at dksX3_isValid_2 21 rfl rfl)
theorem dX3_isValid_72 : decode cX3_isValid 72 = .ok (.iload_n 2, 1) := dk_28 (dk_at dksX3_isValid_3 0 rfl rfl)
theorem dX3_isValid_73 : decode cX3_isValid 73 = .ok (.ireturn, 1) := dk_172 (dk_at dksX3_isValid_3 1 rfl rfl)
abbrev cX3_day : ByteArray := prog_19_method_62_code
def yX3_day : MethodName := ⟨RX3, "day", "(I)I"⟩
def dkwX3_day_1 : List UInt8 := [181, 1, 61, 28, 172]
abbrev dktX3_day_1 : List UInt8 := dkwX3_day_1 ++ []
def dkwX3_day_0 : List UInt8 := [42, 3, 181, 0, 111, 27, 184, 1, 17, 154, 0, 6, 18, 131, 172, 42, 180, 1, 61, 61, 42, 27]
abbrev dktX3_day_0 : List UInt8 := dkwX3_day_0 ++ dktX3_day_1
theorem dksX3_day_0 : cX3_day.data.toList.drop 0 = dktX3_day_0 := by decide +kernel
theorem dksX3_day_1 : cX3_day.data.toList.drop 22 = dktX3_day_1 := dk_seg dksX3_day_0 22 rfl rfl
theorem dX3_day_0 : decode cX3_day 0 = .ok (.aload_n 0, 1) := dk_42 (dk_at dksX3_day_0 0 rfl rfl)
theorem dX3_day_1 : decode cX3_day 1 = .ok (.iconst 0, 1) := dk_3 (dk_at dksX3_day_0 1 rfl rfl)
theorem dX3_day_2 : decode cX3_day 2 = .ok (.putfield 111, 3) := dk_181 0 111 (dk_at dksX3_day_0 2 rfl rfl)
theorem dX3_day_5 : decode cX3_day 5 = .ok (.iload_n 1, 1) := dk_27 (dk_at dksX3_day_0 5 rfl rfl)
theorem dX3_day_6 : decode cX3_day 6 = .ok (.invokestatic 273, 3) := dk_184 1 17 (dk_at dksX3_day_0 6 rfl rfl)
theorem dX3_day_9 : decode cX3_day 9 = .ok (.ifCond .ne 6, 3) := dk_154 0 6 (dk_at dksX3_day_0 9 rfl rfl)
theorem dX3_day_12 : decode cX3_day 12 = .ok (.ldc 131, 2) := dk_18 131 (dk_at dksX3_day_0 12 rfl rfl)
theorem dX3_day_14 : decode cX3_day 14 = .ok (.ireturn, 1) := dk_172 (dk_at dksX3_day_0 14 rfl rfl)
theorem dX3_day_15 : decode cX3_day 15 = .ok (.aload_n 0, 1) := dk_42 (dk_at dksX3_day_0 15 rfl rfl)
theorem dX3_day_16 : decode cX3_day 16 = .ok (.getfield 317, 3) := dk_180 1 61 (dk_at dksX3_day_0 16 rfl rfl)
theorem dX3_day_19 : decode cX3_day 19 = .ok (.istore_n 2, 1) := dk_61 (dk_at dksX3_day_0 19 rfl rfl)
theorem dX3_day_20 : decode cX3_day 20 = .ok (.aload_n 0, 1) := dk_42 (dk_at dksX3_day_0 20 rfl rfl)
theorem dX3_day_21 : decode cX3_day 21 = .ok (.iload_n 1, 1) := dk_27 (dk_at dksX3_day_0 21 rfl rfl)
theorem dX3_day_22 : decode cX3_day 22 = .ok (.putfield 317, 3) := dk_181 1 61 (dk_at dksX3_day_1 0 rfl rfl)
theorem dX3_day_25 : decode cX3_day 25 = .ok (.iload_n 2, 1) := dk_28 (dk_at dksX3_day_1 3 rfl rfl)
theorem dX3_day_26 : decode cX3_day 26 = .ok (.ireturn, 1) := dk_172 (dk_at dksX3_day_1 4 rfl rfl)
abbrev cX3_kind : ByteArray := prog_19_method_65_code
def yX3_kind : MethodName := ⟨RX3, "kind", "(I)I"⟩
def dkwX3_kind_0 : List UInt8 := [42, 3, 181, 0, 111, 42, 27, 182, 1, 26, 153, 0, 11, 42, 27, 182, 1, 113, 167, 0, 5, 18, 131, 172]
abbrev dktX3_kind_0 : List UInt8 := dkwX3_kind_0 ++ []
theorem dksX3_kind_0 : cX3_kind.data.toList.drop 0 = dktX3_kind_0 := by decide +kernel
theorem dX3_kind_0 : decode cX3_kind 0 = .ok (.aload_n 0, 1) := dk_42 (dk_at dksX3_kind_0 0 rfl rfl)
theorem dX3_kind_1 : decode cX3_kind 1 = .ok (.iconst 0, 1) := dk_3 (dk_at dksX3_kind_0 1 rfl rfl)
theorem dX3_kind_2 : decode cX3_kind 2 = .ok (.putfield 111, 3) := dk_181 0 111 (dk_at dksX3_kind_0 2 rfl rfl)
theorem dX3_kind_5 : decode cX3_kind 5 = .ok (.aload_n 0, 1) := dk_42 (dk_at dksX3_kind_0 5 rfl rfl)
theorem dX3_kind_6 : decode cX3_kind 6 = .ok (.iload_n 1, 1) := dk_27 (dk_at dksX3_kind_0 6 rfl rfl)
theorem dX3_kind_7 : decode cX3_kind 7 = .ok (.invokevirtual 282, 3) := dk_182 1 26 (dk_at dksX3_kind_0 7 rfl rfl)
theorem dX3_kind_10 : decode cX3_kind 10 = .ok (.ifCond .eq 11, 3) := dk_153 0 11 (dk_at dksX3_kind_0 10 rfl rfl)
theorem dX3_kind_13 : decode cX3_kind 13 = .ok (.aload_n 0, 1) := dk_42 (dk_at dksX3_kind_0 13 rfl rfl)
theorem dX3_kind_14 : decode cX3_kind 14 = .ok (.iload_n 1, 1) := dk_27 (dk_at dksX3_kind_0 14 rfl rfl)
theorem dX3_kind_15 : decode cX3_kind 15 = .ok (.invokevirtual 369, 3) := dk_182 1 113 (dk_at dksX3_kind_0 15 rfl rfl)
theorem dX3_kind_18 : decode cX3_kind 18 = .ok (.goto 5, 3) := dk_167 0 5 (dk_at dksX3_kind_0 18 rfl rfl)
theorem dX3_kind_21 : decode cX3_kind 21 = .ok (.ldc 131, 2) := dk_18 131 (dk_at dksX3_kind_0 21 rfl rfl)
theorem dX3_kind_23 : decode cX3_kind 23 = .ok (.ireturn, 1) := dk_172 (dk_at dksX3_kind_0 23 rfl rfl)
abbrev cX3_kindOf : ByteArray := prog_19_method_63_code
def yX3_kindOf : MethodName := ⟨RX3, "kindOf", "(I)I"⟩
def dkwX3_kindOf_3 : List UInt8 := [167, 0, 4, 3, 172]
abbrev dktX3_kindOf_3 : List UInt8 := dkwX3_kindOf_3 ++ []
def dkwX3_kindOf_2 : List UInt8 := [154, 0, 7, 5, 167, 0, 4, 4, 172, 42, 27, 42, 180, 1, 61, 182, 1, 48, 153, 0, 7, 7]
abbrev dktX3_kindOf_2 : List UInt8 := dkwX3_kindOf_2 ++ dktX3_kindOf_3
def dkwX3_kindOf_1 : List UInt8 := [6, 172, 42, 42, 180, 1, 61, 182, 1, 58, 27, 122, 4, 126, 4, 160, 0, 17, 42, 27, 182, 1, 45]
abbrev dktX3_kindOf_1 : List UInt8 := dkwX3_kindOf_1 ++ dktX3_kindOf_2
def dkwX3_kindOf_0 : List UInt8 := [42, 180, 0, 46, 27, 46, 18, 147, 159, 0, 18, 42, 180, 0, 46, 27, 46, 42, 180, 1, 61, 163, 0, 5]
abbrev dktX3_kindOf_0 : List UInt8 := dkwX3_kindOf_0 ++ dktX3_kindOf_1
theorem dksX3_kindOf_0 : cX3_kindOf.data.toList.drop 0 = dktX3_kindOf_0 := by decide +kernel
theorem dksX3_kindOf_1 : cX3_kindOf.data.toList.drop 24 = dktX3_kindOf_1 := dk_seg dksX3_kindOf_0 24 rfl rfl
theorem dksX3_kindOf_2 : cX3_kindOf.data.toList.drop 47 = dktX3_kindOf_2 := dk_seg dksX3_kindOf_1 23 rfl rfl
theorem dksX3_kindOf_3 : cX3_kindOf.data.toList.drop 69 = dktX3_kindOf_3 := dk_seg dksX3_kindOf_2 22 rfl rfl
theorem dX3_kindOf_0 : decode cX3_kindOf 0 = .ok (.aload_n 0, 1) := dk_42 (dk_at dksX3_kindOf_0 0 rfl rfl)
theorem dX3_kindOf_1 : decode cX3_kindOf 1 = .ok (.getfield 46, 3) := dk_180 0 46 (dk_at dksX3_kindOf_0 1 rfl rfl)
theorem dX3_kindOf_4 : decode cX3_kindOf 4 = .ok (.iload_n 1, 1) := dk_27 (dk_at dksX3_kindOf_0 4 rfl rfl)
theorem dX3_kindOf_5 : decode cX3_kindOf 5 = .ok (.iaload, 1) := dk_46 (dk_at dksX3_kindOf_0 5 rfl rfl)
theorem dX3_kindOf_6 : decode cX3_kindOf 6 = .ok (.ldc 147, 2) := dk_18 147 (dk_at dksX3_kindOf_0 6 rfl rfl)
theorem dX3_kindOf_8 : decode cX3_kindOf 8 = .ok (.if_icmp .eq 18, 3) := dk_159 0 18 (dk_at dksX3_kindOf_0 8 rfl rfl)
theorem dX3_kindOf_11 : decode cX3_kindOf 11 = .ok (.aload_n 0, 1) := dk_42 (dk_at dksX3_kindOf_0 11 rfl rfl)
theorem dX3_kindOf_12 : decode cX3_kindOf 12 = .ok (.getfield 46, 3) := dk_180 0 46 (dk_at dksX3_kindOf_0 12 rfl rfl)
theorem dX3_kindOf_15 : decode cX3_kindOf 15 = .ok (.iload_n 1, 1) := dk_27 (dk_at dksX3_kindOf_0 15 rfl rfl)
theorem dX3_kindOf_16 : decode cX3_kindOf 16 = .ok (.iaload, 1) := dk_46 (dk_at dksX3_kindOf_0 16 rfl rfl)
theorem dX3_kindOf_17 : decode cX3_kindOf 17 = .ok (.aload_n 0, 1) := dk_42 (dk_at dksX3_kindOf_0 17 rfl rfl)
theorem dX3_kindOf_18 : decode cX3_kindOf 18 = .ok (.getfield 317, 3) := dk_180 1 61 (dk_at dksX3_kindOf_0 18 rfl rfl)
theorem dX3_kindOf_21 : decode cX3_kindOf 21 = .ok (.if_icmp .gt 5, 3) := dk_163 0 5 (dk_at dksX3_kindOf_0 21 rfl rfl)
theorem dX3_kindOf_24 : decode cX3_kindOf 24 = .ok (.iconst 3, 1) := dk_6 (dk_at dksX3_kindOf_1 0 rfl rfl)
theorem dX3_kindOf_25 : decode cX3_kindOf 25 = .ok (.ireturn, 1) := dk_172 (dk_at dksX3_kindOf_1 1 rfl rfl)
theorem dX3_kindOf_26 : decode cX3_kindOf 26 = .ok (.aload_n 0, 1) := dk_42 (dk_at dksX3_kindOf_1 2 rfl rfl)
theorem dX3_kindOf_27 : decode cX3_kindOf 27 = .ok (.aload_n 0, 1) := dk_42 (dk_at dksX3_kindOf_1 3 rfl rfl)
theorem dX3_kindOf_28 : decode cX3_kindOf 28 = .ok (.getfield 317, 3) := dk_180 1 61 (dk_at dksX3_kindOf_1 4 rfl rfl)
theorem dX3_kindOf_31 : decode cX3_kindOf 31 = .ok (.invokevirtual 314, 3) := dk_182 1 58 (dk_at dksX3_kindOf_1 7 rfl rfl)
theorem dX3_kindOf_34 : decode cX3_kindOf 34 = .ok (.iload_n 1, 1) := dk_27 (dk_at dksX3_kindOf_1 10 rfl rfl)
theorem dX3_kindOf_35 : decode cX3_kindOf 35 = .ok (.ishr, 1) := dk_122 (dk_at dksX3_kindOf_1 11 rfl rfl)
theorem dX3_kindOf_36 : decode cX3_kindOf 36 = .ok (.iconst 1, 1) := dk_4 (dk_at dksX3_kindOf_1 12 rfl rfl)
theorem dX3_kindOf_37 : decode cX3_kindOf 37 = .ok (.iand, 1) := dk_126 (dk_at dksX3_kindOf_1 13 rfl rfl)
theorem dX3_kindOf_38 : decode cX3_kindOf 38 = .ok (.iconst 1, 1) := dk_4 (dk_at dksX3_kindOf_1 14 rfl rfl)
theorem dX3_kindOf_39 : decode cX3_kindOf 39 = .ok (.if_icmp .ne 17, 3) := dk_160 0 17 (dk_at dksX3_kindOf_1 15 rfl rfl)
theorem dX3_kindOf_42 : decode cX3_kindOf 42 = .ok (.aload_n 0, 1) := dk_42 (dk_at dksX3_kindOf_1 18 rfl rfl)
theorem dX3_kindOf_43 : decode cX3_kindOf 43 = .ok (.iload_n 1, 1) := dk_27 (dk_at dksX3_kindOf_1 19 rfl rfl)
theorem dX3_kindOf_44 : decode cX3_kindOf 44 = .ok (.invokevirtual 301, 3) := dk_182 1 45 (dk_at dksX3_kindOf_1 20 rfl rfl)
theorem dX3_kindOf_47 : decode cX3_kindOf 47 = .ok (.ifCond .ne 7, 3) := dk_154 0 7 (dk_at dksX3_kindOf_2 0 rfl rfl)
theorem dX3_kindOf_50 : decode cX3_kindOf 50 = .ok (.iconst 2, 1) := dk_5 (dk_at dksX3_kindOf_2 3 rfl rfl)
theorem dX3_kindOf_51 : decode cX3_kindOf 51 = .ok (.goto 4, 3) := dk_167 0 4 (dk_at dksX3_kindOf_2 4 rfl rfl)
theorem dX3_kindOf_54 : decode cX3_kindOf 54 = .ok (.iconst 1, 1) := dk_4 (dk_at dksX3_kindOf_2 7 rfl rfl)
theorem dX3_kindOf_55 : decode cX3_kindOf 55 = .ok (.ireturn, 1) := dk_172 (dk_at dksX3_kindOf_2 8 rfl rfl)
theorem dX3_kindOf_56 : decode cX3_kindOf 56 = .ok (.aload_n 0, 1) := dk_42 (dk_at dksX3_kindOf_2 9 rfl rfl)
theorem dX3_kindOf_57 : decode cX3_kindOf 57 = .ok (.iload_n 1, 1) := dk_27 (dk_at dksX3_kindOf_2 10 rfl rfl)
theorem dX3_kindOf_58 : decode cX3_kindOf 58 = .ok (.aload_n 0, 1) := dk_42 (dk_at dksX3_kindOf_2 11 rfl rfl)
theorem dX3_kindOf_59 : decode cX3_kindOf 59 = .ok (.getfield 317, 3) := dk_180 1 61 (dk_at dksX3_kindOf_2 12 rfl rfl)
theorem dX3_kindOf_62 : decode cX3_kindOf 62 = .ok (.invokevirtual 304, 3) := dk_182 1 48 (dk_at dksX3_kindOf_2 15 rfl rfl)
theorem dX3_kindOf_65 : decode cX3_kindOf 65 = .ok (.ifCond .eq 7, 3) := dk_153 0 7 (dk_at dksX3_kindOf_2 18 rfl rfl)
theorem dX3_kindOf_68 : decode cX3_kindOf 68 = .ok (.iconst 4, 1) := dk_7 (dk_at dksX3_kindOf_2 21 rfl rfl)
theorem dX3_kindOf_69 : decode cX3_kindOf 69 = .ok (.goto 4, 3) := dk_167 0 4 (dk_at dksX3_kindOf_3 0 rfl rfl)
theorem dX3_kindOf_72 : decode cX3_kindOf 72 = .ok (.iconst 0, 1) := dk_3 (dk_at dksX3_kindOf_3 3 rfl rfl)
theorem dX3_kindOf_73 : decode cX3_kindOf 73 = .ok (.ireturn, 1) := dk_172 (dk_at dksX3_kindOf_3 4 rfl rfl)
abbrev cX3_as : ByteArray := prog_19_method_66_code
def yX3_as : MethodName := ⟨RX3, "as", "(II)I"⟩
def dkwX3_as_2 : List UInt8 := [27, 5, 182, 1, 29, 167, 0, 8, 42, 6, 182, 0, 132, 172]
abbrev dktX3_as_2 : List UInt8 := dkwX3_as_2 ++ []
def dkwX3_as_1 : List UInt8 := [154, 0, 6, 18, 131, 172, 42, 3, 181, 0, 115, 42, 27, 182, 1, 113, 28, 184, 1, 116, 153, 0, 12, 42]
abbrev dktX3_as_1 : List UInt8 := dkwX3_as_1 ++ dktX3_as_2
def dkwX3_as_0 : List UInt8 := [42, 3, 181, 0, 111, 42, 27, 182, 1, 26, 153, 0, 15, 28, 133, 9, 20, 0, 254, 184, 0, 121]
abbrev dktX3_as_0 : List UInt8 := dkwX3_as_0 ++ dktX3_as_1
theorem dksX3_as_0 : cX3_as.data.toList.drop 0 = dktX3_as_0 := by decide +kernel
theorem dksX3_as_1 : cX3_as.data.toList.drop 22 = dktX3_as_1 := dk_seg dksX3_as_0 22 rfl rfl
theorem dksX3_as_2 : cX3_as.data.toList.drop 46 = dktX3_as_2 := dk_seg dksX3_as_1 24 rfl rfl
theorem dX3_as_0 : decode cX3_as 0 = .ok (.aload_n 0, 1) := dk_42 (dk_at dksX3_as_0 0 rfl rfl)
theorem dX3_as_1 : decode cX3_as 1 = .ok (.iconst 0, 1) := dk_3 (dk_at dksX3_as_0 1 rfl rfl)
theorem dX3_as_2 : decode cX3_as 2 = .ok (.putfield 111, 3) := dk_181 0 111 (dk_at dksX3_as_0 2 rfl rfl)
theorem dX3_as_5 : decode cX3_as 5 = .ok (.aload_n 0, 1) := dk_42 (dk_at dksX3_as_0 5 rfl rfl)
theorem dX3_as_6 : decode cX3_as 6 = .ok (.iload_n 1, 1) := dk_27 (dk_at dksX3_as_0 6 rfl rfl)
theorem dX3_as_7 : decode cX3_as 7 = .ok (.invokevirtual 282, 3) := dk_182 1 26 (dk_at dksX3_as_0 7 rfl rfl)
theorem dX3_as_10 : decode cX3_as 10 = .ok (.ifCond .eq 15, 3) := dk_153 0 15 (dk_at dksX3_as_0 10 rfl rfl)
theorem dX3_as_13 : decode cX3_as 13 = .ok (.iload_n 2, 1) := dk_28 (dk_at dksX3_as_0 13 rfl rfl)
theorem dX3_as_14 : decode cX3_as 14 = .ok (.i2l, 1) := dk_133 (dk_at dksX3_as_0 14 rfl rfl)
theorem dX3_as_15 : decode cX3_as 15 = .ok (.lconst 0, 1) := dk_9 (dk_at dksX3_as_0 15 rfl rfl)
theorem dX3_as_16 : decode cX3_as 16 = .ok (.ldc2_w 254, 3) := dk_20 0 254 (dk_at dksX3_as_0 16 rfl rfl)
theorem dX3_as_19 : decode cX3_as 19 = .ok (.invokestatic 121, 3) := dk_184 0 121 (dk_at dksX3_as_0 19 rfl rfl)
theorem dX3_as_22 : decode cX3_as 22 = .ok (.ifCond .ne 6, 3) := dk_154 0 6 (dk_at dksX3_as_1 0 rfl rfl)
theorem dX3_as_25 : decode cX3_as 25 = .ok (.ldc 131, 2) := dk_18 131 (dk_at dksX3_as_1 3 rfl rfl)
theorem dX3_as_27 : decode cX3_as 27 = .ok (.ireturn, 1) := dk_172 (dk_at dksX3_as_1 5 rfl rfl)
theorem dX3_as_28 : decode cX3_as 28 = .ok (.aload_n 0, 1) := dk_42 (dk_at dksX3_as_1 6 rfl rfl)
theorem dX3_as_29 : decode cX3_as 29 = .ok (.iconst 0, 1) := dk_3 (dk_at dksX3_as_1 7 rfl rfl)
theorem dX3_as_30 : decode cX3_as 30 = .ok (.putfield 115, 3) := dk_181 0 115 (dk_at dksX3_as_1 8 rfl rfl)
theorem dX3_as_33 : decode cX3_as 33 = .ok (.aload_n 0, 1) := dk_42 (dk_at dksX3_as_1 11 rfl rfl)
theorem dX3_as_34 : decode cX3_as 34 = .ok (.iload_n 1, 1) := dk_27 (dk_at dksX3_as_1 12 rfl rfl)
theorem dX3_as_35 : decode cX3_as 35 = .ok (.invokevirtual 369, 3) := dk_182 1 113 (dk_at dksX3_as_1 13 rfl rfl)
theorem dX3_as_38 : decode cX3_as 38 = .ok (.iload_n 2, 1) := dk_28 (dk_at dksX3_as_1 16 rfl rfl)
theorem dX3_as_39 : decode cX3_as 39 = .ok (.invokestatic 372, 3) := dk_184 1 116 (dk_at dksX3_as_1 17 rfl rfl)
theorem dX3_as_42 : decode cX3_as 42 = .ok (.ifCond .eq 12, 3) := dk_153 0 12 (dk_at dksX3_as_1 20 rfl rfl)
theorem dX3_as_45 : decode cX3_as 45 = .ok (.aload_n 0, 1) := dk_42 (dk_at dksX3_as_1 23 rfl rfl)
theorem dX3_as_46 : decode cX3_as 46 = .ok (.iload_n 1, 1) := dk_27 (dk_at dksX3_as_2 0 rfl rfl)
theorem dX3_as_47 : decode cX3_as 47 = .ok (.iconst 2, 1) := dk_5 (dk_at dksX3_as_2 1 rfl rfl)
theorem dX3_as_48 : decode cX3_as 48 = .ok (.invokevirtual 285, 3) := dk_182 1 29 (dk_at dksX3_as_2 2 rfl rfl)
theorem dX3_as_51 : decode cX3_as 51 = .ok (.goto 8, 3) := dk_167 0 8 (dk_at dksX3_as_2 5 rfl rfl)
theorem dX3_as_54 : decode cX3_as 54 = .ok (.aload_n 0, 1) := dk_42 (dk_at dksX3_as_2 8 rfl rfl)
theorem dX3_as_55 : decode cX3_as 55 = .ok (.iconst 3, 1) := dk_6 (dk_at dksX3_as_2 9 rfl rfl)
theorem dX3_as_56 : decode cX3_as 56 = .ok (.invokevirtual 132, 3) := dk_182 0 132 (dk_at dksX3_as_2 10 rfl rfl)
theorem dX3_as_59 : decode cX3_as 59 = .ok (.ireturn, 1) := dk_172 (dk_at dksX3_as_2 13 rfl rfl)
abbrev cX3_isOf : ByteArray := prog_19_method_64_code
def yX3_isOf : MethodName := ⟨RX3, "isOf", "(II)Z"⟩
def dkwX3_isOf_1 : List UInt8 := [172]
abbrev dktX3_isOf_1 : List UInt8 := dkwX3_isOf_1 ++ []
def dkwX3_isOf_0 : List UInt8 := [27, 153, 0, 18, 26, 27, 159, 0, 13, 27, 4, 160, 0, 12, 26, 5, 160, 0, 7, 4, 167, 0, 4, 3]
abbrev dktX3_isOf_0 : List UInt8 := dkwX3_isOf_0 ++ dktX3_isOf_1
theorem dksX3_isOf_0 : cX3_isOf.data.toList.drop 0 = dktX3_isOf_0 := by decide +kernel
theorem dksX3_isOf_1 : cX3_isOf.data.toList.drop 24 = dktX3_isOf_1 := dk_seg dksX3_isOf_0 24 rfl rfl
theorem dX3_isOf_0 : decode cX3_isOf 0 = .ok (.iload_n 1, 1) := dk_27 (dk_at dksX3_isOf_0 0 rfl rfl)
theorem dX3_isOf_1 : decode cX3_isOf 1 = .ok (.ifCond .eq 18, 3) := dk_153 0 18 (dk_at dksX3_isOf_0 1 rfl rfl)
theorem dX3_isOf_4 : decode cX3_isOf 4 = .ok (.iload_n 0, 1) := dk_26 (dk_at dksX3_isOf_0 4 rfl rfl)
theorem dX3_isOf_5 : decode cX3_isOf 5 = .ok (.iload_n 1, 1) := dk_27 (dk_at dksX3_isOf_0 5 rfl rfl)
theorem dX3_isOf_6 : decode cX3_isOf 6 = .ok (.if_icmp .eq 13, 3) := dk_159 0 13 (dk_at dksX3_isOf_0 6 rfl rfl)
theorem dX3_isOf_9 : decode cX3_isOf 9 = .ok (.iload_n 1, 1) := dk_27 (dk_at dksX3_isOf_0 9 rfl rfl)
theorem dX3_isOf_10 : decode cX3_isOf 10 = .ok (.iconst 1, 1) := dk_4 (dk_at dksX3_isOf_0 10 rfl rfl)
theorem dX3_isOf_11 : decode cX3_isOf 11 = .ok (.if_icmp .ne 12, 3) := dk_160 0 12 (dk_at dksX3_isOf_0 11 rfl rfl)
theorem dX3_isOf_14 : decode cX3_isOf 14 = .ok (.iload_n 0, 1) := dk_26 (dk_at dksX3_isOf_0 14 rfl rfl)
theorem dX3_isOf_15 : decode cX3_isOf 15 = .ok (.iconst 2, 1) := dk_5 (dk_at dksX3_isOf_0 15 rfl rfl)
theorem dX3_isOf_16 : decode cX3_isOf 16 = .ok (.if_icmp .ne 7, 3) := dk_160 0 7 (dk_at dksX3_isOf_0 16 rfl rfl)
theorem dX3_isOf_19 : decode cX3_isOf 19 = .ok (.iconst 1, 1) := dk_4 (dk_at dksX3_isOf_0 19 rfl rfl)
theorem dX3_isOf_20 : decode cX3_isOf 20 = .ok (.goto 4, 3) := dk_167 0 4 (dk_at dksX3_isOf_0 20 rfl rfl)
theorem dX3_isOf_23 : decode cX3_isOf 23 = .ok (.iconst 0, 1) := dk_3 (dk_at dksX3_isOf_0 23 rfl rfl)
theorem dX3_isOf_24 : decode cX3_isOf 24 = .ok (.ireturn, 1) := dk_172 (dk_at dksX3_isOf_1 0 rfl rfl)
abbrev cX3_ask : ByteArray := prog_19_method_71_code
def yX3_ask : MethodName := ⟨RX3, "ask", "(II)I"⟩
def dkwX3_ask_2 : List UInt8 := [167, 0, 9, 42, 27, 29, 182, 1, 128, 172]
abbrev dktX3_ask_2 : List UInt8 := dkwX3_ask_2 ++ []
def dkwX3_ask_1 : List UInt8 := [18, 131, 172, 42, 3, 181, 1, 119, 42, 27, 182, 1, 113, 62, 28, 154, 0, 12, 42, 27, 29, 182, 1, 131]
abbrev dktX3_ask_1 : List UInt8 := dkwX3_ask_1 ++ dktX3_ask_2
def dkwX3_ask_0 : List UInt8 := [42, 3, 181, 0, 111, 42, 27, 182, 1, 26, 153, 0, 13, 28, 133, 9, 10, 184, 0, 121, 154, 0, 6]
abbrev dktX3_ask_0 : List UInt8 := dkwX3_ask_0 ++ dktX3_ask_1
theorem dksX3_ask_0 : cX3_ask.data.toList.drop 0 = dktX3_ask_0 := by decide +kernel
theorem dksX3_ask_1 : cX3_ask.data.toList.drop 23 = dktX3_ask_1 := dk_seg dksX3_ask_0 23 rfl rfl
theorem dksX3_ask_2 : cX3_ask.data.toList.drop 47 = dktX3_ask_2 := dk_seg dksX3_ask_1 24 rfl rfl
theorem dX3_ask_0 : decode cX3_ask 0 = .ok (.aload_n 0, 1) := dk_42 (dk_at dksX3_ask_0 0 rfl rfl)
theorem dX3_ask_1 : decode cX3_ask 1 = .ok (.iconst 0, 1) := dk_3 (dk_at dksX3_ask_0 1 rfl rfl)
theorem dX3_ask_2 : decode cX3_ask 2 = .ok (.putfield 111, 3) := dk_181 0 111 (dk_at dksX3_ask_0 2 rfl rfl)
theorem dX3_ask_5 : decode cX3_ask 5 = .ok (.aload_n 0, 1) := dk_42 (dk_at dksX3_ask_0 5 rfl rfl)
theorem dX3_ask_6 : decode cX3_ask 6 = .ok (.iload_n 1, 1) := dk_27 (dk_at dksX3_ask_0 6 rfl rfl)
theorem dX3_ask_7 : decode cX3_ask 7 = .ok (.invokevirtual 282, 3) := dk_182 1 26 (dk_at dksX3_ask_0 7 rfl rfl)
theorem dX3_ask_10 : decode cX3_ask 10 = .ok (.ifCond .eq 13, 3) := dk_153 0 13 (dk_at dksX3_ask_0 10 rfl rfl)
theorem dX3_ask_13 : decode cX3_ask 13 = .ok (.iload_n 2, 1) := dk_28 (dk_at dksX3_ask_0 13 rfl rfl)
theorem dX3_ask_14 : decode cX3_ask 14 = .ok (.i2l, 1) := dk_133 (dk_at dksX3_ask_0 14 rfl rfl)
theorem dX3_ask_15 : decode cX3_ask 15 = .ok (.lconst 0, 1) := dk_9 (dk_at dksX3_ask_0 15 rfl rfl)
theorem dX3_ask_16 : decode cX3_ask 16 = .ok (.lconst 1, 1) := dk_10 (dk_at dksX3_ask_0 16 rfl rfl)
theorem dX3_ask_17 : decode cX3_ask 17 = .ok (.invokestatic 121, 3) := dk_184 0 121 (dk_at dksX3_ask_0 17 rfl rfl)
theorem dX3_ask_20 : decode cX3_ask 20 = .ok (.ifCond .ne 6, 3) := dk_154 0 6 (dk_at dksX3_ask_0 20 rfl rfl)
theorem dX3_ask_23 : decode cX3_ask 23 = .ok (.ldc 131, 2) := dk_18 131 (dk_at dksX3_ask_1 0 rfl rfl)
theorem dX3_ask_25 : decode cX3_ask 25 = .ok (.ireturn, 1) := dk_172 (dk_at dksX3_ask_1 2 rfl rfl)
theorem dX3_ask_26 : decode cX3_ask 26 = .ok (.aload_n 0, 1) := dk_42 (dk_at dksX3_ask_1 3 rfl rfl)
theorem dX3_ask_27 : decode cX3_ask 27 = .ok (.iconst 0, 1) := dk_3 (dk_at dksX3_ask_1 4 rfl rfl)
theorem dX3_ask_28 : decode cX3_ask 28 = .ok (.putfield 375, 3) := dk_181 1 119 (dk_at dksX3_ask_1 5 rfl rfl)
theorem dX3_ask_31 : decode cX3_ask 31 = .ok (.aload_n 0, 1) := dk_42 (dk_at dksX3_ask_1 8 rfl rfl)
theorem dX3_ask_32 : decode cX3_ask 32 = .ok (.iload_n 1, 1) := dk_27 (dk_at dksX3_ask_1 9 rfl rfl)
theorem dX3_ask_33 : decode cX3_ask 33 = .ok (.invokevirtual 369, 3) := dk_182 1 113 (dk_at dksX3_ask_1 10 rfl rfl)
theorem dX3_ask_36 : decode cX3_ask 36 = .ok (.istore_n 3, 1) := dk_62 (dk_at dksX3_ask_1 13 rfl rfl)
theorem dX3_ask_37 : decode cX3_ask 37 = .ok (.iload_n 2, 1) := dk_28 (dk_at dksX3_ask_1 14 rfl rfl)
theorem dX3_ask_38 : decode cX3_ask 38 = .ok (.ifCond .ne 12, 3) := dk_154 0 12 (dk_at dksX3_ask_1 15 rfl rfl)
theorem dX3_ask_41 : decode cX3_ask 41 = .ok (.aload_n 0, 1) := dk_42 (dk_at dksX3_ask_1 18 rfl rfl)
theorem dX3_ask_42 : decode cX3_ask 42 = .ok (.iload_n 1, 1) := dk_27 (dk_at dksX3_ask_1 19 rfl rfl)
theorem dX3_ask_43 : decode cX3_ask 43 = .ok (.iload_n 3, 1) := dk_29 (dk_at dksX3_ask_1 20 rfl rfl)
theorem dX3_ask_44 : decode cX3_ask 44 = .ok (.invokevirtual 387, 3) := dk_182 1 131 (dk_at dksX3_ask_1 21 rfl rfl)
theorem dX3_ask_47 : decode cX3_ask 47 = .ok (.goto 9, 3) := dk_167 0 9 (dk_at dksX3_ask_2 0 rfl rfl)
theorem dX3_ask_50 : decode cX3_ask 50 = .ok (.aload_n 0, 1) := dk_42 (dk_at dksX3_ask_2 3 rfl rfl)
theorem dX3_ask_51 : decode cX3_ask 51 = .ok (.iload_n 1, 1) := dk_27 (dk_at dksX3_ask_2 4 rfl rfl)
theorem dX3_ask_52 : decode cX3_ask 52 = .ok (.iload_n 3, 1) := dk_29 (dk_at dksX3_ask_2 5 rfl rfl)
theorem dX3_ask_53 : decode cX3_ask 53 = .ok (.invokevirtual 384, 3) := dk_182 1 128 (dk_at dksX3_ask_2 6 rfl rfl)
theorem dX3_ask_56 : decode cX3_ask 56 = .ok (.ireturn, 1) := dk_172 (dk_at dksX3_ask_2 9 rfl rfl)
abbrev cX3_sizeOf : ByteArray := prog_19_method_70_code
def yX3_sizeOf : MethodName := ⟨RX3, "sizeOf", "(II)I"⟩
def dkwX3_sizeOf_1 : List UInt8 := [42, 27, 8, 182, 1, 29, 42, 27, 28, 182, 1, 128, 100, 172]
abbrev dktX3_sizeOf_1 : List UInt8 := dkwX3_sizeOf_1 ++ []
def dkwX3_sizeOf_0 : List UInt8 := [28, 6, 159, 0, 10, 42, 27, 28, 182, 1, 125, 172, 42, 16, 13, 182, 1, 122, 42, 16, 10, 182, 1, 122]
abbrev dktX3_sizeOf_0 : List UInt8 := dkwX3_sizeOf_0 ++ dktX3_sizeOf_1
theorem dksX3_sizeOf_0 : cX3_sizeOf.data.toList.drop 0 = dktX3_sizeOf_0 := by decide +kernel
theorem dksX3_sizeOf_1 : cX3_sizeOf.data.toList.drop 24 = dktX3_sizeOf_1 := dk_seg dksX3_sizeOf_0 24 rfl rfl
theorem dX3_sizeOf_0 : decode cX3_sizeOf 0 = .ok (.iload_n 2, 1) := dk_28 (dk_at dksX3_sizeOf_0 0 rfl rfl)
theorem dX3_sizeOf_1 : decode cX3_sizeOf 1 = .ok (.iconst 3, 1) := dk_6 (dk_at dksX3_sizeOf_0 1 rfl rfl)
theorem dX3_sizeOf_2 : decode cX3_sizeOf 2 = .ok (.if_icmp .eq 10, 3) := dk_159 0 10 (dk_at dksX3_sizeOf_0 2 rfl rfl)
theorem dX3_sizeOf_5 : decode cX3_sizeOf 5 = .ok (.aload_n 0, 1) := dk_42 (dk_at dksX3_sizeOf_0 5 rfl rfl)
theorem dX3_sizeOf_6 : decode cX3_sizeOf 6 = .ok (.iload_n 1, 1) := dk_27 (dk_at dksX3_sizeOf_0 6 rfl rfl)
theorem dX3_sizeOf_7 : decode cX3_sizeOf 7 = .ok (.iload_n 2, 1) := dk_28 (dk_at dksX3_sizeOf_0 7 rfl rfl)
theorem dX3_sizeOf_8 : decode cX3_sizeOf 8 = .ok (.invokevirtual 381, 3) := dk_182 1 125 (dk_at dksX3_sizeOf_0 8 rfl rfl)
theorem dX3_sizeOf_11 : decode cX3_sizeOf 11 = .ok (.ireturn, 1) := dk_172 (dk_at dksX3_sizeOf_0 11 rfl rfl)
theorem dX3_sizeOf_12 : decode cX3_sizeOf 12 = .ok (.aload_n 0, 1) := dk_42 (dk_at dksX3_sizeOf_0 12 rfl rfl)
theorem dX3_sizeOf_13 : decode cX3_sizeOf 13 = .ok (.bipush 13, 2) := dk_16 13 (dk_at dksX3_sizeOf_0 13 rfl rfl)
theorem dX3_sizeOf_15 : decode cX3_sizeOf 15 = .ok (.invokevirtual 378, 3) := dk_182 1 122 (dk_at dksX3_sizeOf_0 15 rfl rfl)
theorem dX3_sizeOf_18 : decode cX3_sizeOf 18 = .ok (.aload_n 0, 1) := dk_42 (dk_at dksX3_sizeOf_0 18 rfl rfl)
theorem dX3_sizeOf_19 : decode cX3_sizeOf 19 = .ok (.bipush 10, 2) := dk_16 10 (dk_at dksX3_sizeOf_0 19 rfl rfl)
theorem dX3_sizeOf_21 : decode cX3_sizeOf 21 = .ok (.invokevirtual 378, 3) := dk_182 1 122 (dk_at dksX3_sizeOf_0 21 rfl rfl)
theorem dX3_sizeOf_24 : decode cX3_sizeOf 24 = .ok (.aload_n 0, 1) := dk_42 (dk_at dksX3_sizeOf_1 0 rfl rfl)
theorem dX3_sizeOf_25 : decode cX3_sizeOf 25 = .ok (.iload_n 1, 1) := dk_27 (dk_at dksX3_sizeOf_1 1 rfl rfl)
theorem dX3_sizeOf_26 : decode cX3_sizeOf 26 = .ok (.iconst 5, 1) := dk_8 (dk_at dksX3_sizeOf_1 2 rfl rfl)
theorem dX3_sizeOf_27 : decode cX3_sizeOf 27 = .ok (.invokevirtual 285, 3) := dk_182 1 29 (dk_at dksX3_sizeOf_1 3 rfl rfl)
theorem dX3_sizeOf_30 : decode cX3_sizeOf 30 = .ok (.aload_n 0, 1) := dk_42 (dk_at dksX3_sizeOf_1 6 rfl rfl)
theorem dX3_sizeOf_31 : decode cX3_sizeOf 31 = .ok (.iload_n 1, 1) := dk_27 (dk_at dksX3_sizeOf_1 7 rfl rfl)
theorem dX3_sizeOf_32 : decode cX3_sizeOf 32 = .ok (.iload_n 2, 1) := dk_28 (dk_at dksX3_sizeOf_1 8 rfl rfl)
theorem dX3_sizeOf_33 : decode cX3_sizeOf 33 = .ok (.invokevirtual 384, 3) := dk_182 1 128 (dk_at dksX3_sizeOf_1 9 rfl rfl)
theorem dX3_sizeOf_36 : decode cX3_sizeOf 36 = .ok (.isub, 1) := dk_100 (dk_at dksX3_sizeOf_1 12 rfl rfl)
theorem dX3_sizeOf_37 : decode cX3_sizeOf 37 = .ok (.ireturn, 1) := dk_172 (dk_at dksX3_sizeOf_1 13 rfl rfl)
abbrev cX3_sizeHeld : ByteArray := prog_19_method_68_code
def yX3_sizeHeld : MethodName := ⟨RX3, "sizeHeld", "(II)I"⟩
def dkwX3_sizeHeld_2 : List UInt8 := [27, 182, 1, 34, 167, 0, 4, 3, 96, 62, 28, 5, 160, 0, 9, 5, 29, 104, 167, 0, 4, 29, 172]
abbrev dktX3_sizeHeld_2 : List UInt8 := dkwX3_sizeHeld_2 ++ []
def dkwX3_sizeHeld_1 : List UInt8 := [182, 1, 122, 42, 16, 10, 182, 1, 122, 42, 27, 8, 182, 1, 29, 28, 4, 184, 1, 116, 153, 0, 11, 42]
abbrev dktX3_sizeHeld_1 : List UInt8 := dkwX3_sizeHeld_1 ++ dktX3_sizeHeld_2
def dkwX3_sizeHeld_0 : List UInt8 := [28, 5, 160, 0, 9, 42, 16, 12, 182, 1, 122, 28, 4, 184, 1, 116, 153, 0, 9, 42, 16, 11]
abbrev dktX3_sizeHeld_0 : List UInt8 := dkwX3_sizeHeld_0 ++ dktX3_sizeHeld_1
theorem dksX3_sizeHeld_0 : cX3_sizeHeld.data.toList.drop 0 = dktX3_sizeHeld_0 := by decide +kernel
theorem dksX3_sizeHeld_1 : cX3_sizeHeld.data.toList.drop 22 = dktX3_sizeHeld_1 := dk_seg dksX3_sizeHeld_0 22 rfl rfl
theorem dksX3_sizeHeld_2 : cX3_sizeHeld.data.toList.drop 46 = dktX3_sizeHeld_2 := dk_seg dksX3_sizeHeld_1 24 rfl rfl
theorem dX3_sizeHeld_0 : decode cX3_sizeHeld 0 = .ok (.iload_n 2, 1) := dk_28 (dk_at dksX3_sizeHeld_0 0 rfl rfl)
theorem dX3_sizeHeld_1 : decode cX3_sizeHeld 1 = .ok (.iconst 2, 1) := dk_5 (dk_at dksX3_sizeHeld_0 1 rfl rfl)
theorem dX3_sizeHeld_2 : decode cX3_sizeHeld 2 = .ok (.if_icmp .ne 9, 3) := dk_160 0 9 (dk_at dksX3_sizeHeld_0 2 rfl rfl)
theorem dX3_sizeHeld_5 : decode cX3_sizeHeld 5 = .ok (.aload_n 0, 1) := dk_42 (dk_at dksX3_sizeHeld_0 5 rfl rfl)
theorem dX3_sizeHeld_6 : decode cX3_sizeHeld 6 = .ok (.bipush 12, 2) := dk_16 12 (dk_at dksX3_sizeHeld_0 6 rfl rfl)
theorem dX3_sizeHeld_8 : decode cX3_sizeHeld 8 = .ok (.invokevirtual 378, 3) := dk_182 1 122 (dk_at dksX3_sizeHeld_0 8 rfl rfl)
theorem dX3_sizeHeld_11 : decode cX3_sizeHeld 11 = .ok (.iload_n 2, 1) := dk_28 (dk_at dksX3_sizeHeld_0 11 rfl rfl)
theorem dX3_sizeHeld_12 : decode cX3_sizeHeld 12 = .ok (.iconst 1, 1) := dk_4 (dk_at dksX3_sizeHeld_0 12 rfl rfl)
theorem dX3_sizeHeld_13 : decode cX3_sizeHeld 13 = .ok (.invokestatic 372, 3) := dk_184 1 116 (dk_at dksX3_sizeHeld_0 13 rfl rfl)
theorem dX3_sizeHeld_16 : decode cX3_sizeHeld 16 = .ok (.ifCond .eq 9, 3) := dk_153 0 9 (dk_at dksX3_sizeHeld_0 16 rfl rfl)
theorem dX3_sizeHeld_19 : decode cX3_sizeHeld 19 = .ok (.aload_n 0, 1) := dk_42 (dk_at dksX3_sizeHeld_0 19 rfl rfl)
theorem dX3_sizeHeld_20 : decode cX3_sizeHeld 20 = .ok (.bipush 11, 2) := dk_16 11 (dk_at dksX3_sizeHeld_0 20 rfl rfl)
theorem dX3_sizeHeld_22 : decode cX3_sizeHeld 22 = .ok (.invokevirtual 378, 3) := dk_182 1 122 (dk_at dksX3_sizeHeld_1 0 rfl rfl)
theorem dX3_sizeHeld_25 : decode cX3_sizeHeld 25 = .ok (.aload_n 0, 1) := dk_42 (dk_at dksX3_sizeHeld_1 3 rfl rfl)
theorem dX3_sizeHeld_26 : decode cX3_sizeHeld 26 = .ok (.bipush 10, 2) := dk_16 10 (dk_at dksX3_sizeHeld_1 4 rfl rfl)
theorem dX3_sizeHeld_28 : decode cX3_sizeHeld 28 = .ok (.invokevirtual 378, 3) := dk_182 1 122 (dk_at dksX3_sizeHeld_1 6 rfl rfl)
theorem dX3_sizeHeld_31 : decode cX3_sizeHeld 31 = .ok (.aload_n 0, 1) := dk_42 (dk_at dksX3_sizeHeld_1 9 rfl rfl)
theorem dX3_sizeHeld_32 : decode cX3_sizeHeld 32 = .ok (.iload_n 1, 1) := dk_27 (dk_at dksX3_sizeHeld_1 10 rfl rfl)
theorem dX3_sizeHeld_33 : decode cX3_sizeHeld 33 = .ok (.iconst 5, 1) := dk_8 (dk_at dksX3_sizeHeld_1 11 rfl rfl)
theorem dX3_sizeHeld_34 : decode cX3_sizeHeld 34 = .ok (.invokevirtual 285, 3) := dk_182 1 29 (dk_at dksX3_sizeHeld_1 12 rfl rfl)
theorem dX3_sizeHeld_37 : decode cX3_sizeHeld 37 = .ok (.iload_n 2, 1) := dk_28 (dk_at dksX3_sizeHeld_1 15 rfl rfl)
theorem dX3_sizeHeld_38 : decode cX3_sizeHeld 38 = .ok (.iconst 1, 1) := dk_4 (dk_at dksX3_sizeHeld_1 16 rfl rfl)
theorem dX3_sizeHeld_39 : decode cX3_sizeHeld 39 = .ok (.invokestatic 372, 3) := dk_184 1 116 (dk_at dksX3_sizeHeld_1 17 rfl rfl)
theorem dX3_sizeHeld_42 : decode cX3_sizeHeld 42 = .ok (.ifCond .eq 11, 3) := dk_153 0 11 (dk_at dksX3_sizeHeld_1 20 rfl rfl)
theorem dX3_sizeHeld_45 : decode cX3_sizeHeld 45 = .ok (.aload_n 0, 1) := dk_42 (dk_at dksX3_sizeHeld_1 23 rfl rfl)
theorem dX3_sizeHeld_46 : decode cX3_sizeHeld 46 = .ok (.iload_n 1, 1) := dk_27 (dk_at dksX3_sizeHeld_2 0 rfl rfl)
theorem dX3_sizeHeld_47 : decode cX3_sizeHeld 47 = .ok (.invokevirtual 290, 3) := dk_182 1 34 (dk_at dksX3_sizeHeld_2 1 rfl rfl)
theorem dX3_sizeHeld_50 : decode cX3_sizeHeld 50 = .ok (.goto 4, 3) := dk_167 0 4 (dk_at dksX3_sizeHeld_2 4 rfl rfl)
theorem dX3_sizeHeld_53 : decode cX3_sizeHeld 53 = .ok (.iconst 0, 1) := dk_3 (dk_at dksX3_sizeHeld_2 7 rfl rfl)
theorem dX3_sizeHeld_54 : decode cX3_sizeHeld 54 = .ok (.iadd, 1) := dk_96 (dk_at dksX3_sizeHeld_2 8 rfl rfl)
theorem dX3_sizeHeld_55 : decode cX3_sizeHeld 55 = .ok (.istore_n 3, 1) := dk_62 (dk_at dksX3_sizeHeld_2 9 rfl rfl)
theorem dX3_sizeHeld_56 : decode cX3_sizeHeld 56 = .ok (.iload_n 2, 1) := dk_28 (dk_at dksX3_sizeHeld_2 10 rfl rfl)
theorem dX3_sizeHeld_57 : decode cX3_sizeHeld 57 = .ok (.iconst 2, 1) := dk_5 (dk_at dksX3_sizeHeld_2 11 rfl rfl)
theorem dX3_sizeHeld_58 : decode cX3_sizeHeld 58 = .ok (.if_icmp .ne 9, 3) := dk_160 0 9 (dk_at dksX3_sizeHeld_2 12 rfl rfl)
theorem dX3_sizeHeld_61 : decode cX3_sizeHeld 61 = .ok (.iconst 2, 1) := dk_5 (dk_at dksX3_sizeHeld_2 15 rfl rfl)
theorem dX3_sizeHeld_62 : decode cX3_sizeHeld 62 = .ok (.iload_n 3, 1) := dk_29 (dk_at dksX3_sizeHeld_2 16 rfl rfl)
theorem dX3_sizeHeld_63 : decode cX3_sizeHeld 63 = .ok (.imul, 1) := dk_104 (dk_at dksX3_sizeHeld_2 17 rfl rfl)
theorem dX3_sizeHeld_64 : decode cX3_sizeHeld 64 = .ok (.goto 4, 3) := dk_167 0 4 (dk_at dksX3_sizeHeld_2 18 rfl rfl)
theorem dX3_sizeHeld_67 : decode cX3_sizeHeld 67 = .ok (.iload_n 3, 1) := dk_29 (dk_at dksX3_sizeHeld_2 21 rfl rfl)
theorem dX3_sizeHeld_68 : decode cX3_sizeHeld 68 = .ok (.ireturn, 1) := dk_172 (dk_at dksX3_sizeHeld_2 22 rfl rfl)
abbrev cX3_began : ByteArray := prog_19_method_67_code
def yX3_began : MethodName := ⟨RX3, "began", "(I)V"⟩
def dkwX3_began_1 : List UInt8 := [4, 96, 181, 1, 119, 177]
abbrev dktX3_began_1 : List UInt8 := dkwX3_began_1 ++ []
def dkwX3_began_0 : List UInt8 := [42, 180, 1, 119, 16, 16, 162, 0, 23, 42, 180, 0, 108, 42, 180, 1, 119, 27, 79, 42, 89, 180, 1, 119]
abbrev dktX3_began_0 : List UInt8 := dkwX3_began_0 ++ dktX3_began_1
theorem dksX3_began_0 : cX3_began.data.toList.drop 0 = dktX3_began_0 := by decide +kernel
theorem dksX3_began_1 : cX3_began.data.toList.drop 24 = dktX3_began_1 := dk_seg dksX3_began_0 24 rfl rfl
theorem dX3_began_0 : decode cX3_began 0 = .ok (.aload_n 0, 1) := dk_42 (dk_at dksX3_began_0 0 rfl rfl)
theorem dX3_began_1 : decode cX3_began 1 = .ok (.getfield 375, 3) := dk_180 1 119 (dk_at dksX3_began_0 1 rfl rfl)
theorem dX3_began_4 : decode cX3_began 4 = .ok (.bipush 16, 2) := dk_16 16 (dk_at dksX3_began_0 4 rfl rfl)
theorem dX3_began_6 : decode cX3_began 6 = .ok (.if_icmp .ge 23, 3) := dk_162 0 23 (dk_at dksX3_began_0 6 rfl rfl)
theorem dX3_began_9 : decode cX3_began 9 = .ok (.aload_n 0, 1) := dk_42 (dk_at dksX3_began_0 9 rfl rfl)
theorem dX3_began_10 : decode cX3_began 10 = .ok (.getfield 108, 3) := dk_180 0 108 (dk_at dksX3_began_0 10 rfl rfl)
theorem dX3_began_13 : decode cX3_began 13 = .ok (.aload_n 0, 1) := dk_42 (dk_at dksX3_began_0 13 rfl rfl)
theorem dX3_began_14 : decode cX3_began 14 = .ok (.getfield 375, 3) := dk_180 1 119 (dk_at dksX3_began_0 14 rfl rfl)
theorem dX3_began_17 : decode cX3_began 17 = .ok (.iload_n 1, 1) := dk_27 (dk_at dksX3_began_0 17 rfl rfl)
theorem dX3_began_18 : decode cX3_began 18 = .ok (.iastore, 1) := dk_79 (dk_at dksX3_began_0 18 rfl rfl)
theorem dX3_began_19 : decode cX3_began 19 = .ok (.aload_n 0, 1) := dk_42 (dk_at dksX3_began_0 19 rfl rfl)
theorem dX3_began_20 : decode cX3_began 20 = .ok (.dup, 1) := dk_89 (dk_at dksX3_began_0 20 rfl rfl)
theorem dX3_began_21 : decode cX3_began 21 = .ok (.getfield 375, 3) := dk_180 1 119 (dk_at dksX3_began_0 21 rfl rfl)
theorem dX3_began_24 : decode cX3_began 24 = .ok (.iconst 1, 1) := dk_4 (dk_at dksX3_began_1 0 rfl rfl)
theorem dX3_began_25 : decode cX3_began 25 = .ok (.iadd, 1) := dk_96 (dk_at dksX3_began_1 1 rfl rfl)
theorem dX3_began_26 : decode cX3_began 26 = .ok (.putfield 375, 3) := dk_181 1 119 (dk_at dksX3_began_1 2 rfl rfl)
theorem dX3_began_29 : decode cX3_began 29 = .ok (.return_, 1) := dk_177 (dk_at dksX3_began_1 5 rfl rfl)
abbrev cX3_markOf : ByteArray := prog_19_method_69_code
def yX3_markOf : MethodName := ⟨RX3, "markOf", "(II)I"⟩
def dkwX3_markOf_3 : List UInt8 := [5, 159, 0, 8, 28, 7, 160, 0, 14, 29, 42, 27, 28, 182, 1, 125, 96, 167, 0, 4, 29, 172]
abbrev dktX3_markOf_3 : List UInt8 := dkwX3_markOf_3 ++ []
def dkwX3_markOf_2 : List UInt8 := [182, 1, 29, 28, 4, 184, 1, 116, 153, 0, 12, 42, 27, 5, 182, 1, 29, 167, 0, 4, 3, 96, 62, 28]
abbrev dktX3_markOf_2 : List UInt8 := dkwX3_markOf_2 ++ dktX3_markOf_3
def dkwX3_markOf_1 : List UInt8 := [182, 1, 122, 28, 7, 160, 0, 9, 42, 16, 23, 182, 1, 122, 42, 16, 20, 182, 1, 122, 42, 27, 16, 6]
abbrev dktX3_markOf_1 : List UInt8 := dkwX3_markOf_1 ++ dktX3_markOf_2
def dkwX3_markOf_0 : List UInt8 := [28, 5, 160, 0, 9, 42, 16, 22, 182, 1, 122, 28, 4, 184, 1, 116, 153, 0, 9, 42, 16, 21]
abbrev dktX3_markOf_0 : List UInt8 := dkwX3_markOf_0 ++ dktX3_markOf_1
theorem dksX3_markOf_0 : cX3_markOf.data.toList.drop 0 = dktX3_markOf_0 := by decide +kernel
theorem dksX3_markOf_1 : cX3_markOf.data.toList.drop 22 = dktX3_markOf_1 := dk_seg dksX3_markOf_0 22 rfl rfl
theorem dksX3_markOf_2 : cX3_markOf.data.toList.drop 46 = dktX3_markOf_2 := dk_seg dksX3_markOf_1 24 rfl rfl
theorem dksX3_markOf_3 : cX3_markOf.data.toList.drop 70 = dktX3_markOf_3 := dk_seg dksX3_markOf_2 24 rfl rfl
theorem dX3_markOf_0 : decode cX3_markOf 0 = .ok (.iload_n 2, 1) := dk_28 (dk_at dksX3_markOf_0 0 rfl rfl)
theorem dX3_markOf_1 : decode cX3_markOf 1 = .ok (.iconst 2, 1) := dk_5 (dk_at dksX3_markOf_0 1 rfl rfl)
theorem dX3_markOf_2 : decode cX3_markOf 2 = .ok (.if_icmp .ne 9, 3) := dk_160 0 9 (dk_at dksX3_markOf_0 2 rfl rfl)
theorem dX3_markOf_5 : decode cX3_markOf 5 = .ok (.aload_n 0, 1) := dk_42 (dk_at dksX3_markOf_0 5 rfl rfl)
theorem dX3_markOf_6 : decode cX3_markOf 6 = .ok (.bipush 22, 2) := dk_16 22 (dk_at dksX3_markOf_0 6 rfl rfl)
theorem dX3_markOf_8 : decode cX3_markOf 8 = .ok (.invokevirtual 378, 3) := dk_182 1 122 (dk_at dksX3_markOf_0 8 rfl rfl)
theorem dX3_markOf_11 : decode cX3_markOf 11 = .ok (.iload_n 2, 1) := dk_28 (dk_at dksX3_markOf_0 11 rfl rfl)
theorem dX3_markOf_12 : decode cX3_markOf 12 = .ok (.iconst 1, 1) := dk_4 (dk_at dksX3_markOf_0 12 rfl rfl)
theorem dX3_markOf_13 : decode cX3_markOf 13 = .ok (.invokestatic 372, 3) := dk_184 1 116 (dk_at dksX3_markOf_0 13 rfl rfl)
theorem dX3_markOf_16 : decode cX3_markOf 16 = .ok (.ifCond .eq 9, 3) := dk_153 0 9 (dk_at dksX3_markOf_0 16 rfl rfl)
theorem dX3_markOf_19 : decode cX3_markOf 19 = .ok (.aload_n 0, 1) := dk_42 (dk_at dksX3_markOf_0 19 rfl rfl)
theorem dX3_markOf_20 : decode cX3_markOf 20 = .ok (.bipush 21, 2) := dk_16 21 (dk_at dksX3_markOf_0 20 rfl rfl)
theorem dX3_markOf_22 : decode cX3_markOf 22 = .ok (.invokevirtual 378, 3) := dk_182 1 122 (dk_at dksX3_markOf_1 0 rfl rfl)
theorem dX3_markOf_25 : decode cX3_markOf 25 = .ok (.iload_n 2, 1) := dk_28 (dk_at dksX3_markOf_1 3 rfl rfl)
theorem dX3_markOf_26 : decode cX3_markOf 26 = .ok (.iconst 4, 1) := dk_7 (dk_at dksX3_markOf_1 4 rfl rfl)
theorem dX3_markOf_27 : decode cX3_markOf 27 = .ok (.if_icmp .ne 9, 3) := dk_160 0 9 (dk_at dksX3_markOf_1 5 rfl rfl)
theorem dX3_markOf_30 : decode cX3_markOf 30 = .ok (.aload_n 0, 1) := dk_42 (dk_at dksX3_markOf_1 8 rfl rfl)
theorem dX3_markOf_31 : decode cX3_markOf 31 = .ok (.bipush 23, 2) := dk_16 23 (dk_at dksX3_markOf_1 9 rfl rfl)
theorem dX3_markOf_33 : decode cX3_markOf 33 = .ok (.invokevirtual 378, 3) := dk_182 1 122 (dk_at dksX3_markOf_1 11 rfl rfl)
theorem dX3_markOf_36 : decode cX3_markOf 36 = .ok (.aload_n 0, 1) := dk_42 (dk_at dksX3_markOf_1 14 rfl rfl)
theorem dX3_markOf_37 : decode cX3_markOf 37 = .ok (.bipush 20, 2) := dk_16 20 (dk_at dksX3_markOf_1 15 rfl rfl)
theorem dX3_markOf_39 : decode cX3_markOf 39 = .ok (.invokevirtual 378, 3) := dk_182 1 122 (dk_at dksX3_markOf_1 17 rfl rfl)
theorem dX3_markOf_42 : decode cX3_markOf 42 = .ok (.aload_n 0, 1) := dk_42 (dk_at dksX3_markOf_1 20 rfl rfl)
theorem dX3_markOf_43 : decode cX3_markOf 43 = .ok (.iload_n 1, 1) := dk_27 (dk_at dksX3_markOf_1 21 rfl rfl)
theorem dX3_markOf_44 : decode cX3_markOf 44 = .ok (.bipush 6, 2) := dk_16 6 (dk_at dksX3_markOf_1 22 rfl rfl)
theorem dX3_markOf_46 : decode cX3_markOf 46 = .ok (.invokevirtual 285, 3) := dk_182 1 29 (dk_at dksX3_markOf_2 0 rfl rfl)
theorem dX3_markOf_49 : decode cX3_markOf 49 = .ok (.iload_n 2, 1) := dk_28 (dk_at dksX3_markOf_2 3 rfl rfl)
theorem dX3_markOf_50 : decode cX3_markOf 50 = .ok (.iconst 1, 1) := dk_4 (dk_at dksX3_markOf_2 4 rfl rfl)
theorem dX3_markOf_51 : decode cX3_markOf 51 = .ok (.invokestatic 372, 3) := dk_184 1 116 (dk_at dksX3_markOf_2 5 rfl rfl)
theorem dX3_markOf_54 : decode cX3_markOf 54 = .ok (.ifCond .eq 12, 3) := dk_153 0 12 (dk_at dksX3_markOf_2 8 rfl rfl)
theorem dX3_markOf_57 : decode cX3_markOf 57 = .ok (.aload_n 0, 1) := dk_42 (dk_at dksX3_markOf_2 11 rfl rfl)
theorem dX3_markOf_58 : decode cX3_markOf 58 = .ok (.iload_n 1, 1) := dk_27 (dk_at dksX3_markOf_2 12 rfl rfl)
theorem dX3_markOf_59 : decode cX3_markOf 59 = .ok (.iconst 2, 1) := dk_5 (dk_at dksX3_markOf_2 13 rfl rfl)
theorem dX3_markOf_60 : decode cX3_markOf 60 = .ok (.invokevirtual 285, 3) := dk_182 1 29 (dk_at dksX3_markOf_2 14 rfl rfl)
theorem dX3_markOf_63 : decode cX3_markOf 63 = .ok (.goto 4, 3) := dk_167 0 4 (dk_at dksX3_markOf_2 17 rfl rfl)
theorem dX3_markOf_66 : decode cX3_markOf 66 = .ok (.iconst 0, 1) := dk_3 (dk_at dksX3_markOf_2 20 rfl rfl)
theorem dX3_markOf_67 : decode cX3_markOf 67 = .ok (.iadd, 1) := dk_96 (dk_at dksX3_markOf_2 21 rfl rfl)
theorem dX3_markOf_68 : decode cX3_markOf 68 = .ok (.istore_n 3, 1) := dk_62 (dk_at dksX3_markOf_2 22 rfl rfl)
theorem dX3_markOf_69 : decode cX3_markOf 69 = .ok (.iload_n 2, 1) := dk_28 (dk_at dksX3_markOf_2 23 rfl rfl)
theorem dX3_markOf_70 : decode cX3_markOf 70 = .ok (.iconst 2, 1) := dk_5 (dk_at dksX3_markOf_3 0 rfl rfl)
theorem dX3_markOf_71 : decode cX3_markOf 71 = .ok (.if_icmp .eq 8, 3) := dk_159 0 8 (dk_at dksX3_markOf_3 1 rfl rfl)
theorem dX3_markOf_74 : decode cX3_markOf 74 = .ok (.iload_n 2, 1) := dk_28 (dk_at dksX3_markOf_3 4 rfl rfl)
theorem dX3_markOf_75 : decode cX3_markOf 75 = .ok (.iconst 4, 1) := dk_7 (dk_at dksX3_markOf_3 5 rfl rfl)
theorem dX3_markOf_76 : decode cX3_markOf 76 = .ok (.if_icmp .ne 14, 3) := dk_160 0 14 (dk_at dksX3_markOf_3 6 rfl rfl)
theorem dX3_markOf_79 : decode cX3_markOf 79 = .ok (.iload_n 3, 1) := dk_29 (dk_at dksX3_markOf_3 9 rfl rfl)
theorem dX3_markOf_80 : decode cX3_markOf 80 = .ok (.aload_n 0, 1) := dk_42 (dk_at dksX3_markOf_3 10 rfl rfl)
theorem dX3_markOf_81 : decode cX3_markOf 81 = .ok (.iload_n 1, 1) := dk_27 (dk_at dksX3_markOf_3 11 rfl rfl)
theorem dX3_markOf_82 : decode cX3_markOf 82 = .ok (.iload_n 2, 1) := dk_28 (dk_at dksX3_markOf_3 12 rfl rfl)
theorem dX3_markOf_83 : decode cX3_markOf 83 = .ok (.invokevirtual 381, 3) := dk_182 1 125 (dk_at dksX3_markOf_3 13 rfl rfl)
theorem dX3_markOf_86 : decode cX3_markOf 86 = .ok (.iadd, 1) := dk_96 (dk_at dksX3_markOf_3 16 rfl rfl)
theorem dX3_markOf_87 : decode cX3_markOf 87 = .ok (.goto 4, 3) := dk_167 0 4 (dk_at dksX3_markOf_3 17 rfl rfl)
theorem dX3_markOf_90 : decode cX3_markOf 90 = .ok (.iload_n 3, 1) := dk_29 (dk_at dksX3_markOf_3 20 rfl rfl)
theorem dX3_markOf_91 : decode cX3_markOf 91 = .ok (.ireturn, 1) := dk_172 (dk_at dksX3_markOf_3 21 rfl rfl)
abbrev cX3_trace : ByteArray := prog_19_method_72_code
def yX3_trace : MethodName := ⟨RX3, "trace", "(I)I"⟩
def dkwX3_trace_1 : List UInt8 := [180, 0, 108, 27, 46, 167, 0, 5, 18, 147, 172]
abbrev dktX3_trace_1 : List UInt8 := dkwX3_trace_1 ++ []
def dkwX3_trace_0 : List UInt8 := [42, 3, 181, 0, 111, 27, 133, 9, 42, 180, 1, 119, 4, 100, 133, 184, 0, 121, 153, 0, 12, 42]
abbrev dktX3_trace_0 : List UInt8 := dkwX3_trace_0 ++ dktX3_trace_1
theorem dksX3_trace_0 : cX3_trace.data.toList.drop 0 = dktX3_trace_0 := by decide +kernel
theorem dksX3_trace_1 : cX3_trace.data.toList.drop 22 = dktX3_trace_1 := dk_seg dksX3_trace_0 22 rfl rfl
theorem dX3_trace_0 : decode cX3_trace 0 = .ok (.aload_n 0, 1) := dk_42 (dk_at dksX3_trace_0 0 rfl rfl)
theorem dX3_trace_1 : decode cX3_trace 1 = .ok (.iconst 0, 1) := dk_3 (dk_at dksX3_trace_0 1 rfl rfl)
theorem dX3_trace_2 : decode cX3_trace 2 = .ok (.putfield 111, 3) := dk_181 0 111 (dk_at dksX3_trace_0 2 rfl rfl)
theorem dX3_trace_5 : decode cX3_trace 5 = .ok (.iload_n 1, 1) := dk_27 (dk_at dksX3_trace_0 5 rfl rfl)
theorem dX3_trace_6 : decode cX3_trace 6 = .ok (.i2l, 1) := dk_133 (dk_at dksX3_trace_0 6 rfl rfl)
theorem dX3_trace_7 : decode cX3_trace 7 = .ok (.lconst 0, 1) := dk_9 (dk_at dksX3_trace_0 7 rfl rfl)
theorem dX3_trace_8 : decode cX3_trace 8 = .ok (.aload_n 0, 1) := dk_42 (dk_at dksX3_trace_0 8 rfl rfl)
theorem dX3_trace_9 : decode cX3_trace 9 = .ok (.getfield 375, 3) := dk_180 1 119 (dk_at dksX3_trace_0 9 rfl rfl)
theorem dX3_trace_12 : decode cX3_trace 12 = .ok (.iconst 1, 1) := dk_4 (dk_at dksX3_trace_0 12 rfl rfl)
theorem dX3_trace_13 : decode cX3_trace 13 = .ok (.isub, 1) := dk_100 (dk_at dksX3_trace_0 13 rfl rfl)
theorem dX3_trace_14 : decode cX3_trace 14 = .ok (.i2l, 1) := dk_133 (dk_at dksX3_trace_0 14 rfl rfl)
theorem dX3_trace_15 : decode cX3_trace 15 = .ok (.invokestatic 121, 3) := dk_184 0 121 (dk_at dksX3_trace_0 15 rfl rfl)
theorem dX3_trace_18 : decode cX3_trace 18 = .ok (.ifCond .eq 12, 3) := dk_153 0 12 (dk_at dksX3_trace_0 18 rfl rfl)
theorem dX3_trace_21 : decode cX3_trace 21 = .ok (.aload_n 0, 1) := dk_42 (dk_at dksX3_trace_0 21 rfl rfl)
theorem dX3_trace_22 : decode cX3_trace 22 = .ok (.getfield 108, 3) := dk_180 0 108 (dk_at dksX3_trace_1 0 rfl rfl)
theorem dX3_trace_25 : decode cX3_trace 25 = .ok (.iload_n 1, 1) := dk_27 (dk_at dksX3_trace_1 3 rfl rfl)
theorem dX3_trace_26 : decode cX3_trace 26 = .ok (.iaload, 1) := dk_46 (dk_at dksX3_trace_1 4 rfl rfl)
theorem dX3_trace_27 : decode cX3_trace 27 = .ok (.goto 5, 3) := dk_167 0 5 (dk_at dksX3_trace_1 5 rfl rfl)
theorem dX3_trace_30 : decode cX3_trace 30 = .ok (.ldc 147, 2) := dk_18 147 (dk_at dksX3_trace_1 8 rfl rfl)
theorem dX3_trace_32 : decode cX3_trace 32 = .ok (.ireturn, 1) := dk_172 (dk_at dksX3_trace_1 10 rfl rfl)
abbrev cX3_count : ByteArray := prog_19_method_73_code
def yX3_count : MethodName := ⟨RX3, "count", "(I)I"⟩
def dkwX3_count_6 : List UInt8 := [18, 131, 172]
abbrev dktX3_count_6 : List UInt8 := dkwX3_count_6 ++ []
def dkwX3_count_5 : List UInt8 := [132, 3, 1, 167, 255, 223, 28, 172, 42, 180, 1, 84, 172, 42, 180, 1, 107, 172, 42, 180, 0, 138, 172]
abbrev dktX3_count_5 : List UInt8 := dkwX3_count_5 ++ dktX3_count_6
def dkwX3_count_4 : List UInt8 := [28, 42, 29, 182, 1, 113, 27, 4, 100, 184, 1, 116, 153, 0, 7, 4, 167, 0, 4, 3, 96, 61]
abbrev dktX3_count_4 : List UInt8 := dkwX3_count_4 ++ dktX3_count_5
def dkwX3_count_3 : List UInt8 := [61, 132, 3, 1, 167, 255, 230, 28, 172, 42, 180, 1, 12, 172, 3, 62, 29, 42, 180, 1, 12, 162, 0, 31]
abbrev dktX3_count_3 : List UInt8 := dkwX3_count_3 ++ dktX3_count_4
def dkwX3_count_2 : List UInt8 := [3, 62, 29, 16, 8, 162, 0, 26, 28, 42, 180, 0, 31, 29, 46, 155, 0, 7, 4, 167, 0, 4, 3, 96]
abbrev dktX3_count_2 : List UInt8 := dkwX3_count_2 ++ dktX3_count_3
def dkwX3_count_1 : List UInt8 := [170, 0, 0, 0, 0, 0, 0, 145, 0, 0, 0, 0, 0, 0, 0, 8, 0, 0, 0, 52, 0, 0, 0, 85, 0, 0, 0, 90, 0, 0, 0, 90, 0, 0, 0, 90, 0, 0, 0, 90, 0, 0, 0, 130, 0, 0, 0, 135, 0, 0, 0, 140]
abbrev dktX3_count_1 : List UInt8 := dkwX3_count_1 ++ dktX3_count_2
def dkwX3_count_0 : List UInt8 := [42, 3, 181, 0, 111, 3, 61, 27]
abbrev dktX3_count_0 : List UInt8 := dkwX3_count_0 ++ dktX3_count_1
theorem dksX3_count_0 : cX3_count.data.toList.drop 0 = dktX3_count_0 := by decide +kernel
theorem dksX3_count_1 : cX3_count.data.toList.drop 8 = dktX3_count_1 := dk_seg dksX3_count_0 8 rfl rfl
theorem dksX3_count_2 : cX3_count.data.toList.drop 60 = dktX3_count_2 := dk_seg dksX3_count_1 52 rfl rfl
theorem dksX3_count_3 : cX3_count.data.toList.drop 84 = dktX3_count_3 := dk_seg dksX3_count_2 24 rfl rfl
theorem dksX3_count_4 : cX3_count.data.toList.drop 108 = dktX3_count_4 := dk_seg dksX3_count_3 24 rfl rfl
theorem dksX3_count_5 : cX3_count.data.toList.drop 130 = dktX3_count_5 := dk_seg dksX3_count_4 22 rfl rfl
theorem dksX3_count_6 : cX3_count.data.toList.drop 153 = dktX3_count_6 := dk_seg dksX3_count_5 23 rfl rfl
theorem dX3_count_0 : decode cX3_count 0 = .ok (.aload_n 0, 1) := dk_42 (dk_at dksX3_count_0 0 rfl rfl)
theorem dX3_count_1 : decode cX3_count 1 = .ok (.iconst 0, 1) := dk_3 (dk_at dksX3_count_0 1 rfl rfl)
theorem dX3_count_2 : decode cX3_count 2 = .ok (.putfield 111, 3) := dk_181 0 111 (dk_at dksX3_count_0 2 rfl rfl)
theorem dX3_count_5 : decode cX3_count 5 = .ok (.iconst 0, 1) := dk_3 (dk_at dksX3_count_0 5 rfl rfl)
theorem dX3_count_6 : decode cX3_count 6 = .ok (.istore_n 2, 1) := dk_61 (dk_at dksX3_count_0 6 rfl rfl)
theorem dX3_count_7 : decode cX3_count 7 = .ok (.iload_n 1, 1) := dk_27 (dk_at dksX3_count_0 7 rfl rfl)
theorem dX3_count_8 : decode cX3_count 8 = .ok (.tableswitch 145 0 8 #[52, 85, 90, 90, 90, 90, 130, 135, 140], 52) := by decide +kernel
theorem dX3_count_60 : decode cX3_count 60 = .ok (.iconst 0, 1) := dk_3 (dk_at dksX3_count_2 0 rfl rfl)
theorem dX3_count_61 : decode cX3_count 61 = .ok (.istore_n 3, 1) := dk_62 (dk_at dksX3_count_2 1 rfl rfl)
theorem dX3_count_62 : decode cX3_count 62 = .ok (.iload_n 3, 1) := dk_29 (dk_at dksX3_count_2 2 rfl rfl)
theorem dX3_count_63 : decode cX3_count 63 = .ok (.bipush 8, 2) := dk_16 8 (dk_at dksX3_count_2 3 rfl rfl)
theorem dX3_count_65 : decode cX3_count 65 = .ok (.if_icmp .ge 26, 3) := dk_162 0 26 (dk_at dksX3_count_2 5 rfl rfl)
theorem dX3_count_68 : decode cX3_count 68 = .ok (.iload_n 2, 1) := dk_28 (dk_at dksX3_count_2 8 rfl rfl)
theorem dX3_count_69 : decode cX3_count 69 = .ok (.aload_n 0, 1) := dk_42 (dk_at dksX3_count_2 9 rfl rfl)
theorem dX3_count_70 : decode cX3_count 70 = .ok (.getfield 31, 3) := dk_180 0 31 (dk_at dksX3_count_2 10 rfl rfl)
theorem dX3_count_73 : decode cX3_count 73 = .ok (.iload_n 3, 1) := dk_29 (dk_at dksX3_count_2 13 rfl rfl)
theorem dX3_count_74 : decode cX3_count 74 = .ok (.iaload, 1) := dk_46 (dk_at dksX3_count_2 14 rfl rfl)
theorem dX3_count_75 : decode cX3_count 75 = .ok (.ifCond .lt 7, 3) := dk_155 0 7 (dk_at dksX3_count_2 15 rfl rfl)
theorem dX3_count_78 : decode cX3_count 78 = .ok (.iconst 1, 1) := dk_4 (dk_at dksX3_count_2 18 rfl rfl)
theorem dX3_count_79 : decode cX3_count 79 = .ok (.goto 4, 3) := dk_167 0 4 (dk_at dksX3_count_2 19 rfl rfl)
theorem dX3_count_82 : decode cX3_count 82 = .ok (.iconst 0, 1) := dk_3 (dk_at dksX3_count_2 22 rfl rfl)
theorem dX3_count_83 : decode cX3_count 83 = .ok (.iadd, 1) := dk_96 (dk_at dksX3_count_2 23 rfl rfl)
theorem dX3_count_84 : decode cX3_count 84 = .ok (.istore_n 2, 1) := dk_61 (dk_at dksX3_count_3 0 rfl rfl)
theorem dX3_count_85 : decode cX3_count 85 = .ok (.iinc 3 1, 3) := dk_132 3 1 (dk_at dksX3_count_3 1 rfl rfl)
theorem dX3_count_88 : decode cX3_count 88 = .ok (.goto (-26), 3) := dk_167 255 230 (dk_at dksX3_count_3 4 rfl rfl)
theorem dX3_count_91 : decode cX3_count 91 = .ok (.iload_n 2, 1) := dk_28 (dk_at dksX3_count_3 7 rfl rfl)
theorem dX3_count_92 : decode cX3_count 92 = .ok (.ireturn, 1) := dk_172 (dk_at dksX3_count_3 8 rfl rfl)
theorem dX3_count_93 : decode cX3_count 93 = .ok (.aload_n 0, 1) := dk_42 (dk_at dksX3_count_3 9 rfl rfl)
theorem dX3_count_94 : decode cX3_count 94 = .ok (.getfield 268, 3) := dk_180 1 12 (dk_at dksX3_count_3 10 rfl rfl)
theorem dX3_count_97 : decode cX3_count 97 = .ok (.ireturn, 1) := dk_172 (dk_at dksX3_count_3 13 rfl rfl)
theorem dX3_count_98 : decode cX3_count 98 = .ok (.iconst 0, 1) := dk_3 (dk_at dksX3_count_3 14 rfl rfl)
theorem dX3_count_99 : decode cX3_count 99 = .ok (.istore_n 3, 1) := dk_62 (dk_at dksX3_count_3 15 rfl rfl)
theorem dX3_count_100 : decode cX3_count 100 = .ok (.iload_n 3, 1) := dk_29 (dk_at dksX3_count_3 16 rfl rfl)
theorem dX3_count_101 : decode cX3_count 101 = .ok (.aload_n 0, 1) := dk_42 (dk_at dksX3_count_3 17 rfl rfl)
theorem dX3_count_102 : decode cX3_count 102 = .ok (.getfield 268, 3) := dk_180 1 12 (dk_at dksX3_count_3 18 rfl rfl)
theorem dX3_count_105 : decode cX3_count 105 = .ok (.if_icmp .ge 31, 3) := dk_162 0 31 (dk_at dksX3_count_3 21 rfl rfl)
theorem dX3_count_108 : decode cX3_count 108 = .ok (.iload_n 2, 1) := dk_28 (dk_at dksX3_count_4 0 rfl rfl)
theorem dX3_count_109 : decode cX3_count 109 = .ok (.aload_n 0, 1) := dk_42 (dk_at dksX3_count_4 1 rfl rfl)
theorem dX3_count_110 : decode cX3_count 110 = .ok (.iload_n 3, 1) := dk_29 (dk_at dksX3_count_4 2 rfl rfl)
theorem dX3_count_111 : decode cX3_count 111 = .ok (.invokevirtual 369, 3) := dk_182 1 113 (dk_at dksX3_count_4 3 rfl rfl)
theorem dX3_count_114 : decode cX3_count 114 = .ok (.iload_n 1, 1) := dk_27 (dk_at dksX3_count_4 6 rfl rfl)
theorem dX3_count_115 : decode cX3_count 115 = .ok (.iconst 1, 1) := dk_4 (dk_at dksX3_count_4 7 rfl rfl)
theorem dX3_count_116 : decode cX3_count 116 = .ok (.isub, 1) := dk_100 (dk_at dksX3_count_4 8 rfl rfl)
theorem dX3_count_117 : decode cX3_count 117 = .ok (.invokestatic 372, 3) := dk_184 1 116 (dk_at dksX3_count_4 9 rfl rfl)
theorem dX3_count_120 : decode cX3_count 120 = .ok (.ifCond .eq 7, 3) := dk_153 0 7 (dk_at dksX3_count_4 12 rfl rfl)
theorem dX3_count_123 : decode cX3_count 123 = .ok (.iconst 1, 1) := dk_4 (dk_at dksX3_count_4 15 rfl rfl)
theorem dX3_count_124 : decode cX3_count 124 = .ok (.goto 4, 3) := dk_167 0 4 (dk_at dksX3_count_4 16 rfl rfl)
theorem dX3_count_127 : decode cX3_count 127 = .ok (.iconst 0, 1) := dk_3 (dk_at dksX3_count_4 19 rfl rfl)
theorem dX3_count_128 : decode cX3_count 128 = .ok (.iadd, 1) := dk_96 (dk_at dksX3_count_4 20 rfl rfl)
theorem dX3_count_129 : decode cX3_count 129 = .ok (.istore_n 2, 1) := dk_61 (dk_at dksX3_count_4 21 rfl rfl)
theorem dX3_count_130 : decode cX3_count 130 = .ok (.iinc 3 1, 3) := dk_132 3 1 (dk_at dksX3_count_5 0 rfl rfl)
theorem dX3_count_133 : decode cX3_count 133 = .ok (.goto (-33), 3) := dk_167 255 223 (dk_at dksX3_count_5 3 rfl rfl)
theorem dX3_count_136 : decode cX3_count 136 = .ok (.iload_n 2, 1) := dk_28 (dk_at dksX3_count_5 6 rfl rfl)
theorem dX3_count_137 : decode cX3_count 137 = .ok (.ireturn, 1) := dk_172 (dk_at dksX3_count_5 7 rfl rfl)
theorem dX3_count_138 : decode cX3_count 138 = .ok (.aload_n 0, 1) := dk_42 (dk_at dksX3_count_5 8 rfl rfl)
theorem dX3_count_139 : decode cX3_count 139 = .ok (.getfield 340, 3) := dk_180 1 84 (dk_at dksX3_count_5 9 rfl rfl)
theorem dX3_count_142 : decode cX3_count 142 = .ok (.ireturn, 1) := dk_172 (dk_at dksX3_count_5 12 rfl rfl)
theorem dX3_count_143 : decode cX3_count 143 = .ok (.aload_n 0, 1) := dk_42 (dk_at dksX3_count_5 13 rfl rfl)
theorem dX3_count_144 : decode cX3_count 144 = .ok (.getfield 363, 3) := dk_180 1 107 (dk_at dksX3_count_5 14 rfl rfl)
theorem dX3_count_147 : decode cX3_count 147 = .ok (.ireturn, 1) := dk_172 (dk_at dksX3_count_5 17 rfl rfl)
theorem dX3_count_148 : decode cX3_count 148 = .ok (.aload_n 0, 1) := dk_42 (dk_at dksX3_count_5 18 rfl rfl)
theorem dX3_count_149 : decode cX3_count 149 = .ok (.getfield 138, 3) := dk_180 0 138 (dk_at dksX3_count_5 19 rfl rfl)
theorem dX3_count_152 : decode cX3_count 152 = .ok (.ireturn, 1) := dk_172 (dk_at dksX3_count_5 22 rfl rfl)
theorem dX3_count_153 : decode cX3_count 153 = .ok (.ldc 131, 2) := dk_18 131 (dk_at dksX3_count_6 0 rfl rfl)
theorem dX3_count_155 : decode cX3_count 155 = .ok (.ireturn, 1) := dk_172 (dk_at dksX3_count_6 2 rfl rfl)
abbrev cX3_status : ByteArray := prog_19_method_74_code
def yX3_status : MethodName := ⟨RX3, "status", "()I"⟩
def dkwX3_status_0 : List UInt8 := [42, 3, 181, 0, 111, 42, 180, 0, 115, 172]
abbrev dktX3_status_0 : List UInt8 := dkwX3_status_0 ++ []
theorem dksX3_status_0 : cX3_status.data.toList.drop 0 = dktX3_status_0 := by decide +kernel
theorem dX3_status_0 : decode cX3_status 0 = .ok (.aload_n 0, 1) := dk_42 (dk_at dksX3_status_0 0 rfl rfl)
theorem dX3_status_1 : decode cX3_status 1 = .ok (.iconst 0, 1) := dk_3 (dk_at dksX3_status_0 1 rfl rfl)
theorem dX3_status_2 : decode cX3_status 2 = .ok (.putfield 111, 3) := dk_181 0 111 (dk_at dksX3_status_0 2 rfl rfl)
theorem dX3_status_5 : decode cX3_status 5 = .ok (.aload_n 0, 1) := dk_42 (dk_at dksX3_status_0 5 rfl rfl)
theorem dX3_status_6 : decode cX3_status 6 = .ok (.getfield 115, 3) := dk_180 0 115 (dk_at dksX3_status_0 6 rfl rfl)
theorem dX3_status_9 : decode cX3_status 9 = .ok (.ireturn, 1) := dk_172 (dk_at dksX3_status_0 9 rfl rfl)
theorem q76 : (Jvm.Cond.initialized "VillageHallsModel") ∈ lw_all := lw_g (lw_at lw_m1 7 rfl) rfl
theorem q903 : (Jvm.Cond.selects "VillageHallsModel" ({ cls := "java/lang/Object", name := "getClass", desc := "()Ljava/lang/Class;" } : Jvm.MethodName) ({ cls := "java/lang/Object", name := "getClass", desc := "()Ljava/lang/Class;" } : Jvm.MethodName)) ∈ lw_all := lw_g (lw_at lw_m4 114 rfl) rfl
theorem q1497 : (Jvm.Cond.instantiable "VillageHallsModel" (54 : Nat)) ∈ lw_all := lw_g (lw_at lw_m6 228 rfl) rfl
theorem q1499 : (Jvm.Cond.instanceMethod ({ cls := "VillageHallsModel", name := "<init>", desc := "()V" } : Jvm.MethodName)) ∈ lw_all := lw_g (lw_at lw_m6 230 rfl) rfl
theorem q1500 : (Jvm.Cond.code ({ cls := "VillageHallsModel", name := "<init>", desc := "()V" } : Jvm.MethodName) prog_19_method_1_code (1 : Nat) (Option.none : Option Jvm.ClassFile.FieldType)) ∈ lw_all := lw_g (lw_at lw_m6 231 rfl) rfl
theorem q1501 : (Jvm.Cond.methodLink "VillageHallsModel" (1 : Nat) ({ cls := "java/lang/Object", name := "<init>", desc := "()V" } : Jvm.MethodName)) ∈ lw_all := lw_g (lw_at lw_m6 232 rfl) rfl
theorem q1502 : (Jvm.Cond.constant "VillageHallsModel" (49 : Nat) (65536 : Int32)) ∈ lw_all := lw_g (lw_at lw_m6 233 rfl) rfl
theorem q1503 : (Jvm.Cond.fieldLink "VillageHallsModel" (111 : Nat) "VillageHallsModel" "thrown" "I") ∈ lw_all := lw_g (lw_at lw_m6 234 rfl) rfl
theorem q1504 : (Jvm.Cond.fieldLink "VillageHallsModel" (115 : Nat) "VillageHallsModel" "status" "I") ∈ lw_all := lw_g (lw_at lw_m6 235 rfl) rfl
theorem q1505 : (Jvm.Cond.fieldLink "VillageHallsModel" (7 : Nat) "VillageHallsModel" "setup" "[I") ∈ lw_all := lw_g (lw_at lw_m6 236 rfl) rfl
theorem q1506 : (Jvm.Cond.fieldLink "VillageHallsModel" (13 : Nat) "VillageHallsModel" "licences" "[I") ∈ lw_all := lw_g (lw_at lw_m6 237 rfl) rfl
theorem q1507 : (Jvm.Cond.fieldLink "VillageHallsModel" (16 : Nat) "VillageHallsModel" "late" "[I") ∈ lw_all := lw_g (lw_at lw_m6 238 rfl) rfl
theorem q1508 : (Jvm.Cond.fieldLink "VillageHallsModel" (19 : Nat) "VillageHallsModel" "forfeit" "[I") ∈ lw_all := lw_g (lw_at lw_m6 239 rfl) rfl
theorem q1509 : (Jvm.Cond.fieldLink "VillageHallsModel" (22 : Nat) "VillageHallsModel" "fire" "[I") ∈ lw_all := lw_g (lw_at lw_m7 0 rfl) rfl
theorem q1510 : (Jvm.Cond.fieldLink "VillageHallsModel" (25 : Nat) "VillageHallsModel" "rate" "[I") ∈ lw_all := lw_g (lw_at lw_m7 1 rfl) rfl
theorem q1511 : (Jvm.Cond.fieldLink "VillageHallsModel" (28 : Nat) "VillageHallsModel" "rank" "[I") ∈ lw_all := lw_g (lw_at lw_m7 2 rfl) rfl
theorem q1512 : (Jvm.Cond.fieldLink "VillageHallsModel" (31 : Nat) "VillageHallsModel" "lane" "[I") ∈ lw_all := lw_g (lw_at lw_m7 3 rfl) rfl
theorem q1513 : (Jvm.Cond.fieldLink "VillageHallsModel" (34 : Nat) "VillageHallsModel" "many" "[I") ∈ lw_all := lw_g (lw_at lw_m7 4 rfl) rfl
theorem q1514 : (Jvm.Cond.fieldLink "VillageHallsModel" (37 : Nat) "VillageHallsModel" "item" "[I") ∈ lw_all := lw_g (lw_at lw_m7 5 rfl) rfl
theorem q1515 : (Jvm.Cond.fieldLink "VillageHallsModel" (40 : Nat) "VillageHallsModel" "tape" "[I") ∈ lw_all := lw_g (lw_at lw_m7 6 rfl) rfl
theorem q1516 : (Jvm.Cond.fieldLink "VillageHallsModel" (138 : Nat) "VillageHallsModel" "taped" "I") ∈ lw_all := lw_g (lw_at lw_m7 7 rfl) rfl
theorem q1517 : (Jvm.Cond.fieldLink "VillageHallsModel" (245 : Nat) "VillageHallsModel" "latest" "I") ∈ lw_all := lw_g (lw_at lw_m7 8 rfl) rfl
theorem q1518 : (Jvm.Cond.fieldLink "VillageHallsModel" (144 : Nat) "VillageHallsModel" "size" "I") ∈ lw_all := lw_g (lw_at lw_m7 9 rfl) rfl
theorem q1519 : (Jvm.Cond.fieldLink "VillageHallsModel" (148 : Nat) "VillageHallsModel" "cursor" "I") ∈ lw_all := lw_g (lw_at lw_m7 10 rfl) rfl
theorem q1520 : (Jvm.Cond.fieldLink "VillageHallsModel" (157 : Nat) "VillageHallsModel" "token" "I") ∈ lw_all := lw_g (lw_at lw_m7 11 rfl) rfl
theorem q1521 : (Jvm.Cond.fieldLink "VillageHallsModel" (154 : Nat) "VillageHallsModel" "from" "I") ∈ lw_all := lw_g (lw_at lw_m7 12 rfl) rfl
theorem q1522 : (Jvm.Cond.fieldLink "VillageHallsModel" (166 : Nat) "VillageHallsModel" "till" "I") ∈ lw_all := lw_g (lw_at lw_m7 13 rfl) rfl
theorem q1523 : (Jvm.Cond.fieldLink "VillageHallsModel" (169 : Nat) "VillageHallsModel" "fault" "I") ∈ lw_all := lw_g (lw_at lw_m7 14 rfl) rfl
theorem q1524 : (Jvm.Cond.fieldLink "VillageHallsModel" (172 : Nat) "VillageHallsModel" "faultAt" "I") ∈ lw_all := lw_g (lw_at lw_m7 15 rfl) rfl
theorem q1525 : (Jvm.Cond.fieldLink "VillageHallsModel" (216 : Nat) "VillageHallsModel" "isDone" "Z") ∈ lw_all := lw_g (lw_at lw_m7 16 rfl) rfl
theorem q1526 : (Jvm.Cond.fieldLink "VillageHallsModel" (234 : Nat) "VillageHallsModel" "ruled" "I") ∈ lw_all := lw_g (lw_at lw_m7 17 rfl) rfl
theorem q1527 : (Jvm.Cond.fieldLink "VillageHallsModel" (268 : Nat) "VillageHallsModel" "bookings" "I") ∈ lw_all := lw_g (lw_at lw_m7 18 rfl) rfl
theorem q1528 : (Jvm.Cond.fieldLink "VillageHallsModel" (43 : Nat) "VillageHallsModel" "row" "[I") ∈ lw_all := lw_g (lw_at lw_m7 19 rfl) rfl
theorem q1529 : (Jvm.Cond.fieldLink "VillageHallsModel" (46 : Nat) "VillageHallsModel" "cancelled" "[I") ∈ lw_all := lw_g (lw_at lw_m7 20 rfl) rfl
theorem q1530 : (Jvm.Cond.fieldLink "VillageHallsModel" (317 : Nat) "VillageHallsModel" "theDay" "I") ∈ lw_all := lw_g (lw_at lw_m7 21 rfl) rfl
theorem q1531 : (Jvm.Cond.fieldLink "VillageHallsModel" (50 : Nat) "VillageHallsModel" "isWell" "[Z") ∈ lw_all := lw_g (lw_at lw_m7 22 rfl) rfl
theorem q1532 : (Jvm.Cond.fieldLink "VillageHallsModel" (54 : Nat) "VillageHallsModel" "worth" "[I") ∈ lw_all := lw_g (lw_at lw_m7 23 rfl) rfl
theorem q1533 : (Jvm.Cond.fieldLink "VillageHallsModel" (57 : Nat) "VillageHallsModel" "against" "[I") ∈ lw_all := lw_g (lw_at lw_m7 24 rfl) rfl
theorem q1534 : (Jvm.Cond.fieldLink "VillageHallsModel" (60 : Nat) "VillageHallsModel" "movedTo" "[I") ∈ lw_all := lw_g (lw_at lw_m7 25 rfl) rfl
theorem q1535 : (Jvm.Cond.fieldLink "VillageHallsModel" (320 : Nat) "VillageHallsModel" "toMove" "I") ∈ lw_all := lw_g (lw_at lw_m7 26 rfl) rfl
theorem q1536 : (Jvm.Cond.fieldLink "VillageHallsModel" (340 : Nat) "VillageHallsModel" "coins" "I") ∈ lw_all := lw_g (lw_at lw_m7 27 rfl) rfl
theorem q1537 : (Jvm.Cond.fieldLink "VillageHallsModel" (63 : Nat) "VillageHallsModel" "coinHall" "[I") ∈ lw_all := lw_g (lw_at lw_m7 28 rfl) rfl
theorem q1538 : (Jvm.Cond.fieldLink "VillageHallsModel" (66 : Nat) "VillageHallsModel" "coinAt" "[I") ∈ lw_all := lw_g (lw_at lw_m7 29 rfl) rfl
theorem q1539 : (Jvm.Cond.fieldLink "VillageHallsModel" (69 : Nat) "VillageHallsModel" "coinMinutes" "[I") ∈ lw_all := lw_g (lw_at lw_m7 30 rfl) rfl
theorem q1540 : (Jvm.Cond.fieldLink "VillageHallsModel" (355 : Nat) "VillageHallsModel" "gives" "I") ∈ lw_all := lw_g (lw_at lw_m7 31 rfl) rfl
theorem q1541 : (Jvm.Cond.fieldLink "VillageHallsModel" (72 : Nat) "VillageHallsModel" "giveKey" "[I") ∈ lw_all := lw_g (lw_at lw_m7 32 rfl) rfl
theorem q1542 : (Jvm.Cond.fieldLink "VillageHallsModel" (75 : Nat) "VillageHallsModel" "giveFrom" "[I") ∈ lw_all := lw_g (lw_at lw_m7 33 rfl) rfl
theorem q1543 : (Jvm.Cond.fieldLink "VillageHallsModel" (78 : Nat) "VillageHallsModel" "giveTo" "[I") ∈ lw_all := lw_g (lw_at lw_m7 34 rfl) rfl
theorem q1544 : (Jvm.Cond.fieldLink "VillageHallsModel" (81 : Nat) "VillageHallsModel" "giveDay" "[I") ∈ lw_all := lw_g (lw_at lw_m7 35 rfl) rfl
theorem q1545 : (Jvm.Cond.fieldLink "VillageHallsModel" (358 : Nat) "VillageHallsModel" "looks" "I") ∈ lw_all := lw_g (lw_at lw_m7 36 rfl) rfl
theorem q1546 : (Jvm.Cond.fieldLink "VillageHallsModel" (84 : Nat) "VillageHallsModel" "lookHall" "[I") ∈ lw_all := lw_g (lw_at lw_m7 37 rfl) rfl
theorem q1547 : (Jvm.Cond.fieldLink "VillageHallsModel" (87 : Nat) "VillageHallsModel" "lookAt" "[I") ∈ lw_all := lw_g (lw_at lw_m7 38 rfl) rfl
theorem q1548 : (Jvm.Cond.fieldLink "VillageHallsModel" (90 : Nat) "VillageHallsModel" "lookDamage" "[I") ∈ lw_all := lw_g (lw_at lw_m7 39 rfl) rfl
theorem q1549 : (Jvm.Cond.fieldLink "VillageHallsModel" (363 : Nat) "VillageHallsModel" "meetings" "I") ∈ lw_all := lw_g (lw_at lw_m7 40 rfl) rfl
theorem q1550 : (Jvm.Cond.fieldLink "VillageHallsModel" (93 : Nat) "VillageHallsModel" "members" "[I") ∈ lw_all := lw_g (lw_at lw_m7 41 rfl) rfl
theorem q1551 : (Jvm.Cond.fieldLink "VillageHallsModel" (96 : Nat) "VillageHallsModel" "yes" "[I") ∈ lw_all := lw_g (lw_at lw_m7 42 rfl) rfl
theorem q1552 : (Jvm.Cond.fieldLink "VillageHallsModel" (99 : Nat) "VillageHallsModel" "no" "[I") ∈ lw_all := lw_g (lw_at lw_m7 43 rfl) rfl
theorem q1553 : (Jvm.Cond.fieldLink "VillageHallsModel" (102 : Nat) "VillageHallsModel" "quorum" "[I") ∈ lw_all := lw_g (lw_at lw_m7 44 rfl) rfl
theorem q1554 : (Jvm.Cond.fieldLink "VillageHallsModel" (105 : Nat) "VillageHallsModel" "hangs" "[I") ∈ lw_all := lw_g (lw_at lw_m7 45 rfl) rfl
theorem q1555 : (Jvm.Cond.fieldLink "VillageHallsModel" (108 : Nat) "VillageHallsModel" "trace" "[I") ∈ lw_all := lw_g (lw_at lw_m7 46 rfl) rfl
theorem q1556 : (Jvm.Cond.fieldLink "VillageHallsModel" (375 : Nat) "VillageHallsModel" "traced" "I") ∈ lw_all := lw_g (lw_at lw_m7 47 rfl) rfl
theorem q1557 : (Jvm.Cond.lays "VillageHallsModel" "VillageHallsModel" "thrown" "I") ∈ lw_all := lw_g (lw_at lw_m7 48 rfl) rfl
theorem q1558 : (Jvm.Cond.soleField "VillageHallsModel" "thrown") ∈ lw_all := lw_g (lw_at lw_m7 49 rfl) rfl
theorem q1559 : (Jvm.Cond.lays "VillageHallsModel" "VillageHallsModel" "status" "I") ∈ lw_all := lw_g (lw_at lw_m7 50 rfl) rfl
theorem q1560 : (Jvm.Cond.soleField "VillageHallsModel" "status") ∈ lw_all := lw_g (lw_at lw_m7 51 rfl) rfl
theorem q1561 : (Jvm.Cond.laysFinal "VillageHallsModel" "VillageHallsModel" "setup" "[I") ∈ lw_all := lw_g (lw_at lw_m7 52 rfl) rfl
theorem q1562 : (Jvm.Cond.soleField "VillageHallsModel" "setup") ∈ lw_all := lw_g (lw_at lw_m7 53 rfl) rfl
theorem q1563 : (Jvm.Cond.laysFinal "VillageHallsModel" "VillageHallsModel" "licences" "[I") ∈ lw_all := lw_g (lw_at lw_m7 54 rfl) rfl
theorem q1564 : (Jvm.Cond.soleField "VillageHallsModel" "licences") ∈ lw_all := lw_g (lw_at lw_m7 55 rfl) rfl
theorem q1565 : (Jvm.Cond.laysFinal "VillageHallsModel" "VillageHallsModel" "late" "[I") ∈ lw_all := lw_g (lw_at lw_m7 56 rfl) rfl
theorem q1566 : (Jvm.Cond.soleField "VillageHallsModel" "late") ∈ lw_all := lw_g (lw_at lw_m7 57 rfl) rfl
theorem q1567 : (Jvm.Cond.laysFinal "VillageHallsModel" "VillageHallsModel" "forfeit" "[I") ∈ lw_all := lw_g (lw_at lw_m7 58 rfl) rfl
theorem q1568 : (Jvm.Cond.soleField "VillageHallsModel" "forfeit") ∈ lw_all := lw_g (lw_at lw_m7 59 rfl) rfl
theorem q1569 : (Jvm.Cond.laysFinal "VillageHallsModel" "VillageHallsModel" "fire" "[I") ∈ lw_all := lw_g (lw_at lw_m7 60 rfl) rfl
theorem q1570 : (Jvm.Cond.soleField "VillageHallsModel" "fire") ∈ lw_all := lw_g (lw_at lw_m7 61 rfl) rfl
theorem q1571 : (Jvm.Cond.laysFinal "VillageHallsModel" "VillageHallsModel" "rate" "[I") ∈ lw_all := lw_g (lw_at lw_m7 62 rfl) rfl
theorem q1572 : (Jvm.Cond.soleField "VillageHallsModel" "rate") ∈ lw_all := lw_g (lw_at lw_m7 63 rfl) rfl
theorem q1573 : (Jvm.Cond.laysFinal "VillageHallsModel" "VillageHallsModel" "rank" "[I") ∈ lw_all := lw_g (lw_at lw_m7 64 rfl) rfl
theorem q1574 : (Jvm.Cond.soleField "VillageHallsModel" "rank") ∈ lw_all := lw_g (lw_at lw_m7 65 rfl) rfl
theorem q1575 : (Jvm.Cond.laysFinal "VillageHallsModel" "VillageHallsModel" "lane" "[I") ∈ lw_all := lw_g (lw_at lw_m7 66 rfl) rfl
theorem q1576 : (Jvm.Cond.soleField "VillageHallsModel" "lane") ∈ lw_all := lw_g (lw_at lw_m7 67 rfl) rfl
theorem q1577 : (Jvm.Cond.laysFinal "VillageHallsModel" "VillageHallsModel" "many" "[I") ∈ lw_all := lw_g (lw_at lw_m7 68 rfl) rfl
theorem q1578 : (Jvm.Cond.soleField "VillageHallsModel" "many") ∈ lw_all := lw_g (lw_at lw_m7 69 rfl) rfl
theorem q1579 : (Jvm.Cond.laysFinal "VillageHallsModel" "VillageHallsModel" "item" "[I") ∈ lw_all := lw_g (lw_at lw_m7 70 rfl) rfl
theorem q1580 : (Jvm.Cond.soleField "VillageHallsModel" "item") ∈ lw_all := lw_g (lw_at lw_m7 71 rfl) rfl
theorem q1581 : (Jvm.Cond.laysFinal "VillageHallsModel" "VillageHallsModel" "tape" "[I") ∈ lw_all := lw_g (lw_at lw_m7 72 rfl) rfl
theorem q1582 : (Jvm.Cond.soleField "VillageHallsModel" "tape") ∈ lw_all := lw_g (lw_at lw_m7 73 rfl) rfl
theorem q1583 : (Jvm.Cond.lays "VillageHallsModel" "VillageHallsModel" "taped" "I") ∈ lw_all := lw_g (lw_at lw_m7 74 rfl) rfl
theorem q1584 : (Jvm.Cond.soleField "VillageHallsModel" "taped") ∈ lw_all := lw_g (lw_at lw_m7 75 rfl) rfl
theorem q1585 : (Jvm.Cond.lays "VillageHallsModel" "VillageHallsModel" "latest" "I") ∈ lw_all := lw_g (lw_at lw_m7 76 rfl) rfl
theorem q1586 : (Jvm.Cond.soleField "VillageHallsModel" "latest") ∈ lw_all := lw_g (lw_at lw_m7 77 rfl) rfl
theorem q1587 : (Jvm.Cond.lays "VillageHallsModel" "VillageHallsModel" "size" "I") ∈ lw_all := lw_g (lw_at lw_m7 78 rfl) rfl
theorem q1588 : (Jvm.Cond.soleField "VillageHallsModel" "size") ∈ lw_all := lw_g (lw_at lw_m7 79 rfl) rfl
theorem q1589 : (Jvm.Cond.lays "VillageHallsModel" "VillageHallsModel" "cursor" "I") ∈ lw_all := lw_g (lw_at lw_m7 80 rfl) rfl
theorem q1590 : (Jvm.Cond.soleField "VillageHallsModel" "cursor") ∈ lw_all := lw_g (lw_at lw_m7 81 rfl) rfl
theorem q1591 : (Jvm.Cond.lays "VillageHallsModel" "VillageHallsModel" "token" "I") ∈ lw_all := lw_g (lw_at lw_m7 82 rfl) rfl
theorem q1592 : (Jvm.Cond.soleField "VillageHallsModel" "token") ∈ lw_all := lw_g (lw_at lw_m7 83 rfl) rfl
theorem q1593 : (Jvm.Cond.lays "VillageHallsModel" "VillageHallsModel" "from" "I") ∈ lw_all := lw_g (lw_at lw_m7 84 rfl) rfl
theorem q1594 : (Jvm.Cond.soleField "VillageHallsModel" "from") ∈ lw_all := lw_g (lw_at lw_m7 85 rfl) rfl
theorem q1595 : (Jvm.Cond.lays "VillageHallsModel" "VillageHallsModel" "till" "I") ∈ lw_all := lw_g (lw_at lw_m7 86 rfl) rfl
theorem q1596 : (Jvm.Cond.soleField "VillageHallsModel" "till") ∈ lw_all := lw_g (lw_at lw_m7 87 rfl) rfl
theorem q1597 : (Jvm.Cond.lays "VillageHallsModel" "VillageHallsModel" "fault" "I") ∈ lw_all := lw_g (lw_at lw_m7 88 rfl) rfl
theorem q1598 : (Jvm.Cond.soleField "VillageHallsModel" "fault") ∈ lw_all := lw_g (lw_at lw_m7 89 rfl) rfl
theorem q1599 : (Jvm.Cond.lays "VillageHallsModel" "VillageHallsModel" "faultAt" "I") ∈ lw_all := lw_g (lw_at lw_m7 90 rfl) rfl
theorem q1600 : (Jvm.Cond.soleField "VillageHallsModel" "faultAt") ∈ lw_all := lw_g (lw_at lw_m7 91 rfl) rfl
theorem q1601 : (Jvm.Cond.lays "VillageHallsModel" "VillageHallsModel" "isDone" "Z") ∈ lw_all := lw_g (lw_at lw_m7 92 rfl) rfl
theorem q1602 : (Jvm.Cond.soleField "VillageHallsModel" "isDone") ∈ lw_all := lw_g (lw_at lw_m7 93 rfl) rfl
theorem q1603 : (Jvm.Cond.lays "VillageHallsModel" "VillageHallsModel" "ruled" "I") ∈ lw_all := lw_g (lw_at lw_m7 94 rfl) rfl
theorem q1604 : (Jvm.Cond.soleField "VillageHallsModel" "ruled") ∈ lw_all := lw_g (lw_at lw_m7 95 rfl) rfl
theorem q1605 : (Jvm.Cond.lays "VillageHallsModel" "VillageHallsModel" "bookings" "I") ∈ lw_all := lw_g (lw_at lw_m7 96 rfl) rfl
theorem q1606 : (Jvm.Cond.soleField "VillageHallsModel" "bookings") ∈ lw_all := lw_g (lw_at lw_m7 97 rfl) rfl
theorem q1607 : (Jvm.Cond.laysFinal "VillageHallsModel" "VillageHallsModel" "row" "[I") ∈ lw_all := lw_g (lw_at lw_m7 98 rfl) rfl
theorem q1608 : (Jvm.Cond.soleField "VillageHallsModel" "row") ∈ lw_all := lw_g (lw_at lw_m7 99 rfl) rfl
theorem q1609 : (Jvm.Cond.laysFinal "VillageHallsModel" "VillageHallsModel" "cancelled" "[I") ∈ lw_all := lw_g (lw_at lw_m7 100 rfl) rfl
theorem q1610 : (Jvm.Cond.soleField "VillageHallsModel" "cancelled") ∈ lw_all := lw_g (lw_at lw_m7 101 rfl) rfl
theorem q1611 : (Jvm.Cond.lays "VillageHallsModel" "VillageHallsModel" "theDay" "I") ∈ lw_all := lw_g (lw_at lw_m7 102 rfl) rfl
theorem q1612 : (Jvm.Cond.soleField "VillageHallsModel" "theDay") ∈ lw_all := lw_g (lw_at lw_m7 103 rfl) rfl
theorem q1613 : (Jvm.Cond.laysFinal "VillageHallsModel" "VillageHallsModel" "isWell" "[Z") ∈ lw_all := lw_g (lw_at lw_m7 104 rfl) rfl
theorem q1614 : (Jvm.Cond.soleField "VillageHallsModel" "isWell") ∈ lw_all := lw_g (lw_at lw_m7 105 rfl) rfl
theorem q1615 : (Jvm.Cond.laysFinal "VillageHallsModel" "VillageHallsModel" "worth" "[I") ∈ lw_all := lw_g (lw_at lw_m7 106 rfl) rfl
theorem q1616 : (Jvm.Cond.soleField "VillageHallsModel" "worth") ∈ lw_all := lw_g (lw_at lw_m7 107 rfl) rfl
theorem q1617 : (Jvm.Cond.laysFinal "VillageHallsModel" "VillageHallsModel" "against" "[I") ∈ lw_all := lw_g (lw_at lw_m7 108 rfl) rfl
theorem q1618 : (Jvm.Cond.soleField "VillageHallsModel" "against") ∈ lw_all := lw_g (lw_at lw_m7 109 rfl) rfl
theorem q1619 : (Jvm.Cond.laysFinal "VillageHallsModel" "VillageHallsModel" "movedTo" "[I") ∈ lw_all := lw_g (lw_at lw_m7 110 rfl) rfl
theorem q1620 : (Jvm.Cond.soleField "VillageHallsModel" "movedTo") ∈ lw_all := lw_g (lw_at lw_m7 111 rfl) rfl
theorem q1621 : (Jvm.Cond.lays "VillageHallsModel" "VillageHallsModel" "toMove" "I") ∈ lw_all := lw_g (lw_at lw_m7 112 rfl) rfl
theorem q1622 : (Jvm.Cond.soleField "VillageHallsModel" "toMove") ∈ lw_all := lw_g (lw_at lw_m7 113 rfl) rfl
theorem q1623 : (Jvm.Cond.lays "VillageHallsModel" "VillageHallsModel" "coins" "I") ∈ lw_all := lw_g (lw_at lw_m7 114 rfl) rfl
theorem q1624 : (Jvm.Cond.soleField "VillageHallsModel" "coins") ∈ lw_all := lw_g (lw_at lw_m7 115 rfl) rfl
theorem q1625 : (Jvm.Cond.laysFinal "VillageHallsModel" "VillageHallsModel" "coinHall" "[I") ∈ lw_all := lw_g (lw_at lw_m7 116 rfl) rfl
theorem q1626 : (Jvm.Cond.soleField "VillageHallsModel" "coinHall") ∈ lw_all := lw_g (lw_at lw_m7 117 rfl) rfl
theorem q1627 : (Jvm.Cond.laysFinal "VillageHallsModel" "VillageHallsModel" "coinAt" "[I") ∈ lw_all := lw_g (lw_at lw_m7 118 rfl) rfl
theorem q1628 : (Jvm.Cond.soleField "VillageHallsModel" "coinAt") ∈ lw_all := lw_g (lw_at lw_m7 119 rfl) rfl
theorem q1629 : (Jvm.Cond.laysFinal "VillageHallsModel" "VillageHallsModel" "coinMinutes" "[I") ∈ lw_all := lw_g (lw_at lw_m7 120 rfl) rfl
theorem q1630 : (Jvm.Cond.soleField "VillageHallsModel" "coinMinutes") ∈ lw_all := lw_g (lw_at lw_m7 121 rfl) rfl
theorem q1631 : (Jvm.Cond.lays "VillageHallsModel" "VillageHallsModel" "gives" "I") ∈ lw_all := lw_g (lw_at lw_m7 122 rfl) rfl
theorem q1632 : (Jvm.Cond.soleField "VillageHallsModel" "gives") ∈ lw_all := lw_g (lw_at lw_m7 123 rfl) rfl
theorem q1633 : (Jvm.Cond.laysFinal "VillageHallsModel" "VillageHallsModel" "giveKey" "[I") ∈ lw_all := lw_g (lw_at lw_m7 124 rfl) rfl
theorem q1634 : (Jvm.Cond.soleField "VillageHallsModel" "giveKey") ∈ lw_all := lw_g (lw_at lw_m7 125 rfl) rfl
theorem q1635 : (Jvm.Cond.laysFinal "VillageHallsModel" "VillageHallsModel" "giveFrom" "[I") ∈ lw_all := lw_g (lw_at lw_m7 126 rfl) rfl
theorem q1636 : (Jvm.Cond.soleField "VillageHallsModel" "giveFrom") ∈ lw_all := lw_g (lw_at lw_m7 127 rfl) rfl
theorem q1637 : (Jvm.Cond.laysFinal "VillageHallsModel" "VillageHallsModel" "giveTo" "[I") ∈ lw_all := lw_g (lw_at lw_m7 128 rfl) rfl
theorem q1638 : (Jvm.Cond.soleField "VillageHallsModel" "giveTo") ∈ lw_all := lw_g (lw_at lw_m7 129 rfl) rfl
theorem q1639 : (Jvm.Cond.laysFinal "VillageHallsModel" "VillageHallsModel" "giveDay" "[I") ∈ lw_all := lw_g (lw_at lw_m7 130 rfl) rfl
theorem q1640 : (Jvm.Cond.soleField "VillageHallsModel" "giveDay") ∈ lw_all := lw_g (lw_at lw_m7 131 rfl) rfl
theorem q1641 : (Jvm.Cond.lays "VillageHallsModel" "VillageHallsModel" "looks" "I") ∈ lw_all := lw_g (lw_at lw_m7 132 rfl) rfl
theorem q1642 : (Jvm.Cond.soleField "VillageHallsModel" "looks") ∈ lw_all := lw_g (lw_at lw_m7 133 rfl) rfl
theorem q1643 : (Jvm.Cond.laysFinal "VillageHallsModel" "VillageHallsModel" "lookHall" "[I") ∈ lw_all := lw_g (lw_at lw_m7 134 rfl) rfl
theorem q1644 : (Jvm.Cond.soleField "VillageHallsModel" "lookHall") ∈ lw_all := lw_g (lw_at lw_m7 135 rfl) rfl
theorem q1645 : (Jvm.Cond.laysFinal "VillageHallsModel" "VillageHallsModel" "lookAt" "[I") ∈ lw_all := lw_g (lw_at lw_m7 136 rfl) rfl
theorem q1646 : (Jvm.Cond.soleField "VillageHallsModel" "lookAt") ∈ lw_all := lw_g (lw_at lw_m7 137 rfl) rfl
theorem q1647 : (Jvm.Cond.laysFinal "VillageHallsModel" "VillageHallsModel" "lookDamage" "[I") ∈ lw_all := lw_g (lw_at lw_m7 138 rfl) rfl
theorem q1648 : (Jvm.Cond.soleField "VillageHallsModel" "lookDamage") ∈ lw_all := lw_g (lw_at lw_m7 139 rfl) rfl
theorem q1649 : (Jvm.Cond.lays "VillageHallsModel" "VillageHallsModel" "meetings" "I") ∈ lw_all := lw_g (lw_at lw_m7 140 rfl) rfl
theorem q1650 : (Jvm.Cond.soleField "VillageHallsModel" "meetings") ∈ lw_all := lw_g (lw_at lw_m7 141 rfl) rfl
theorem q1651 : (Jvm.Cond.laysFinal "VillageHallsModel" "VillageHallsModel" "members" "[I") ∈ lw_all := lw_g (lw_at lw_m7 142 rfl) rfl
theorem q1652 : (Jvm.Cond.soleField "VillageHallsModel" "members") ∈ lw_all := lw_g (lw_at lw_m7 143 rfl) rfl
theorem q1653 : (Jvm.Cond.laysFinal "VillageHallsModel" "VillageHallsModel" "yes" "[I") ∈ lw_all := lw_g (lw_at lw_m7 144 rfl) rfl
theorem q1654 : (Jvm.Cond.soleField "VillageHallsModel" "yes") ∈ lw_all := lw_g (lw_at lw_m7 145 rfl) rfl
theorem q1655 : (Jvm.Cond.laysFinal "VillageHallsModel" "VillageHallsModel" "no" "[I") ∈ lw_all := lw_g (lw_at lw_m7 146 rfl) rfl
theorem q1656 : (Jvm.Cond.soleField "VillageHallsModel" "no") ∈ lw_all := lw_g (lw_at lw_m7 147 rfl) rfl
theorem q1657 : (Jvm.Cond.laysFinal "VillageHallsModel" "VillageHallsModel" "quorum" "[I") ∈ lw_all := lw_g (lw_at lw_m7 148 rfl) rfl
theorem q1658 : (Jvm.Cond.soleField "VillageHallsModel" "quorum") ∈ lw_all := lw_g (lw_at lw_m7 149 rfl) rfl
theorem q1659 : (Jvm.Cond.laysFinal "VillageHallsModel" "VillageHallsModel" "hangs" "[I") ∈ lw_all := lw_g (lw_at lw_m7 150 rfl) rfl
theorem q1660 : (Jvm.Cond.soleField "VillageHallsModel" "hangs") ∈ lw_all := lw_g (lw_at lw_m7 151 rfl) rfl
theorem q1661 : (Jvm.Cond.laysFinal "VillageHallsModel" "VillageHallsModel" "trace" "[I") ∈ lw_all := lw_g (lw_at lw_m7 152 rfl) rfl
theorem q1662 : (Jvm.Cond.soleField "VillageHallsModel" "trace") ∈ lw_all := lw_g (lw_at lw_m7 153 rfl) rfl
theorem q1663 : (Jvm.Cond.lays "VillageHallsModel" "VillageHallsModel" "traced" "I") ∈ lw_all := lw_g (lw_at lw_m7 154 rfl) rfl
theorem q1664 : (Jvm.Cond.soleField "VillageHallsModel" "traced") ∈ lw_all := lw_g (lw_at lw_m7 155 rfl) rfl
theorem q1665 : (Jvm.Cond.superclass "VillageHallsModel" "java/lang/Object") ∈ lw_all := lw_g (lw_at lw_m7 156 rfl) rfl
theorem q1668 : (Jvm.Cond.instanceMethod ({ cls := "VillageHallsModel", name := "sheet", desc := "(III)I" } : Jvm.MethodName)) ∈ lw_all := lw_g (lw_at lw_m7 159 rfl) rfl
theorem q1669 : (Jvm.Cond.selects "VillageHallsModel" ({ cls := "VillageHallsModel", name := "sheet", desc := "(III)I" } : Jvm.MethodName) ({ cls := "VillageHallsModel", name := "sheet", desc := "(III)I" } : Jvm.MethodName)) ∈ lw_all := lw_g (lw_at lw_m7 160 rfl) rfl
theorem q1670 : (Jvm.Cond.code ({ cls := "VillageHallsModel", name := "sheet", desc := "(III)I" } : Jvm.MethodName) prog_19_method_6_code (5 : Nat) (Option.some Jvm.ClassFile.FieldType.int)) ∈ lw_all := lw_g (lw_at lw_m7 161 rfl) rfl
theorem q1671 : (Jvm.Cond.methodLink "VillageHallsModel" (125 : Nat) ({ cls := "VillageHallsModel", name := "isSheet", desc := "(I)Z" } : Jvm.MethodName)) ∈ lw_all := lw_g (lw_at lw_m7 162 rfl) rfl
theorem q1672 : (Jvm.Cond.static ({ cls := "VillageHallsModel", name := "isSheet", desc := "(I)Z" } : Jvm.MethodName)) ∈ lw_all := lw_g (lw_at lw_m7 163 rfl) rfl
theorem q1673 : (Jvm.Cond.code ({ cls := "VillageHallsModel", name := "isSheet", desc := "(I)Z" } : Jvm.MethodName) prog_19_method_5_code (1 : Nat) (Option.some Jvm.ClassFile.FieldType.boolean)) ∈ lw_all := lw_g (lw_at lw_m7 164 rfl) rfl
theorem q1674 : (Jvm.Cond.constantLong "VillageHallsModel" (119 : Nat) (7 : Int64)) ∈ lw_all := lw_g (lw_at lw_m7 165 rfl) rfl
theorem q1675 : (Jvm.Cond.methodLink "VillageHallsModel" (121 : Nat) ({ cls := "VillageHallsModel", name := "in", desc := "(JJJ)Z" } : Jvm.MethodName)) ∈ lw_all := lw_g (lw_at lw_m7 166 rfl) rfl
theorem q1676 : (Jvm.Cond.static ({ cls := "VillageHallsModel", name := "in", desc := "(JJJ)Z" } : Jvm.MethodName)) ∈ lw_all := lw_g (lw_at lw_m7 167 rfl) rfl
theorem q1677 : (Jvm.Cond.code ({ cls := "VillageHallsModel", name := "in", desc := "(JJJ)Z" } : Jvm.MethodName) prog_19_method_3_code (6 : Nat) (Option.some Jvm.ClassFile.FieldType.boolean)) ∈ lw_all := lw_g (lw_at lw_m7 168 rfl) rfl
theorem q1678 : (Jvm.Cond.constantLong "VillageHallsModel" (129 : Nat) (2 : Int64)) ∈ lw_all := lw_g (lw_at lw_m7 169 rfl) rfl
theorem q1679 : (Jvm.Cond.constant "VillageHallsModel" (131 : Nat) (-1000001 : Int32)) ∈ lw_all := lw_g (lw_at lw_m7 170 rfl) rfl
theorem q1680 : (Jvm.Cond.methodLink "VillageHallsModel" (132 : Nat) ({ cls := "VillageHallsModel", name := "finding", desc := "(I)I" } : Jvm.MethodName)) ∈ lw_all := lw_g (lw_at lw_m7 171 rfl) rfl
theorem q1681 : (Jvm.Cond.privateMethod ({ cls := "VillageHallsModel", name := "finding", desc := "(I)I" } : Jvm.MethodName)) ∈ lw_tbl := lw_at lw_m7 172 rfl
theorem q1682 : (Jvm.Cond.instanceMethod ({ cls := "VillageHallsModel", name := "finding", desc := "(I)I" } : Jvm.MethodName)) ∈ lw_all := lw_g (lw_at lw_m7 173 rfl) rfl
theorem q1683 : (Jvm.Cond.code ({ cls := "VillageHallsModel", name := "finding", desc := "(I)I" } : Jvm.MethodName) prog_19_method_4_code (2 : Nat) (Option.some Jvm.ClassFile.FieldType.int)) ∈ lw_all := lw_g (lw_at lw_m7 174 rfl) rfl
theorem q1684 : (Jvm.Cond.constant "VillageHallsModel" (118 : Nat) (-1000010 : Int32)) ∈ lw_all := lw_g (lw_at lw_m7 175 rfl) rfl
theorem q1686 : (Jvm.Cond.instanceMethod ({ cls := "VillageHallsModel", name := "set", desc := "(III)I" } : Jvm.MethodName)) ∈ lw_all := lw_g (lw_at lw_m7 177 rfl) rfl
theorem q1687 : (Jvm.Cond.selects "VillageHallsModel" ({ cls := "VillageHallsModel", name := "set", desc := "(III)I" } : Jvm.MethodName) ({ cls := "VillageHallsModel", name := "set", desc := "(III)I" } : Jvm.MethodName)) ∈ lw_all := lw_g (lw_at lw_m7 178 rfl) rfl
theorem q1688 : (Jvm.Cond.code ({ cls := "VillageHallsModel", name := "set", desc := "(III)I" } : Jvm.MethodName) prog_19_method_7_code (4 : Nat) (Option.some Jvm.ClassFile.FieldType.int)) ∈ lw_all := lw_g (lw_at lw_m7 179 rfl) rfl
theorem q1690 : (Jvm.Cond.instanceMethod ({ cls := "VillageHallsModel", name := "copy", desc := "(IIIII)I" } : Jvm.MethodName)) ∈ lw_all := lw_g (lw_at lw_m7 181 rfl) rfl
theorem q1691 : (Jvm.Cond.selects "VillageHallsModel" ({ cls := "VillageHallsModel", name := "copy", desc := "(IIIII)I" } : Jvm.MethodName) ({ cls := "VillageHallsModel", name := "copy", desc := "(IIIII)I" } : Jvm.MethodName)) ∈ lw_all := lw_g (lw_at lw_m7 182 rfl) rfl
theorem q1692 : (Jvm.Cond.code ({ cls := "VillageHallsModel", name := "copy", desc := "(IIIII)I" } : Jvm.MethodName) prog_19_method_8_code (9 : Nat) (Option.some Jvm.ClassFile.FieldType.int)) ∈ lw_all := lw_g (lw_at lw_m7 183 rfl) rfl
theorem q1694 : (Jvm.Cond.instanceMethod ({ cls := "VillageHallsModel", name := "drop", desc := "(I)I" } : Jvm.MethodName)) ∈ lw_all := lw_g (lw_at lw_m7 185 rfl) rfl
theorem q1695 : (Jvm.Cond.selects "VillageHallsModel" ({ cls := "VillageHallsModel", name := "drop", desc := "(I)I" } : Jvm.MethodName) ({ cls := "VillageHallsModel", name := "drop", desc := "(I)I" } : Jvm.MethodName)) ∈ lw_all := lw_g (lw_at lw_m7 186 rfl) rfl
theorem q1696 : (Jvm.Cond.code ({ cls := "VillageHallsModel", name := "drop", desc := "(I)I" } : Jvm.MethodName) prog_19_method_9_code (2 : Nat) (Option.some Jvm.ClassFile.FieldType.int)) ∈ lw_all := lw_g (lw_at lw_m7 187 rfl) rfl
theorem q1698 : (Jvm.Cond.instanceMethod ({ cls := "VillageHallsModel", name := "feed", desc := "(JI)I" } : Jvm.MethodName)) ∈ lw_all := lw_g (lw_at lw_m7 189 rfl) rfl
theorem q1699 : (Jvm.Cond.selects "VillageHallsModel" ({ cls := "VillageHallsModel", name := "feed", desc := "(JI)I" } : Jvm.MethodName) ({ cls := "VillageHallsModel", name := "feed", desc := "(JI)I" } : Jvm.MethodName)) ∈ lw_all := lw_g (lw_at lw_m7 190 rfl) rfl
theorem q1700 : (Jvm.Cond.code ({ cls := "VillageHallsModel", name := "feed", desc := "(JI)I" } : Jvm.MethodName) prog_19_method_10_code (5 : Nat) (Option.some Jvm.ClassFile.FieldType.int)) ∈ lw_all := lw_g (lw_at lw_m7 191 rfl) rfl
theorem q1701 : (Jvm.Cond.constantLong "VillageHallsModel" (136 : Nat) (8 : Int64)) ∈ lw_all := lw_g (lw_at lw_m7 192 rfl) rfl
theorem q1702 : (Jvm.Cond.constant "VillageHallsModel" (141 : Nat) (-1000003 : Int32)) ∈ lw_all := lw_g (lw_at lw_m7 193 rfl) rfl
theorem q1703 : (Jvm.Cond.constantLong "VillageHallsModel" (142 : Nat) (255 : Int64)) ∈ lw_all := lw_g (lw_at lw_m7 194 rfl) rfl
theorem q1705 : (Jvm.Cond.instanceMethod ({ cls := "VillageHallsModel", name := "rules", desc := "()I" } : Jvm.MethodName)) ∈ lw_all := lw_g (lw_at lw_m7 196 rfl) rfl
theorem q1706 : (Jvm.Cond.selects "VillageHallsModel" ({ cls := "VillageHallsModel", name := "rules", desc := "()I" } : Jvm.MethodName) ({ cls := "VillageHallsModel", name := "rules", desc := "()I" } : Jvm.MethodName)) ∈ lw_all := lw_g (lw_at lw_m7 197 rfl) rfl
theorem q1707 : (Jvm.Cond.code ({ cls := "VillageHallsModel", name := "rules", desc := "()I" } : Jvm.MethodName) prog_19_method_25_code (1 : Nat) (Option.some Jvm.ClassFile.FieldType.int)) ∈ lw_all := lw_g (lw_at lw_m7 198 rfl) rfl
theorem q1708 : (Jvm.Cond.methodLink "VillageHallsModel" (242 : Nat) ({ cls := "VillageHallsModel", name := "readAll", desc := "()V" } : Jvm.MethodName)) ∈ lw_all := lw_g (lw_at lw_m7 199 rfl) rfl
theorem q1709 : (Jvm.Cond.privateMethod ({ cls := "VillageHallsModel", name := "readAll", desc := "()V" } : Jvm.MethodName)) ∈ lw_tbl := lw_at lw_m7 200 rfl
theorem q1710 : (Jvm.Cond.instanceMethod ({ cls := "VillageHallsModel", name := "readAll", desc := "()V" } : Jvm.MethodName)) ∈ lw_all := lw_g (lw_at lw_m7 201 rfl) rfl
theorem q1711 : (Jvm.Cond.code ({ cls := "VillageHallsModel", name := "readAll", desc := "()V" } : Jvm.MethodName) prog_19_method_24_code (3 : Nat) (Option.none : Option Jvm.ClassFile.FieldType)) ∈ lw_all := lw_g (lw_at lw_m7 202 rfl) rfl
theorem q1712 : (Jvm.Cond.methodLink "VillageHallsModel" (179 : Nat) ({ cls := "VillageHallsModel", name := "step", desc := "()V" } : Jvm.MethodName)) ∈ lw_all := lw_g (lw_at lw_m7 203 rfl) rfl
theorem q1713 : (Jvm.Cond.privateMethod ({ cls := "VillageHallsModel", name := "step", desc := "()V" } : Jvm.MethodName)) ∈ lw_tbl := lw_at lw_m7 204 rfl
theorem q1714 : (Jvm.Cond.instanceMethod ({ cls := "VillageHallsModel", name := "step", desc := "()V" } : Jvm.MethodName)) ∈ lw_all := lw_g (lw_at lw_m7 205 rfl) rfl
theorem q1715 : (Jvm.Cond.code ({ cls := "VillageHallsModel", name := "step", desc := "()V" } : Jvm.MethodName) prog_19_method_14_code (2 : Nat) (Option.none : Option Jvm.ClassFile.FieldType)) ∈ lw_all := lw_g (lw_at lw_m7 206 rfl) rfl
theorem q1716 : (Jvm.Cond.methodLink "VillageHallsModel" (151 : Nat) ({ cls := "VillageHallsModel", name := "byteAt", desc := "(I)I" } : Jvm.MethodName)) ∈ lw_all := lw_g (lw_at lw_m7 207 rfl) rfl
theorem q1717 : (Jvm.Cond.privateMethod ({ cls := "VillageHallsModel", name := "byteAt", desc := "(I)I" } : Jvm.MethodName)) ∈ lw_tbl := lw_at lw_m7 208 rfl
theorem q1718 : (Jvm.Cond.instanceMethod ({ cls := "VillageHallsModel", name := "byteAt", desc := "(I)I" } : Jvm.MethodName)) ∈ lw_all := lw_g (lw_at lw_m7 209 rfl) rfl
theorem q1719 : (Jvm.Cond.code ({ cls := "VillageHallsModel", name := "byteAt", desc := "(I)I" } : Jvm.MethodName) prog_19_method_11_code (2 : Nat) (Option.some Jvm.ClassFile.FieldType.int)) ∈ lw_all := lw_g (lw_at lw_m7 210 rfl) rfl
theorem q1720 : (Jvm.Cond.constant "VillageHallsModel" (147 : Nat) (-1000000 : Int32)) ∈ lw_all := lw_g (lw_at lw_m7 211 rfl) rfl
theorem q1721 : (Jvm.Cond.methodLink "VillageHallsModel" (160 : Nat) ({ cls := "VillageHallsModel", name := "isLetter", desc := "(I)Z" } : Jvm.MethodName)) ∈ lw_all := lw_g (lw_at lw_m7 212 rfl) rfl
theorem q1722 : (Jvm.Cond.static ({ cls := "VillageHallsModel", name := "isLetter", desc := "(I)Z" } : Jvm.MethodName)) ∈ lw_all := lw_g (lw_at lw_m7 213 rfl) rfl
theorem q1723 : (Jvm.Cond.code ({ cls := "VillageHallsModel", name := "isLetter", desc := "(I)Z" } : Jvm.MethodName) prog_19_method_12_code (1 : Nat) (Option.some Jvm.ClassFile.FieldType.boolean)) ∈ lw_all := lw_g (lw_at lw_m7 214 rfl) rfl
theorem q1724 : (Jvm.Cond.methodLink "VillageHallsModel" (163 : Nat) ({ cls := "VillageHallsModel", name := "isFigure", desc := "(I)Z" } : Jvm.MethodName)) ∈ lw_all := lw_g (lw_at lw_m7 215 rfl) rfl
theorem q1725 : (Jvm.Cond.static ({ cls := "VillageHallsModel", name := "isFigure", desc := "(I)Z" } : Jvm.MethodName)) ∈ lw_all := lw_g (lw_at lw_m7 216 rfl) rfl
theorem q1726 : (Jvm.Cond.code ({ cls := "VillageHallsModel", name := "isFigure", desc := "(I)Z" } : Jvm.MethodName) prog_19_method_13_code (1 : Nat) (Option.some Jvm.ClassFile.FieldType.boolean)) ∈ lw_all := lw_g (lw_at lw_m7 217 rfl) rfl
theorem q1727 : (Jvm.Cond.methodLink "VillageHallsModel" (186 : Nat) ({ cls := "VillageHallsModel", name := "word", desc := "()J" } : Jvm.MethodName)) ∈ lw_all := lw_g (lw_at lw_m7 218 rfl) rfl
theorem q1728 : (Jvm.Cond.privateMethod ({ cls := "VillageHallsModel", name := "word", desc := "()J" } : Jvm.MethodName)) ∈ lw_tbl := lw_at lw_m7 219 rfl
theorem q1729 : (Jvm.Cond.instanceMethod ({ cls := "VillageHallsModel", name := "word", desc := "()J" } : Jvm.MethodName)) ∈ lw_all := lw_g (lw_at lw_m7 220 rfl) rfl
theorem q1730 : (Jvm.Cond.code ({ cls := "VillageHallsModel", name := "word", desc := "()J" } : Jvm.MethodName) prog_19_method_17_code (4 : Nat) (Option.some Jvm.ClassFile.FieldType.long)) ∈ lw_all := lw_g (lw_at lw_m7 221 rfl) rfl
theorem q1731 : (Jvm.Cond.constantLong "VillageHallsModel" (237 : Nat) (1751215212 : Int64)) ∈ lw_all := lw_g (lw_at lw_m7 222 rfl) rfl
theorem q1732 : (Jvm.Cond.methodLink "VillageHallsModel" (182 : Nat) ({ cls := "VillageHallsModel", name := "need", desc := "(Z)V" } : Jvm.MethodName)) ∈ lw_all := lw_g (lw_at lw_m7 223 rfl) rfl
theorem q1733 : (Jvm.Cond.privateMethod ({ cls := "VillageHallsModel", name := "need", desc := "(Z)V" } : Jvm.MethodName)) ∈ lw_tbl := lw_at lw_m7 224 rfl
theorem q1734 : (Jvm.Cond.instanceMethod ({ cls := "VillageHallsModel", name := "need", desc := "(Z)V" } : Jvm.MethodName)) ∈ lw_all := lw_g (lw_at lw_m7 225 rfl) rfl
theorem q1735 : (Jvm.Cond.code ({ cls := "VillageHallsModel", name := "need", desc := "(Z)V" } : Jvm.MethodName) prog_19_method_16_code (2 : Nat) (Option.none : Option Jvm.ClassFile.FieldType)) ∈ lw_all := lw_g (lw_at lw_m7 226 rfl) rfl
theorem q1736 : (Jvm.Cond.methodLink "VillageHallsModel" (175 : Nat) ({ cls := "VillageHallsModel", name := "bad", desc := "(I)V" } : Jvm.MethodName)) ∈ lw_all := lw_g (lw_at lw_m7 227 rfl) rfl
theorem q1737 : (Jvm.Cond.privateMethod ({ cls := "VillageHallsModel", name := "bad", desc := "(I)V" } : Jvm.MethodName)) ∈ lw_tbl := lw_at lw_m7 228 rfl
theorem q1738 : (Jvm.Cond.instanceMethod ({ cls := "VillageHallsModel", name := "bad", desc := "(I)V" } : Jvm.MethodName)) ∈ lw_all := lw_g (lw_at lw_m7 229 rfl) rfl
theorem q1739 : (Jvm.Cond.code ({ cls := "VillageHallsModel", name := "bad", desc := "(I)V" } : Jvm.MethodName) prog_19_method_15_code (2 : Nat) (Option.none : Option Jvm.ClassFile.FieldType)) ∈ lw_all := lw_g (lw_at lw_m7 230 rfl) rfl
theorem q1740 : (Jvm.Cond.methodLink "VillageHallsModel" (228 : Nat) ({ cls := "VillageHallsModel", name := "numberTo", desc := "(I)I" } : Jvm.MethodName)) ∈ lw_all := lw_g (lw_at lw_m7 231 rfl) rfl
theorem q1741 : (Jvm.Cond.privateMethod ({ cls := "VillageHallsModel", name := "numberTo", desc := "(I)I" } : Jvm.MethodName)) ∈ lw_tbl := lw_at lw_m7 232 rfl
theorem q1742 : (Jvm.Cond.instanceMethod ({ cls := "VillageHallsModel", name := "numberTo", desc := "(I)I" } : Jvm.MethodName)) ∈ lw_all := lw_g (lw_at lw_m7 233 rfl) rfl
theorem q1743 : (Jvm.Cond.code ({ cls := "VillageHallsModel", name := "numberTo", desc := "(I)I" } : Jvm.MethodName) prog_19_method_18_code (4 : Nat) (Option.some Jvm.ClassFile.FieldType.int)) ∈ lw_all := lw_g (lw_at lw_m7 234 rfl) rfl
theorem q1744 : (Jvm.Cond.methodLink "VillageHallsModel" (239 : Nat) ({ cls := "VillageHallsModel", name := "readRule", desc := "(I)V" } : Jvm.MethodName)) ∈ lw_all := lw_g (lw_at lw_m7 235 rfl) rfl
theorem q1745 : (Jvm.Cond.privateMethod ({ cls := "VillageHallsModel", name := "readRule", desc := "(I)V" } : Jvm.MethodName)) ∈ lw_tbl := lw_at lw_m7 236 rfl
theorem q1746 : (Jvm.Cond.instanceMethod ({ cls := "VillageHallsModel", name := "readRule", desc := "(I)V" } : Jvm.MethodName)) ∈ lw_all := lw_g (lw_at lw_m7 237 rfl) rfl
theorem q1747 : (Jvm.Cond.code ({ cls := "VillageHallsModel", name := "readRule", desc := "(I)V" } : Jvm.MethodName) prog_19_method_23_code (6 : Nat) (Option.none : Option Jvm.ClassFile.FieldType)) ∈ lw_all := lw_g (lw_at lw_m7 238 rfl) rfl
theorem q1748 : (Jvm.Cond.methodLink "VillageHallsModel" (224 : Nat) ({ cls := "VillageHallsModel", name := "isRule", desc := "()Z" } : Jvm.MethodName)) ∈ lw_all := lw_g (lw_at lw_m7 239 rfl) rfl
theorem q1749 : (Jvm.Cond.privateMethod ({ cls := "VillageHallsModel", name := "isRule", desc := "()Z" } : Jvm.MethodName)) ∈ lw_tbl := lw_at lw_m8 0 rfl
theorem q1750 : (Jvm.Cond.instanceMethod ({ cls := "VillageHallsModel", name := "isRule", desc := "()Z" } : Jvm.MethodName)) ∈ lw_all := lw_g (lw_at lw_m8 1 rfl) rfl
theorem q1751 : (Jvm.Cond.code ({ cls := "VillageHallsModel", name := "isRule", desc := "()Z" } : Jvm.MethodName) prog_19_method_20_code (3 : Nat) (Option.some Jvm.ClassFile.FieldType.boolean)) ∈ lw_all := lw_g (lw_at lw_m8 2 rfl) rfl
theorem q1752 : (Jvm.Cond.constantLong "VillageHallsModel" (200 : Nat) (495623370096 : Int64)) ∈ lw_all := lw_g (lw_at lw_m8 3 rfl) rfl
theorem q1753 : (Jvm.Cond.constantLong "VillageHallsModel" (202 : Nat) (7811884315945690483 : Int64)) ∈ lw_all := lw_g (lw_at lw_m8 4 rfl) rfl
theorem q1754 : (Jvm.Cond.constantLong "VillageHallsModel" (204 : Nat) (1918989413 : Int64)) ∈ lw_all := lw_g (lw_at lw_m8 5 rfl) rfl
theorem q1755 : (Jvm.Cond.constantLong "VillageHallsModel" (206 : Nat) (439855772532 : Int64)) ∈ lw_all := lw_g (lw_at lw_m8 6 rfl) rfl
theorem q1756 : (Jvm.Cond.constantLong "VillageHallsModel" (208 : Nat) (1818326117 : Int64)) ∈ lw_all := lw_g (lw_at lw_m8 7 rfl) rfl
theorem q1757 : (Jvm.Cond.constantLong "VillageHallsModel" (210 : Nat) (1718186597 : Int64)) ∈ lw_all := lw_g (lw_at lw_m8 8 rfl) rfl
theorem q1758 : (Jvm.Cond.methodLink "VillageHallsModel" (212 : Nat) ({ cls := "VillageHallsModel", name := "useOfWord", desc := "()I" } : Jvm.MethodName)) ∈ lw_all := lw_g (lw_at lw_m8 9 rfl) rfl
theorem q1759 : (Jvm.Cond.privateMethod ({ cls := "VillageHallsModel", name := "useOfWord", desc := "()I" } : Jvm.MethodName)) ∈ lw_tbl := lw_at lw_m8 10 rfl
theorem q1760 : (Jvm.Cond.instanceMethod ({ cls := "VillageHallsModel", name := "useOfWord", desc := "()I" } : Jvm.MethodName)) ∈ lw_all := lw_g (lw_at lw_m8 11 rfl) rfl
theorem q1761 : (Jvm.Cond.code ({ cls := "VillageHallsModel", name := "useOfWord", desc := "()I" } : Jvm.MethodName) prog_19_method_19_code (3 : Nat) (Option.some Jvm.ClassFile.FieldType.int)) ∈ lw_all := lw_g (lw_at lw_m8 12 rfl) rfl
theorem q1762 : (Jvm.Cond.constantLong "VillageHallsModel" (190 : Nat) (32199642371088754 : Int64)) ∈ lw_all := lw_g (lw_at lw_m8 13 rfl) rfl
theorem q1763 : (Jvm.Cond.constantLong "VillageHallsModel" (192 : Nat) (482671228025 : Int64)) ∈ lw_all := lw_g (lw_at lw_m8 14 rfl) rfl
theorem q1764 : (Jvm.Cond.constantLong "VillageHallsModel" (194 : Nat) (1668052322 : Int64)) ∈ lw_all := lw_g (lw_at lw_m8 15 rfl) rfl
theorem q1765 : (Jvm.Cond.constantLong "VillageHallsModel" (196 : Nat) (28839564633334124 : Int64)) ∈ lw_all := lw_g (lw_at lw_m8 16 rfl) rfl
theorem q1766 : (Jvm.Cond.constantLong "VillageHallsModel" (198 : Nat) (126870791090028 : Int64)) ∈ lw_all := lw_g (lw_at lw_m8 17 rfl) rfl
theorem q1767 : (Jvm.Cond.methodLink "VillageHallsModel" (231 : Nat) ({ cls := "VillageHallsModel", name := "readFirst", desc := "(I)V" } : Jvm.MethodName)) ∈ lw_all := lw_g (lw_at lw_m8 18 rfl) rfl
theorem q1768 : (Jvm.Cond.privateMethod ({ cls := "VillageHallsModel", name := "readFirst", desc := "(I)V" } : Jvm.MethodName)) ∈ lw_tbl := lw_at lw_m8 19 rfl
theorem q1769 : (Jvm.Cond.instanceMethod ({ cls := "VillageHallsModel", name := "readFirst", desc := "(I)V" } : Jvm.MethodName)) ∈ lw_all := lw_g (lw_at lw_m8 20 rfl) rfl
theorem q1770 : (Jvm.Cond.code ({ cls := "VillageHallsModel", name := "readFirst", desc := "(I)V" } : Jvm.MethodName) prog_19_method_22_code (6 : Nat) (Option.none : Option Jvm.ClassFile.FieldType)) ∈ lw_all := lw_g (lw_at lw_m8 21 rfl) rfl
theorem q1771 : (Jvm.Cond.methodLink "VillageHallsModel" (220 : Nat) ({ cls := "VillageHallsModel", name := "rankUp", desc := "(III)V" } : Jvm.MethodName)) ∈ lw_all := lw_g (lw_at lw_m8 22 rfl) rfl
theorem q1772 : (Jvm.Cond.privateMethod ({ cls := "VillageHallsModel", name := "rankUp", desc := "(III)V" } : Jvm.MethodName)) ∈ lw_tbl := lw_at lw_m8 23 rfl
theorem q1773 : (Jvm.Cond.instanceMethod ({ cls := "VillageHallsModel", name := "rankUp", desc := "(III)V" } : Jvm.MethodName)) ∈ lw_all := lw_g (lw_at lw_m8 24 rfl) rfl
theorem q1774 : (Jvm.Cond.code ({ cls := "VillageHallsModel", name := "rankUp", desc := "(III)V" } : Jvm.MethodName) prog_19_method_21_code (7 : Nat) (Option.none : Option Jvm.ClassFile.FieldType)) ∈ lw_all := lw_g (lw_at lw_m8 25 rfl) rfl
theorem q1775 : (Jvm.Cond.constant "VillageHallsModel" (248 : Nat) (-1000100 : Int32)) ∈ lw_all := lw_g (lw_at lw_m8 26 rfl) rfl
theorem q1777 : (Jvm.Cond.instanceMethod ({ cls := "VillageHallsModel", name := "fault", desc := "()I" } : Jvm.MethodName)) ∈ lw_all := lw_g (lw_at lw_m8 28 rfl) rfl
theorem q1778 : (Jvm.Cond.selects "VillageHallsModel" ({ cls := "VillageHallsModel", name := "fault", desc := "()I" } : Jvm.MethodName) ({ cls := "VillageHallsModel", name := "fault", desc := "()I" } : Jvm.MethodName)) ∈ lw_all := lw_g (lw_at lw_m8 29 rfl) rfl
theorem q1779 : (Jvm.Cond.code ({ cls := "VillageHallsModel", name := "fault", desc := "()I" } : Jvm.MethodName) prog_19_method_26_code (1 : Nat) (Option.some Jvm.ClassFile.FieldType.int)) ∈ lw_all := lw_g (lw_at lw_m8 30 rfl) rfl
theorem q1781 : (Jvm.Cond.instanceMethod ({ cls := "VillageHallsModel", name := "hall", desc := "(II)I" } : Jvm.MethodName)) ∈ lw_all := lw_g (lw_at lw_m8 32 rfl) rfl
theorem q1782 : (Jvm.Cond.selects "VillageHallsModel" ({ cls := "VillageHallsModel", name := "hall", desc := "(II)I" } : Jvm.MethodName) ({ cls := "VillageHallsModel", name := "hall", desc := "(II)I" } : Jvm.MethodName)) ∈ lw_all := lw_g (lw_at lw_m8 33 rfl) rfl
theorem q1783 : (Jvm.Cond.code ({ cls := "VillageHallsModel", name := "hall", desc := "(II)I" } : Jvm.MethodName) prog_19_method_28_code (3 : Nat) (Option.some Jvm.ClassFile.FieldType.int)) ∈ lw_all := lw_g (lw_at lw_m8 34 rfl) rfl
theorem q1784 : (Jvm.Cond.methodLink "VillageHallsModel" (251 : Nat) ({ cls := "VillageHallsModel", name := "isHall", desc := "(I)Z" } : Jvm.MethodName)) ∈ lw_all := lw_g (lw_at lw_m8 35 rfl) rfl
theorem q1785 : (Jvm.Cond.static ({ cls := "VillageHallsModel", name := "isHall", desc := "(I)Z" } : Jvm.MethodName)) ∈ lw_all := lw_g (lw_at lw_m8 36 rfl) rfl
theorem q1786 : (Jvm.Cond.code ({ cls := "VillageHallsModel", name := "isHall", desc := "(I)Z" } : Jvm.MethodName) prog_19_method_27_code (1 : Nat) (Option.some Jvm.ClassFile.FieldType.boolean)) ∈ lw_all := lw_g (lw_at lw_m8 37 rfl) rfl
theorem q1787 : (Jvm.Cond.constantLong "VillageHallsModel" (249 : Nat) (3 : Int64)) ∈ lw_all := lw_g (lw_at lw_m8 38 rfl) rfl
theorem q1788 : (Jvm.Cond.constantLong "VillageHallsModel" (254 : Nat) (4 : Int64)) ∈ lw_all := lw_g (lw_at lw_m8 39 rfl) rfl
theorem q1789 : (Jvm.Cond.constantLong "VillageHallsModel" (256 : Nat) (5 : Int64)) ∈ lw_all := lw_g (lw_at lw_m8 40 rfl) rfl
theorem q1790 : (Jvm.Cond.constantLong "VillageHallsModel" (258 : Nat) (10 : Int64)) ∈ lw_all := lw_g (lw_at lw_m8 41 rfl) rfl
theorem q1791 : (Jvm.Cond.constantLong "VillageHallsModel" (260 : Nat) (14 : Int64)) ∈ lw_all := lw_g (lw_at lw_m8 42 rfl) rfl
theorem q1792 : (Jvm.Cond.constantLong "VillageHallsModel" (262 : Nat) (20 : Int64)) ∈ lw_all := lw_g (lw_at lw_m8 43 rfl) rfl
theorem q1793 : (Jvm.Cond.constantLong "VillageHallsModel" (264 : Nat) (24 : Int64)) ∈ lw_all := lw_g (lw_at lw_m8 44 rfl) rfl
theorem q1795 : (Jvm.Cond.instanceMethod ({ cls := "VillageHallsModel", name := "book", desc := "(II)I" } : Jvm.MethodName)) ∈ lw_all := lw_g (lw_at lw_m8 46 rfl) rfl
theorem q1796 : (Jvm.Cond.selects "VillageHallsModel" ({ cls := "VillageHallsModel", name := "book", desc := "(II)I" } : Jvm.MethodName) ({ cls := "VillageHallsModel", name := "book", desc := "(II)I" } : Jvm.MethodName)) ∈ lw_all := lw_g (lw_at lw_m8 47 rfl) rfl
theorem q1797 : (Jvm.Cond.code ({ cls := "VillageHallsModel", name := "book", desc := "(II)I" } : Jvm.MethodName) prog_19_method_32_code (6 : Nat) (Option.some Jvm.ClassFile.FieldType.int)) ∈ lw_all := lw_g (lw_at lw_m8 48 rfl) rfl
theorem q1798 : (Jvm.Cond.constantLong "VillageHallsModel" (271 : Nat) (9 : Int64)) ∈ lw_all := lw_g (lw_at lw_m8 49 rfl) rfl
theorem q1799 : (Jvm.Cond.methodLink "VillageHallsModel" (273 : Nat) ({ cls := "VillageHallsModel", name := "isDay", desc := "(I)Z" } : Jvm.MethodName)) ∈ lw_all := lw_g (lw_at lw_m8 50 rfl) rfl
theorem q1800 : (Jvm.Cond.static ({ cls := "VillageHallsModel", name := "isDay", desc := "(I)Z" } : Jvm.MethodName)) ∈ lw_all := lw_g (lw_at lw_m8 51 rfl) rfl
theorem q1801 : (Jvm.Cond.code ({ cls := "VillageHallsModel", name := "isDay", desc := "(I)Z" } : Jvm.MethodName) prog_19_method_29_code (1 : Nat) (Option.some Jvm.ClassFile.FieldType.boolean)) ∈ lw_all := lw_g (lw_at lw_m8 52 rfl) rfl
theorem q1802 : (Jvm.Cond.constantLong "VillageHallsModel" (266 : Nat) (364 : Int64)) ∈ lw_all := lw_g (lw_at lw_m8 53 rfl) rfl
theorem q1803 : (Jvm.Cond.constantLong "VillageHallsModel" (276 : Nat) (95 : Int64)) ∈ lw_all := lw_g (lw_at lw_m8 54 rfl) rfl
theorem q1804 : (Jvm.Cond.constantLong "VillageHallsModel" (278 : Nat) (96 : Int64)) ∈ lw_all := lw_g (lw_at lw_m8 55 rfl) rfl
theorem q1805 : (Jvm.Cond.constantLong "VillageHallsModel" (280 : Nat) (999 : Int64)) ∈ lw_all := lw_g (lw_at lw_m8 56 rfl) rfl
theorem q1807 : (Jvm.Cond.instanceMethod ({ cls := "VillageHallsModel", name := "cancel", desc := "(II)I" } : Jvm.MethodName)) ∈ lw_all := lw_g (lw_at lw_m8 58 rfl) rfl
theorem q1808 : (Jvm.Cond.selects "VillageHallsModel" ({ cls := "VillageHallsModel", name := "cancel", desc := "(II)I" } : Jvm.MethodName) ({ cls := "VillageHallsModel", name := "cancel", desc := "(II)I" } : Jvm.MethodName)) ∈ lw_all := lw_g (lw_at lw_m8 59 rfl) rfl
theorem q1809 : (Jvm.Cond.code ({ cls := "VillageHallsModel", name := "cancel", desc := "(II)I" } : Jvm.MethodName) prog_19_method_33_code (3 : Nat) (Option.some Jvm.ClassFile.FieldType.int)) ∈ lw_all := lw_g (lw_at lw_m8 60 rfl) rfl
theorem q1810 : (Jvm.Cond.methodLink "VillageHallsModel" (282 : Nat) ({ cls := "VillageHallsModel", name := "isBooking", desc := "(I)Z" } : Jvm.MethodName)) ∈ lw_all := lw_g (lw_at lw_m8 61 rfl) rfl
theorem q1811 : (Jvm.Cond.privateMethod ({ cls := "VillageHallsModel", name := "isBooking", desc := "(I)Z" } : Jvm.MethodName)) ∈ lw_tbl := lw_at lw_m8 62 rfl
theorem q1812 : (Jvm.Cond.instanceMethod ({ cls := "VillageHallsModel", name := "isBooking", desc := "(I)Z" } : Jvm.MethodName)) ∈ lw_all := lw_g (lw_at lw_m8 63 rfl) rfl
theorem q1813 : (Jvm.Cond.code ({ cls := "VillageHallsModel", name := "isBooking", desc := "(I)Z" } : Jvm.MethodName) prog_19_method_30_code (2 : Nat) (Option.some Jvm.ClassFile.FieldType.boolean)) ∈ lw_all := lw_g (lw_at lw_m8 64 rfl) rfl
theorem q1814 : (Jvm.Cond.methodLink "VillageHallsModel" (285 : Nat) ({ cls := "VillageHallsModel", name := "of", desc := "(II)I" } : Jvm.MethodName)) ∈ lw_all := lw_g (lw_at lw_m8 65 rfl) rfl
theorem q1815 : (Jvm.Cond.privateMethod ({ cls := "VillageHallsModel", name := "of", desc := "(II)I" } : Jvm.MethodName)) ∈ lw_tbl := lw_at lw_m8 66 rfl
theorem q1816 : (Jvm.Cond.instanceMethod ({ cls := "VillageHallsModel", name := "of", desc := "(II)I" } : Jvm.MethodName)) ∈ lw_all := lw_g (lw_at lw_m8 67 rfl) rfl
theorem q1817 : (Jvm.Cond.code ({ cls := "VillageHallsModel", name := "of", desc := "(II)I" } : Jvm.MethodName) prog_19_method_31_code (3 : Nat) (Option.some Jvm.ClassFile.FieldType.int)) ∈ lw_all := lw_g (lw_at lw_m8 68 rfl) rfl
theorem q1818 : (Jvm.Cond.constant "VillageHallsModel" (289 : Nat) (-1000002 : Int32)) ∈ lw_all := lw_g (lw_at lw_m8 69 rfl) rfl
theorem q1820 : (Jvm.Cond.instanceMethod ({ cls := "VillageHallsModel", name := "told", desc := "(II)I" } : Jvm.MethodName)) ∈ lw_all := lw_g (lw_at lw_m8 71 rfl) rfl
theorem q1821 : (Jvm.Cond.selects "VillageHallsModel" ({ cls := "VillageHallsModel", name := "told", desc := "(II)I" } : Jvm.MethodName) ({ cls := "VillageHallsModel", name := "told", desc := "(II)I" } : Jvm.MethodName)) ∈ lw_all := lw_g (lw_at lw_m8 72 rfl) rfl
theorem q1822 : (Jvm.Cond.code ({ cls := "VillageHallsModel", name := "told", desc := "(II)I" } : Jvm.MethodName) prog_19_method_35_code (3 : Nat) (Option.some Jvm.ClassFile.FieldType.int)) ∈ lw_all := lw_g (lw_at lw_m8 73 rfl) rfl
theorem q1823 : (Jvm.Cond.methodLink "VillageHallsModel" (290 : Nat) ({ cls := "VillageHallsModel", name := "priceOf", desc := "(I)I" } : Jvm.MethodName)) ∈ lw_all := lw_g (lw_at lw_m8 74 rfl) rfl
theorem q1824 : (Jvm.Cond.privateMethod ({ cls := "VillageHallsModel", name := "priceOf", desc := "(I)I" } : Jvm.MethodName)) ∈ lw_tbl := lw_at lw_m8 75 rfl
theorem q1825 : (Jvm.Cond.instanceMethod ({ cls := "VillageHallsModel", name := "priceOf", desc := "(I)I" } : Jvm.MethodName)) ∈ lw_all := lw_g (lw_at lw_m8 76 rfl) rfl
theorem q1826 : (Jvm.Cond.code ({ cls := "VillageHallsModel", name := "priceOf", desc := "(I)I" } : Jvm.MethodName) prog_19_method_34_code (4 : Nat) (Option.some Jvm.ClassFile.FieldType.int)) ∈ lw_all := lw_g (lw_at lw_m8 77 rfl) rfl
theorem q1828 : (Jvm.Cond.instanceMethod ({ cls := "VillageHallsModel", name := "clash", desc := "(II)I" } : Jvm.MethodName)) ∈ lw_all := lw_g (lw_at lw_m8 79 rfl) rfl
theorem q1829 : (Jvm.Cond.selects "VillageHallsModel" ({ cls := "VillageHallsModel", name := "clash", desc := "(II)I" } : Jvm.MethodName) ({ cls := "VillageHallsModel", name := "clash", desc := "(II)I" } : Jvm.MethodName)) ∈ lw_all := lw_g (lw_at lw_m8 80 rfl) rfl
theorem q1830 : (Jvm.Cond.code ({ cls := "VillageHallsModel", name := "clash", desc := "(II)I" } : Jvm.MethodName) prog_19_method_38_code (3 : Nat) (Option.some Jvm.ClassFile.FieldType.int)) ∈ lw_all := lw_g (lw_at lw_m8 81 rfl) rfl
theorem q1831 : (Jvm.Cond.methodLink "VillageHallsModel" (297 : Nat) ({ cls := "VillageHallsModel", name := "isClash", desc := "(II)Z" } : Jvm.MethodName)) ∈ lw_all := lw_g (lw_at lw_m8 82 rfl) rfl
theorem q1832 : (Jvm.Cond.privateMethod ({ cls := "VillageHallsModel", name := "isClash", desc := "(II)Z" } : Jvm.MethodName)) ∈ lw_tbl := lw_at lw_m8 83 rfl
theorem q1833 : (Jvm.Cond.instanceMethod ({ cls := "VillageHallsModel", name := "isClash", desc := "(II)Z" } : Jvm.MethodName)) ∈ lw_all := lw_g (lw_at lw_m8 84 rfl) rfl
theorem q1834 : (Jvm.Cond.code ({ cls := "VillageHallsModel", name := "isClash", desc := "(II)Z" } : Jvm.MethodName) prog_19_method_37_code (3 : Nat) (Option.some Jvm.ClassFile.FieldType.boolean)) ∈ lw_all := lw_g (lw_at lw_m8 85 rfl) rfl
theorem q1835 : (Jvm.Cond.methodLink "VillageHallsModel" (293 : Nat) ({ cls := "VillageHallsModel", name := "meets", desc := "(IIIIIII)Z" } : Jvm.MethodName)) ∈ lw_all := lw_g (lw_at lw_m8 86 rfl) rfl
theorem q1836 : (Jvm.Cond.privateMethod ({ cls := "VillageHallsModel", name := "meets", desc := "(IIIIIII)Z" } : Jvm.MethodName)) ∈ lw_tbl := lw_at lw_m8 87 rfl
theorem q1837 : (Jvm.Cond.instanceMethod ({ cls := "VillageHallsModel", name := "meets", desc := "(IIIIIII)Z" } : Jvm.MethodName)) ∈ lw_all := lw_g (lw_at lw_m8 88 rfl) rfl
theorem q1838 : (Jvm.Cond.code ({ cls := "VillageHallsModel", name := "meets", desc := "(IIIIIII)Z" } : Jvm.MethodName) prog_19_method_36_code (9 : Nat) (Option.some Jvm.ClassFile.FieldType.boolean)) ∈ lw_all := lw_g (lw_at lw_m8 89 rfl) rfl
theorem q1840 : (Jvm.Cond.instanceMethod ({ cls := "VillageHallsModel", name := "holding", desc := "(II)I" } : Jvm.MethodName)) ∈ lw_all := lw_g (lw_at lw_m8 91 rfl) rfl
theorem q1841 : (Jvm.Cond.selects "VillageHallsModel" ({ cls := "VillageHallsModel", name := "holding", desc := "(II)I" } : Jvm.MethodName) ({ cls := "VillageHallsModel", name := "holding", desc := "(II)I" } : Jvm.MethodName)) ∈ lw_all := lw_g (lw_at lw_m8 92 rfl) rfl
theorem q1842 : (Jvm.Cond.code ({ cls := "VillageHallsModel", name := "holding", desc := "(II)I" } : Jvm.MethodName) prog_19_method_44_code (6 : Nat) (Option.some Jvm.ClassFile.FieldType.int)) ∈ lw_all := lw_g (lw_at lw_m8 93 rfl) rfl
theorem q1843 : (Jvm.Cond.methodLink "VillageHallsModel" (314 : Nat) ({ cls := "VillageHallsModel", name := "holdOn", desc := "(I)I" } : Jvm.MethodName)) ∈ lw_all := lw_g (lw_at lw_m8 94 rfl) rfl
theorem q1844 : (Jvm.Cond.privateMethod ({ cls := "VillageHallsModel", name := "holdOn", desc := "(I)I" } : Jvm.MethodName)) ∈ lw_tbl := lw_at lw_m8 95 rfl
theorem q1845 : (Jvm.Cond.instanceMethod ({ cls := "VillageHallsModel", name := "holdOn", desc := "(I)I" } : Jvm.MethodName)) ∈ lw_all := lw_g (lw_at lw_m8 96 rfl) rfl
theorem q1846 : (Jvm.Cond.code ({ cls := "VillageHallsModel", name := "holdOn", desc := "(I)I" } : Jvm.MethodName) prog_19_method_43_code (9 : Nat) (Option.some Jvm.ClassFile.FieldType.int)) ∈ lw_all := lw_g (lw_at lw_m8 97 rfl) rfl
theorem q1847 : (Jvm.Cond.methodLink "VillageHallsModel" (304 : Nat) ({ cls := "VillageHallsModel", name := "isThere", desc := "(II)Z" } : Jvm.MethodName)) ∈ lw_all := lw_g (lw_at lw_m8 98 rfl) rfl
theorem q1848 : (Jvm.Cond.privateMethod ({ cls := "VillageHallsModel", name := "isThere", desc := "(II)Z" } : Jvm.MethodName)) ∈ lw_tbl := lw_at lw_m8 99 rfl
theorem q1849 : (Jvm.Cond.instanceMethod ({ cls := "VillageHallsModel", name := "isThere", desc := "(II)Z" } : Jvm.MethodName)) ∈ lw_all := lw_g (lw_at lw_m8 100 rfl) rfl
theorem q1850 : (Jvm.Cond.code ({ cls := "VillageHallsModel", name := "isThere", desc := "(II)Z" } : Jvm.MethodName) prog_19_method_39_code (3 : Nat) (Option.some Jvm.ClassFile.FieldType.boolean)) ∈ lw_all := lw_g (lw_at lw_m8 101 rfl) rfl
theorem q1851 : (Jvm.Cond.methodLink "VillageHallsModel" (307 : Nat) ({ cls := "VillageHallsModel", name := "isAhead", desc := "(II)Z" } : Jvm.MethodName)) ∈ lw_all := lw_g (lw_at lw_m8 102 rfl) rfl
theorem q1852 : (Jvm.Cond.privateMethod ({ cls := "VillageHallsModel", name := "isAhead", desc := "(II)Z" } : Jvm.MethodName)) ∈ lw_tbl := lw_at lw_m8 103 rfl
theorem q1853 : (Jvm.Cond.instanceMethod ({ cls := "VillageHallsModel", name := "isAhead", desc := "(II)Z" } : Jvm.MethodName)) ∈ lw_all := lw_g (lw_at lw_m8 104 rfl) rfl
theorem q1854 : (Jvm.Cond.code ({ cls := "VillageHallsModel", name := "isAhead", desc := "(II)Z" } : Jvm.MethodName) prog_19_method_42_code (4 : Nat) (Option.some Jvm.ClassFile.FieldType.boolean)) ∈ lw_all := lw_g (lw_at lw_m8 105 rfl) rfl
theorem q1855 : (Jvm.Cond.methodLink "VillageHallsModel" (301 : Nat) ({ cls := "VillageHallsModel", name := "rankOf", desc := "(I)I" } : Jvm.MethodName)) ∈ lw_all := lw_g (lw_at lw_m8 106 rfl) rfl
theorem q1856 : (Jvm.Cond.privateMethod ({ cls := "VillageHallsModel", name := "rankOf", desc := "(I)I" } : Jvm.MethodName)) ∈ lw_tbl := lw_at lw_m8 107 rfl
theorem q1857 : (Jvm.Cond.instanceMethod ({ cls := "VillageHallsModel", name := "rankOf", desc := "(I)I" } : Jvm.MethodName)) ∈ lw_all := lw_g (lw_at lw_m8 108 rfl) rfl
theorem q1858 : (Jvm.Cond.code ({ cls := "VillageHallsModel", name := "rankOf", desc := "(I)I" } : Jvm.MethodName) prog_19_method_41_code (2 : Nat) (Option.some Jvm.ClassFile.FieldType.int)) ∈ lw_all := lw_g (lw_at lw_m8 109 rfl) rfl
theorem q1859 : (Jvm.Cond.methodLink "VillageHallsModel" (310 : Nat) ({ cls := "VillageHallsModel", name := "hasFire", desc := "(III)Z" } : Jvm.MethodName)) ∈ lw_all := lw_g (lw_at lw_m8 110 rfl) rfl
theorem q1860 : (Jvm.Cond.privateMethod ({ cls := "VillageHallsModel", name := "hasFire", desc := "(III)Z" } : Jvm.MethodName)) ∈ lw_tbl := lw_at lw_m8 111 rfl
theorem q1861 : (Jvm.Cond.instanceMethod ({ cls := "VillageHallsModel", name := "hasFire", desc := "(III)Z" } : Jvm.MethodName)) ∈ lw_all := lw_g (lw_at lw_m8 112 rfl) rfl
theorem q1862 : (Jvm.Cond.code ({ cls := "VillageHallsModel", name := "hasFire", desc := "(III)Z" } : Jvm.MethodName) prog_19_method_40_code (4 : Nat) (Option.some Jvm.ClassFile.FieldType.boolean)) ∈ lw_all := lw_g (lw_at lw_m8 113 rfl) rfl
theorem q1864 : (Jvm.Cond.instanceMethod ({ cls := "VillageHallsModel", name := "most", desc := "(IIII)I" } : Jvm.MethodName)) ∈ lw_all := lw_g (lw_at lw_m8 115 rfl) rfl
theorem q1865 : (Jvm.Cond.selects "VillageHallsModel" ({ cls := "VillageHallsModel", name := "most", desc := "(IIII)I" } : Jvm.MethodName) ({ cls := "VillageHallsModel", name := "most", desc := "(IIII)I" } : Jvm.MethodName)) ∈ lw_all := lw_g (lw_at lw_m8 116 rfl) rfl
theorem q1866 : (Jvm.Cond.code ({ cls := "VillageHallsModel", name := "most", desc := "(IIII)I" } : Jvm.MethodName) prog_19_method_45_code (9 : Nat) (Option.some Jvm.ClassFile.FieldType.int)) ∈ lw_all := lw_g (lw_at lw_m8 117 rfl) rfl
theorem q1868 : (Jvm.Cond.instanceMethod ({ cls := "VillageHallsModel", name := "funeral", desc := "(IIIIII)I" } : Jvm.MethodName)) ∈ lw_all := lw_g (lw_at lw_m8 119 rfl) rfl
theorem q1869 : (Jvm.Cond.selects "VillageHallsModel" ({ cls := "VillageHallsModel", name := "funeral", desc := "(IIIIII)I" } : Jvm.MethodName) ({ cls := "VillageHallsModel", name := "funeral", desc := "(IIIIII)I" } : Jvm.MethodName)) ∈ lw_all := lw_g (lw_at lw_m8 120 rfl) rfl
theorem q1870 : (Jvm.Cond.code ({ cls := "VillageHallsModel", name := "funeral", desc := "(IIIIII)I" } : Jvm.MethodName) prog_19_method_49_code (13 : Nat) (Option.some Jvm.ClassFile.FieldType.int)) ∈ lw_all := lw_g (lw_at lw_m8 121 rfl) rfl
theorem q1871 : (Jvm.Cond.constantLong "VillageHallsModel" (323 : Nat) (500 : Int64)) ∈ lw_all := lw_g (lw_at lw_m8 122 rfl) rfl
theorem q1872 : (Jvm.Cond.constantLong "VillageHallsModel" (325 : Nat) (18 : Int64)) ∈ lw_all := lw_g (lw_at lw_m8 123 rfl) rfl
theorem q1873 : (Jvm.Cond.methodLink "VillageHallsModel" (327 : Nat) ({ cls := "VillageHallsModel", name := "clashing", desc := "(IIIIII)I" } : Jvm.MethodName)) ∈ lw_all := lw_g (lw_at lw_m8 124 rfl) rfl
theorem q1874 : (Jvm.Cond.privateMethod ({ cls := "VillageHallsModel", name := "clashing", desc := "(IIIIII)I" } : Jvm.MethodName)) ∈ lw_tbl := lw_at lw_m8 125 rfl
theorem q1875 : (Jvm.Cond.instanceMethod ({ cls := "VillageHallsModel", name := "clashing", desc := "(IIIIII)I" } : Jvm.MethodName)) ∈ lw_all := lw_g (lw_at lw_m8 126 rfl) rfl
theorem q1876 : (Jvm.Cond.code ({ cls := "VillageHallsModel", name := "clashing", desc := "(IIIIII)I" } : Jvm.MethodName) prog_19_method_46_code (10 : Nat) (Option.some Jvm.ClassFile.FieldType.int)) ∈ lw_all := lw_g (lw_at lw_m8 127 rfl) rfl
theorem q1877 : (Jvm.Cond.methodLink "VillageHallsModel" (331 : Nat) ({ cls := "VillageHallsModel", name := "bits", desc := "(I)I" } : Jvm.MethodName)) ∈ lw_all := lw_g (lw_at lw_m8 128 rfl) rfl
theorem q1878 : (Jvm.Cond.static ({ cls := "VillageHallsModel", name := "bits", desc := "(I)I" } : Jvm.MethodName)) ∈ lw_all := lw_g (lw_at lw_m8 129 rfl) rfl
theorem q1879 : (Jvm.Cond.code ({ cls := "VillageHallsModel", name := "bits", desc := "(I)I" } : Jvm.MethodName) prog_19_method_47_code (3 : Nat) (Option.some Jvm.ClassFile.FieldType.int)) ∈ lw_all := lw_g (lw_at lw_m8 130 rfl) rfl
theorem q1880 : (Jvm.Cond.methodLink "VillageHallsModel" (334 : Nat) ({ cls := "VillageHallsModel", name := "isFree", desc := "(IIIIIIII)Z" } : Jvm.MethodName)) ∈ lw_all := lw_g (lw_at lw_m8 131 rfl) rfl
theorem q1881 : (Jvm.Cond.privateMethod ({ cls := "VillageHallsModel", name := "isFree", desc := "(IIIIIIII)Z" } : Jvm.MethodName)) ∈ lw_tbl := lw_at lw_m8 132 rfl
theorem q1882 : (Jvm.Cond.instanceMethod ({ cls := "VillageHallsModel", name := "isFree", desc := "(IIIIIIII)Z" } : Jvm.MethodName)) ∈ lw_all := lw_g (lw_at lw_m8 133 rfl) rfl
theorem q1883 : (Jvm.Cond.code ({ cls := "VillageHallsModel", name := "isFree", desc := "(IIIIIIII)Z" } : Jvm.MethodName) prog_19_method_48_code (12 : Nat) (Option.some Jvm.ClassFile.FieldType.boolean)) ∈ lw_all := lw_g (lw_at lw_m8 134 rfl) rfl
theorem q1885 : (Jvm.Cond.instanceMethod ({ cls := "VillageHallsModel", name := "coin", desc := "(IIII)I" } : Jvm.MethodName)) ∈ lw_all := lw_g (lw_at lw_m8 136 rfl) rfl
theorem q1886 : (Jvm.Cond.selects "VillageHallsModel" ({ cls := "VillageHallsModel", name := "coin", desc := "(IIII)I" } : Jvm.MethodName) ({ cls := "VillageHallsModel", name := "coin", desc := "(IIII)I" } : Jvm.MethodName)) ∈ lw_all := lw_g (lw_at lw_m8 137 rfl) rfl
theorem q1887 : (Jvm.Cond.code ({ cls := "VillageHallsModel", name := "coin", desc := "(IIII)I" } : Jvm.MethodName) prog_19_method_50_code (5 : Nat) (Option.some Jvm.ClassFile.FieldType.int)) ∈ lw_all := lw_g (lw_at lw_m8 138 rfl) rfl
theorem q1888 : (Jvm.Cond.constantLong "VillageHallsModel" (338 : Nat) (600 : Int64)) ∈ lw_all := lw_g (lw_at lw_m8 139 rfl) rfl
theorem q1890 : (Jvm.Cond.instanceMethod ({ cls := "VillageHallsModel", name := "run", desc := "(III)I" } : Jvm.MethodName)) ∈ lw_all := lw_g (lw_at lw_m8 141 rfl) rfl
theorem q1891 : (Jvm.Cond.selects "VillageHallsModel" ({ cls := "VillageHallsModel", name := "run", desc := "(III)I" } : Jvm.MethodName) ({ cls := "VillageHallsModel", name := "run", desc := "(III)I" } : Jvm.MethodName)) ∈ lw_all := lw_g (lw_at lw_m8 142 rfl) rfl
theorem q1892 : (Jvm.Cond.code ({ cls := "VillageHallsModel", name := "run", desc := "(III)I" } : Jvm.MethodName) prog_19_method_53_code (4 : Nat) (Option.some Jvm.ClassFile.FieldType.int)) ∈ lw_all := lw_g (lw_at lw_m8 143 rfl) rfl
theorem q1893 : (Jvm.Cond.methodLink "VillageHallsModel" (343 : Nat) ({ cls := "VillageHallsModel", name := "isTime", desc := "(III)Z" } : Jvm.MethodName)) ∈ lw_all := lw_g (lw_at lw_m8 144 rfl) rfl
theorem q1894 : (Jvm.Cond.static ({ cls := "VillageHallsModel", name := "isTime", desc := "(III)Z" } : Jvm.MethodName)) ∈ lw_all := lw_g (lw_at lw_m8 145 rfl) rfl
theorem q1895 : (Jvm.Cond.code ({ cls := "VillageHallsModel", name := "isTime", desc := "(III)Z" } : Jvm.MethodName) prog_19_method_52_code (3 : Nat) (Option.some Jvm.ClassFile.FieldType.boolean)) ∈ lw_all := lw_g (lw_at lw_m8 146 rfl) rfl
theorem q1896 : (Jvm.Cond.methodLink "VillageHallsModel" (346 : Nat) ({ cls := "VillageHallsModel", name := "runTill", desc := "(II)I" } : Jvm.MethodName)) ∈ lw_all := lw_g (lw_at lw_m8 147 rfl) rfl
theorem q1897 : (Jvm.Cond.privateMethod ({ cls := "VillageHallsModel", name := "runTill", desc := "(II)I" } : Jvm.MethodName)) ∈ lw_tbl := lw_at lw_m8 148 rfl
theorem q1898 : (Jvm.Cond.instanceMethod ({ cls := "VillageHallsModel", name := "runTill", desc := "(II)I" } : Jvm.MethodName)) ∈ lw_all := lw_g (lw_at lw_m8 149 rfl) rfl
theorem q1899 : (Jvm.Cond.code ({ cls := "VillageHallsModel", name := "runTill", desc := "(II)I" } : Jvm.MethodName) prog_19_method_51_code (11 : Nat) (Option.some Jvm.ClassFile.FieldType.int)) ∈ lw_all := lw_g (lw_at lw_m8 150 rfl) rfl
theorem q1901 : (Jvm.Cond.instanceMethod ({ cls := "VillageHallsModel", name := "meter", desc := "(IIII)I" } : Jvm.MethodName)) ∈ lw_all := lw_g (lw_at lw_m8 152 rfl) rfl
theorem q1902 : (Jvm.Cond.selects "VillageHallsModel" ({ cls := "VillageHallsModel", name := "meter", desc := "(IIII)I" } : Jvm.MethodName) ({ cls := "VillageHallsModel", name := "meter", desc := "(IIII)I" } : Jvm.MethodName)) ∈ lw_all := lw_g (lw_at lw_m8 153 rfl) rfl
theorem q1903 : (Jvm.Cond.code ({ cls := "VillageHallsModel", name := "meter", desc := "(IIII)I" } : Jvm.MethodName) prog_19_method_54_code (5 : Nat) (Option.some Jvm.ClassFile.FieldType.int)) ∈ lw_all := lw_g (lw_at lw_m8 154 rfl) rfl
theorem q1904 : (Jvm.Cond.constantLong "VillageHallsModel" (349 : Nat) (100000 : Int64)) ∈ lw_all := lw_g (lw_at lw_m8 155 rfl) rfl
theorem q1905 : (Jvm.Cond.constantLong "VillageHallsModel" (351 : Nat) (-15 : Int64)) ∈ lw_all := lw_g (lw_at lw_m8 156 rfl) rfl
theorem q1906 : (Jvm.Cond.constantLong "VillageHallsModel" (353 : Nat) (15 : Int64)) ∈ lw_all := lw_g (lw_at lw_m8 157 rfl) rfl
theorem q1908 : (Jvm.Cond.instanceMethod ({ cls := "VillageHallsModel", name := "give", desc := "(IIII)I" } : Jvm.MethodName)) ∈ lw_all := lw_g (lw_at lw_m8 159 rfl) rfl
theorem q1909 : (Jvm.Cond.selects "VillageHallsModel" ({ cls := "VillageHallsModel", name := "give", desc := "(IIII)I" } : Jvm.MethodName) ({ cls := "VillageHallsModel", name := "give", desc := "(IIII)I" } : Jvm.MethodName)) ∈ lw_all := lw_g (lw_at lw_m8 160 rfl) rfl
theorem q1910 : (Jvm.Cond.code ({ cls := "VillageHallsModel", name := "give", desc := "(IIII)I" } : Jvm.MethodName) prog_19_method_55_code (5 : Nat) (Option.some Jvm.ClassFile.FieldType.int)) ∈ lw_all := lw_g (lw_at lw_m8 161 rfl) rfl
theorem q1912 : (Jvm.Cond.instanceMethod ({ cls := "VillageHallsModel", name := "key", desc := "(III)I" } : Jvm.MethodName)) ∈ lw_all := lw_g (lw_at lw_m8 163 rfl) rfl
theorem q1913 : (Jvm.Cond.selects "VillageHallsModel" ({ cls := "VillageHallsModel", name := "key", desc := "(III)I" } : Jvm.MethodName) ({ cls := "VillageHallsModel", name := "key", desc := "(III)I" } : Jvm.MethodName)) ∈ lw_all := lw_g (lw_at lw_m8 164 rfl) rfl
theorem q1914 : (Jvm.Cond.code ({ cls := "VillageHallsModel", name := "key", desc := "(III)I" } : Jvm.MethodName) prog_19_method_56_code (9 : Nat) (Option.some Jvm.ClassFile.FieldType.int)) ∈ lw_all := lw_g (lw_at lw_m8 165 rfl) rfl
theorem q1916 : (Jvm.Cond.instanceMethod ({ cls := "VillageHallsModel", name := "look", desc := "(IIII)I" } : Jvm.MethodName)) ∈ lw_all := lw_g (lw_at lw_m8 167 rfl) rfl
theorem q1917 : (Jvm.Cond.selects "VillageHallsModel" ({ cls := "VillageHallsModel", name := "look", desc := "(IIII)I" } : Jvm.MethodName) ({ cls := "VillageHallsModel", name := "look", desc := "(IIII)I" } : Jvm.MethodName)) ∈ lw_all := lw_g (lw_at lw_m8 168 rfl) rfl
theorem q1918 : (Jvm.Cond.code ({ cls := "VillageHallsModel", name := "look", desc := "(IIII)I" } : Jvm.MethodName) prog_19_method_57_code (5 : Nat) (Option.some Jvm.ClassFile.FieldType.int)) ∈ lw_all := lw_g (lw_at lw_m8 169 rfl) rfl
theorem q1920 : (Jvm.Cond.instanceMethod ({ cls := "VillageHallsModel", name := "home", desc := "(II)I" } : Jvm.MethodName)) ∈ lw_all := lw_g (lw_at lw_m8 171 rfl) rfl
theorem q1921 : (Jvm.Cond.selects "VillageHallsModel" ({ cls := "VillageHallsModel", name := "home", desc := "(II)I" } : Jvm.MethodName) ({ cls := "VillageHallsModel", name := "home", desc := "(II)I" } : Jvm.MethodName)) ∈ lw_all := lw_g (lw_at lw_m8 172 rfl) rfl
theorem q1922 : (Jvm.Cond.code ({ cls := "VillageHallsModel", name := "home", desc := "(II)I" } : Jvm.MethodName) prog_19_method_58_code (10 : Nat) (Option.some Jvm.ClassFile.FieldType.int)) ∈ lw_all := lw_g (lw_at lw_m8 173 rfl) rfl
theorem q1924 : (Jvm.Cond.instanceMethod ({ cls := "VillageHallsModel", name := "meeting", desc := "(IIIII)I" } : Jvm.MethodName)) ∈ lw_all := lw_g (lw_at lw_m8 175 rfl) rfl
theorem q1925 : (Jvm.Cond.selects "VillageHallsModel" ({ cls := "VillageHallsModel", name := "meeting", desc := "(IIIII)I" } : Jvm.MethodName) ({ cls := "VillageHallsModel", name := "meeting", desc := "(IIIII)I" } : Jvm.MethodName)) ∈ lw_all := lw_g (lw_at lw_m8 176 rfl) rfl
theorem q1926 : (Jvm.Cond.code ({ cls := "VillageHallsModel", name := "meeting", desc := "(IIIII)I" } : Jvm.MethodName) prog_19_method_59_code (6 : Nat) (Option.some Jvm.ClassFile.FieldType.int)) ∈ lw_all := lw_g (lw_at lw_m8 177 rfl) rfl
theorem q1927 : (Jvm.Cond.constantLong "VillageHallsModel" (361 : Nat) (99 : Int64)) ∈ lw_all := lw_g (lw_at lw_m8 178 rfl) rfl
theorem q1929 : (Jvm.Cond.instanceMethod ({ cls := "VillageHallsModel", name := "met", desc := "(II)I" } : Jvm.MethodName)) ∈ lw_all := lw_g (lw_at lw_m8 180 rfl) rfl
theorem q1930 : (Jvm.Cond.selects "VillageHallsModel" ({ cls := "VillageHallsModel", name := "met", desc := "(II)I" } : Jvm.MethodName) ({ cls := "VillageHallsModel", name := "met", desc := "(II)I" } : Jvm.MethodName)) ∈ lw_all := lw_g (lw_at lw_m8 181 rfl) rfl
theorem q1931 : (Jvm.Cond.code ({ cls := "VillageHallsModel", name := "met", desc := "(II)I" } : Jvm.MethodName) prog_19_method_61_code (6 : Nat) (Option.some Jvm.ClassFile.FieldType.int)) ∈ lw_all := lw_g (lw_at lw_m8 182 rfl) rfl
theorem q1932 : (Jvm.Cond.methodLink "VillageHallsModel" (366 : Nat) ({ cls := "VillageHallsModel", name := "isValid", desc := "(I)Z" } : Jvm.MethodName)) ∈ lw_all := lw_g (lw_at lw_m8 183 rfl) rfl
theorem q1933 : (Jvm.Cond.privateMethod ({ cls := "VillageHallsModel", name := "isValid", desc := "(I)Z" } : Jvm.MethodName)) ∈ lw_tbl := lw_at lw_m8 184 rfl
theorem q1934 : (Jvm.Cond.instanceMethod ({ cls := "VillageHallsModel", name := "isValid", desc := "(I)Z" } : Jvm.MethodName)) ∈ lw_all := lw_g (lw_at lw_m8 185 rfl) rfl
theorem q1935 : (Jvm.Cond.code ({ cls := "VillageHallsModel", name := "isValid", desc := "(I)Z" } : Jvm.MethodName) prog_19_method_60_code (4 : Nat) (Option.some Jvm.ClassFile.FieldType.boolean)) ∈ lw_all := lw_g (lw_at lw_m8 186 rfl) rfl
theorem q1937 : (Jvm.Cond.instanceMethod ({ cls := "VillageHallsModel", name := "day", desc := "(I)I" } : Jvm.MethodName)) ∈ lw_all := lw_g (lw_at lw_m8 188 rfl) rfl
theorem q1938 : (Jvm.Cond.selects "VillageHallsModel" ({ cls := "VillageHallsModel", name := "day", desc := "(I)I" } : Jvm.MethodName) ({ cls := "VillageHallsModel", name := "day", desc := "(I)I" } : Jvm.MethodName)) ∈ lw_all := lw_g (lw_at lw_m8 189 rfl) rfl
theorem q1939 : (Jvm.Cond.code ({ cls := "VillageHallsModel", name := "day", desc := "(I)I" } : Jvm.MethodName) prog_19_method_62_code (3 : Nat) (Option.some Jvm.ClassFile.FieldType.int)) ∈ lw_all := lw_g (lw_at lw_m8 190 rfl) rfl
theorem q1941 : (Jvm.Cond.instanceMethod ({ cls := "VillageHallsModel", name := "kind", desc := "(I)I" } : Jvm.MethodName)) ∈ lw_all := lw_g (lw_at lw_m8 192 rfl) rfl
theorem q1942 : (Jvm.Cond.selects "VillageHallsModel" ({ cls := "VillageHallsModel", name := "kind", desc := "(I)I" } : Jvm.MethodName) ({ cls := "VillageHallsModel", name := "kind", desc := "(I)I" } : Jvm.MethodName)) ∈ lw_all := lw_g (lw_at lw_m8 193 rfl) rfl
theorem q1943 : (Jvm.Cond.code ({ cls := "VillageHallsModel", name := "kind", desc := "(I)I" } : Jvm.MethodName) prog_19_method_65_code (2 : Nat) (Option.some Jvm.ClassFile.FieldType.int)) ∈ lw_all := lw_g (lw_at lw_m8 194 rfl) rfl
theorem q1944 : (Jvm.Cond.methodLink "VillageHallsModel" (369 : Nat) ({ cls := "VillageHallsModel", name := "kindOf", desc := "(I)I" } : Jvm.MethodName)) ∈ lw_all := lw_g (lw_at lw_m8 195 rfl) rfl
theorem q1945 : (Jvm.Cond.privateMethod ({ cls := "VillageHallsModel", name := "kindOf", desc := "(I)I" } : Jvm.MethodName)) ∈ lw_tbl := lw_at lw_m8 196 rfl
theorem q1946 : (Jvm.Cond.instanceMethod ({ cls := "VillageHallsModel", name := "kindOf", desc := "(I)I" } : Jvm.MethodName)) ∈ lw_all := lw_g (lw_at lw_m8 197 rfl) rfl
theorem q1947 : (Jvm.Cond.code ({ cls := "VillageHallsModel", name := "kindOf", desc := "(I)I" } : Jvm.MethodName) prog_19_method_63_code (2 : Nat) (Option.some Jvm.ClassFile.FieldType.int)) ∈ lw_all := lw_g (lw_at lw_m8 198 rfl) rfl
theorem q1949 : (Jvm.Cond.instanceMethod ({ cls := "VillageHallsModel", name := "as", desc := "(II)I" } : Jvm.MethodName)) ∈ lw_all := lw_g (lw_at lw_m8 200 rfl) rfl
theorem q1950 : (Jvm.Cond.selects "VillageHallsModel" ({ cls := "VillageHallsModel", name := "as", desc := "(II)I" } : Jvm.MethodName) ({ cls := "VillageHallsModel", name := "as", desc := "(II)I" } : Jvm.MethodName)) ∈ lw_all := lw_g (lw_at lw_m8 201 rfl) rfl
theorem q1951 : (Jvm.Cond.code ({ cls := "VillageHallsModel", name := "as", desc := "(II)I" } : Jvm.MethodName) prog_19_method_66_code (3 : Nat) (Option.some Jvm.ClassFile.FieldType.int)) ∈ lw_all := lw_g (lw_at lw_m8 202 rfl) rfl
theorem q1952 : (Jvm.Cond.methodLink "VillageHallsModel" (372 : Nat) ({ cls := "VillageHallsModel", name := "isOf", desc := "(II)Z" } : Jvm.MethodName)) ∈ lw_all := lw_g (lw_at lw_m8 203 rfl) rfl
theorem q1953 : (Jvm.Cond.static ({ cls := "VillageHallsModel", name := "isOf", desc := "(II)Z" } : Jvm.MethodName)) ∈ lw_all := lw_g (lw_at lw_m8 204 rfl) rfl
theorem q1954 : (Jvm.Cond.code ({ cls := "VillageHallsModel", name := "isOf", desc := "(II)Z" } : Jvm.MethodName) prog_19_method_64_code (2 : Nat) (Option.some Jvm.ClassFile.FieldType.boolean)) ∈ lw_all := lw_g (lw_at lw_m8 205 rfl) rfl
theorem q1956 : (Jvm.Cond.instanceMethod ({ cls := "VillageHallsModel", name := "ask", desc := "(II)I" } : Jvm.MethodName)) ∈ lw_all := lw_g (lw_at lw_m8 207 rfl) rfl
theorem q1957 : (Jvm.Cond.selects "VillageHallsModel" ({ cls := "VillageHallsModel", name := "ask", desc := "(II)I" } : Jvm.MethodName) ({ cls := "VillageHallsModel", name := "ask", desc := "(II)I" } : Jvm.MethodName)) ∈ lw_all := lw_g (lw_at lw_m8 208 rfl) rfl
theorem q1958 : (Jvm.Cond.code ({ cls := "VillageHallsModel", name := "ask", desc := "(II)I" } : Jvm.MethodName) prog_19_method_71_code (4 : Nat) (Option.some Jvm.ClassFile.FieldType.int)) ∈ lw_all := lw_g (lw_at lw_m8 209 rfl) rfl
theorem q1959 : (Jvm.Cond.methodLink "VillageHallsModel" (387 : Nat) ({ cls := "VillageHallsModel", name := "sizeOf", desc := "(II)I" } : Jvm.MethodName)) ∈ lw_all := lw_g (lw_at lw_m8 210 rfl) rfl
theorem q1960 : (Jvm.Cond.privateMethod ({ cls := "VillageHallsModel", name := "sizeOf", desc := "(II)I" } : Jvm.MethodName)) ∈ lw_tbl := lw_at lw_m8 211 rfl
theorem q1961 : (Jvm.Cond.instanceMethod ({ cls := "VillageHallsModel", name := "sizeOf", desc := "(II)I" } : Jvm.MethodName)) ∈ lw_all := lw_g (lw_at lw_m8 212 rfl) rfl
theorem q1962 : (Jvm.Cond.code ({ cls := "VillageHallsModel", name := "sizeOf", desc := "(II)I" } : Jvm.MethodName) prog_19_method_70_code (3 : Nat) (Option.some Jvm.ClassFile.FieldType.int)) ∈ lw_all := lw_g (lw_at lw_m8 213 rfl) rfl
theorem q1963 : (Jvm.Cond.methodLink "VillageHallsModel" (381 : Nat) ({ cls := "VillageHallsModel", name := "sizeHeld", desc := "(II)I" } : Jvm.MethodName)) ∈ lw_all := lw_g (lw_at lw_m8 214 rfl) rfl
theorem q1964 : (Jvm.Cond.privateMethod ({ cls := "VillageHallsModel", name := "sizeHeld", desc := "(II)I" } : Jvm.MethodName)) ∈ lw_tbl := lw_at lw_m8 215 rfl
theorem q1965 : (Jvm.Cond.instanceMethod ({ cls := "VillageHallsModel", name := "sizeHeld", desc := "(II)I" } : Jvm.MethodName)) ∈ lw_all := lw_g (lw_at lw_m8 216 rfl) rfl
theorem q1966 : (Jvm.Cond.code ({ cls := "VillageHallsModel", name := "sizeHeld", desc := "(II)I" } : Jvm.MethodName) prog_19_method_68_code (4 : Nat) (Option.some Jvm.ClassFile.FieldType.int)) ∈ lw_all := lw_g (lw_at lw_m8 217 rfl) rfl
theorem q1967 : (Jvm.Cond.methodLink "VillageHallsModel" (378 : Nat) ({ cls := "VillageHallsModel", name := "began", desc := "(I)V" } : Jvm.MethodName)) ∈ lw_all := lw_g (lw_at lw_m8 218 rfl) rfl
theorem q1968 : (Jvm.Cond.privateMethod ({ cls := "VillageHallsModel", name := "began", desc := "(I)V" } : Jvm.MethodName)) ∈ lw_tbl := lw_at lw_m8 219 rfl
theorem q1969 : (Jvm.Cond.instanceMethod ({ cls := "VillageHallsModel", name := "began", desc := "(I)V" } : Jvm.MethodName)) ∈ lw_all := lw_g (lw_at lw_m8 220 rfl) rfl
theorem q1970 : (Jvm.Cond.code ({ cls := "VillageHallsModel", name := "began", desc := "(I)V" } : Jvm.MethodName) prog_19_method_67_code (2 : Nat) (Option.none : Option Jvm.ClassFile.FieldType)) ∈ lw_all := lw_g (lw_at lw_m8 221 rfl) rfl
theorem q1971 : (Jvm.Cond.methodLink "VillageHallsModel" (384 : Nat) ({ cls := "VillageHallsModel", name := "markOf", desc := "(II)I" } : Jvm.MethodName)) ∈ lw_all := lw_g (lw_at lw_m8 222 rfl) rfl
theorem q1972 : (Jvm.Cond.privateMethod ({ cls := "VillageHallsModel", name := "markOf", desc := "(II)I" } : Jvm.MethodName)) ∈ lw_tbl := lw_at lw_m8 223 rfl
theorem q1973 : (Jvm.Cond.instanceMethod ({ cls := "VillageHallsModel", name := "markOf", desc := "(II)I" } : Jvm.MethodName)) ∈ lw_all := lw_g (lw_at lw_m8 224 rfl) rfl
theorem q1974 : (Jvm.Cond.code ({ cls := "VillageHallsModel", name := "markOf", desc := "(II)I" } : Jvm.MethodName) prog_19_method_69_code (4 : Nat) (Option.some Jvm.ClassFile.FieldType.int)) ∈ lw_all := lw_g (lw_at lw_m8 225 rfl) rfl
theorem q1976 : (Jvm.Cond.instanceMethod ({ cls := "VillageHallsModel", name := "trace", desc := "(I)I" } : Jvm.MethodName)) ∈ lw_all := lw_g (lw_at lw_m8 227 rfl) rfl
theorem q1977 : (Jvm.Cond.selects "VillageHallsModel" ({ cls := "VillageHallsModel", name := "trace", desc := "(I)I" } : Jvm.MethodName) ({ cls := "VillageHallsModel", name := "trace", desc := "(I)I" } : Jvm.MethodName)) ∈ lw_all := lw_g (lw_at lw_m8 228 rfl) rfl
theorem q1978 : (Jvm.Cond.code ({ cls := "VillageHallsModel", name := "trace", desc := "(I)I" } : Jvm.MethodName) prog_19_method_72_code (2 : Nat) (Option.some Jvm.ClassFile.FieldType.int)) ∈ lw_all := lw_g (lw_at lw_m8 229 rfl) rfl
theorem q1980 : (Jvm.Cond.instanceMethod ({ cls := "VillageHallsModel", name := "count", desc := "(I)I" } : Jvm.MethodName)) ∈ lw_all := lw_g (lw_at lw_m8 231 rfl) rfl
theorem q1981 : (Jvm.Cond.selects "VillageHallsModel" ({ cls := "VillageHallsModel", name := "count", desc := "(I)I" } : Jvm.MethodName) ({ cls := "VillageHallsModel", name := "count", desc := "(I)I" } : Jvm.MethodName)) ∈ lw_all := lw_g (lw_at lw_m8 232 rfl) rfl
theorem q1982 : (Jvm.Cond.code ({ cls := "VillageHallsModel", name := "count", desc := "(I)I" } : Jvm.MethodName) prog_19_method_73_code (4 : Nat) (Option.some Jvm.ClassFile.FieldType.int)) ∈ lw_all := lw_g (lw_at lw_m8 233 rfl) rfl
theorem q1984 : (Jvm.Cond.instanceMethod ({ cls := "VillageHallsModel", name := "status", desc := "()I" } : Jvm.MethodName)) ∈ lw_all := lw_g (lw_at lw_m8 235 rfl) rfl
theorem q1985 : (Jvm.Cond.selects "VillageHallsModel" ({ cls := "VillageHallsModel", name := "status", desc := "()I" } : Jvm.MethodName) ({ cls := "VillageHallsModel", name := "status", desc := "()I" } : Jvm.MethodName)) ∈ lw_all := lw_g (lw_at lw_m8 236 rfl) rfl
theorem q1986 : (Jvm.Cond.code ({ cls := "VillageHallsModel", name := "status", desc := "()I" } : Jvm.MethodName) prog_19_method_74_code (1 : Nat) (Option.some Jvm.ClassFile.FieldType.int)) ∈ lw_all := lw_g (lw_at lw_m8 237 rfl) rfl
theorem q2012 : (Jvm.Cond.castable "VillageHallsModel" "java/lang/Object") ∈ lw_tbl := lw_at lw_m9 23 rfl
theorem in_X3 : ∀ w ∈ wsX30, w ∈ lw_all := lw_in wsX30 [1557, 1559, 1561, 1563, 1565, 1567, 1569, 1571, 1573, 1575, 1577, 1579, 1581, 1583, 1585, 1587, 1589, 1591, 1593, 1595, 1597, 1599, 1601, 1603, 1605, 1607, 1609, 1611, 1613, 1615, 1617, 1619, 1621, 1623, 1625, 1627, 1629, 1631, 1633, 1635, 1637, 1639, 1641, 1643, 1645, 1647, 1649, 1651, 1653, 1655, 1657, 1659, 1661, 1663] (by decide +kernel) (by decide +kernel)
