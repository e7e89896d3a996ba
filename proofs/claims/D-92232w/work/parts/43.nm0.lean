/-! VillageHalls -/
set_option maxRecDepth 100000
def RX0 : String := "VillageHalls"
def TX0 : u_T := fun k => match k with
  | 0 => ("VillageHalls", "sheets", "[LVillageHalls$Sheet;", true)
  | 1 => ("VillageHalls", "halls", "[LVillageHalls$Hall;", true)
  | 2 => ("VillageHalls", "bookings", "Ljava/util/List;", true)
  | 3 => ("VillageHalls", "coins", "Ljava/util/List;", true)
  | 4 => ("VillageHalls", "keys", "Ljava/util/List;", true)
  | 5 => ("VillageHalls", "looks", "Ljava/util/List;", true)
  | 6 => ("VillageHalls", "meetings", "Ljava/util/List;", true)
  | 7 => ("VillageHalls", "tape", "[B", true)
  | 8 => ("VillageHalls", "taped", "I", false)
  | 9 => ("VillageHalls", "faultKind", "I", false)
  | 10 => ("VillageHalls", "today", "I", false)
  | 11 => ("VillageHalls", "trail", "LVillageHalls$Trail;", false)
  | 12 => ("VillageHalls", "status", "I", false)
  | 13 => ("VillageHalls", "turn", "[LVillageHalls$Booking;", true)
  | _ => ("VillageHalls", "against", "[I", true)
def tyX0 : Nat → FieldType := fun k => match k with
  | 0 => .array (.object "VillageHalls$Sheet")
  | 1 => .array (.object "VillageHalls$Hall")
  | 2 => .object "java/util/List"
  | 3 => .object "java/util/List"
  | 4 => .object "java/util/List"
  | 5 => .object "java/util/List"
  | 6 => .object "java/util/List"
  | 7 => .array .byte
  | 8 => .int
  | 9 => .int
  | 10 => .int
  | 11 => .object "VillageHalls$Trail"
  | 12 => .int
  | 13 => .array (.object "VillageHalls$Booking")
  | _ => .array .int
abbrev wsX00 : List Cond := u_ws RX0 TX0 15
set_option maxRecDepth 100000 in
theorem nmX0 : ∀ a, a < 15 → ∀ b, b < 15 → a ≠ b → (TX0 a).2.1 ≠ (TX0 b).2.1 := by decide +kernel
set_option maxRecDepth 100000 in
theorem tyX0_ok : ∀ k, k < 15 → parseFieldDescriptor (TX0 k).2.2.1 = some (tyX0 k) := by decide +kernel
abbrev cX0_init : ByteArray := prog_1_method_4_code
def yX0_init : MethodName := ⟨RX0, "<init>", "()V"⟩
def dkwX0_init_6 : List UInt8 := [167, 255, 235, 177]
abbrev dktX0_init_6 : List UInt8 := dkwX0_init_6 ++ []
def dkwX0_init_5 : List UInt8 := [60, 27, 7, 162, 0, 22, 42, 180, 0, 33, 27, 187, 0, 41, 89, 183, 0, 128, 83, 132, 1, 1]
abbrev dktX0_init_5 : List UInt8 := dkwX0_init_5 ++ dktX0_init_6
def dkwX0_init_4 : List UInt8 := [183, 0, 116, 181, 0, 117, 42, 16, 16, 189, 0, 13, 181, 0, 121, 42, 16, 16, 188, 10, 181, 0, 125, 3]
abbrev dktX0_init_4 : List UInt8 := dkwX0_init_4 ++ dktX0_init_5
def dkwX0_init_3 : List UInt8 := [187, 0, 95, 89, 183, 0, 97, 181, 0, 107, 42, 17, 1, 144, 188, 8, 181, 0, 110, 42, 187, 0, 114, 89]
abbrev dktX0_init_3 : List UInt8 := dkwX0_init_3 ++ dktX0_init_4
def dkwX0_init_2 : List UInt8 := [187, 0, 95, 89, 183, 0, 97, 181, 0, 101, 42, 187, 0, 95, 89, 183, 0, 97, 181, 0, 104, 42]
abbrev dktX0_init_2 : List UInt8 := dkwX0_init_2 ++ dktX0_init_3
def dkwX0_init_1 : List UInt8 := [187, 0, 95, 89, 183, 0, 97, 181, 0, 1, 42, 187, 0, 95, 89, 183, 0, 97, 181, 0, 98, 42]
abbrev dktX0_init_1 : List UInt8 := dkwX0_init_1 ++ dktX0_init_2
def dkwX0_init_0 : List UInt8 := [42, 183, 0, 84, 42, 16, 8, 189, 0, 89, 181, 0, 91, 42, 7, 189, 0, 41, 181, 0, 33, 42]
abbrev dktX0_init_0 : List UInt8 := dkwX0_init_0 ++ dktX0_init_1
theorem dksX0_init_0 : cX0_init.data.toList.drop 0 = dktX0_init_0 := by decide +kernel
theorem dksX0_init_1 : cX0_init.data.toList.drop 22 = dktX0_init_1 := dk_seg dksX0_init_0 22 rfl rfl
theorem dksX0_init_2 : cX0_init.data.toList.drop 44 = dktX0_init_2 := dk_seg dksX0_init_1 22 rfl rfl
theorem dksX0_init_3 : cX0_init.data.toList.drop 66 = dktX0_init_3 := dk_seg dksX0_init_2 22 rfl rfl
theorem dksX0_init_4 : cX0_init.data.toList.drop 90 = dktX0_init_4 := dk_seg dksX0_init_3 24 rfl rfl
theorem dksX0_init_5 : cX0_init.data.toList.drop 114 = dktX0_init_5 := dk_seg dksX0_init_4 24 rfl rfl
theorem dksX0_init_6 : cX0_init.data.toList.drop 136 = dktX0_init_6 := dk_seg dksX0_init_5 22 rfl rfl
theorem dX0_init_0 : decode cX0_init 0 = .ok (.aload_n 0, 1) := dk_42 (dk_at dksX0_init_0 0 rfl rfl)
theorem dX0_init_1 : decode cX0_init 1 = .ok (.invokespecial 84, 3) := dk_183 0 84 (dk_at dksX0_init_0 1 rfl rfl)
theorem dX0_init_4 : decode cX0_init 4 = .ok (.aload_n 0, 1) := dk_42 (dk_at dksX0_init_0 4 rfl rfl)
theorem dX0_init_5 : decode cX0_init 5 = .ok (.bipush 8, 2) := dk_16 8 (dk_at dksX0_init_0 5 rfl rfl)
theorem dX0_init_7 : decode cX0_init 7 = .ok (.anewarray 89, 3) := dk_189 0 89 (dk_at dksX0_init_0 7 rfl rfl)
theorem dX0_init_10 : decode cX0_init 10 = .ok (.putfield 91, 3) := dk_181 0 91 (dk_at dksX0_init_0 10 rfl rfl)
theorem dX0_init_13 : decode cX0_init 13 = .ok (.aload_n 0, 1) := dk_42 (dk_at dksX0_init_0 13 rfl rfl)
theorem dX0_init_14 : decode cX0_init 14 = .ok (.iconst 4, 1) := dk_7 (dk_at dksX0_init_0 14 rfl rfl)
theorem dX0_init_15 : decode cX0_init 15 = .ok (.anewarray 41, 3) := dk_189 0 41 (dk_at dksX0_init_0 15 rfl rfl)
theorem dX0_init_18 : decode cX0_init 18 = .ok (.putfield 33, 3) := dk_181 0 33 (dk_at dksX0_init_0 18 rfl rfl)
theorem dX0_init_21 : decode cX0_init 21 = .ok (.aload_n 0, 1) := dk_42 (dk_at dksX0_init_0 21 rfl rfl)
theorem dX0_init_22 : decode cX0_init 22 = .ok (.new 95, 3) := dk_187 0 95 (dk_at dksX0_init_1 0 rfl rfl)
theorem dX0_init_25 : decode cX0_init 25 = .ok (.dup, 1) := dk_89 (dk_at dksX0_init_1 3 rfl rfl)
theorem dX0_init_26 : decode cX0_init 26 = .ok (.invokespecial 97, 3) := dk_183 0 97 (dk_at dksX0_init_1 4 rfl rfl)
theorem dX0_init_29 : decode cX0_init 29 = .ok (.putfield 1, 3) := dk_181 0 1 (dk_at dksX0_init_1 7 rfl rfl)
theorem dX0_init_32 : decode cX0_init 32 = .ok (.aload_n 0, 1) := dk_42 (dk_at dksX0_init_1 10 rfl rfl)
theorem dX0_init_33 : decode cX0_init 33 = .ok (.new 95, 3) := dk_187 0 95 (dk_at dksX0_init_1 11 rfl rfl)
theorem dX0_init_36 : decode cX0_init 36 = .ok (.dup, 1) := dk_89 (dk_at dksX0_init_1 14 rfl rfl)
theorem dX0_init_37 : decode cX0_init 37 = .ok (.invokespecial 97, 3) := dk_183 0 97 (dk_at dksX0_init_1 15 rfl rfl)
theorem dX0_init_40 : decode cX0_init 40 = .ok (.putfield 98, 3) := dk_181 0 98 (dk_at dksX0_init_1 18 rfl rfl)
theorem dX0_init_43 : decode cX0_init 43 = .ok (.aload_n 0, 1) := dk_42 (dk_at dksX0_init_1 21 rfl rfl)
theorem dX0_init_44 : decode cX0_init 44 = .ok (.new 95, 3) := dk_187 0 95 (dk_at dksX0_init_2 0 rfl rfl)
theorem dX0_init_47 : decode cX0_init 47 = .ok (.dup, 1) := dk_89 (dk_at dksX0_init_2 3 rfl rfl)
theorem dX0_init_48 : decode cX0_init 48 = .ok (.invokespecial 97, 3) := dk_183 0 97 (dk_at dksX0_init_2 4 rfl rfl)
theorem dX0_init_51 : decode cX0_init 51 = .ok (.putfield 101, 3) := dk_181 0 101 (dk_at dksX0_init_2 7 rfl rfl)
theorem dX0_init_54 : decode cX0_init 54 = .ok (.aload_n 0, 1) := dk_42 (dk_at dksX0_init_2 10 rfl rfl)
theorem dX0_init_55 : decode cX0_init 55 = .ok (.new 95, 3) := dk_187 0 95 (dk_at dksX0_init_2 11 rfl rfl)
theorem dX0_init_58 : decode cX0_init 58 = .ok (.dup, 1) := dk_89 (dk_at dksX0_init_2 14 rfl rfl)
theorem dX0_init_59 : decode cX0_init 59 = .ok (.invokespecial 97, 3) := dk_183 0 97 (dk_at dksX0_init_2 15 rfl rfl)
theorem dX0_init_62 : decode cX0_init 62 = .ok (.putfield 104, 3) := dk_181 0 104 (dk_at dksX0_init_2 18 rfl rfl)
theorem dX0_init_65 : decode cX0_init 65 = .ok (.aload_n 0, 1) := dk_42 (dk_at dksX0_init_2 21 rfl rfl)
theorem dX0_init_66 : decode cX0_init 66 = .ok (.new 95, 3) := dk_187 0 95 (dk_at dksX0_init_3 0 rfl rfl)
theorem dX0_init_69 : decode cX0_init 69 = .ok (.dup, 1) := dk_89 (dk_at dksX0_init_3 3 rfl rfl)
theorem dX0_init_70 : decode cX0_init 70 = .ok (.invokespecial 97, 3) := dk_183 0 97 (dk_at dksX0_init_3 4 rfl rfl)
theorem dX0_init_73 : decode cX0_init 73 = .ok (.putfield 107, 3) := dk_181 0 107 (dk_at dksX0_init_3 7 rfl rfl)
theorem dX0_init_76 : decode cX0_init 76 = .ok (.aload_n 0, 1) := dk_42 (dk_at dksX0_init_3 10 rfl rfl)
theorem dX0_init_77 : decode cX0_init 77 = .ok (.sipush 400, 3) := dk_17 1 144 (dk_at dksX0_init_3 11 rfl rfl)
theorem dX0_init_80 : decode cX0_init 80 = .ok (.newarray .byte, 2) := dk_188_8 (dk_at dksX0_init_3 14 rfl rfl)
theorem dX0_init_82 : decode cX0_init 82 = .ok (.putfield 110, 3) := dk_181 0 110 (dk_at dksX0_init_3 16 rfl rfl)
theorem dX0_init_85 : decode cX0_init 85 = .ok (.aload_n 0, 1) := dk_42 (dk_at dksX0_init_3 19 rfl rfl)
theorem dX0_init_86 : decode cX0_init 86 = .ok (.new 114, 3) := dk_187 0 114 (dk_at dksX0_init_3 20 rfl rfl)
theorem dX0_init_89 : decode cX0_init 89 = .ok (.dup, 1) := dk_89 (dk_at dksX0_init_3 23 rfl rfl)
theorem dX0_init_90 : decode cX0_init 90 = .ok (.invokespecial 116, 3) := dk_183 0 116 (dk_at dksX0_init_4 0 rfl rfl)
theorem dX0_init_93 : decode cX0_init 93 = .ok (.putfield 117, 3) := dk_181 0 117 (dk_at dksX0_init_4 3 rfl rfl)
theorem dX0_init_96 : decode cX0_init 96 = .ok (.aload_n 0, 1) := dk_42 (dk_at dksX0_init_4 6 rfl rfl)
theorem dX0_init_97 : decode cX0_init 97 = .ok (.bipush 16, 2) := dk_16 16 (dk_at dksX0_init_4 7 rfl rfl)
theorem dX0_init_99 : decode cX0_init 99 = .ok (.anewarray 13, 3) := dk_189 0 13 (dk_at dksX0_init_4 9 rfl rfl)
theorem dX0_init_102 : decode cX0_init 102 = .ok (.putfield 121, 3) := dk_181 0 121 (dk_at dksX0_init_4 12 rfl rfl)
theorem dX0_init_105 : decode cX0_init 105 = .ok (.aload_n 0, 1) := dk_42 (dk_at dksX0_init_4 15 rfl rfl)
theorem dX0_init_106 : decode cX0_init 106 = .ok (.bipush 16, 2) := dk_16 16 (dk_at dksX0_init_4 16 rfl rfl)
theorem dX0_init_108 : decode cX0_init 108 = .ok (.newarray .int, 2) := dk_188_10 (dk_at dksX0_init_4 18 rfl rfl)
theorem dX0_init_110 : decode cX0_init 110 = .ok (.putfield 125, 3) := dk_181 0 125 (dk_at dksX0_init_4 20 rfl rfl)
theorem dX0_init_113 : decode cX0_init 113 = .ok (.iconst 0, 1) := dk_3 (dk_at dksX0_init_4 23 rfl rfl)
theorem dX0_init_114 : decode cX0_init 114 = .ok (.istore_n 1, 1) := dk_60 (dk_at dksX0_init_5 0 rfl rfl)
theorem dX0_init_115 : decode cX0_init 115 = .ok (.iload_n 1, 1) := dk_27 (dk_at dksX0_init_5 1 rfl rfl)
theorem dX0_init_116 : decode cX0_init 116 = .ok (.iconst 4, 1) := dk_7 (dk_at dksX0_init_5 2 rfl rfl)
theorem dX0_init_117 : decode cX0_init 117 = .ok (.if_icmp .ge 22, 3) := dk_162 0 22 (dk_at dksX0_init_5 3 rfl rfl)
theorem dX0_init_120 : decode cX0_init 120 = .ok (.aload_n 0, 1) := dk_42 (dk_at dksX0_init_5 6 rfl rfl)
theorem dX0_init_121 : decode cX0_init 121 = .ok (.getfield 33, 3) := dk_180 0 33 (dk_at dksX0_init_5 7 rfl rfl)
theorem dX0_init_124 : decode cX0_init 124 = .ok (.iload_n 1, 1) := dk_27 (dk_at dksX0_init_5 10 rfl rfl)
theorem dX0_init_125 : decode cX0_init 125 = .ok (.new 41, 3) := dk_187 0 41 (dk_at dksX0_init_5 11 rfl rfl)
theorem dX0_init_128 : decode cX0_init 128 = .ok (.dup, 1) := dk_89 (dk_at dksX0_init_5 14 rfl rfl)
theorem dX0_init_129 : decode cX0_init 129 = .ok (.invokespecial 128, 3) := dk_183 0 128 (dk_at dksX0_init_5 15 rfl rfl)
theorem dX0_init_132 : decode cX0_init 132 = .ok (.aastore, 1) := dk_83 (dk_at dksX0_init_5 18 rfl rfl)
theorem dX0_init_133 : decode cX0_init 133 = .ok (.iinc 1 1, 3) := dk_132 1 1 (dk_at dksX0_init_5 19 rfl rfl)
theorem dX0_init_136 : decode cX0_init 136 = .ok (.goto (-21), 3) := dk_167 255 235 (dk_at dksX0_init_6 0 rfl rfl)
theorem dX0_init_139 : decode cX0_init 139 = .ok (.return_, 1) := dk_177 (dk_at dksX0_init_6 3 rfl rfl)
abbrev cX0_sheet : ByteArray := prog_1_method_10_code
def yX0_sheet : MethodName := ⟨RX0, "sheet", "(III)I"⟩
def dkwX0_sheet_3 : List UInt8 := [172]
abbrev dktX0_sheet_3 : List UInt8 := dkwX0_sheet_3 ++ []
def dkwX0_sheet_2 : List UInt8 := [187, 0, 89, 89, 28, 29, 183, 0, 157, 83, 42, 29, 182, 0, 160, 172, 58, 4, 42, 25, 4, 182, 0, 163]
abbrev dktX0_sheet_2 : List UInt8 := dkwX0_sheet_2 ++ dktX0_sheet_3
def dkwX0_sheet_1 : List UInt8 := [164, 0, 6, 18, 156, 172, 29, 155, 0, 7, 4, 167, 0, 4, 3, 7, 184, 0, 147, 42, 180, 0, 91, 27]
abbrev dktX0_sheet_1 : List UInt8 := dkwX0_sheet_1 ++ dktX0_sheet_2
def dkwX0_sheet_0 : List UInt8 := [27, 184, 0, 151, 153, 0, 21, 28, 133, 9, 20, 0, 154, 184, 0, 143, 153, 0, 9, 29, 16, 60]
abbrev dktX0_sheet_0 : List UInt8 := dkwX0_sheet_0 ++ dktX0_sheet_1
theorem dksX0_sheet_0 : cX0_sheet.data.toList.drop 0 = dktX0_sheet_0 := by decide +kernel
theorem dksX0_sheet_1 : cX0_sheet.data.toList.drop 22 = dktX0_sheet_1 := dk_seg dksX0_sheet_0 22 rfl rfl
theorem dksX0_sheet_2 : cX0_sheet.data.toList.drop 46 = dktX0_sheet_2 := dk_seg dksX0_sheet_1 24 rfl rfl
theorem dksX0_sheet_3 : cX0_sheet.data.toList.drop 70 = dktX0_sheet_3 := dk_seg dksX0_sheet_2 24 rfl rfl
theorem dX0_sheet_0 : decode cX0_sheet 0 = .ok (.iload_n 1, 1) := dk_27 (dk_at dksX0_sheet_0 0 rfl rfl)
theorem dX0_sheet_1 : decode cX0_sheet 1 = .ok (.invokestatic 151, 3) := dk_184 0 151 (dk_at dksX0_sheet_0 1 rfl rfl)
theorem dX0_sheet_4 : decode cX0_sheet 4 = .ok (.ifCond .eq 21, 3) := dk_153 0 21 (dk_at dksX0_sheet_0 4 rfl rfl)
theorem dX0_sheet_7 : decode cX0_sheet 7 = .ok (.iload_n 2, 1) := dk_28 (dk_at dksX0_sheet_0 7 rfl rfl)
theorem dX0_sheet_8 : decode cX0_sheet 8 = .ok (.i2l, 1) := dk_133 (dk_at dksX0_sheet_0 8 rfl rfl)
theorem dX0_sheet_9 : decode cX0_sheet 9 = .ok (.lconst 0, 1) := dk_9 (dk_at dksX0_sheet_0 9 rfl rfl)
theorem dX0_sheet_10 : decode cX0_sheet 10 = .ok (.ldc2_w 154, 3) := dk_20 0 154 (dk_at dksX0_sheet_0 10 rfl rfl)
theorem dX0_sheet_13 : decode cX0_sheet 13 = .ok (.invokestatic 143, 3) := dk_184 0 143 (dk_at dksX0_sheet_0 13 rfl rfl)
theorem dX0_sheet_16 : decode cX0_sheet 16 = .ok (.ifCond .eq 9, 3) := dk_153 0 9 (dk_at dksX0_sheet_0 16 rfl rfl)
theorem dX0_sheet_19 : decode cX0_sheet 19 = .ok (.iload_n 3, 1) := dk_29 (dk_at dksX0_sheet_0 19 rfl rfl)
theorem dX0_sheet_20 : decode cX0_sheet 20 = .ok (.bipush 60, 2) := dk_16 60 (dk_at dksX0_sheet_0 20 rfl rfl)
theorem dX0_sheet_22 : decode cX0_sheet 22 = .ok (.if_icmp .le 6, 3) := dk_164 0 6 (dk_at dksX0_sheet_1 0 rfl rfl)
theorem dX0_sheet_25 : decode cX0_sheet 25 = .ok (.ldc 156, 2) := dk_18 156 (dk_at dksX0_sheet_1 3 rfl rfl)
theorem dX0_sheet_27 : decode cX0_sheet 27 = .ok (.ireturn, 1) := dk_172 (dk_at dksX0_sheet_1 5 rfl rfl)
theorem dX0_sheet_28 : decode cX0_sheet 28 = .ok (.iload_n 3, 1) := dk_29 (dk_at dksX0_sheet_1 6 rfl rfl)
theorem dX0_sheet_29 : decode cX0_sheet 29 = .ok (.ifCond .lt 7, 3) := dk_155 0 7 (dk_at dksX0_sheet_1 7 rfl rfl)
theorem dX0_sheet_32 : decode cX0_sheet 32 = .ok (.iconst 1, 1) := dk_4 (dk_at dksX0_sheet_1 10 rfl rfl)
theorem dX0_sheet_33 : decode cX0_sheet 33 = .ok (.goto 4, 3) := dk_167 0 4 (dk_at dksX0_sheet_1 11 rfl rfl)
theorem dX0_sheet_36 : decode cX0_sheet 36 = .ok (.iconst 0, 1) := dk_3 (dk_at dksX0_sheet_1 14 rfl rfl)
theorem dX0_sheet_37 : decode cX0_sheet 37 = .ok (.iconst 4, 1) := dk_7 (dk_at dksX0_sheet_1 15 rfl rfl)
theorem dX0_sheet_38 : decode cX0_sheet 38 = .ok (.invokestatic 147, 3) := dk_184 0 147 (dk_at dksX0_sheet_1 16 rfl rfl)
theorem dX0_sheet_41 : decode cX0_sheet 41 = .ok (.aload_n 0, 1) := dk_42 (dk_at dksX0_sheet_1 19 rfl rfl)
theorem dX0_sheet_42 : decode cX0_sheet 42 = .ok (.getfield 91, 3) := dk_180 0 91 (dk_at dksX0_sheet_1 20 rfl rfl)
theorem dX0_sheet_45 : decode cX0_sheet 45 = .ok (.iload_n 1, 1) := dk_27 (dk_at dksX0_sheet_1 23 rfl rfl)
theorem dX0_sheet_46 : decode cX0_sheet 46 = .ok (.new 89, 3) := dk_187 0 89 (dk_at dksX0_sheet_2 0 rfl rfl)
theorem dX0_sheet_49 : decode cX0_sheet 49 = .ok (.dup, 1) := dk_89 (dk_at dksX0_sheet_2 3 rfl rfl)
theorem dX0_sheet_50 : decode cX0_sheet 50 = .ok (.iload_n 2, 1) := dk_28 (dk_at dksX0_sheet_2 4 rfl rfl)
theorem dX0_sheet_51 : decode cX0_sheet 51 = .ok (.iload_n 3, 1) := dk_29 (dk_at dksX0_sheet_2 5 rfl rfl)
theorem dX0_sheet_52 : decode cX0_sheet 52 = .ok (.invokespecial 157, 3) := dk_183 0 157 (dk_at dksX0_sheet_2 6 rfl rfl)
theorem dX0_sheet_55 : decode cX0_sheet 55 = .ok (.aastore, 1) := dk_83 (dk_at dksX0_sheet_2 9 rfl rfl)
theorem dX0_sheet_56 : decode cX0_sheet 56 = .ok (.aload_n 0, 1) := dk_42 (dk_at dksX0_sheet_2 10 rfl rfl)
theorem dX0_sheet_57 : decode cX0_sheet 57 = .ok (.iload_n 3, 1) := dk_29 (dk_at dksX0_sheet_2 11 rfl rfl)
theorem dX0_sheet_58 : decode cX0_sheet 58 = .ok (.invokevirtual 160, 3) := dk_182 0 160 (dk_at dksX0_sheet_2 12 rfl rfl)
theorem dX0_sheet_61 : decode cX0_sheet 61 = .ok (.ireturn, 1) := dk_172 (dk_at dksX0_sheet_2 15 rfl rfl)
theorem dX0_sheet_62 : decode cX0_sheet 62 = .ok (.astore 4, 2) := dk_58 4 (dk_at dksX0_sheet_2 16 rfl rfl)
theorem dX0_sheet_64 : decode cX0_sheet 64 = .ok (.aload_n 0, 1) := dk_42 (dk_at dksX0_sheet_2 18 rfl rfl)
theorem dX0_sheet_65 : decode cX0_sheet 65 = .ok (.aload 4, 2) := dk_25 4 (dk_at dksX0_sheet_2 19 rfl rfl)
theorem dX0_sheet_67 : decode cX0_sheet 67 = .ok (.invokevirtual 163, 3) := dk_182 0 163 (dk_at dksX0_sheet_2 21 rfl rfl)
theorem dX0_sheet_70 : decode cX0_sheet 70 = .ok (.ireturn, 1) := dk_172 (dk_at dksX0_sheet_3 0 rfl rfl)
abbrev cX0_isSheet : ByteArray := prog_1_method_8_code
def yX0_isSheet : MethodName := ⟨RX0, "isSheet", "(I)Z"⟩
def dkwX0_isSheet_0 : List UInt8 := [26, 133, 9, 20, 0, 141, 184, 0, 143, 172]
abbrev dktX0_isSheet_0 : List UInt8 := dkwX0_isSheet_0 ++ []
theorem dksX0_isSheet_0 : cX0_isSheet.data.toList.drop 0 = dktX0_isSheet_0 := by decide +kernel
theorem dX0_isSheet_0 : decode cX0_isSheet 0 = .ok (.iload_n 0, 1) := dk_26 (dk_at dksX0_isSheet_0 0 rfl rfl)
theorem dX0_isSheet_1 : decode cX0_isSheet 1 = .ok (.i2l, 1) := dk_133 (dk_at dksX0_isSheet_0 1 rfl rfl)
theorem dX0_isSheet_2 : decode cX0_isSheet 2 = .ok (.lconst 0, 1) := dk_9 (dk_at dksX0_isSheet_0 2 rfl rfl)
theorem dX0_isSheet_3 : decode cX0_isSheet 3 = .ok (.ldc2_w 141, 3) := dk_20 0 141 (dk_at dksX0_isSheet_0 3 rfl rfl)
theorem dX0_isSheet_6 : decode cX0_isSheet 6 = .ok (.invokestatic 143, 3) := dk_184 0 143 (dk_at dksX0_isSheet_0 6 rfl rfl)
theorem dX0_isSheet_9 : decode cX0_isSheet 9 = .ok (.ireturn, 1) := dk_172 (dk_at dksX0_isSheet_0 9 rfl rfl)
abbrev cX0_isIn : ByteArray := prog_1_method_1_code
def yX0_isIn : MethodName := ⟨RX0, "isIn", "(JJJ)Z"⟩
def dkwX0_isIn_0 : List UInt8 := [30, 32, 148, 155, 0, 14, 30, 22, 4, 148, 157, 0, 7, 4, 167, 0, 4, 3, 172]
abbrev dktX0_isIn_0 : List UInt8 := dkwX0_isIn_0 ++ []
theorem dksX0_isIn_0 : cX0_isIn.data.toList.drop 0 = dktX0_isIn_0 := by decide +kernel
theorem dX0_isIn_0 : decode cX0_isIn 0 = .ok (.lload_n 0, 1) := dk_30 (dk_at dksX0_isIn_0 0 rfl rfl)
theorem dX0_isIn_1 : decode cX0_isIn 1 = .ok (.lload_n 2, 1) := dk_32 (dk_at dksX0_isIn_0 1 rfl rfl)
theorem dX0_isIn_2 : decode cX0_isIn 2 = .ok (.lcmp, 1) := dk_148 (dk_at dksX0_isIn_0 2 rfl rfl)
theorem dX0_isIn_3 : decode cX0_isIn 3 = .ok (.ifCond .lt 14, 3) := dk_155 0 14 (dk_at dksX0_isIn_0 3 rfl rfl)
theorem dX0_isIn_6 : decode cX0_isIn 6 = .ok (.lload_n 0, 1) := dk_30 (dk_at dksX0_isIn_0 6 rfl rfl)
theorem dX0_isIn_7 : decode cX0_isIn 7 = .ok (.lload 4, 2) := dk_22 4 (dk_at dksX0_isIn_0 7 rfl rfl)
theorem dX0_isIn_9 : decode cX0_isIn 9 = .ok (.lcmp, 1) := dk_148 (dk_at dksX0_isIn_0 9 rfl rfl)
theorem dX0_isIn_10 : decode cX0_isIn 10 = .ok (.ifCond .gt 7, 3) := dk_157 0 7 (dk_at dksX0_isIn_0 10 rfl rfl)
theorem dX0_isIn_13 : decode cX0_isIn 13 = .ok (.iconst 1, 1) := dk_4 (dk_at dksX0_isIn_0 13 rfl rfl)
theorem dX0_isIn_14 : decode cX0_isIn 14 = .ok (.goto 4, 3) := dk_167 0 4 (dk_at dksX0_isIn_0 14 rfl rfl)
theorem dX0_isIn_17 : decode cX0_isIn 17 = .ok (.iconst 0, 1) := dk_3 (dk_at dksX0_isIn_0 17 rfl rfl)
theorem dX0_isIn_18 : decode cX0_isIn 18 = .ok (.ireturn, 1) := dk_172 (dk_at dksX0_isIn_0 18 rfl rfl)
abbrev cX0_must : ByteArray := prog_1_method_7_code
def yX0_must : MethodName := ⟨RX0, "must", "(ZI)V"⟩
def dkwX0_must_0 : List UInt8 := [26, 154, 0, 12, 187, 0, 130, 89, 27, 183, 0, 138, 191, 177]
abbrev dktX0_must_0 : List UInt8 := dkwX0_must_0 ++ []
theorem dksX0_must_0 : cX0_must.data.toList.drop 0 = dktX0_must_0 := by decide +kernel
theorem dX0_must_0 : decode cX0_must 0 = .ok (.iload_n 0, 1) := dk_26 (dk_at dksX0_must_0 0 rfl rfl)
theorem dX0_must_1 : decode cX0_must 1 = .ok (.ifCond .ne 12, 3) := dk_154 0 12 (dk_at dksX0_must_0 1 rfl rfl)
theorem dX0_must_4 : decode cX0_must 4 = .ok (.new 130, 3) := dk_187 0 130 (dk_at dksX0_must_0 4 rfl rfl)
theorem dX0_must_7 : decode cX0_must 7 = .ok (.dup, 1) := dk_89 (dk_at dksX0_must_0 7 rfl rfl)
theorem dX0_must_8 : decode cX0_must 8 = .ok (.iload_n 1, 1) := dk_27 (dk_at dksX0_must_0 8 rfl rfl)
theorem dX0_must_9 : decode cX0_must 9 = .ok (.invokespecial 138, 3) := dk_183 0 138 (dk_at dksX0_must_0 9 rfl rfl)
theorem dX0_must_12 : decode cX0_must 12 = .ok (.athrow, 1) := dk_191 (dk_at dksX0_must_0 12 rfl rfl)
theorem dX0_must_13 : decode cX0_must 13 = .ok (.return_, 1) := dk_177 (dk_at dksX0_must_0 13 rfl rfl)
abbrev cX0_well : ByteArray := prog_1_method_6_code
def yX0_well : MethodName := ⟨RX0, "well", "(I)I"⟩
def dkwX0_well_0 : List UInt8 := [42, 3, 181, 0, 134, 27, 172]
abbrev dktX0_well_0 : List UInt8 := dkwX0_well_0 ++ []
theorem dksX0_well_0 : cX0_well.data.toList.drop 0 = dktX0_well_0 := by decide +kernel
theorem dX0_well_0 : decode cX0_well 0 = .ok (.aload_n 0, 1) := dk_42 (dk_at dksX0_well_0 0 rfl rfl)
theorem dX0_well_1 : decode cX0_well 1 = .ok (.iconst 0, 1) := dk_3 (dk_at dksX0_well_0 1 rfl rfl)
theorem dX0_well_2 : decode cX0_well 2 = .ok (.putfield 134, 3) := dk_181 0 134 (dk_at dksX0_well_0 2 rfl rfl)
theorem dX0_well_5 : decode cX0_well 5 = .ok (.iload_n 1, 1) := dk_27 (dk_at dksX0_well_0 5 rfl rfl)
theorem dX0_well_6 : decode cX0_well 6 = .ok (.ireturn, 1) := dk_172 (dk_at dksX0_well_0 6 rfl rfl)
abbrev cX0_found : ByteArray := prog_1_method_5_code
def yX0_found : MethodName := ⟨RX0, "found", "(LVillageHalls$Finding;)I"⟩
def dkwX0_found_0 : List UInt8 := [42, 43, 180, 0, 129, 181, 0, 134, 18, 137, 43, 180, 0, 129, 100, 172]
abbrev dktX0_found_0 : List UInt8 := dkwX0_found_0 ++ []
theorem dksX0_found_0 : cX0_found.data.toList.drop 0 = dktX0_found_0 := by decide +kernel
theorem dX0_found_0 : decode cX0_found 0 = .ok (.aload_n 0, 1) := dk_42 (dk_at dksX0_found_0 0 rfl rfl)
theorem dX0_found_1 : decode cX0_found 1 = .ok (.aload_n 1, 1) := dk_43 (dk_at dksX0_found_0 1 rfl rfl)
theorem dX0_found_2 : decode cX0_found 2 = .ok (.getfield 129, 3) := dk_180 0 129 (dk_at dksX0_found_0 2 rfl rfl)
theorem dX0_found_5 : decode cX0_found 5 = .ok (.putfield 134, 3) := dk_181 0 134 (dk_at dksX0_found_0 5 rfl rfl)
theorem dX0_found_8 : decode cX0_found 8 = .ok (.ldc 137, 2) := dk_18 137 (dk_at dksX0_found_0 8 rfl rfl)
theorem dX0_found_10 : decode cX0_found 10 = .ok (.aload_n 1, 1) := dk_43 (dk_at dksX0_found_0 10 rfl rfl)
theorem dX0_found_11 : decode cX0_found 11 = .ok (.getfield 129, 3) := dk_180 0 129 (dk_at dksX0_found_0 11 rfl rfl)
theorem dX0_found_14 : decode cX0_found 14 = .ok (.isub, 1) := dk_100 (dk_at dksX0_found_0 14 rfl rfl)
theorem dX0_found_15 : decode cX0_found 15 = .ok (.ireturn, 1) := dk_172 (dk_at dksX0_found_0 15 rfl rfl)
abbrev cX0_set : ByteArray := prog_1_method_11_code
def yX0_set : MethodName := ⟨RX0, "set", "(III)I"⟩
def dkwX0_set_3 : List UInt8 := [172]
abbrev dktX0_set_3 : List UInt8 := dkwX0_set_3 ++ []
def dkwX0_set_2 : List UInt8 := [182, 0, 174, 79, 42, 25, 4, 180, 0, 171, 28, 46, 182, 0, 160, 172, 58, 4, 42, 25, 4, 182, 0, 163]
abbrev dktX0_set_2 : List UInt8 := dkwX0_set_2 ++ dktX0_set_3
def dkwX0_set_1 : List UInt8 := [180, 0, 171, 190, 4, 100, 133, 184, 0, 143, 5, 184, 0, 147, 25, 4, 180, 0, 171, 28, 25, 4, 29]
abbrev dktX0_set_1 : List UInt8 := dkwX0_set_1 ++ dktX0_set_2
def dkwX0_set_0 : List UInt8 := [27, 184, 0, 151, 154, 0, 6, 18, 156, 172, 42, 27, 182, 0, 167, 58, 4, 28, 133, 9, 25, 4]
abbrev dktX0_set_0 : List UInt8 := dkwX0_set_0 ++ dktX0_set_1
theorem dksX0_set_0 : cX0_set.data.toList.drop 0 = dktX0_set_0 := by decide +kernel
theorem dksX0_set_1 : cX0_set.data.toList.drop 22 = dktX0_set_1 := dk_seg dksX0_set_0 22 rfl rfl
theorem dksX0_set_2 : cX0_set.data.toList.drop 45 = dktX0_set_2 := dk_seg dksX0_set_1 23 rfl rfl
theorem dksX0_set_3 : cX0_set.data.toList.drop 69 = dktX0_set_3 := dk_seg dksX0_set_2 24 rfl rfl
theorem dX0_set_0 : decode cX0_set 0 = .ok (.iload_n 1, 1) := dk_27 (dk_at dksX0_set_0 0 rfl rfl)
theorem dX0_set_1 : decode cX0_set 1 = .ok (.invokestatic 151, 3) := dk_184 0 151 (dk_at dksX0_set_0 1 rfl rfl)
theorem dX0_set_4 : decode cX0_set 4 = .ok (.ifCond .ne 6, 3) := dk_154 0 6 (dk_at dksX0_set_0 4 rfl rfl)
theorem dX0_set_7 : decode cX0_set 7 = .ok (.ldc 156, 2) := dk_18 156 (dk_at dksX0_set_0 7 rfl rfl)
theorem dX0_set_9 : decode cX0_set 9 = .ok (.ireturn, 1) := dk_172 (dk_at dksX0_set_0 9 rfl rfl)
theorem dX0_set_10 : decode cX0_set 10 = .ok (.aload_n 0, 1) := dk_42 (dk_at dksX0_set_0 10 rfl rfl)
theorem dX0_set_11 : decode cX0_set 11 = .ok (.iload_n 1, 1) := dk_27 (dk_at dksX0_set_0 11 rfl rfl)
theorem dX0_set_12 : decode cX0_set 12 = .ok (.invokevirtual 167, 3) := dk_182 0 167 (dk_at dksX0_set_0 12 rfl rfl)
theorem dX0_set_15 : decode cX0_set 15 = .ok (.astore 4, 2) := dk_58 4 (dk_at dksX0_set_0 15 rfl rfl)
theorem dX0_set_17 : decode cX0_set 17 = .ok (.iload_n 2, 1) := dk_28 (dk_at dksX0_set_0 17 rfl rfl)
theorem dX0_set_18 : decode cX0_set 18 = .ok (.i2l, 1) := dk_133 (dk_at dksX0_set_0 18 rfl rfl)
theorem dX0_set_19 : decode cX0_set 19 = .ok (.lconst 0, 1) := dk_9 (dk_at dksX0_set_0 19 rfl rfl)
theorem dX0_set_20 : decode cX0_set 20 = .ok (.aload 4, 2) := dk_25 4 (dk_at dksX0_set_0 20 rfl rfl)
theorem dX0_set_22 : decode cX0_set 22 = .ok (.getfield 171, 3) := dk_180 0 171 (dk_at dksX0_set_1 0 rfl rfl)
theorem dX0_set_25 : decode cX0_set 25 = .ok (.arraylength, 1) := dk_190 (dk_at dksX0_set_1 3 rfl rfl)
theorem dX0_set_26 : decode cX0_set 26 = .ok (.iconst 1, 1) := dk_4 (dk_at dksX0_set_1 4 rfl rfl)
theorem dX0_set_27 : decode cX0_set 27 = .ok (.isub, 1) := dk_100 (dk_at dksX0_set_1 5 rfl rfl)
theorem dX0_set_28 : decode cX0_set 28 = .ok (.i2l, 1) := dk_133 (dk_at dksX0_set_1 6 rfl rfl)
theorem dX0_set_29 : decode cX0_set 29 = .ok (.invokestatic 143, 3) := dk_184 0 143 (dk_at dksX0_set_1 7 rfl rfl)
theorem dX0_set_32 : decode cX0_set 32 = .ok (.iconst 2, 1) := dk_5 (dk_at dksX0_set_1 10 rfl rfl)
theorem dX0_set_33 : decode cX0_set 33 = .ok (.invokestatic 147, 3) := dk_184 0 147 (dk_at dksX0_set_1 11 rfl rfl)
theorem dX0_set_36 : decode cX0_set 36 = .ok (.aload 4, 2) := dk_25 4 (dk_at dksX0_set_1 14 rfl rfl)
theorem dX0_set_38 : decode cX0_set 38 = .ok (.getfield 171, 3) := dk_180 0 171 (dk_at dksX0_set_1 16 rfl rfl)
theorem dX0_set_41 : decode cX0_set 41 = .ok (.iload_n 2, 1) := dk_28 (dk_at dksX0_set_1 19 rfl rfl)
theorem dX0_set_42 : decode cX0_set 42 = .ok (.aload 4, 2) := dk_25 4 (dk_at dksX0_set_1 20 rfl rfl)
theorem dX0_set_44 : decode cX0_set 44 = .ok (.iload_n 3, 1) := dk_29 (dk_at dksX0_set_1 22 rfl rfl)
theorem dX0_set_45 : decode cX0_set 45 = .ok (.invokevirtual 174, 3) := dk_182 0 174 (dk_at dksX0_set_2 0 rfl rfl)
theorem dX0_set_48 : decode cX0_set 48 = .ok (.iastore, 1) := dk_79 (dk_at dksX0_set_2 3 rfl rfl)
theorem dX0_set_49 : decode cX0_set 49 = .ok (.aload_n 0, 1) := dk_42 (dk_at dksX0_set_2 4 rfl rfl)
theorem dX0_set_50 : decode cX0_set 50 = .ok (.aload 4, 2) := dk_25 4 (dk_at dksX0_set_2 5 rfl rfl)
theorem dX0_set_52 : decode cX0_set 52 = .ok (.getfield 171, 3) := dk_180 0 171 (dk_at dksX0_set_2 7 rfl rfl)
theorem dX0_set_55 : decode cX0_set 55 = .ok (.iload_n 2, 1) := dk_28 (dk_at dksX0_set_2 10 rfl rfl)
theorem dX0_set_56 : decode cX0_set 56 = .ok (.iaload, 1) := dk_46 (dk_at dksX0_set_2 11 rfl rfl)
theorem dX0_set_57 : decode cX0_set 57 = .ok (.invokevirtual 160, 3) := dk_182 0 160 (dk_at dksX0_set_2 12 rfl rfl)
theorem dX0_set_60 : decode cX0_set 60 = .ok (.ireturn, 1) := dk_172 (dk_at dksX0_set_2 15 rfl rfl)
theorem dX0_set_61 : decode cX0_set 61 = .ok (.astore 4, 2) := dk_58 4 (dk_at dksX0_set_2 16 rfl rfl)
theorem dX0_set_63 : decode cX0_set 63 = .ok (.aload_n 0, 1) := dk_42 (dk_at dksX0_set_2 18 rfl rfl)
theorem dX0_set_64 : decode cX0_set 64 = .ok (.aload 4, 2) := dk_25 4 (dk_at dksX0_set_2 19 rfl rfl)
theorem dX0_set_66 : decode cX0_set 66 = .ok (.invokevirtual 163, 3) := dk_182 0 163 (dk_at dksX0_set_2 21 rfl rfl)
theorem dX0_set_69 : decode cX0_set 69 = .ok (.ireturn, 1) := dk_172 (dk_at dksX0_set_3 0 rfl rfl)
abbrev cX0_sheetAt : ByteArray := prog_1_method_9_code
def yX0_sheetAt : MethodName := ⟨RX0, "sheetAt", "(I)LVillageHalls$Sheet;"⟩
def dkwX0_sheetAt_1 : List UInt8 := [176]
abbrev dktX0_sheetAt_1 : List UInt8 := dkwX0_sheetAt_1 ++ []
def dkwX0_sheetAt_0 : List UInt8 := [42, 180, 0, 91, 27, 50, 198, 0, 7, 4, 167, 0, 4, 3, 4, 184, 0, 147, 42, 180, 0, 91, 27, 50]
abbrev dktX0_sheetAt_0 : List UInt8 := dkwX0_sheetAt_0 ++ dktX0_sheetAt_1
theorem dksX0_sheetAt_0 : cX0_sheetAt.data.toList.drop 0 = dktX0_sheetAt_0 := by decide +kernel
theorem dksX0_sheetAt_1 : cX0_sheetAt.data.toList.drop 24 = dktX0_sheetAt_1 := dk_seg dksX0_sheetAt_0 24 rfl rfl
theorem dX0_sheetAt_0 : decode cX0_sheetAt 0 = .ok (.aload_n 0, 1) := dk_42 (dk_at dksX0_sheetAt_0 0 rfl rfl)
theorem dX0_sheetAt_1 : decode cX0_sheetAt 1 = .ok (.getfield 91, 3) := dk_180 0 91 (dk_at dksX0_sheetAt_0 1 rfl rfl)
theorem dX0_sheetAt_4 : decode cX0_sheetAt 4 = .ok (.iload_n 1, 1) := dk_27 (dk_at dksX0_sheetAt_0 4 rfl rfl)
theorem dX0_sheetAt_5 : decode cX0_sheetAt 5 = .ok (.aaload, 1) := dk_50 (dk_at dksX0_sheetAt_0 5 rfl rfl)
theorem dX0_sheetAt_6 : decode cX0_sheetAt 6 = .ok (.ifnull 7, 3) := dk_198 0 7 (dk_at dksX0_sheetAt_0 6 rfl rfl)
theorem dX0_sheetAt_9 : decode cX0_sheetAt 9 = .ok (.iconst 1, 1) := dk_4 (dk_at dksX0_sheetAt_0 9 rfl rfl)
theorem dX0_sheetAt_10 : decode cX0_sheetAt 10 = .ok (.goto 4, 3) := dk_167 0 4 (dk_at dksX0_sheetAt_0 10 rfl rfl)
theorem dX0_sheetAt_13 : decode cX0_sheetAt 13 = .ok (.iconst 0, 1) := dk_3 (dk_at dksX0_sheetAt_0 13 rfl rfl)
theorem dX0_sheetAt_14 : decode cX0_sheetAt 14 = .ok (.iconst 1, 1) := dk_4 (dk_at dksX0_sheetAt_0 14 rfl rfl)
theorem dX0_sheetAt_15 : decode cX0_sheetAt 15 = .ok (.invokestatic 147, 3) := dk_184 0 147 (dk_at dksX0_sheetAt_0 15 rfl rfl)
theorem dX0_sheetAt_18 : decode cX0_sheetAt 18 = .ok (.aload_n 0, 1) := dk_42 (dk_at dksX0_sheetAt_0 18 rfl rfl)
theorem dX0_sheetAt_19 : decode cX0_sheetAt 19 = .ok (.getfield 91, 3) := dk_180 0 91 (dk_at dksX0_sheetAt_0 19 rfl rfl)
theorem dX0_sheetAt_22 : decode cX0_sheetAt 22 = .ok (.iload_n 1, 1) := dk_27 (dk_at dksX0_sheetAt_0 22 rfl rfl)
theorem dX0_sheetAt_23 : decode cX0_sheetAt 23 = .ok (.aaload, 1) := dk_50 (dk_at dksX0_sheetAt_0 23 rfl rfl)
theorem dX0_sheetAt_24 : decode cX0_sheetAt 24 = .ok (.areturn, 1) := dk_176 (dk_at dksX0_sheetAt_1 0 rfl rfl)
abbrev cX0_copy : ByteArray := prog_1_method_12_code
def yX0_copy : MethodName := ⟨RX0, "copy", "(IIIII)I"⟩
def dkwX0_copy_4 : List UInt8 := [25, 6, 182, 0, 163, 172]
abbrev dktX0_copy_4 : List UInt8 := dkwX0_copy_4 ++ []
def dkwX0_copy_3 : List UInt8 := [167, 0, 14, 58, 8, 187, 0, 130, 89, 5, 183, 0, 138, 191, 42, 21, 5, 182, 0, 160, 172, 58, 6, 42]
abbrev dktX0_copy_3 : List UInt8 := dkwX0_copy_3 ++ dktX0_copy_4
def dkwX0_copy_2 : List UInt8 := [3, 8, 184, 0, 147, 25, 6, 180, 0, 171, 28, 25, 7, 180, 0, 171, 21, 4, 21, 5, 184, 0, 180]
abbrev dktX0_copy_2 : List UInt8 := dkwX0_copy_2 ++ dktX0_copy_3
def dkwX0_copy_1 : List UInt8 := [42, 29, 182, 0, 167, 58, 7, 25, 6, 180, 0, 177, 25, 7, 180, 0, 177, 160, 0, 7, 4, 167, 0, 4]
abbrev dktX0_copy_1 : List UInt8 := dkwX0_copy_1 ++ dktX0_copy_2
def dkwX0_copy_0 : List UInt8 := [27, 184, 0, 151, 153, 0, 10, 29, 184, 0, 151, 154, 0, 6, 18, 156, 172, 42, 27, 182, 0, 167, 58, 6]
abbrev dktX0_copy_0 : List UInt8 := dkwX0_copy_0 ++ dktX0_copy_1
theorem dksX0_copy_0 : cX0_copy.data.toList.drop 0 = dktX0_copy_0 := by decide +kernel
theorem dksX0_copy_1 : cX0_copy.data.toList.drop 24 = dktX0_copy_1 := dk_seg dksX0_copy_0 24 rfl rfl
theorem dksX0_copy_2 : cX0_copy.data.toList.drop 48 = dktX0_copy_2 := dk_seg dksX0_copy_1 24 rfl rfl
theorem dksX0_copy_3 : cX0_copy.data.toList.drop 71 = dktX0_copy_3 := dk_seg dksX0_copy_2 23 rfl rfl
theorem dksX0_copy_4 : cX0_copy.data.toList.drop 95 = dktX0_copy_4 := dk_seg dksX0_copy_3 24 rfl rfl
theorem dX0_copy_0 : decode cX0_copy 0 = .ok (.iload_n 1, 1) := dk_27 (dk_at dksX0_copy_0 0 rfl rfl)
theorem dX0_copy_1 : decode cX0_copy 1 = .ok (.invokestatic 151, 3) := dk_184 0 151 (dk_at dksX0_copy_0 1 rfl rfl)
theorem dX0_copy_4 : decode cX0_copy 4 = .ok (.ifCond .eq 10, 3) := dk_153 0 10 (dk_at dksX0_copy_0 4 rfl rfl)
theorem dX0_copy_7 : decode cX0_copy 7 = .ok (.iload_n 3, 1) := dk_29 (dk_at dksX0_copy_0 7 rfl rfl)
theorem dX0_copy_8 : decode cX0_copy 8 = .ok (.invokestatic 151, 3) := dk_184 0 151 (dk_at dksX0_copy_0 8 rfl rfl)
theorem dX0_copy_11 : decode cX0_copy 11 = .ok (.ifCond .ne 6, 3) := dk_154 0 6 (dk_at dksX0_copy_0 11 rfl rfl)
theorem dX0_copy_14 : decode cX0_copy 14 = .ok (.ldc 156, 2) := dk_18 156 (dk_at dksX0_copy_0 14 rfl rfl)
theorem dX0_copy_16 : decode cX0_copy 16 = .ok (.ireturn, 1) := dk_172 (dk_at dksX0_copy_0 16 rfl rfl)
theorem dX0_copy_17 : decode cX0_copy 17 = .ok (.aload_n 0, 1) := dk_42 (dk_at dksX0_copy_0 17 rfl rfl)
theorem dX0_copy_18 : decode cX0_copy 18 = .ok (.iload_n 1, 1) := dk_27 (dk_at dksX0_copy_0 18 rfl rfl)
theorem dX0_copy_19 : decode cX0_copy 19 = .ok (.invokevirtual 167, 3) := dk_182 0 167 (dk_at dksX0_copy_0 19 rfl rfl)
theorem dX0_copy_22 : decode cX0_copy 22 = .ok (.astore 6, 2) := dk_58 6 (dk_at dksX0_copy_0 22 rfl rfl)
theorem dX0_copy_24 : decode cX0_copy 24 = .ok (.aload_n 0, 1) := dk_42 (dk_at dksX0_copy_1 0 rfl rfl)
theorem dX0_copy_25 : decode cX0_copy 25 = .ok (.iload_n 3, 1) := dk_29 (dk_at dksX0_copy_1 1 rfl rfl)
theorem dX0_copy_26 : decode cX0_copy 26 = .ok (.invokevirtual 167, 3) := dk_182 0 167 (dk_at dksX0_copy_1 2 rfl rfl)
theorem dX0_copy_29 : decode cX0_copy 29 = .ok (.astore 7, 2) := dk_58 7 (dk_at dksX0_copy_1 5 rfl rfl)
theorem dX0_copy_31 : decode cX0_copy 31 = .ok (.aload 6, 2) := dk_25 6 (dk_at dksX0_copy_1 7 rfl rfl)
theorem dX0_copy_33 : decode cX0_copy 33 = .ok (.getfield 177, 3) := dk_180 0 177 (dk_at dksX0_copy_1 9 rfl rfl)
theorem dX0_copy_36 : decode cX0_copy 36 = .ok (.aload 7, 2) := dk_25 7 (dk_at dksX0_copy_1 12 rfl rfl)
theorem dX0_copy_38 : decode cX0_copy 38 = .ok (.getfield 177, 3) := dk_180 0 177 (dk_at dksX0_copy_1 14 rfl rfl)
theorem dX0_copy_41 : decode cX0_copy 41 = .ok (.if_icmp .ne 7, 3) := dk_160 0 7 (dk_at dksX0_copy_1 17 rfl rfl)
theorem dX0_copy_44 : decode cX0_copy 44 = .ok (.iconst 1, 1) := dk_4 (dk_at dksX0_copy_1 20 rfl rfl)
theorem dX0_copy_45 : decode cX0_copy 45 = .ok (.goto 4, 3) := dk_167 0 4 (dk_at dksX0_copy_1 21 rfl rfl)
theorem dX0_copy_48 : decode cX0_copy 48 = .ok (.iconst 0, 1) := dk_3 (dk_at dksX0_copy_2 0 rfl rfl)
theorem dX0_copy_49 : decode cX0_copy 49 = .ok (.iconst 5, 1) := dk_8 (dk_at dksX0_copy_2 1 rfl rfl)
theorem dX0_copy_50 : decode cX0_copy 50 = .ok (.invokestatic 147, 3) := dk_184 0 147 (dk_at dksX0_copy_2 2 rfl rfl)
theorem dX0_copy_53 : decode cX0_copy 53 = .ok (.aload 6, 2) := dk_25 6 (dk_at dksX0_copy_2 5 rfl rfl)
theorem dX0_copy_55 : decode cX0_copy 55 = .ok (.getfield 171, 3) := dk_180 0 171 (dk_at dksX0_copy_2 7 rfl rfl)
theorem dX0_copy_58 : decode cX0_copy 58 = .ok (.iload_n 2, 1) := dk_28 (dk_at dksX0_copy_2 10 rfl rfl)
theorem dX0_copy_59 : decode cX0_copy 59 = .ok (.aload 7, 2) := dk_25 7 (dk_at dksX0_copy_2 11 rfl rfl)
theorem dX0_copy_61 : decode cX0_copy 61 = .ok (.getfield 171, 3) := dk_180 0 171 (dk_at dksX0_copy_2 13 rfl rfl)
theorem dX0_copy_64 : decode cX0_copy 64 = .ok (.iload 4, 2) := dk_21 4 (dk_at dksX0_copy_2 16 rfl rfl)
theorem dX0_copy_66 : decode cX0_copy 66 = .ok (.iload 5, 2) := dk_21 5 (dk_at dksX0_copy_2 18 rfl rfl)
theorem dX0_copy_68 : decode cX0_copy 68 = .ok (.invokestatic 180, 3) := dk_184 0 180 (dk_at dksX0_copy_2 20 rfl rfl)
theorem dX0_copy_71 : decode cX0_copy 71 = .ok (.goto 14, 3) := dk_167 0 14 (dk_at dksX0_copy_3 0 rfl rfl)
theorem dX0_copy_74 : decode cX0_copy 74 = .ok (.astore 8, 2) := dk_58 8 (dk_at dksX0_copy_3 3 rfl rfl)
theorem dX0_copy_76 : decode cX0_copy 76 = .ok (.new 130, 3) := dk_187 0 130 (dk_at dksX0_copy_3 5 rfl rfl)
theorem dX0_copy_79 : decode cX0_copy 79 = .ok (.dup, 1) := dk_89 (dk_at dksX0_copy_3 8 rfl rfl)
theorem dX0_copy_80 : decode cX0_copy 80 = .ok (.iconst 2, 1) := dk_5 (dk_at dksX0_copy_3 9 rfl rfl)
theorem dX0_copy_81 : decode cX0_copy 81 = .ok (.invokespecial 138, 3) := dk_183 0 138 (dk_at dksX0_copy_3 10 rfl rfl)
theorem dX0_copy_84 : decode cX0_copy 84 = .ok (.athrow, 1) := dk_191 (dk_at dksX0_copy_3 13 rfl rfl)
theorem dX0_copy_85 : decode cX0_copy 85 = .ok (.aload_n 0, 1) := dk_42 (dk_at dksX0_copy_3 14 rfl rfl)
theorem dX0_copy_86 : decode cX0_copy 86 = .ok (.iload 5, 2) := dk_21 5 (dk_at dksX0_copy_3 15 rfl rfl)
theorem dX0_copy_88 : decode cX0_copy 88 = .ok (.invokevirtual 160, 3) := dk_182 0 160 (dk_at dksX0_copy_3 17 rfl rfl)
theorem dX0_copy_91 : decode cX0_copy 91 = .ok (.ireturn, 1) := dk_172 (dk_at dksX0_copy_3 20 rfl rfl)
theorem dX0_copy_92 : decode cX0_copy 92 = .ok (.astore 6, 2) := dk_58 6 (dk_at dksX0_copy_3 21 rfl rfl)
theorem dX0_copy_94 : decode cX0_copy 94 = .ok (.aload_n 0, 1) := dk_42 (dk_at dksX0_copy_3 23 rfl rfl)
theorem dX0_copy_95 : decode cX0_copy 95 = .ok (.aload 6, 2) := dk_25 6 (dk_at dksX0_copy_4 0 rfl rfl)
theorem dX0_copy_97 : decode cX0_copy 97 = .ok (.invokevirtual 163, 3) := dk_182 0 163 (dk_at dksX0_copy_4 2 rfl rfl)
theorem dX0_copy_100 : decode cX0_copy 100 = .ok (.ireturn, 1) := dk_172 (dk_at dksX0_copy_4 5 rfl rfl)
abbrev cX0_drop : ByteArray := prog_1_method_13_code
def yX0_drop : MethodName := ⟨RX0, "drop", "(I)I"⟩
def dkwX0_drop_1 : List UInt8 := [27, 1, 83, 42, 28, 182, 0, 160, 172, 77, 42, 44, 182, 0, 163, 172]
abbrev dktX0_drop_1 : List UInt8 := dkwX0_drop_1 ++ []
def dkwX0_drop_0 : List UInt8 := [27, 184, 0, 151, 154, 0, 6, 18, 156, 172, 42, 27, 182, 0, 167, 180, 0, 171, 190, 61, 42, 180, 0, 91]
abbrev dktX0_drop_0 : List UInt8 := dkwX0_drop_0 ++ dktX0_drop_1
theorem dksX0_drop_0 : cX0_drop.data.toList.drop 0 = dktX0_drop_0 := by decide +kernel
theorem dksX0_drop_1 : cX0_drop.data.toList.drop 24 = dktX0_drop_1 := dk_seg dksX0_drop_0 24 rfl rfl
theorem dX0_drop_0 : decode cX0_drop 0 = .ok (.iload_n 1, 1) := dk_27 (dk_at dksX0_drop_0 0 rfl rfl)
theorem dX0_drop_1 : decode cX0_drop 1 = .ok (.invokestatic 151, 3) := dk_184 0 151 (dk_at dksX0_drop_0 1 rfl rfl)
theorem dX0_drop_4 : decode cX0_drop 4 = .ok (.ifCond .ne 6, 3) := dk_154 0 6 (dk_at dksX0_drop_0 4 rfl rfl)
theorem dX0_drop_7 : decode cX0_drop 7 = .ok (.ldc 156, 2) := dk_18 156 (dk_at dksX0_drop_0 7 rfl rfl)
theorem dX0_drop_9 : decode cX0_drop 9 = .ok (.ireturn, 1) := dk_172 (dk_at dksX0_drop_0 9 rfl rfl)
theorem dX0_drop_10 : decode cX0_drop 10 = .ok (.aload_n 0, 1) := dk_42 (dk_at dksX0_drop_0 10 rfl rfl)
theorem dX0_drop_11 : decode cX0_drop 11 = .ok (.iload_n 1, 1) := dk_27 (dk_at dksX0_drop_0 11 rfl rfl)
theorem dX0_drop_12 : decode cX0_drop 12 = .ok (.invokevirtual 167, 3) := dk_182 0 167 (dk_at dksX0_drop_0 12 rfl rfl)
theorem dX0_drop_15 : decode cX0_drop 15 = .ok (.getfield 171, 3) := dk_180 0 171 (dk_at dksX0_drop_0 15 rfl rfl)
theorem dX0_drop_18 : decode cX0_drop 18 = .ok (.arraylength, 1) := dk_190 (dk_at dksX0_drop_0 18 rfl rfl)
theorem dX0_drop_19 : decode cX0_drop 19 = .ok (.istore_n 2, 1) := dk_61 (dk_at dksX0_drop_0 19 rfl rfl)
theorem dX0_drop_20 : decode cX0_drop 20 = .ok (.aload_n 0, 1) := dk_42 (dk_at dksX0_drop_0 20 rfl rfl)
theorem dX0_drop_21 : decode cX0_drop 21 = .ok (.getfield 91, 3) := dk_180 0 91 (dk_at dksX0_drop_0 21 rfl rfl)
theorem dX0_drop_24 : decode cX0_drop 24 = .ok (.iload_n 1, 1) := dk_27 (dk_at dksX0_drop_1 0 rfl rfl)
theorem dX0_drop_25 : decode cX0_drop 25 = .ok (.aconst_null, 1) := dk_1 (dk_at dksX0_drop_1 1 rfl rfl)
theorem dX0_drop_26 : decode cX0_drop 26 = .ok (.aastore, 1) := dk_83 (dk_at dksX0_drop_1 2 rfl rfl)
theorem dX0_drop_27 : decode cX0_drop 27 = .ok (.aload_n 0, 1) := dk_42 (dk_at dksX0_drop_1 3 rfl rfl)
theorem dX0_drop_28 : decode cX0_drop 28 = .ok (.iload_n 2, 1) := dk_28 (dk_at dksX0_drop_1 4 rfl rfl)
theorem dX0_drop_29 : decode cX0_drop 29 = .ok (.invokevirtual 160, 3) := dk_182 0 160 (dk_at dksX0_drop_1 5 rfl rfl)
theorem dX0_drop_32 : decode cX0_drop 32 = .ok (.ireturn, 1) := dk_172 (dk_at dksX0_drop_1 8 rfl rfl)
theorem dX0_drop_33 : decode cX0_drop 33 = .ok (.astore_n 2, 1) := dk_77 (dk_at dksX0_drop_1 9 rfl rfl)
theorem dX0_drop_34 : decode cX0_drop 34 = .ok (.aload_n 0, 1) := dk_42 (dk_at dksX0_drop_1 10 rfl rfl)
theorem dX0_drop_35 : decode cX0_drop 35 = .ok (.aload_n 2, 1) := dk_44 (dk_at dksX0_drop_1 11 rfl rfl)
theorem dX0_drop_36 : decode cX0_drop 36 = .ok (.invokevirtual 163, 3) := dk_182 0 163 (dk_at dksX0_drop_1 12 rfl rfl)
theorem dX0_drop_39 : decode cX0_drop 39 = .ok (.ireturn, 1) := dk_172 (dk_at dksX0_drop_1 15 rfl rfl)
abbrev cX0_feed : ByteArray := prog_1_method_14_code
def yX0_feed : MethodName := ⟨RX0, "feed", "(JI)I"⟩
def dkwX0_feed_3 : List UInt8 := [167, 255, 223, 42, 180, 0, 190, 172]
abbrev dktX0_feed_3 : List UInt8 := dkwX0_feed_3 ++ []
def dkwX0_feed_2 : List UInt8 := [180, 0, 190, 90, 4, 96, 181, 0, 190, 31, 16, 8, 21, 4, 104, 123, 136, 145, 84, 132, 4, 255]
abbrev dktX0_feed_2 : List UInt8 := dkwX0_feed_2 ++ dktX0_feed_3
def dkwX0_feed_1 : List UInt8 := [164, 0, 6, 18, 193, 172, 29, 4, 100, 54, 4, 21, 4, 155, 0, 34, 42, 180, 0, 110, 42, 89]
abbrev dktX0_feed_1 : List UInt8 := dkwX0_feed_1 ++ dktX0_feed_2
def dkwX0_feed_0 : List UInt8 := [29, 133, 10, 20, 0, 188, 184, 0, 143, 154, 0, 6, 18, 156, 172, 42, 180, 0, 190, 29, 96, 17, 1, 144]
abbrev dktX0_feed_0 : List UInt8 := dkwX0_feed_0 ++ dktX0_feed_1
theorem dksX0_feed_0 : cX0_feed.data.toList.drop 0 = dktX0_feed_0 := by decide +kernel
theorem dksX0_feed_1 : cX0_feed.data.toList.drop 24 = dktX0_feed_1 := dk_seg dksX0_feed_0 24 rfl rfl
theorem dksX0_feed_2 : cX0_feed.data.toList.drop 46 = dktX0_feed_2 := dk_seg dksX0_feed_1 22 rfl rfl
theorem dksX0_feed_3 : cX0_feed.data.toList.drop 68 = dktX0_feed_3 := dk_seg dksX0_feed_2 22 rfl rfl
theorem dX0_feed_0 : decode cX0_feed 0 = .ok (.iload_n 3, 1) := dk_29 (dk_at dksX0_feed_0 0 rfl rfl)
theorem dX0_feed_1 : decode cX0_feed 1 = .ok (.i2l, 1) := dk_133 (dk_at dksX0_feed_0 1 rfl rfl)
theorem dX0_feed_2 : decode cX0_feed 2 = .ok (.lconst 1, 1) := dk_10 (dk_at dksX0_feed_0 2 rfl rfl)
theorem dX0_feed_3 : decode cX0_feed 3 = .ok (.ldc2_w 188, 3) := dk_20 0 188 (dk_at dksX0_feed_0 3 rfl rfl)
theorem dX0_feed_6 : decode cX0_feed 6 = .ok (.invokestatic 143, 3) := dk_184 0 143 (dk_at dksX0_feed_0 6 rfl rfl)
theorem dX0_feed_9 : decode cX0_feed 9 = .ok (.ifCond .ne 6, 3) := dk_154 0 6 (dk_at dksX0_feed_0 9 rfl rfl)
theorem dX0_feed_12 : decode cX0_feed 12 = .ok (.ldc 156, 2) := dk_18 156 (dk_at dksX0_feed_0 12 rfl rfl)
theorem dX0_feed_14 : decode cX0_feed 14 = .ok (.ireturn, 1) := dk_172 (dk_at dksX0_feed_0 14 rfl rfl)
theorem dX0_feed_15 : decode cX0_feed 15 = .ok (.aload_n 0, 1) := dk_42 (dk_at dksX0_feed_0 15 rfl rfl)
theorem dX0_feed_16 : decode cX0_feed 16 = .ok (.getfield 190, 3) := dk_180 0 190 (dk_at dksX0_feed_0 16 rfl rfl)
theorem dX0_feed_19 : decode cX0_feed 19 = .ok (.iload_n 3, 1) := dk_29 (dk_at dksX0_feed_0 19 rfl rfl)
theorem dX0_feed_20 : decode cX0_feed 20 = .ok (.iadd, 1) := dk_96 (dk_at dksX0_feed_0 20 rfl rfl)
theorem dX0_feed_21 : decode cX0_feed 21 = .ok (.sipush 400, 3) := dk_17 1 144 (dk_at dksX0_feed_0 21 rfl rfl)
theorem dX0_feed_24 : decode cX0_feed 24 = .ok (.if_icmp .le 6, 3) := dk_164 0 6 (dk_at dksX0_feed_1 0 rfl rfl)
theorem dX0_feed_27 : decode cX0_feed 27 = .ok (.ldc 193, 2) := dk_18 193 (dk_at dksX0_feed_1 3 rfl rfl)
theorem dX0_feed_29 : decode cX0_feed 29 = .ok (.ireturn, 1) := dk_172 (dk_at dksX0_feed_1 5 rfl rfl)
theorem dX0_feed_30 : decode cX0_feed 30 = .ok (.iload_n 3, 1) := dk_29 (dk_at dksX0_feed_1 6 rfl rfl)
theorem dX0_feed_31 : decode cX0_feed 31 = .ok (.iconst 1, 1) := dk_4 (dk_at dksX0_feed_1 7 rfl rfl)
theorem dX0_feed_32 : decode cX0_feed 32 = .ok (.isub, 1) := dk_100 (dk_at dksX0_feed_1 8 rfl rfl)
theorem dX0_feed_33 : decode cX0_feed 33 = .ok (.istore 4, 2) := dk_54 4 (dk_at dksX0_feed_1 9 rfl rfl)
theorem dX0_feed_35 : decode cX0_feed 35 = .ok (.iload 4, 2) := dk_21 4 (dk_at dksX0_feed_1 11 rfl rfl)
theorem dX0_feed_37 : decode cX0_feed 37 = .ok (.ifCond .lt 34, 3) := dk_155 0 34 (dk_at dksX0_feed_1 13 rfl rfl)
theorem dX0_feed_40 : decode cX0_feed 40 = .ok (.aload_n 0, 1) := dk_42 (dk_at dksX0_feed_1 16 rfl rfl)
theorem dX0_feed_41 : decode cX0_feed 41 = .ok (.getfield 110, 3) := dk_180 0 110 (dk_at dksX0_feed_1 17 rfl rfl)
theorem dX0_feed_44 : decode cX0_feed 44 = .ok (.aload_n 0, 1) := dk_42 (dk_at dksX0_feed_1 20 rfl rfl)
theorem dX0_feed_45 : decode cX0_feed 45 = .ok (.dup, 1) := dk_89 (dk_at dksX0_feed_1 21 rfl rfl)
theorem dX0_feed_46 : decode cX0_feed 46 = .ok (.getfield 190, 3) := dk_180 0 190 (dk_at dksX0_feed_2 0 rfl rfl)
theorem dX0_feed_49 : decode cX0_feed 49 = .ok (.dup_x1, 1) := dk_90 (dk_at dksX0_feed_2 3 rfl rfl)
theorem dX0_feed_50 : decode cX0_feed 50 = .ok (.iconst 1, 1) := dk_4 (dk_at dksX0_feed_2 4 rfl rfl)
theorem dX0_feed_51 : decode cX0_feed 51 = .ok (.iadd, 1) := dk_96 (dk_at dksX0_feed_2 5 rfl rfl)
theorem dX0_feed_52 : decode cX0_feed 52 = .ok (.putfield 190, 3) := dk_181 0 190 (dk_at dksX0_feed_2 6 rfl rfl)
theorem dX0_feed_55 : decode cX0_feed 55 = .ok (.lload_n 1, 1) := dk_31 (dk_at dksX0_feed_2 9 rfl rfl)
theorem dX0_feed_56 : decode cX0_feed 56 = .ok (.bipush 8, 2) := dk_16 8 (dk_at dksX0_feed_2 10 rfl rfl)
theorem dX0_feed_58 : decode cX0_feed 58 = .ok (.iload 4, 2) := dk_21 4 (dk_at dksX0_feed_2 12 rfl rfl)
theorem dX0_feed_60 : decode cX0_feed 60 = .ok (.imul, 1) := dk_104 (dk_at dksX0_feed_2 14 rfl rfl)
theorem dX0_feed_61 : decode cX0_feed 61 = .ok (.lshr, 1) := dk_123 (dk_at dksX0_feed_2 15 rfl rfl)
theorem dX0_feed_62 : decode cX0_feed 62 = .ok (.l2i, 1) := dk_136 (dk_at dksX0_feed_2 16 rfl rfl)
theorem dX0_feed_63 : decode cX0_feed 63 = .ok (.i2b, 1) := dk_145 (dk_at dksX0_feed_2 17 rfl rfl)
theorem dX0_feed_64 : decode cX0_feed 64 = .ok (.bastore, 1) := dk_84 (dk_at dksX0_feed_2 18 rfl rfl)
theorem dX0_feed_65 : decode cX0_feed 65 = .ok (.iinc 4 (-1), 3) := dk_132 4 255 (dk_at dksX0_feed_2 19 rfl rfl)
theorem dX0_feed_68 : decode cX0_feed 68 = .ok (.goto (-33), 3) := dk_167 255 223 (dk_at dksX0_feed_3 0 rfl rfl)
theorem dX0_feed_71 : decode cX0_feed 71 = .ok (.aload_n 0, 1) := dk_42 (dk_at dksX0_feed_3 3 rfl rfl)
theorem dX0_feed_72 : decode cX0_feed 72 = .ok (.getfield 190, 3) := dk_180 0 190 (dk_at dksX0_feed_3 4 rfl rfl)
theorem dX0_feed_75 : decode cX0_feed 75 = .ok (.ireturn, 1) := dk_172 (dk_at dksX0_feed_3 7 rfl rfl)
abbrev cX0_rules : ByteArray := prog_1_method_15_code
def yX0_rules : MethodName := ⟨RX0, "rules", "()I"⟩
def dkwX0_rules_3 : List UInt8 := [180, 0, 217, 172]
abbrev dktX0_rules_3 : List UInt8 := dkwX0_rules_3 ++ []
def dkwX0_rules_2 : List UInt8 := [162, 0, 21, 42, 180, 0, 33, 28, 43, 180, 0, 214, 28, 50, 83, 132, 2, 1, 167, 255, 236, 43]
abbrev dktX0_rules_2 : List UInt8 := dkwX0_rules_2 ++ dktX0_rules_3
def dkwX0_rules_1 : List UInt8 := [180, 0, 204, 181, 0, 207, 18, 210, 44, 180, 0, 211, 100, 172, 42, 3, 181, 0, 190, 3, 61, 28, 7]
abbrev dktX0_rules_1 : List UInt8 := dkwX0_rules_1 ++ dktX0_rules_2
def dkwX0_rules_0 : List UInt8 := [187, 0, 194, 89, 42, 183, 0, 196, 76, 43, 182, 0, 199, 167, 0, 25, 77, 42, 3, 181, 0, 190, 42, 44]
abbrev dktX0_rules_0 : List UInt8 := dkwX0_rules_0 ++ dktX0_rules_1
theorem dksX0_rules_0 : cX0_rules.data.toList.drop 0 = dktX0_rules_0 := by decide +kernel
theorem dksX0_rules_1 : cX0_rules.data.toList.drop 24 = dktX0_rules_1 := dk_seg dksX0_rules_0 24 rfl rfl
theorem dksX0_rules_2 : cX0_rules.data.toList.drop 47 = dktX0_rules_2 := dk_seg dksX0_rules_1 23 rfl rfl
theorem dksX0_rules_3 : cX0_rules.data.toList.drop 69 = dktX0_rules_3 := dk_seg dksX0_rules_2 22 rfl rfl
theorem dX0_rules_0 : decode cX0_rules 0 = .ok (.new 194, 3) := dk_187 0 194 (dk_at dksX0_rules_0 0 rfl rfl)
theorem dX0_rules_3 : decode cX0_rules 3 = .ok (.dup, 1) := dk_89 (dk_at dksX0_rules_0 3 rfl rfl)
theorem dX0_rules_4 : decode cX0_rules 4 = .ok (.aload_n 0, 1) := dk_42 (dk_at dksX0_rules_0 4 rfl rfl)
theorem dX0_rules_5 : decode cX0_rules 5 = .ok (.invokespecial 196, 3) := dk_183 0 196 (dk_at dksX0_rules_0 5 rfl rfl)
theorem dX0_rules_8 : decode cX0_rules 8 = .ok (.astore_n 1, 1) := dk_76 (dk_at dksX0_rules_0 8 rfl rfl)
theorem dX0_rules_9 : decode cX0_rules 9 = .ok (.aload_n 1, 1) := dk_43 (dk_at dksX0_rules_0 9 rfl rfl)
theorem dX0_rules_10 : decode cX0_rules 10 = .ok (.invokevirtual 199, 3) := dk_182 0 199 (dk_at dksX0_rules_0 10 rfl rfl)
theorem dX0_rules_13 : decode cX0_rules 13 = .ok (.goto 25, 3) := dk_167 0 25 (dk_at dksX0_rules_0 13 rfl rfl)
theorem dX0_rules_16 : decode cX0_rules 16 = .ok (.astore_n 2, 1) := dk_77 (dk_at dksX0_rules_0 16 rfl rfl)
theorem dX0_rules_17 : decode cX0_rules 17 = .ok (.aload_n 0, 1) := dk_42 (dk_at dksX0_rules_0 17 rfl rfl)
theorem dX0_rules_18 : decode cX0_rules 18 = .ok (.iconst 0, 1) := dk_3 (dk_at dksX0_rules_0 18 rfl rfl)
theorem dX0_rules_19 : decode cX0_rules 19 = .ok (.putfield 190, 3) := dk_181 0 190 (dk_at dksX0_rules_0 19 rfl rfl)
theorem dX0_rules_22 : decode cX0_rules 22 = .ok (.aload_n 0, 1) := dk_42 (dk_at dksX0_rules_0 22 rfl rfl)
theorem dX0_rules_23 : decode cX0_rules 23 = .ok (.aload_n 2, 1) := dk_44 (dk_at dksX0_rules_0 23 rfl rfl)
theorem dX0_rules_24 : decode cX0_rules 24 = .ok (.getfield 204, 3) := dk_180 0 204 (dk_at dksX0_rules_1 0 rfl rfl)
theorem dX0_rules_27 : decode cX0_rules 27 = .ok (.putfield 207, 3) := dk_181 0 207 (dk_at dksX0_rules_1 3 rfl rfl)
theorem dX0_rules_30 : decode cX0_rules 30 = .ok (.ldc 210, 2) := dk_18 210 (dk_at dksX0_rules_1 6 rfl rfl)
theorem dX0_rules_32 : decode cX0_rules 32 = .ok (.aload_n 2, 1) := dk_44 (dk_at dksX0_rules_1 8 rfl rfl)
theorem dX0_rules_33 : decode cX0_rules 33 = .ok (.getfield 211, 3) := dk_180 0 211 (dk_at dksX0_rules_1 9 rfl rfl)
theorem dX0_rules_36 : decode cX0_rules 36 = .ok (.isub, 1) := dk_100 (dk_at dksX0_rules_1 12 rfl rfl)
theorem dX0_rules_37 : decode cX0_rules 37 = .ok (.ireturn, 1) := dk_172 (dk_at dksX0_rules_1 13 rfl rfl)
theorem dX0_rules_38 : decode cX0_rules 38 = .ok (.aload_n 0, 1) := dk_42 (dk_at dksX0_rules_1 14 rfl rfl)
theorem dX0_rules_39 : decode cX0_rules 39 = .ok (.iconst 0, 1) := dk_3 (dk_at dksX0_rules_1 15 rfl rfl)
theorem dX0_rules_40 : decode cX0_rules 40 = .ok (.putfield 190, 3) := dk_181 0 190 (dk_at dksX0_rules_1 16 rfl rfl)
theorem dX0_rules_43 : decode cX0_rules 43 = .ok (.iconst 0, 1) := dk_3 (dk_at dksX0_rules_1 19 rfl rfl)
theorem dX0_rules_44 : decode cX0_rules 44 = .ok (.istore_n 2, 1) := dk_61 (dk_at dksX0_rules_1 20 rfl rfl)
theorem dX0_rules_45 : decode cX0_rules 45 = .ok (.iload_n 2, 1) := dk_28 (dk_at dksX0_rules_1 21 rfl rfl)
theorem dX0_rules_46 : decode cX0_rules 46 = .ok (.iconst 4, 1) := dk_7 (dk_at dksX0_rules_1 22 rfl rfl)
theorem dX0_rules_47 : decode cX0_rules 47 = .ok (.if_icmp .ge 21, 3) := dk_162 0 21 (dk_at dksX0_rules_2 0 rfl rfl)
theorem dX0_rules_50 : decode cX0_rules 50 = .ok (.aload_n 0, 1) := dk_42 (dk_at dksX0_rules_2 3 rfl rfl)
theorem dX0_rules_51 : decode cX0_rules 51 = .ok (.getfield 33, 3) := dk_180 0 33 (dk_at dksX0_rules_2 4 rfl rfl)
theorem dX0_rules_54 : decode cX0_rules 54 = .ok (.iload_n 2, 1) := dk_28 (dk_at dksX0_rules_2 7 rfl rfl)
theorem dX0_rules_55 : decode cX0_rules 55 = .ok (.aload_n 1, 1) := dk_43 (dk_at dksX0_rules_2 8 rfl rfl)
theorem dX0_rules_56 : decode cX0_rules 56 = .ok (.getfield 214, 3) := dk_180 0 214 (dk_at dksX0_rules_2 9 rfl rfl)
theorem dX0_rules_59 : decode cX0_rules 59 = .ok (.iload_n 2, 1) := dk_28 (dk_at dksX0_rules_2 12 rfl rfl)
theorem dX0_rules_60 : decode cX0_rules 60 = .ok (.aaload, 1) := dk_50 (dk_at dksX0_rules_2 13 rfl rfl)
theorem dX0_rules_61 : decode cX0_rules 61 = .ok (.aastore, 1) := dk_83 (dk_at dksX0_rules_2 14 rfl rfl)
theorem dX0_rules_62 : decode cX0_rules 62 = .ok (.iinc 2 1, 3) := dk_132 2 1 (dk_at dksX0_rules_2 15 rfl rfl)
theorem dX0_rules_65 : decode cX0_rules 65 = .ok (.goto (-20), 3) := dk_167 255 236 (dk_at dksX0_rules_2 18 rfl rfl)
theorem dX0_rules_68 : decode cX0_rules 68 = .ok (.aload_n 1, 1) := dk_43 (dk_at dksX0_rules_2 21 rfl rfl)
theorem dX0_rules_69 : decode cX0_rules 69 = .ok (.getfield 217, 3) := dk_180 0 217 (dk_at dksX0_rules_3 0 rfl rfl)
theorem dX0_rules_72 : decode cX0_rules 72 = .ok (.ireturn, 1) := dk_172 (dk_at dksX0_rules_3 3 rfl rfl)
abbrev cX0_fault : ByteArray := prog_1_method_16_code
def yX0_fault : MethodName := ⟨RX0, "fault", "()I"⟩
theorem dX0_fault_0 : decode cX0_fault 0 = .ok (.aload_n 0, 1) := by decide +kernel
theorem dX0_fault_1 : decode cX0_fault 1 = .ok (.getfield 207, 3) := by decide +kernel
theorem dX0_fault_4 : decode cX0_fault 4 = .ok (.ireturn, 1) := by decide +kernel
abbrev cX0_hall : ByteArray := prog_1_method_18_code
def yX0_hall : MethodName := ⟨RX0, "hall", "(II)I"⟩
def dkwX0_hall_2 : List UInt8 := [180, 0, 33, 27, 50, 28, 182, 0, 235, 167, 0, 5, 18, 156, 172]
abbrev dktX0_hall_2 : List UInt8 := dkwX0_hall_2 ++ []
def dkwX0_hall_1 : List UInt8 := [20, 0, 229, 184, 0, 143, 154, 0, 17, 28, 133, 20, 0, 231, 20, 0, 233, 184, 0, 143, 153, 0, 16, 42]
abbrev dktX0_hall_1 : List UInt8 := dkwX0_hall_1 ++ dktX0_hall_2
def dkwX0_hall_0 : List UInt8 := [27, 184, 0, 222, 153, 0, 56, 28, 133, 9, 20, 0, 225, 184, 0, 143, 154, 0, 31, 28, 133, 20, 0, 227]
abbrev dktX0_hall_0 : List UInt8 := dkwX0_hall_0 ++ dktX0_hall_1
theorem dksX0_hall_0 : cX0_hall.data.toList.drop 0 = dktX0_hall_0 := by decide +kernel
theorem dksX0_hall_1 : cX0_hall.data.toList.drop 24 = dktX0_hall_1 := dk_seg dksX0_hall_0 24 rfl rfl
theorem dksX0_hall_2 : cX0_hall.data.toList.drop 48 = dktX0_hall_2 := dk_seg dksX0_hall_1 24 rfl rfl
theorem dX0_hall_0 : decode cX0_hall 0 = .ok (.iload_n 1, 1) := dk_27 (dk_at dksX0_hall_0 0 rfl rfl)
theorem dX0_hall_1 : decode cX0_hall 1 = .ok (.invokestatic 222, 3) := dk_184 0 222 (dk_at dksX0_hall_0 1 rfl rfl)
theorem dX0_hall_4 : decode cX0_hall 4 = .ok (.ifCond .eq 56, 3) := dk_153 0 56 (dk_at dksX0_hall_0 4 rfl rfl)
theorem dX0_hall_7 : decode cX0_hall 7 = .ok (.iload_n 2, 1) := dk_28 (dk_at dksX0_hall_0 7 rfl rfl)
theorem dX0_hall_8 : decode cX0_hall 8 = .ok (.i2l, 1) := dk_133 (dk_at dksX0_hall_0 8 rfl rfl)
theorem dX0_hall_9 : decode cX0_hall 9 = .ok (.lconst 0, 1) := dk_9 (dk_at dksX0_hall_0 9 rfl rfl)
theorem dX0_hall_10 : decode cX0_hall 10 = .ok (.ldc2_w 225, 3) := dk_20 0 225 (dk_at dksX0_hall_0 10 rfl rfl)
theorem dX0_hall_13 : decode cX0_hall 13 = .ok (.invokestatic 143, 3) := dk_184 0 143 (dk_at dksX0_hall_0 13 rfl rfl)
theorem dX0_hall_16 : decode cX0_hall 16 = .ok (.ifCond .ne 31, 3) := dk_154 0 31 (dk_at dksX0_hall_0 16 rfl rfl)
theorem dX0_hall_19 : decode cX0_hall 19 = .ok (.iload_n 2, 1) := dk_28 (dk_at dksX0_hall_0 19 rfl rfl)
theorem dX0_hall_20 : decode cX0_hall 20 = .ok (.i2l, 1) := dk_133 (dk_at dksX0_hall_0 20 rfl rfl)
theorem dX0_hall_21 : decode cX0_hall 21 = .ok (.ldc2_w 227, 3) := dk_20 0 227 (dk_at dksX0_hall_0 21 rfl rfl)
theorem dX0_hall_24 : decode cX0_hall 24 = .ok (.ldc2_w 229, 3) := dk_20 0 229 (dk_at dksX0_hall_1 0 rfl rfl)
theorem dX0_hall_27 : decode cX0_hall 27 = .ok (.invokestatic 143, 3) := dk_184 0 143 (dk_at dksX0_hall_1 3 rfl rfl)
theorem dX0_hall_30 : decode cX0_hall 30 = .ok (.ifCond .ne 17, 3) := dk_154 0 17 (dk_at dksX0_hall_1 6 rfl rfl)
theorem dX0_hall_33 : decode cX0_hall 33 = .ok (.iload_n 2, 1) := dk_28 (dk_at dksX0_hall_1 9 rfl rfl)
theorem dX0_hall_34 : decode cX0_hall 34 = .ok (.i2l, 1) := dk_133 (dk_at dksX0_hall_1 10 rfl rfl)
theorem dX0_hall_35 : decode cX0_hall 35 = .ok (.ldc2_w 231, 3) := dk_20 0 231 (dk_at dksX0_hall_1 11 rfl rfl)
theorem dX0_hall_38 : decode cX0_hall 38 = .ok (.ldc2_w 233, 3) := dk_20 0 233 (dk_at dksX0_hall_1 14 rfl rfl)
theorem dX0_hall_41 : decode cX0_hall 41 = .ok (.invokestatic 143, 3) := dk_184 0 143 (dk_at dksX0_hall_1 17 rfl rfl)
theorem dX0_hall_44 : decode cX0_hall 44 = .ok (.ifCond .eq 16, 3) := dk_153 0 16 (dk_at dksX0_hall_1 20 rfl rfl)
theorem dX0_hall_47 : decode cX0_hall 47 = .ok (.aload_n 0, 1) := dk_42 (dk_at dksX0_hall_1 23 rfl rfl)
theorem dX0_hall_48 : decode cX0_hall 48 = .ok (.getfield 33, 3) := dk_180 0 33 (dk_at dksX0_hall_2 0 rfl rfl)
theorem dX0_hall_51 : decode cX0_hall 51 = .ok (.iload_n 1, 1) := dk_27 (dk_at dksX0_hall_2 3 rfl rfl)
theorem dX0_hall_52 : decode cX0_hall 52 = .ok (.aaload, 1) := dk_50 (dk_at dksX0_hall_2 4 rfl rfl)
theorem dX0_hall_53 : decode cX0_hall 53 = .ok (.iload_n 2, 1) := dk_28 (dk_at dksX0_hall_2 5 rfl rfl)
theorem dX0_hall_54 : decode cX0_hall 54 = .ok (.invokevirtual 235, 3) := dk_182 0 235 (dk_at dksX0_hall_2 6 rfl rfl)
theorem dX0_hall_57 : decode cX0_hall 57 = .ok (.goto 5, 3) := dk_167 0 5 (dk_at dksX0_hall_2 9 rfl rfl)
theorem dX0_hall_60 : decode cX0_hall 60 = .ok (.ldc 156, 2) := dk_18 156 (dk_at dksX0_hall_2 12 rfl rfl)
theorem dX0_hall_62 : decode cX0_hall 62 = .ok (.ireturn, 1) := dk_172 (dk_at dksX0_hall_2 14 rfl rfl)
abbrev cX0_isHall : ByteArray := prog_1_method_17_code
def yX0_isHall : MethodName := ⟨RX0, "isHall", "(I)Z"⟩
def dkwX0_isHall_0 : List UInt8 := [26, 133, 9, 20, 0, 220, 184, 0, 143, 172]
abbrev dktX0_isHall_0 : List UInt8 := dkwX0_isHall_0 ++ []
theorem dksX0_isHall_0 : cX0_isHall.data.toList.drop 0 = dktX0_isHall_0 := by decide +kernel
theorem dX0_isHall_0 : decode cX0_isHall 0 = .ok (.iload_n 0, 1) := dk_26 (dk_at dksX0_isHall_0 0 rfl rfl)
theorem dX0_isHall_1 : decode cX0_isHall 1 = .ok (.i2l, 1) := dk_133 (dk_at dksX0_isHall_0 1 rfl rfl)
theorem dX0_isHall_2 : decode cX0_isHall 2 = .ok (.lconst 0, 1) := dk_9 (dk_at dksX0_isHall_0 2 rfl rfl)
theorem dX0_isHall_3 : decode cX0_isHall 3 = .ok (.ldc2_w 220, 3) := dk_20 0 220 (dk_at dksX0_isHall_0 3 rfl rfl)
theorem dX0_isHall_6 : decode cX0_isHall 6 = .ok (.invokestatic 143, 3) := dk_184 0 143 (dk_at dksX0_isHall_0 6 rfl rfl)
theorem dX0_isHall_9 : decode cX0_isHall 9 = .ok (.ireturn, 1) := dk_172 (dk_at dksX0_isHall_0 9 rfl rfl)
abbrev cX0_book : ByteArray := prog_1_method_22_code
def yX0_book : MethodName := ⟨RX0, "book", "(II)I"⟩
def dkwX0_book_4 : List UInt8 := [45, 182, 0, 163, 172]
abbrev dktX0_book_4 : List UInt8 := dkwX0_book_4 ++ []
def dkwX0_book_3 : List UInt8 := [185, 1, 9, 2, 0, 87, 42, 42, 180, 0, 1, 185, 0, 71, 1, 0, 4, 100, 182, 0, 160, 172, 78, 42]
abbrev dktX0_book_3 : List UInt8 := dkwX0_book_3 ++ dktX0_book_4
def dkwX0_book_2 : List UInt8 := [172, 42, 180, 0, 1, 187, 0, 13, 89, 42, 180, 0, 1, 185, 0, 71, 1, 0, 45, 183, 1, 6]
abbrev dktX0_book_2 : List UInt8 := dkwX0_book_2 ++ dktX0_book_3
def dkwX0_book_1 : List UInt8 := [18, 193, 172, 42, 27, 182, 0, 167, 28, 16, 9, 182, 0, 254, 78, 45, 184, 1, 2, 154, 0, 6, 18, 156]
abbrev dktX0_book_1 : List UInt8 := dkwX0_book_1 ++ dktX0_book_2
def dkwX0_book_0 : List UInt8 := [27, 184, 0, 151, 154, 0, 6, 18, 156, 172, 42, 180, 0, 1, 185, 0, 71, 1, 0, 16, 16, 160, 0, 6]
abbrev dktX0_book_0 : List UInt8 := dkwX0_book_0 ++ dktX0_book_1
theorem dksX0_book_0 : cX0_book.data.toList.drop 0 = dktX0_book_0 := by decide +kernel
theorem dksX0_book_1 : cX0_book.data.toList.drop 24 = dktX0_book_1 := dk_seg dksX0_book_0 24 rfl rfl
theorem dksX0_book_2 : cX0_book.data.toList.drop 48 = dktX0_book_2 := dk_seg dksX0_book_1 24 rfl rfl
theorem dksX0_book_3 : cX0_book.data.toList.drop 70 = dktX0_book_3 := dk_seg dksX0_book_2 22 rfl rfl
theorem dksX0_book_4 : cX0_book.data.toList.drop 94 = dktX0_book_4 := dk_seg dksX0_book_3 24 rfl rfl
theorem dX0_book_0 : decode cX0_book 0 = .ok (.iload_n 1, 1) := dk_27 (dk_at dksX0_book_0 0 rfl rfl)
theorem dX0_book_1 : decode cX0_book 1 = .ok (.invokestatic 151, 3) := dk_184 0 151 (dk_at dksX0_book_0 1 rfl rfl)
theorem dX0_book_4 : decode cX0_book 4 = .ok (.ifCond .ne 6, 3) := dk_154 0 6 (dk_at dksX0_book_0 4 rfl rfl)
theorem dX0_book_7 : decode cX0_book 7 = .ok (.ldc 156, 2) := dk_18 156 (dk_at dksX0_book_0 7 rfl rfl)
theorem dX0_book_9 : decode cX0_book 9 = .ok (.ireturn, 1) := dk_172 (dk_at dksX0_book_0 9 rfl rfl)
theorem dX0_book_10 : decode cX0_book 10 = .ok (.aload_n 0, 1) := dk_42 (dk_at dksX0_book_0 10 rfl rfl)
theorem dX0_book_11 : decode cX0_book 11 = .ok (.getfield 1, 3) := dk_180 0 1 (dk_at dksX0_book_0 11 rfl rfl)
theorem dX0_book_14 : decode cX0_book 14 = .ok (.invokeinterface 71 1, 5) := by decide +kernel
theorem dX0_book_19 : decode cX0_book 19 = .ok (.bipush 16, 2) := dk_16 16 (dk_at dksX0_book_0 19 rfl rfl)
theorem dX0_book_21 : decode cX0_book 21 = .ok (.if_icmp .ne 6, 3) := dk_160 0 6 (dk_at dksX0_book_0 21 rfl rfl)
theorem dX0_book_24 : decode cX0_book 24 = .ok (.ldc 193, 2) := dk_18 193 (dk_at dksX0_book_1 0 rfl rfl)
theorem dX0_book_26 : decode cX0_book 26 = .ok (.ireturn, 1) := dk_172 (dk_at dksX0_book_1 2 rfl rfl)
theorem dX0_book_27 : decode cX0_book 27 = .ok (.aload_n 0, 1) := dk_42 (dk_at dksX0_book_1 3 rfl rfl)
theorem dX0_book_28 : decode cX0_book 28 = .ok (.iload_n 1, 1) := dk_27 (dk_at dksX0_book_1 4 rfl rfl)
theorem dX0_book_29 : decode cX0_book 29 = .ok (.invokevirtual 167, 3) := dk_182 0 167 (dk_at dksX0_book_1 5 rfl rfl)
theorem dX0_book_32 : decode cX0_book 32 = .ok (.iload_n 2, 1) := dk_28 (dk_at dksX0_book_1 8 rfl rfl)
theorem dX0_book_33 : decode cX0_book 33 = .ok (.bipush 9, 2) := dk_16 9 (dk_at dksX0_book_1 9 rfl rfl)
theorem dX0_book_35 : decode cX0_book 35 = .ok (.invokevirtual 254, 3) := dk_182 0 254 (dk_at dksX0_book_1 11 rfl rfl)
theorem dX0_book_38 : decode cX0_book 38 = .ok (.astore_n 3, 1) := dk_78 (dk_at dksX0_book_1 14 rfl rfl)
theorem dX0_book_39 : decode cX0_book 39 = .ok (.aload_n 3, 1) := dk_45 (dk_at dksX0_book_1 15 rfl rfl)
theorem dX0_book_40 : decode cX0_book 40 = .ok (.invokestatic 258, 3) := dk_184 1 2 (dk_at dksX0_book_1 16 rfl rfl)
theorem dX0_book_43 : decode cX0_book 43 = .ok (.ifCond .ne 6, 3) := dk_154 0 6 (dk_at dksX0_book_1 19 rfl rfl)
theorem dX0_book_46 : decode cX0_book 46 = .ok (.ldc 156, 2) := dk_18 156 (dk_at dksX0_book_1 22 rfl rfl)
theorem dX0_book_48 : decode cX0_book 48 = .ok (.ireturn, 1) := dk_172 (dk_at dksX0_book_2 0 rfl rfl)
theorem dX0_book_49 : decode cX0_book 49 = .ok (.aload_n 0, 1) := dk_42 (dk_at dksX0_book_2 1 rfl rfl)
theorem dX0_book_50 : decode cX0_book 50 = .ok (.getfield 1, 3) := dk_180 0 1 (dk_at dksX0_book_2 2 rfl rfl)
theorem dX0_book_53 : decode cX0_book 53 = .ok (.new 13, 3) := dk_187 0 13 (dk_at dksX0_book_2 5 rfl rfl)
theorem dX0_book_56 : decode cX0_book 56 = .ok (.dup, 1) := dk_89 (dk_at dksX0_book_2 8 rfl rfl)
theorem dX0_book_57 : decode cX0_book 57 = .ok (.aload_n 0, 1) := dk_42 (dk_at dksX0_book_2 9 rfl rfl)
theorem dX0_book_58 : decode cX0_book 58 = .ok (.getfield 1, 3) := dk_180 0 1 (dk_at dksX0_book_2 10 rfl rfl)
theorem dX0_book_61 : decode cX0_book 61 = .ok (.invokeinterface 71 1, 5) := by decide +kernel
theorem dX0_book_66 : decode cX0_book 66 = .ok (.aload_n 3, 1) := dk_45 (dk_at dksX0_book_2 18 rfl rfl)
theorem dX0_book_67 : decode cX0_book 67 = .ok (.invokespecial 262, 3) := dk_183 1 6 (dk_at dksX0_book_2 19 rfl rfl)
theorem dX0_book_70 : decode cX0_book 70 = .ok (.invokeinterface 265 2, 5) := by decide +kernel
theorem dX0_book_75 : decode cX0_book 75 = .ok (.pop, 1) := dk_87 (dk_at dksX0_book_3 5 rfl rfl)
theorem dX0_book_76 : decode cX0_book 76 = .ok (.aload_n 0, 1) := dk_42 (dk_at dksX0_book_3 6 rfl rfl)
theorem dX0_book_77 : decode cX0_book 77 = .ok (.aload_n 0, 1) := dk_42 (dk_at dksX0_book_3 7 rfl rfl)
theorem dX0_book_78 : decode cX0_book 78 = .ok (.getfield 1, 3) := dk_180 0 1 (dk_at dksX0_book_3 8 rfl rfl)
theorem dX0_book_81 : decode cX0_book 81 = .ok (.invokeinterface 71 1, 5) := by decide +kernel
theorem dX0_book_86 : decode cX0_book 86 = .ok (.iconst 1, 1) := dk_4 (dk_at dksX0_book_3 16 rfl rfl)
theorem dX0_book_87 : decode cX0_book 87 = .ok (.isub, 1) := dk_100 (dk_at dksX0_book_3 17 rfl rfl)
theorem dX0_book_88 : decode cX0_book 88 = .ok (.invokevirtual 160, 3) := dk_182 0 160 (dk_at dksX0_book_3 18 rfl rfl)
theorem dX0_book_91 : decode cX0_book 91 = .ok (.ireturn, 1) := dk_172 (dk_at dksX0_book_3 21 rfl rfl)
theorem dX0_book_92 : decode cX0_book 92 = .ok (.astore_n 3, 1) := dk_78 (dk_at dksX0_book_3 22 rfl rfl)
theorem dX0_book_93 : decode cX0_book 93 = .ok (.aload_n 0, 1) := dk_42 (dk_at dksX0_book_3 23 rfl rfl)
theorem dX0_book_94 : decode cX0_book 94 = .ok (.aload_n 3, 1) := dk_45 (dk_at dksX0_book_4 0 rfl rfl)
theorem dX0_book_95 : decode cX0_book 95 = .ok (.invokevirtual 163, 3) := dk_182 0 163 (dk_at dksX0_book_4 1 rfl rfl)
theorem dX0_book_98 : decode cX0_book 98 = .ok (.ireturn, 1) := dk_172 (dk_at dksX0_book_4 4 rfl rfl)
abbrev cX0_isBooked : ByteArray := prog_1_method_21_code
def yX0_isBooked : MethodName := ⟨RX0, "isBooked", "([I)Z"⟩
def dkwX0_isBooked_4 : List UInt8 := [184, 0, 143, 153, 0, 7, 4, 167, 0, 4, 3, 172]
abbrev dktX0_isBooked_4 : List UInt8 := dkwX0_isBooked_4 ++ []
def dkwX0_isBooked_3 : List UInt8 := [42, 16, 7, 46, 133, 9, 10, 184, 0, 143, 153, 0, 23, 42, 16, 8, 46, 133, 9, 42, 5, 46, 133]
abbrev dktX0_isBooked_3 : List UInt8 := dkwX0_isBooked_3 ++ dktX0_isBooked_4
def dkwX0_isBooked_2 : List UInt8 := [20, 0, 250, 184, 0, 143, 153, 0, 51, 42, 16, 6, 46, 133, 9, 20, 0, 252, 184, 0, 143, 153, 0, 36]
abbrev dktX0_isBooked_2 : List UInt8 := dkwX0_isBooked_2 ++ dktX0_isBooked_3
def dkwX0_isBooked_1 : List UInt8 := [184, 0, 243, 153, 0, 77, 42, 6, 46, 42, 7, 46, 184, 0, 246, 153, 0, 65, 42, 8, 46, 133, 10]
abbrev dktX0_isBooked_1 : List UInt8 := dkwX0_isBooked_1 ++ dktX0_isBooked_2
def dkwX0_isBooked_0 : List UInt8 := [42, 3, 46, 184, 0, 222, 153, 0, 98, 42, 4, 46, 133, 9, 10, 184, 0, 143, 153, 0, 86, 42, 5, 46]
abbrev dktX0_isBooked_0 : List UInt8 := dkwX0_isBooked_0 ++ dktX0_isBooked_1
theorem dksX0_isBooked_0 : cX0_isBooked.data.toList.drop 0 = dktX0_isBooked_0 := by decide +kernel
theorem dksX0_isBooked_1 : cX0_isBooked.data.toList.drop 24 = dktX0_isBooked_1 := dk_seg dksX0_isBooked_0 24 rfl rfl
theorem dksX0_isBooked_2 : cX0_isBooked.data.toList.drop 47 = dktX0_isBooked_2 := dk_seg dksX0_isBooked_1 23 rfl rfl
theorem dksX0_isBooked_3 : cX0_isBooked.data.toList.drop 71 = dktX0_isBooked_3 := dk_seg dksX0_isBooked_2 24 rfl rfl
theorem dksX0_isBooked_4 : cX0_isBooked.data.toList.drop 94 = dktX0_isBooked_4 := dk_seg dksX0_isBooked_3 23 rfl rfl
theorem dX0_isBooked_0 : decode cX0_isBooked 0 = .ok (.aload_n 0, 1) := dk_42 (dk_at dksX0_isBooked_0 0 rfl rfl)
theorem dX0_isBooked_1 : decode cX0_isBooked 1 = .ok (.iconst 0, 1) := dk_3 (dk_at dksX0_isBooked_0 1 rfl rfl)
theorem dX0_isBooked_2 : decode cX0_isBooked 2 = .ok (.iaload, 1) := dk_46 (dk_at dksX0_isBooked_0 2 rfl rfl)
theorem dX0_isBooked_3 : decode cX0_isBooked 3 = .ok (.invokestatic 222, 3) := dk_184 0 222 (dk_at dksX0_isBooked_0 3 rfl rfl)
theorem dX0_isBooked_6 : decode cX0_isBooked 6 = .ok (.ifCond .eq 98, 3) := dk_153 0 98 (dk_at dksX0_isBooked_0 6 rfl rfl)
theorem dX0_isBooked_9 : decode cX0_isBooked 9 = .ok (.aload_n 0, 1) := dk_42 (dk_at dksX0_isBooked_0 9 rfl rfl)
theorem dX0_isBooked_10 : decode cX0_isBooked 10 = .ok (.iconst 1, 1) := dk_4 (dk_at dksX0_isBooked_0 10 rfl rfl)
theorem dX0_isBooked_11 : decode cX0_isBooked 11 = .ok (.iaload, 1) := dk_46 (dk_at dksX0_isBooked_0 11 rfl rfl)
theorem dX0_isBooked_12 : decode cX0_isBooked 12 = .ok (.i2l, 1) := dk_133 (dk_at dksX0_isBooked_0 12 rfl rfl)
theorem dX0_isBooked_13 : decode cX0_isBooked 13 = .ok (.lconst 0, 1) := dk_9 (dk_at dksX0_isBooked_0 13 rfl rfl)
theorem dX0_isBooked_14 : decode cX0_isBooked 14 = .ok (.lconst 1, 1) := dk_10 (dk_at dksX0_isBooked_0 14 rfl rfl)
theorem dX0_isBooked_15 : decode cX0_isBooked 15 = .ok (.invokestatic 143, 3) := dk_184 0 143 (dk_at dksX0_isBooked_0 15 rfl rfl)
theorem dX0_isBooked_18 : decode cX0_isBooked 18 = .ok (.ifCond .eq 86, 3) := dk_153 0 86 (dk_at dksX0_isBooked_0 18 rfl rfl)
theorem dX0_isBooked_21 : decode cX0_isBooked 21 = .ok (.aload_n 0, 1) := dk_42 (dk_at dksX0_isBooked_0 21 rfl rfl)
theorem dX0_isBooked_22 : decode cX0_isBooked 22 = .ok (.iconst 2, 1) := dk_5 (dk_at dksX0_isBooked_0 22 rfl rfl)
theorem dX0_isBooked_23 : decode cX0_isBooked 23 = .ok (.iaload, 1) := dk_46 (dk_at dksX0_isBooked_0 23 rfl rfl)
theorem dX0_isBooked_24 : decode cX0_isBooked 24 = .ok (.invokestatic 243, 3) := dk_184 0 243 (dk_at dksX0_isBooked_1 0 rfl rfl)
theorem dX0_isBooked_27 : decode cX0_isBooked 27 = .ok (.ifCond .eq 77, 3) := dk_153 0 77 (dk_at dksX0_isBooked_1 3 rfl rfl)
theorem dX0_isBooked_30 : decode cX0_isBooked 30 = .ok (.aload_n 0, 1) := dk_42 (dk_at dksX0_isBooked_1 6 rfl rfl)
theorem dX0_isBooked_31 : decode cX0_isBooked 31 = .ok (.iconst 3, 1) := dk_6 (dk_at dksX0_isBooked_1 7 rfl rfl)
theorem dX0_isBooked_32 : decode cX0_isBooked 32 = .ok (.iaload, 1) := dk_46 (dk_at dksX0_isBooked_1 8 rfl rfl)
theorem dX0_isBooked_33 : decode cX0_isBooked 33 = .ok (.aload_n 0, 1) := dk_42 (dk_at dksX0_isBooked_1 9 rfl rfl)
theorem dX0_isBooked_34 : decode cX0_isBooked 34 = .ok (.iconst 4, 1) := dk_7 (dk_at dksX0_isBooked_1 10 rfl rfl)
theorem dX0_isBooked_35 : decode cX0_isBooked 35 = .ok (.iaload, 1) := dk_46 (dk_at dksX0_isBooked_1 11 rfl rfl)
theorem dX0_isBooked_36 : decode cX0_isBooked 36 = .ok (.invokestatic 246, 3) := dk_184 0 246 (dk_at dksX0_isBooked_1 12 rfl rfl)
theorem dX0_isBooked_39 : decode cX0_isBooked 39 = .ok (.ifCond .eq 65, 3) := dk_153 0 65 (dk_at dksX0_isBooked_1 15 rfl rfl)
theorem dX0_isBooked_42 : decode cX0_isBooked 42 = .ok (.aload_n 0, 1) := dk_42 (dk_at dksX0_isBooked_1 18 rfl rfl)
theorem dX0_isBooked_43 : decode cX0_isBooked 43 = .ok (.iconst 5, 1) := dk_8 (dk_at dksX0_isBooked_1 19 rfl rfl)
theorem dX0_isBooked_44 : decode cX0_isBooked 44 = .ok (.iaload, 1) := dk_46 (dk_at dksX0_isBooked_1 20 rfl rfl)
theorem dX0_isBooked_45 : decode cX0_isBooked 45 = .ok (.i2l, 1) := dk_133 (dk_at dksX0_isBooked_1 21 rfl rfl)
theorem dX0_isBooked_46 : decode cX0_isBooked 46 = .ok (.lconst 1, 1) := dk_10 (dk_at dksX0_isBooked_1 22 rfl rfl)
theorem dX0_isBooked_47 : decode cX0_isBooked 47 = .ok (.ldc2_w 250, 3) := dk_20 0 250 (dk_at dksX0_isBooked_2 0 rfl rfl)
theorem dX0_isBooked_50 : decode cX0_isBooked 50 = .ok (.invokestatic 143, 3) := dk_184 0 143 (dk_at dksX0_isBooked_2 3 rfl rfl)
theorem dX0_isBooked_53 : decode cX0_isBooked 53 = .ok (.ifCond .eq 51, 3) := dk_153 0 51 (dk_at dksX0_isBooked_2 6 rfl rfl)
theorem dX0_isBooked_56 : decode cX0_isBooked 56 = .ok (.aload_n 0, 1) := dk_42 (dk_at dksX0_isBooked_2 9 rfl rfl)
theorem dX0_isBooked_57 : decode cX0_isBooked 57 = .ok (.bipush 6, 2) := dk_16 6 (dk_at dksX0_isBooked_2 10 rfl rfl)
theorem dX0_isBooked_59 : decode cX0_isBooked 59 = .ok (.iaload, 1) := dk_46 (dk_at dksX0_isBooked_2 12 rfl rfl)
theorem dX0_isBooked_60 : decode cX0_isBooked 60 = .ok (.i2l, 1) := dk_133 (dk_at dksX0_isBooked_2 13 rfl rfl)
theorem dX0_isBooked_61 : decode cX0_isBooked 61 = .ok (.lconst 0, 1) := dk_9 (dk_at dksX0_isBooked_2 14 rfl rfl)
theorem dX0_isBooked_62 : decode cX0_isBooked 62 = .ok (.ldc2_w 252, 3) := dk_20 0 252 (dk_at dksX0_isBooked_2 15 rfl rfl)
theorem dX0_isBooked_65 : decode cX0_isBooked 65 = .ok (.invokestatic 143, 3) := dk_184 0 143 (dk_at dksX0_isBooked_2 18 rfl rfl)
theorem dX0_isBooked_68 : decode cX0_isBooked 68 = .ok (.ifCond .eq 36, 3) := dk_153 0 36 (dk_at dksX0_isBooked_2 21 rfl rfl)
theorem dX0_isBooked_71 : decode cX0_isBooked 71 = .ok (.aload_n 0, 1) := dk_42 (dk_at dksX0_isBooked_3 0 rfl rfl)
theorem dX0_isBooked_72 : decode cX0_isBooked 72 = .ok (.bipush 7, 2) := dk_16 7 (dk_at dksX0_isBooked_3 1 rfl rfl)
theorem dX0_isBooked_74 : decode cX0_isBooked 74 = .ok (.iaload, 1) := dk_46 (dk_at dksX0_isBooked_3 3 rfl rfl)
theorem dX0_isBooked_75 : decode cX0_isBooked 75 = .ok (.i2l, 1) := dk_133 (dk_at dksX0_isBooked_3 4 rfl rfl)
theorem dX0_isBooked_76 : decode cX0_isBooked 76 = .ok (.lconst 0, 1) := dk_9 (dk_at dksX0_isBooked_3 5 rfl rfl)
theorem dX0_isBooked_77 : decode cX0_isBooked 77 = .ok (.lconst 1, 1) := dk_10 (dk_at dksX0_isBooked_3 6 rfl rfl)
theorem dX0_isBooked_78 : decode cX0_isBooked 78 = .ok (.invokestatic 143, 3) := dk_184 0 143 (dk_at dksX0_isBooked_3 7 rfl rfl)
theorem dX0_isBooked_81 : decode cX0_isBooked 81 = .ok (.ifCond .eq 23, 3) := dk_153 0 23 (dk_at dksX0_isBooked_3 10 rfl rfl)
theorem dX0_isBooked_84 : decode cX0_isBooked 84 = .ok (.aload_n 0, 1) := dk_42 (dk_at dksX0_isBooked_3 13 rfl rfl)
theorem dX0_isBooked_85 : decode cX0_isBooked 85 = .ok (.bipush 8, 2) := dk_16 8 (dk_at dksX0_isBooked_3 14 rfl rfl)
theorem dX0_isBooked_87 : decode cX0_isBooked 87 = .ok (.iaload, 1) := dk_46 (dk_at dksX0_isBooked_3 16 rfl rfl)
theorem dX0_isBooked_88 : decode cX0_isBooked 88 = .ok (.i2l, 1) := dk_133 (dk_at dksX0_isBooked_3 17 rfl rfl)
theorem dX0_isBooked_89 : decode cX0_isBooked 89 = .ok (.lconst 0, 1) := dk_9 (dk_at dksX0_isBooked_3 18 rfl rfl)
theorem dX0_isBooked_90 : decode cX0_isBooked 90 = .ok (.aload_n 0, 1) := dk_42 (dk_at dksX0_isBooked_3 19 rfl rfl)
theorem dX0_isBooked_91 : decode cX0_isBooked 91 = .ok (.iconst 2, 1) := dk_5 (dk_at dksX0_isBooked_3 20 rfl rfl)
theorem dX0_isBooked_92 : decode cX0_isBooked 92 = .ok (.iaload, 1) := dk_46 (dk_at dksX0_isBooked_3 21 rfl rfl)
theorem dX0_isBooked_93 : decode cX0_isBooked 93 = .ok (.i2l, 1) := dk_133 (dk_at dksX0_isBooked_3 22 rfl rfl)
theorem dX0_isBooked_94 : decode cX0_isBooked 94 = .ok (.invokestatic 143, 3) := dk_184 0 143 (dk_at dksX0_isBooked_4 0 rfl rfl)
theorem dX0_isBooked_97 : decode cX0_isBooked 97 = .ok (.ifCond .eq 7, 3) := dk_153 0 7 (dk_at dksX0_isBooked_4 3 rfl rfl)
theorem dX0_isBooked_100 : decode cX0_isBooked 100 = .ok (.iconst 1, 1) := dk_4 (dk_at dksX0_isBooked_4 6 rfl rfl)
theorem dX0_isBooked_101 : decode cX0_isBooked 101 = .ok (.goto 4, 3) := dk_167 0 4 (dk_at dksX0_isBooked_4 7 rfl rfl)
theorem dX0_isBooked_104 : decode cX0_isBooked 104 = .ok (.iconst 0, 1) := dk_3 (dk_at dksX0_isBooked_4 10 rfl rfl)
theorem dX0_isBooked_105 : decode cX0_isBooked 105 = .ok (.ireturn, 1) := dk_172 (dk_at dksX0_isBooked_4 11 rfl rfl)
abbrev cX0_isDay : ByteArray := prog_1_method_19_code
def yX0_isDay : MethodName := ⟨RX0, "isDay", "(I)Z"⟩
def dkwX0_isDay_0 : List UInt8 := [26, 133, 9, 20, 0, 237, 184, 0, 143, 172]
abbrev dktX0_isDay_0 : List UInt8 := dkwX0_isDay_0 ++ []
theorem dksX0_isDay_0 : cX0_isDay.data.toList.drop 0 = dktX0_isDay_0 := by decide +kernel
theorem dX0_isDay_0 : decode cX0_isDay 0 = .ok (.iload_n 0, 1) := dk_26 (dk_at dksX0_isDay_0 0 rfl rfl)
theorem dX0_isDay_1 : decode cX0_isDay 1 = .ok (.i2l, 1) := dk_133 (dk_at dksX0_isDay_0 1 rfl rfl)
theorem dX0_isDay_2 : decode cX0_isDay 2 = .ok (.lconst 0, 1) := dk_9 (dk_at dksX0_isDay_0 2 rfl rfl)
theorem dX0_isDay_3 : decode cX0_isDay 3 = .ok (.ldc2_w 237, 3) := dk_20 0 237 (dk_at dksX0_isDay_0 3 rfl rfl)
theorem dX0_isDay_6 : decode cX0_isDay 6 = .ok (.invokestatic 143, 3) := dk_184 0 143 (dk_at dksX0_isDay_0 6 rfl rfl)
theorem dX0_isDay_9 : decode cX0_isDay 9 = .ok (.ireturn, 1) := dk_172 (dk_at dksX0_isDay_0 9 rfl rfl)
abbrev cX0_areQuarters : ByteArray := prog_1_method_20_code
def yX0_areQuarters : MethodName := ⟨RX0, "areQuarters", "(II)Z"⟩
def dkwX0_areQuarters_1 : List UInt8 := [153, 0, 7, 4, 167, 0, 4, 3, 172]
abbrev dktX0_areQuarters_1 : List UInt8 := dkwX0_areQuarters_1 ++ []
def dkwX0_areQuarters_0 : List UInt8 := [26, 133, 9, 20, 0, 239, 184, 0, 143, 153, 0, 22, 27, 133, 26, 4, 96, 133, 20, 0, 241, 184, 0, 143]
abbrev dktX0_areQuarters_0 : List UInt8 := dkwX0_areQuarters_0 ++ dktX0_areQuarters_1
theorem dksX0_areQuarters_0 : cX0_areQuarters.data.toList.drop 0 = dktX0_areQuarters_0 := by decide +kernel
theorem dksX0_areQuarters_1 : cX0_areQuarters.data.toList.drop 24 = dktX0_areQuarters_1 := dk_seg dksX0_areQuarters_0 24 rfl rfl
theorem dX0_areQuarters_0 : decode cX0_areQuarters 0 = .ok (.iload_n 0, 1) := dk_26 (dk_at dksX0_areQuarters_0 0 rfl rfl)
theorem dX0_areQuarters_1 : decode cX0_areQuarters 1 = .ok (.i2l, 1) := dk_133 (dk_at dksX0_areQuarters_0 1 rfl rfl)
theorem dX0_areQuarters_2 : decode cX0_areQuarters 2 = .ok (.lconst 0, 1) := dk_9 (dk_at dksX0_areQuarters_0 2 rfl rfl)
theorem dX0_areQuarters_3 : decode cX0_areQuarters 3 = .ok (.ldc2_w 239, 3) := dk_20 0 239 (dk_at dksX0_areQuarters_0 3 rfl rfl)
theorem dX0_areQuarters_6 : decode cX0_areQuarters 6 = .ok (.invokestatic 143, 3) := dk_184 0 143 (dk_at dksX0_areQuarters_0 6 rfl rfl)
theorem dX0_areQuarters_9 : decode cX0_areQuarters 9 = .ok (.ifCond .eq 22, 3) := dk_153 0 22 (dk_at dksX0_areQuarters_0 9 rfl rfl)
theorem dX0_areQuarters_12 : decode cX0_areQuarters 12 = .ok (.iload_n 1, 1) := dk_27 (dk_at dksX0_areQuarters_0 12 rfl rfl)
theorem dX0_areQuarters_13 : decode cX0_areQuarters 13 = .ok (.i2l, 1) := dk_133 (dk_at dksX0_areQuarters_0 13 rfl rfl)
theorem dX0_areQuarters_14 : decode cX0_areQuarters 14 = .ok (.iload_n 0, 1) := dk_26 (dk_at dksX0_areQuarters_0 14 rfl rfl)
theorem dX0_areQuarters_15 : decode cX0_areQuarters 15 = .ok (.iconst 1, 1) := dk_4 (dk_at dksX0_areQuarters_0 15 rfl rfl)
theorem dX0_areQuarters_16 : decode cX0_areQuarters 16 = .ok (.iadd, 1) := dk_96 (dk_at dksX0_areQuarters_0 16 rfl rfl)
theorem dX0_areQuarters_17 : decode cX0_areQuarters 17 = .ok (.i2l, 1) := dk_133 (dk_at dksX0_areQuarters_0 17 rfl rfl)
theorem dX0_areQuarters_18 : decode cX0_areQuarters 18 = .ok (.ldc2_w 241, 3) := dk_20 0 241 (dk_at dksX0_areQuarters_0 18 rfl rfl)
theorem dX0_areQuarters_21 : decode cX0_areQuarters 21 = .ok (.invokestatic 143, 3) := dk_184 0 143 (dk_at dksX0_areQuarters_0 21 rfl rfl)
theorem dX0_areQuarters_24 : decode cX0_areQuarters 24 = .ok (.ifCond .eq 7, 3) := dk_153 0 7 (dk_at dksX0_areQuarters_1 0 rfl rfl)
theorem dX0_areQuarters_27 : decode cX0_areQuarters 27 = .ok (.iconst 1, 1) := dk_4 (dk_at dksX0_areQuarters_1 3 rfl rfl)
theorem dX0_areQuarters_28 : decode cX0_areQuarters 28 = .ok (.goto 4, 3) := dk_167 0 4 (dk_at dksX0_areQuarters_1 4 rfl rfl)
theorem dX0_areQuarters_31 : decode cX0_areQuarters 31 = .ok (.iconst 0, 1) := dk_3 (dk_at dksX0_areQuarters_1 7 rfl rfl)
theorem dX0_areQuarters_32 : decode cX0_areQuarters 32 = .ok (.ireturn, 1) := dk_172 (dk_at dksX0_areQuarters_1 8 rfl rfl)
abbrev cX0_cancel : ByteArray := prog_1_method_24_code
def yX0_cancel : MethodName := ⟨RX0, "cancel", "(II)I"⟩
def dkwX0_cancel_4 : List UInt8 := [4, 172]
abbrev dktX0_cancel_4 : List UInt8 := dkwX0_cancel_4 ++ []
def dkwX0_cancel_3 : List UInt8 := [159, 0, 7, 19, 1, 21, 172, 42, 180, 0, 1, 27, 185, 0, 7, 2, 0, 192, 0, 13, 28, 181, 0, 15]
abbrev dktX0_cancel_3 : List UInt8 := dkwX0_cancel_3 ++ dktX0_cancel_4
def dkwX0_cancel_2 : List UInt8 := [154, 0, 6, 18, 156, 172, 42, 180, 0, 1, 27, 185, 0, 7, 2, 0, 192, 0, 13, 180, 0, 15, 18, 19]
abbrev dktX0_cancel_2 : List UInt8 := dkwX0_cancel_2 ++ dktX0_cancel_3
def dkwX0_cancel_1 : List UInt8 := [180, 1, 15, 133, 42, 180, 0, 1, 27, 185, 0, 7, 2, 0, 192, 0, 13, 180, 1, 18, 133, 184, 0, 143]
abbrev dktX0_cancel_1 : List UInt8 := dkwX0_cancel_1 ++ dktX0_cancel_2
def dkwX0_cancel_0 : List UInt8 := [42, 27, 182, 1, 12, 153, 0, 45, 28, 133, 42, 180, 0, 1, 27, 185, 0, 7, 2, 0, 192, 0, 13]
abbrev dktX0_cancel_0 : List UInt8 := dkwX0_cancel_0 ++ dktX0_cancel_1
theorem dksX0_cancel_0 : cX0_cancel.data.toList.drop 0 = dktX0_cancel_0 := by decide +kernel
theorem dksX0_cancel_1 : cX0_cancel.data.toList.drop 23 = dktX0_cancel_1 := dk_seg dksX0_cancel_0 23 rfl rfl
theorem dksX0_cancel_2 : cX0_cancel.data.toList.drop 47 = dktX0_cancel_2 := dk_seg dksX0_cancel_1 24 rfl rfl
theorem dksX0_cancel_3 : cX0_cancel.data.toList.drop 71 = dktX0_cancel_3 := dk_seg dksX0_cancel_2 24 rfl rfl
theorem dksX0_cancel_4 : cX0_cancel.data.toList.drop 95 = dktX0_cancel_4 := dk_seg dksX0_cancel_3 24 rfl rfl
theorem dX0_cancel_0 : decode cX0_cancel 0 = .ok (.aload_n 0, 1) := dk_42 (dk_at dksX0_cancel_0 0 rfl rfl)
theorem dX0_cancel_1 : decode cX0_cancel 1 = .ok (.iload_n 1, 1) := dk_27 (dk_at dksX0_cancel_0 1 rfl rfl)
theorem dX0_cancel_2 : decode cX0_cancel 2 = .ok (.invokevirtual 268, 3) := dk_182 1 12 (dk_at dksX0_cancel_0 2 rfl rfl)
theorem dX0_cancel_5 : decode cX0_cancel 5 = .ok (.ifCond .eq 45, 3) := dk_153 0 45 (dk_at dksX0_cancel_0 5 rfl rfl)
theorem dX0_cancel_8 : decode cX0_cancel 8 = .ok (.iload_n 2, 1) := dk_28 (dk_at dksX0_cancel_0 8 rfl rfl)
theorem dX0_cancel_9 : decode cX0_cancel 9 = .ok (.i2l, 1) := dk_133 (dk_at dksX0_cancel_0 9 rfl rfl)
theorem dX0_cancel_10 : decode cX0_cancel 10 = .ok (.aload_n 0, 1) := dk_42 (dk_at dksX0_cancel_0 10 rfl rfl)
theorem dX0_cancel_11 : decode cX0_cancel 11 = .ok (.getfield 1, 3) := dk_180 0 1 (dk_at dksX0_cancel_0 11 rfl rfl)
theorem dX0_cancel_14 : decode cX0_cancel 14 = .ok (.iload_n 1, 1) := dk_27 (dk_at dksX0_cancel_0 14 rfl rfl)
theorem dX0_cancel_15 : decode cX0_cancel 15 = .ok (.invokeinterface 7 2, 5) := by decide +kernel
theorem dX0_cancel_20 : decode cX0_cancel 20 = .ok (.checkcast 13, 3) := dk_192 0 13 (dk_at dksX0_cancel_0 20 rfl rfl)
theorem dX0_cancel_23 : decode cX0_cancel 23 = .ok (.getfield 271, 3) := dk_180 1 15 (dk_at dksX0_cancel_1 0 rfl rfl)
theorem dX0_cancel_26 : decode cX0_cancel 26 = .ok (.i2l, 1) := dk_133 (dk_at dksX0_cancel_1 3 rfl rfl)
theorem dX0_cancel_27 : decode cX0_cancel 27 = .ok (.aload_n 0, 1) := dk_42 (dk_at dksX0_cancel_1 4 rfl rfl)
theorem dX0_cancel_28 : decode cX0_cancel 28 = .ok (.getfield 1, 3) := dk_180 0 1 (dk_at dksX0_cancel_1 5 rfl rfl)
theorem dX0_cancel_31 : decode cX0_cancel 31 = .ok (.iload_n 1, 1) := dk_27 (dk_at dksX0_cancel_1 8 rfl rfl)
theorem dX0_cancel_32 : decode cX0_cancel 32 = .ok (.invokeinterface 7 2, 5) := by decide +kernel
theorem dX0_cancel_37 : decode cX0_cancel 37 = .ok (.checkcast 13, 3) := dk_192 0 13 (dk_at dksX0_cancel_1 14 rfl rfl)
theorem dX0_cancel_40 : decode cX0_cancel 40 = .ok (.getfield 274, 3) := dk_180 1 18 (dk_at dksX0_cancel_1 17 rfl rfl)
theorem dX0_cancel_43 : decode cX0_cancel 43 = .ok (.i2l, 1) := dk_133 (dk_at dksX0_cancel_1 20 rfl rfl)
theorem dX0_cancel_44 : decode cX0_cancel 44 = .ok (.invokestatic 143, 3) := dk_184 0 143 (dk_at dksX0_cancel_1 21 rfl rfl)
theorem dX0_cancel_47 : decode cX0_cancel 47 = .ok (.ifCond .ne 6, 3) := dk_154 0 6 (dk_at dksX0_cancel_2 0 rfl rfl)
theorem dX0_cancel_50 : decode cX0_cancel 50 = .ok (.ldc 156, 2) := dk_18 156 (dk_at dksX0_cancel_2 3 rfl rfl)
theorem dX0_cancel_52 : decode cX0_cancel 52 = .ok (.ireturn, 1) := dk_172 (dk_at dksX0_cancel_2 5 rfl rfl)
theorem dX0_cancel_53 : decode cX0_cancel 53 = .ok (.aload_n 0, 1) := dk_42 (dk_at dksX0_cancel_2 6 rfl rfl)
theorem dX0_cancel_54 : decode cX0_cancel 54 = .ok (.getfield 1, 3) := dk_180 0 1 (dk_at dksX0_cancel_2 7 rfl rfl)
theorem dX0_cancel_57 : decode cX0_cancel 57 = .ok (.iload_n 1, 1) := dk_27 (dk_at dksX0_cancel_2 10 rfl rfl)
theorem dX0_cancel_58 : decode cX0_cancel 58 = .ok (.invokeinterface 7 2, 5) := by decide +kernel
theorem dX0_cancel_63 : decode cX0_cancel 63 = .ok (.checkcast 13, 3) := dk_192 0 13 (dk_at dksX0_cancel_2 16 rfl rfl)
theorem dX0_cancel_66 : decode cX0_cancel 66 = .ok (.getfield 15, 3) := dk_180 0 15 (dk_at dksX0_cancel_2 19 rfl rfl)
theorem dX0_cancel_69 : decode cX0_cancel 69 = .ok (.ldc 19, 2) := dk_18 19 (dk_at dksX0_cancel_2 22 rfl rfl)
theorem dX0_cancel_71 : decode cX0_cancel 71 = .ok (.if_icmp .eq 7, 3) := dk_159 0 7 (dk_at dksX0_cancel_3 0 rfl rfl)
theorem dX0_cancel_74 : decode cX0_cancel 74 = .ok (.ldc_w 277, 3) := dk_19 1 21 (dk_at dksX0_cancel_3 3 rfl rfl)
theorem dX0_cancel_77 : decode cX0_cancel 77 = .ok (.ireturn, 1) := dk_172 (dk_at dksX0_cancel_3 6 rfl rfl)
theorem dX0_cancel_78 : decode cX0_cancel 78 = .ok (.aload_n 0, 1) := dk_42 (dk_at dksX0_cancel_3 7 rfl rfl)
theorem dX0_cancel_79 : decode cX0_cancel 79 = .ok (.getfield 1, 3) := dk_180 0 1 (dk_at dksX0_cancel_3 8 rfl rfl)
theorem dX0_cancel_82 : decode cX0_cancel 82 = .ok (.iload_n 1, 1) := dk_27 (dk_at dksX0_cancel_3 11 rfl rfl)
theorem dX0_cancel_83 : decode cX0_cancel 83 = .ok (.invokeinterface 7 2, 5) := by decide +kernel
theorem dX0_cancel_88 : decode cX0_cancel 88 = .ok (.checkcast 13, 3) := dk_192 0 13 (dk_at dksX0_cancel_3 17 rfl rfl)
theorem dX0_cancel_91 : decode cX0_cancel 91 = .ok (.iload_n 2, 1) := dk_28 (dk_at dksX0_cancel_3 20 rfl rfl)
theorem dX0_cancel_92 : decode cX0_cancel 92 = .ok (.putfield 15, 3) := dk_181 0 15 (dk_at dksX0_cancel_3 21 rfl rfl)
theorem dX0_cancel_95 : decode cX0_cancel 95 = .ok (.iconst 1, 1) := dk_4 (dk_at dksX0_cancel_4 0 rfl rfl)
theorem dX0_cancel_96 : decode cX0_cancel 96 = .ok (.ireturn, 1) := dk_172 (dk_at dksX0_cancel_4 1 rfl rfl)
abbrev cX0_isBooking : ByteArray := prog_1_method_23_code
def yX0_isBooking : MethodName := ⟨RX0, "isBooking", "(I)Z"⟩
def dkwX0_isBooking_0 : List UInt8 := [27, 133, 9, 42, 180, 0, 1, 185, 0, 71, 1, 0, 4, 100, 133, 184, 0, 143, 172]
abbrev dktX0_isBooking_0 : List UInt8 := dkwX0_isBooking_0 ++ []
theorem dksX0_isBooking_0 : cX0_isBooking.data.toList.drop 0 = dktX0_isBooking_0 := by decide +kernel
theorem dX0_isBooking_0 : decode cX0_isBooking 0 = .ok (.iload_n 1, 1) := dk_27 (dk_at dksX0_isBooking_0 0 rfl rfl)
theorem dX0_isBooking_1 : decode cX0_isBooking 1 = .ok (.i2l, 1) := dk_133 (dk_at dksX0_isBooking_0 1 rfl rfl)
theorem dX0_isBooking_2 : decode cX0_isBooking 2 = .ok (.lconst 0, 1) := dk_9 (dk_at dksX0_isBooking_0 2 rfl rfl)
theorem dX0_isBooking_3 : decode cX0_isBooking 3 = .ok (.aload_n 0, 1) := dk_42 (dk_at dksX0_isBooking_0 3 rfl rfl)
theorem dX0_isBooking_4 : decode cX0_isBooking 4 = .ok (.getfield 1, 3) := dk_180 0 1 (dk_at dksX0_isBooking_0 4 rfl rfl)
theorem dX0_isBooking_7 : decode cX0_isBooking 7 = .ok (.invokeinterface 71 1, 5) := by decide +kernel
theorem dX0_isBooking_12 : decode cX0_isBooking 12 = .ok (.iconst 1, 1) := dk_4 (dk_at dksX0_isBooking_0 12 rfl rfl)
theorem dX0_isBooking_13 : decode cX0_isBooking 13 = .ok (.isub, 1) := dk_100 (dk_at dksX0_isBooking_0 13 rfl rfl)
theorem dX0_isBooking_14 : decode cX0_isBooking 14 = .ok (.i2l, 1) := dk_133 (dk_at dksX0_isBooking_0 14 rfl rfl)
theorem dX0_isBooking_15 : decode cX0_isBooking 15 = .ok (.invokestatic 143, 3) := dk_184 0 143 (dk_at dksX0_isBooking_0 15 rfl rfl)
theorem dX0_isBooking_18 : decode cX0_isBooking 18 = .ok (.ireturn, 1) := dk_172 (dk_at dksX0_isBooking_0 18 rfl rfl)
abbrev cX0_told : ByteArray := prog_1_method_26_code
def yX0_told : MethodName := ⟨RX0, "told", "(II)I"⟩
def dkwX0_told_5 : List UInt8 := [45, 180, 1, 15, 172, 45, 180, 0, 15, 172, 42, 45, 182, 0, 51, 172, 18, 156, 172]
abbrev dktX0_told_5 : List UInt8 := dkwX0_told_5 ++ []
def dkwX0_told_4 : List UInt8 := [172, 45, 180, 1, 40, 172, 45, 180, 0, 46, 172, 45, 180, 1, 43, 153, 0, 7, 4, 167, 0, 4, 3, 172]
abbrev dktX0_told_4 : List UInt8 := dkwX0_told_4 ++ dktX0_told_5
def dkwX0_told_3 : List UInt8 := [45, 180, 0, 37, 172, 45, 180, 1, 37, 172, 45, 180, 1, 18, 172, 45, 180, 1, 25, 172, 45, 180, 1, 22]
abbrev dktX0_told_3 : List UInt8 := dkwX0_told_3 ++ dktX0_told_4
def dkwX0_told_2 : List UInt8 := [170, 0, 0, 0, 0, 122, 0, 0, 0, 0, 0, 0, 0, 10, 0, 0, 0, 58, 0, 0, 0, 63, 0, 0, 0, 68, 0, 0, 0, 73, 0, 0, 0, 78, 0, 0, 0, 83, 0, 0, 0, 88, 0, 0, 0, 93, 0, 0, 0, 106, 0, 0, 0, 111, 0, 0, 0, 116]
abbrev dktX0_told_2 : List UInt8 := dkwX0_told_2 ++ dktX0_told_3
def dkwX0_told_1 : List UInt8 := [78, 28]
abbrev dktX0_told_1 : List UInt8 := dkwX0_told_1 ++ dktX0_told_2
def dkwX0_told_0 : List UInt8 := [42, 27, 182, 1, 12, 154, 0, 6, 18, 156, 172, 42, 180, 0, 1, 27, 185, 0, 7, 2, 0, 192, 0, 13]
abbrev dktX0_told_0 : List UInt8 := dkwX0_told_0 ++ dktX0_told_1
theorem dksX0_told_0 : cX0_told.data.toList.drop 0 = dktX0_told_0 := by decide +kernel
theorem dksX0_told_1 : cX0_told.data.toList.drop 24 = dktX0_told_1 := dk_seg dksX0_told_0 24 rfl rfl
theorem dksX0_told_2 : cX0_told.data.toList.drop 26 = dktX0_told_2 := dk_seg dksX0_told_1 2 rfl rfl
theorem dksX0_told_3 : cX0_told.data.toList.drop 84 = dktX0_told_3 := dk_seg dksX0_told_2 58 rfl rfl
theorem dksX0_told_4 : cX0_told.data.toList.drop 108 = dktX0_told_4 := dk_seg dksX0_told_3 24 rfl rfl
theorem dksX0_told_5 : cX0_told.data.toList.drop 132 = dktX0_told_5 := dk_seg dksX0_told_4 24 rfl rfl
theorem dX0_told_0 : decode cX0_told 0 = .ok (.aload_n 0, 1) := dk_42 (dk_at dksX0_told_0 0 rfl rfl)
theorem dX0_told_1 : decode cX0_told 1 = .ok (.iload_n 1, 1) := dk_27 (dk_at dksX0_told_0 1 rfl rfl)
theorem dX0_told_2 : decode cX0_told 2 = .ok (.invokevirtual 268, 3) := dk_182 1 12 (dk_at dksX0_told_0 2 rfl rfl)
theorem dX0_told_5 : decode cX0_told 5 = .ok (.ifCond .ne 6, 3) := dk_154 0 6 (dk_at dksX0_told_0 5 rfl rfl)
theorem dX0_told_8 : decode cX0_told 8 = .ok (.ldc 156, 2) := dk_18 156 (dk_at dksX0_told_0 8 rfl rfl)
theorem dX0_told_10 : decode cX0_told 10 = .ok (.ireturn, 1) := dk_172 (dk_at dksX0_told_0 10 rfl rfl)
theorem dX0_told_11 : decode cX0_told 11 = .ok (.aload_n 0, 1) := dk_42 (dk_at dksX0_told_0 11 rfl rfl)
theorem dX0_told_12 : decode cX0_told 12 = .ok (.getfield 1, 3) := dk_180 0 1 (dk_at dksX0_told_0 12 rfl rfl)
theorem dX0_told_15 : decode cX0_told 15 = .ok (.iload_n 1, 1) := dk_27 (dk_at dksX0_told_0 15 rfl rfl)
theorem dX0_told_16 : decode cX0_told 16 = .ok (.invokeinterface 7 2, 5) := by decide +kernel
theorem dX0_told_21 : decode cX0_told 21 = .ok (.checkcast 13, 3) := dk_192 0 13 (dk_at dksX0_told_0 21 rfl rfl)
theorem dX0_told_24 : decode cX0_told 24 = .ok (.astore_n 3, 1) := dk_78 (dk_at dksX0_told_1 0 rfl rfl)
theorem dX0_told_25 : decode cX0_told 25 = .ok (.iload_n 2, 1) := dk_28 (dk_at dksX0_told_1 1 rfl rfl)
theorem dX0_told_26 : decode cX0_told 26 = .ok (.tableswitch 122 0 10 #[58, 63, 68, 73, 78, 83, 88, 93, 106, 111, 116], 58) := by decide +kernel
theorem dX0_told_84 : decode cX0_told 84 = .ok (.aload_n 3, 1) := dk_45 (dk_at dksX0_told_3 0 rfl rfl)
theorem dX0_told_85 : decode cX0_told 85 = .ok (.getfield 37, 3) := dk_180 0 37 (dk_at dksX0_told_3 1 rfl rfl)
theorem dX0_told_88 : decode cX0_told 88 = .ok (.ireturn, 1) := dk_172 (dk_at dksX0_told_3 4 rfl rfl)
theorem dX0_told_89 : decode cX0_told 89 = .ok (.aload_n 3, 1) := dk_45 (dk_at dksX0_told_3 5 rfl rfl)
theorem dX0_told_90 : decode cX0_told 90 = .ok (.getfield 293, 3) := dk_180 1 37 (dk_at dksX0_told_3 6 rfl rfl)
theorem dX0_told_93 : decode cX0_told 93 = .ok (.ireturn, 1) := dk_172 (dk_at dksX0_told_3 9 rfl rfl)
theorem dX0_told_94 : decode cX0_told 94 = .ok (.aload_n 3, 1) := dk_45 (dk_at dksX0_told_3 10 rfl rfl)
theorem dX0_told_95 : decode cX0_told 95 = .ok (.getfield 274, 3) := dk_180 1 18 (dk_at dksX0_told_3 11 rfl rfl)
theorem dX0_told_98 : decode cX0_told 98 = .ok (.ireturn, 1) := dk_172 (dk_at dksX0_told_3 14 rfl rfl)
theorem dX0_told_99 : decode cX0_told 99 = .ok (.aload_n 3, 1) := dk_45 (dk_at dksX0_told_3 15 rfl rfl)
theorem dX0_told_100 : decode cX0_told 100 = .ok (.getfield 281, 3) := dk_180 1 25 (dk_at dksX0_told_3 16 rfl rfl)
theorem dX0_told_103 : decode cX0_told 103 = .ok (.ireturn, 1) := dk_172 (dk_at dksX0_told_3 19 rfl rfl)
theorem dX0_told_104 : decode cX0_told 104 = .ok (.aload_n 3, 1) := dk_45 (dk_at dksX0_told_3 20 rfl rfl)
theorem dX0_told_105 : decode cX0_told 105 = .ok (.getfield 278, 3) := dk_180 1 22 (dk_at dksX0_told_3 21 rfl rfl)
theorem dX0_told_108 : decode cX0_told 108 = .ok (.ireturn, 1) := dk_172 (dk_at dksX0_told_4 0 rfl rfl)
theorem dX0_told_109 : decode cX0_told 109 = .ok (.aload_n 3, 1) := dk_45 (dk_at dksX0_told_4 1 rfl rfl)
theorem dX0_told_110 : decode cX0_told 110 = .ok (.getfield 296, 3) := dk_180 1 40 (dk_at dksX0_told_4 2 rfl rfl)
theorem dX0_told_113 : decode cX0_told 113 = .ok (.ireturn, 1) := dk_172 (dk_at dksX0_told_4 5 rfl rfl)
theorem dX0_told_114 : decode cX0_told 114 = .ok (.aload_n 3, 1) := dk_45 (dk_at dksX0_told_4 6 rfl rfl)
theorem dX0_told_115 : decode cX0_told 115 = .ok (.getfield 46, 3) := dk_180 0 46 (dk_at dksX0_told_4 7 rfl rfl)
theorem dX0_told_118 : decode cX0_told 118 = .ok (.ireturn, 1) := dk_172 (dk_at dksX0_told_4 10 rfl rfl)
theorem dX0_told_119 : decode cX0_told 119 = .ok (.aload_n 3, 1) := dk_45 (dk_at dksX0_told_4 11 rfl rfl)
theorem dX0_told_120 : decode cX0_told 120 = .ok (.getfield 299, 3) := dk_180 1 43 (dk_at dksX0_told_4 12 rfl rfl)
theorem dX0_told_123 : decode cX0_told 123 = .ok (.ifCond .eq 7, 3) := dk_153 0 7 (dk_at dksX0_told_4 15 rfl rfl)
theorem dX0_told_126 : decode cX0_told 126 = .ok (.iconst 1, 1) := dk_4 (dk_at dksX0_told_4 18 rfl rfl)
theorem dX0_told_127 : decode cX0_told 127 = .ok (.goto 4, 3) := dk_167 0 4 (dk_at dksX0_told_4 19 rfl rfl)
theorem dX0_told_130 : decode cX0_told 130 = .ok (.iconst 0, 1) := dk_3 (dk_at dksX0_told_4 22 rfl rfl)
theorem dX0_told_131 : decode cX0_told 131 = .ok (.ireturn, 1) := dk_172 (dk_at dksX0_told_4 23 rfl rfl)
theorem dX0_told_132 : decode cX0_told 132 = .ok (.aload_n 3, 1) := dk_45 (dk_at dksX0_told_5 0 rfl rfl)
theorem dX0_told_133 : decode cX0_told 133 = .ok (.getfield 271, 3) := dk_180 1 15 (dk_at dksX0_told_5 1 rfl rfl)
theorem dX0_told_136 : decode cX0_told 136 = .ok (.ireturn, 1) := dk_172 (dk_at dksX0_told_5 4 rfl rfl)
theorem dX0_told_137 : decode cX0_told 137 = .ok (.aload_n 3, 1) := dk_45 (dk_at dksX0_told_5 5 rfl rfl)
theorem dX0_told_138 : decode cX0_told 138 = .ok (.getfield 15, 3) := dk_180 0 15 (dk_at dksX0_told_5 6 rfl rfl)
theorem dX0_told_141 : decode cX0_told 141 = .ok (.ireturn, 1) := dk_172 (dk_at dksX0_told_5 9 rfl rfl)
theorem dX0_told_142 : decode cX0_told 142 = .ok (.aload_n 0, 1) := dk_42 (dk_at dksX0_told_5 10 rfl rfl)
theorem dX0_told_143 : decode cX0_told 143 = .ok (.aload_n 3, 1) := dk_45 (dk_at dksX0_told_5 11 rfl rfl)
theorem dX0_told_144 : decode cX0_told 144 = .ok (.invokevirtual 51, 3) := dk_182 0 51 (dk_at dksX0_told_5 12 rfl rfl)
theorem dX0_told_147 : decode cX0_told 147 = .ok (.ireturn, 1) := dk_172 (dk_at dksX0_told_5 15 rfl rfl)
theorem dX0_told_148 : decode cX0_told 148 = .ok (.ldc 156, 2) := dk_18 156 (dk_at dksX0_told_5 16 rfl rfl)
theorem dX0_told_150 : decode cX0_told 150 = .ok (.ireturn, 1) := dk_172 (dk_at dksX0_told_5 18 rfl rfl)
abbrev cX0_price : ByteArray := prog_1_method_25_code
def yX0_price : MethodName := ⟨RX0, "price", "(LVillageHalls$Booking;)I"⟩
def dkwX0_price_3 : List UInt8 := [172]
abbrev dktX0_price_3 : List UInt8 := dkwX0_price_3 ++ []
def dkwX0_price_2 : List UInt8 := [180, 0, 15, 100, 44, 180, 1, 31, 162, 0, 15, 29, 44, 180, 1, 34, 104, 16, 100, 108, 167, 0, 4, 3]
abbrev dktX0_price_2 : List UInt8 := dkwX0_price_2 ++ dktX0_price_3
def dkwX0_price_1 : List UInt8 := [180, 0, 46, 46, 104, 62, 43, 180, 0, 15, 18, 19, 160, 0, 7, 29, 167, 0, 32, 43, 180, 1, 18, 43]
abbrev dktX0_price_1 : List UInt8 := dkwX0_price_1 ++ dktX0_price_2
def dkwX0_price_0 : List UInt8 := [42, 180, 0, 33, 43, 180, 0, 37, 50, 77, 43, 180, 1, 22, 43, 180, 1, 25, 100, 44, 180, 1, 28, 43]
abbrev dktX0_price_0 : List UInt8 := dkwX0_price_0 ++ dktX0_price_1
theorem dksX0_price_0 : cX0_price.data.toList.drop 0 = dktX0_price_0 := by decide +kernel
theorem dksX0_price_1 : cX0_price.data.toList.drop 24 = dktX0_price_1 := dk_seg dksX0_price_0 24 rfl rfl
theorem dksX0_price_2 : cX0_price.data.toList.drop 48 = dktX0_price_2 := dk_seg dksX0_price_1 24 rfl rfl
theorem dksX0_price_3 : cX0_price.data.toList.drop 72 = dktX0_price_3 := dk_seg dksX0_price_2 24 rfl rfl
theorem dX0_price_0 : decode cX0_price 0 = .ok (.aload_n 0, 1) := dk_42 (dk_at dksX0_price_0 0 rfl rfl)
theorem dX0_price_1 : decode cX0_price 1 = .ok (.getfield 33, 3) := dk_180 0 33 (dk_at dksX0_price_0 1 rfl rfl)
theorem dX0_price_4 : decode cX0_price 4 = .ok (.aload_n 1, 1) := dk_43 (dk_at dksX0_price_0 4 rfl rfl)
theorem dX0_price_5 : decode cX0_price 5 = .ok (.getfield 37, 3) := dk_180 0 37 (dk_at dksX0_price_0 5 rfl rfl)
theorem dX0_price_8 : decode cX0_price 8 = .ok (.aaload, 1) := dk_50 (dk_at dksX0_price_0 8 rfl rfl)
theorem dX0_price_9 : decode cX0_price 9 = .ok (.astore_n 2, 1) := dk_77 (dk_at dksX0_price_0 9 rfl rfl)
theorem dX0_price_10 : decode cX0_price 10 = .ok (.aload_n 1, 1) := dk_43 (dk_at dksX0_price_0 10 rfl rfl)
theorem dX0_price_11 : decode cX0_price 11 = .ok (.getfield 278, 3) := dk_180 1 22 (dk_at dksX0_price_0 11 rfl rfl)
theorem dX0_price_14 : decode cX0_price 14 = .ok (.aload_n 1, 1) := dk_43 (dk_at dksX0_price_0 14 rfl rfl)
theorem dX0_price_15 : decode cX0_price 15 = .ok (.getfield 281, 3) := dk_180 1 25 (dk_at dksX0_price_0 15 rfl rfl)
theorem dX0_price_18 : decode cX0_price 18 = .ok (.isub, 1) := dk_100 (dk_at dksX0_price_0 18 rfl rfl)
theorem dX0_price_19 : decode cX0_price 19 = .ok (.aload_n 2, 1) := dk_44 (dk_at dksX0_price_0 19 rfl rfl)
theorem dX0_price_20 : decode cX0_price 20 = .ok (.getfield 284, 3) := dk_180 1 28 (dk_at dksX0_price_0 20 rfl rfl)
theorem dX0_price_23 : decode cX0_price 23 = .ok (.aload_n 1, 1) := dk_43 (dk_at dksX0_price_0 23 rfl rfl)
theorem dX0_price_24 : decode cX0_price 24 = .ok (.getfield 46, 3) := dk_180 0 46 (dk_at dksX0_price_1 0 rfl rfl)
theorem dX0_price_27 : decode cX0_price 27 = .ok (.iaload, 1) := dk_46 (dk_at dksX0_price_1 3 rfl rfl)
theorem dX0_price_28 : decode cX0_price 28 = .ok (.imul, 1) := dk_104 (dk_at dksX0_price_1 4 rfl rfl)
theorem dX0_price_29 : decode cX0_price 29 = .ok (.istore_n 3, 1) := dk_62 (dk_at dksX0_price_1 5 rfl rfl)
theorem dX0_price_30 : decode cX0_price 30 = .ok (.aload_n 1, 1) := dk_43 (dk_at dksX0_price_1 6 rfl rfl)
theorem dX0_price_31 : decode cX0_price 31 = .ok (.getfield 15, 3) := dk_180 0 15 (dk_at dksX0_price_1 7 rfl rfl)
theorem dX0_price_34 : decode cX0_price 34 = .ok (.ldc 19, 2) := dk_18 19 (dk_at dksX0_price_1 10 rfl rfl)
theorem dX0_price_36 : decode cX0_price 36 = .ok (.if_icmp .ne 7, 3) := dk_160 0 7 (dk_at dksX0_price_1 12 rfl rfl)
theorem dX0_price_39 : decode cX0_price 39 = .ok (.iload_n 3, 1) := dk_29 (dk_at dksX0_price_1 15 rfl rfl)
theorem dX0_price_40 : decode cX0_price 40 = .ok (.goto 32, 3) := dk_167 0 32 (dk_at dksX0_price_1 16 rfl rfl)
theorem dX0_price_43 : decode cX0_price 43 = .ok (.aload_n 1, 1) := dk_43 (dk_at dksX0_price_1 19 rfl rfl)
theorem dX0_price_44 : decode cX0_price 44 = .ok (.getfield 274, 3) := dk_180 1 18 (dk_at dksX0_price_1 20 rfl rfl)
theorem dX0_price_47 : decode cX0_price 47 = .ok (.aload_n 1, 1) := dk_43 (dk_at dksX0_price_1 23 rfl rfl)
theorem dX0_price_48 : decode cX0_price 48 = .ok (.getfield 15, 3) := dk_180 0 15 (dk_at dksX0_price_2 0 rfl rfl)
theorem dX0_price_51 : decode cX0_price 51 = .ok (.isub, 1) := dk_100 (dk_at dksX0_price_2 3 rfl rfl)
theorem dX0_price_52 : decode cX0_price 52 = .ok (.aload_n 2, 1) := dk_44 (dk_at dksX0_price_2 4 rfl rfl)
theorem dX0_price_53 : decode cX0_price 53 = .ok (.getfield 287, 3) := dk_180 1 31 (dk_at dksX0_price_2 5 rfl rfl)
theorem dX0_price_56 : decode cX0_price 56 = .ok (.if_icmp .ge 15, 3) := dk_162 0 15 (dk_at dksX0_price_2 8 rfl rfl)
theorem dX0_price_59 : decode cX0_price 59 = .ok (.iload_n 3, 1) := dk_29 (dk_at dksX0_price_2 11 rfl rfl)
theorem dX0_price_60 : decode cX0_price 60 = .ok (.aload_n 2, 1) := dk_44 (dk_at dksX0_price_2 12 rfl rfl)
theorem dX0_price_61 : decode cX0_price 61 = .ok (.getfield 290, 3) := dk_180 1 34 (dk_at dksX0_price_2 13 rfl rfl)
theorem dX0_price_64 : decode cX0_price 64 = .ok (.imul, 1) := dk_104 (dk_at dksX0_price_2 16 rfl rfl)
theorem dX0_price_65 : decode cX0_price 65 = .ok (.bipush 100, 2) := dk_16 100 (dk_at dksX0_price_2 17 rfl rfl)
theorem dX0_price_67 : decode cX0_price 67 = .ok (.idiv, 1) := dk_108 (dk_at dksX0_price_2 19 rfl rfl)
theorem dX0_price_68 : decode cX0_price 68 = .ok (.goto 4, 3) := dk_167 0 4 (dk_at dksX0_price_2 20 rfl rfl)
theorem dX0_price_71 : decode cX0_price 71 = .ok (.iconst 0, 1) := dk_3 (dk_at dksX0_price_2 23 rfl rfl)
theorem dX0_price_72 : decode cX0_price 72 = .ok (.ireturn, 1) := dk_172 (dk_at dksX0_price_3 0 rfl rfl)
abbrev cX0_clash : ByteArray := prog_1_method_29_code
def yX0_clash : MethodName := ⟨RX0, "clash", "(II)I"⟩
def dkwX0_clash_2 : List UInt8 := [192, 0, 13, 182, 1, 58, 153, 0, 7, 4, 167, 0, 4, 3, 172]
abbrev dktX0_clash_2 : List UInt8 := dkwX0_clash_2 ++ []
def dkwX0_clash_1 : List UInt8 := [42, 42, 180, 0, 1, 27, 185, 0, 7, 2, 0, 192, 0, 13, 42, 180, 0, 1, 28, 185, 0, 7, 2, 0]
abbrev dktX0_clash_1 : List UInt8 := dkwX0_clash_1 ++ dktX0_clash_2
def dkwX0_clash_0 : List UInt8 := [42, 27, 182, 1, 12, 153, 0, 16, 42, 28, 182, 1, 12, 153, 0, 8, 27, 28, 160, 0, 6, 18, 156, 172]
abbrev dktX0_clash_0 : List UInt8 := dkwX0_clash_0 ++ dktX0_clash_1
theorem dksX0_clash_0 : cX0_clash.data.toList.drop 0 = dktX0_clash_0 := by decide +kernel
theorem dksX0_clash_1 : cX0_clash.data.toList.drop 24 = dktX0_clash_1 := dk_seg dksX0_clash_0 24 rfl rfl
theorem dksX0_clash_2 : cX0_clash.data.toList.drop 48 = dktX0_clash_2 := dk_seg dksX0_clash_1 24 rfl rfl
theorem dX0_clash_0 : decode cX0_clash 0 = .ok (.aload_n 0, 1) := dk_42 (dk_at dksX0_clash_0 0 rfl rfl)
theorem dX0_clash_1 : decode cX0_clash 1 = .ok (.iload_n 1, 1) := dk_27 (dk_at dksX0_clash_0 1 rfl rfl)
theorem dX0_clash_2 : decode cX0_clash 2 = .ok (.invokevirtual 268, 3) := dk_182 1 12 (dk_at dksX0_clash_0 2 rfl rfl)
theorem dX0_clash_5 : decode cX0_clash 5 = .ok (.ifCond .eq 16, 3) := dk_153 0 16 (dk_at dksX0_clash_0 5 rfl rfl)
theorem dX0_clash_8 : decode cX0_clash 8 = .ok (.aload_n 0, 1) := dk_42 (dk_at dksX0_clash_0 8 rfl rfl)
theorem dX0_clash_9 : decode cX0_clash 9 = .ok (.iload_n 2, 1) := dk_28 (dk_at dksX0_clash_0 9 rfl rfl)
theorem dX0_clash_10 : decode cX0_clash 10 = .ok (.invokevirtual 268, 3) := dk_182 1 12 (dk_at dksX0_clash_0 10 rfl rfl)
theorem dX0_clash_13 : decode cX0_clash 13 = .ok (.ifCond .eq 8, 3) := dk_153 0 8 (dk_at dksX0_clash_0 13 rfl rfl)
theorem dX0_clash_16 : decode cX0_clash 16 = .ok (.iload_n 1, 1) := dk_27 (dk_at dksX0_clash_0 16 rfl rfl)
theorem dX0_clash_17 : decode cX0_clash 17 = .ok (.iload_n 2, 1) := dk_28 (dk_at dksX0_clash_0 17 rfl rfl)
theorem dX0_clash_18 : decode cX0_clash 18 = .ok (.if_icmp .ne 6, 3) := dk_160 0 6 (dk_at dksX0_clash_0 18 rfl rfl)
theorem dX0_clash_21 : decode cX0_clash 21 = .ok (.ldc 156, 2) := dk_18 156 (dk_at dksX0_clash_0 21 rfl rfl)
theorem dX0_clash_23 : decode cX0_clash 23 = .ok (.ireturn, 1) := dk_172 (dk_at dksX0_clash_0 23 rfl rfl)
theorem dX0_clash_24 : decode cX0_clash 24 = .ok (.aload_n 0, 1) := dk_42 (dk_at dksX0_clash_1 0 rfl rfl)
theorem dX0_clash_25 : decode cX0_clash 25 = .ok (.aload_n 0, 1) := dk_42 (dk_at dksX0_clash_1 1 rfl rfl)
theorem dX0_clash_26 : decode cX0_clash 26 = .ok (.getfield 1, 3) := dk_180 0 1 (dk_at dksX0_clash_1 2 rfl rfl)
theorem dX0_clash_29 : decode cX0_clash 29 = .ok (.iload_n 1, 1) := dk_27 (dk_at dksX0_clash_1 5 rfl rfl)
theorem dX0_clash_30 : decode cX0_clash 30 = .ok (.invokeinterface 7 2, 5) := by decide +kernel
theorem dX0_clash_35 : decode cX0_clash 35 = .ok (.checkcast 13, 3) := dk_192 0 13 (dk_at dksX0_clash_1 11 rfl rfl)
theorem dX0_clash_38 : decode cX0_clash 38 = .ok (.aload_n 0, 1) := dk_42 (dk_at dksX0_clash_1 14 rfl rfl)
theorem dX0_clash_39 : decode cX0_clash 39 = .ok (.getfield 1, 3) := dk_180 0 1 (dk_at dksX0_clash_1 15 rfl rfl)
theorem dX0_clash_42 : decode cX0_clash 42 = .ok (.iload_n 2, 1) := dk_28 (dk_at dksX0_clash_1 18 rfl rfl)
theorem dX0_clash_43 : decode cX0_clash 43 = .ok (.invokeinterface 7 2, 5) := by decide +kernel
theorem dX0_clash_48 : decode cX0_clash 48 = .ok (.checkcast 13, 3) := dk_192 0 13 (dk_at dksX0_clash_2 0 rfl rfl)
theorem dX0_clash_51 : decode cX0_clash 51 = .ok (.invokevirtual 314, 3) := dk_182 1 58 (dk_at dksX0_clash_2 3 rfl rfl)
theorem dX0_clash_54 : decode cX0_clash 54 = .ok (.ifCond .eq 7, 3) := dk_153 0 7 (dk_at dksX0_clash_2 6 rfl rfl)
theorem dX0_clash_57 : decode cX0_clash 57 = .ok (.iconst 1, 1) := dk_4 (dk_at dksX0_clash_2 9 rfl rfl)
theorem dX0_clash_58 : decode cX0_clash 58 = .ok (.goto 4, 3) := dk_167 0 4 (dk_at dksX0_clash_2 10 rfl rfl)
theorem dX0_clash_61 : decode cX0_clash 61 = .ok (.iconst 0, 1) := dk_3 (dk_at dksX0_clash_2 13 rfl rfl)
theorem dX0_clash_62 : decode cX0_clash 62 = .ok (.ireturn, 1) := dk_172 (dk_at dksX0_clash_2 14 rfl rfl)
abbrev cX0_isClash : ByteArray := prog_1_method_28_code
def yX0_isClash : MethodName := ⟨RX0, "isClash", "(LVillageHalls$Booking;LVillageHalls$Booking;)Z"⟩
def dkwX0_isClash_2 : List UInt8 := [182, 1, 54, 153, 0, 7, 4, 167, 0, 4, 3, 172]
abbrev dktX0_isClash_2 : List UInt8 := dkwX0_isClash_2 ++ []
def dkwX0_isClash_1 : List UInt8 := [180, 1, 25, 44, 180, 1, 22, 44, 180, 0, 46, 42, 180, 0, 33, 43, 180, 0, 37, 50, 180, 1, 51]
abbrev dktX0_isClash_1 : List UInt8 := dkwX0_isClash_1 ++ dktX0_isClash_2
def dkwX0_isClash_0 : List UInt8 := [42, 43, 44, 180, 0, 37, 44, 180, 1, 37, 44, 180, 1, 18, 182, 1, 47, 153, 0, 38, 43, 44]
abbrev dktX0_isClash_0 : List UInt8 := dkwX0_isClash_0 ++ dktX0_isClash_1
theorem dksX0_isClash_0 : cX0_isClash.data.toList.drop 0 = dktX0_isClash_0 := by decide +kernel
theorem dksX0_isClash_1 : cX0_isClash.data.toList.drop 22 = dktX0_isClash_1 := dk_seg dksX0_isClash_0 22 rfl rfl
theorem dksX0_isClash_2 : cX0_isClash.data.toList.drop 45 = dktX0_isClash_2 := dk_seg dksX0_isClash_1 23 rfl rfl
theorem dX0_isClash_0 : decode cX0_isClash 0 = .ok (.aload_n 0, 1) := dk_42 (dk_at dksX0_isClash_0 0 rfl rfl)
theorem dX0_isClash_1 : decode cX0_isClash 1 = .ok (.aload_n 1, 1) := dk_43 (dk_at dksX0_isClash_0 1 rfl rfl)
theorem dX0_isClash_2 : decode cX0_isClash 2 = .ok (.aload_n 2, 1) := dk_44 (dk_at dksX0_isClash_0 2 rfl rfl)
theorem dX0_isClash_3 : decode cX0_isClash 3 = .ok (.getfield 37, 3) := dk_180 0 37 (dk_at dksX0_isClash_0 3 rfl rfl)
theorem dX0_isClash_6 : decode cX0_isClash 6 = .ok (.aload_n 2, 1) := dk_44 (dk_at dksX0_isClash_0 6 rfl rfl)
theorem dX0_isClash_7 : decode cX0_isClash 7 = .ok (.getfield 293, 3) := dk_180 1 37 (dk_at dksX0_isClash_0 7 rfl rfl)
theorem dX0_isClash_10 : decode cX0_isClash 10 = .ok (.aload_n 2, 1) := dk_44 (dk_at dksX0_isClash_0 10 rfl rfl)
theorem dX0_isClash_11 : decode cX0_isClash 11 = .ok (.getfield 274, 3) := dk_180 1 18 (dk_at dksX0_isClash_0 11 rfl rfl)
theorem dX0_isClash_14 : decode cX0_isClash 14 = .ok (.invokevirtual 303, 3) := dk_182 1 47 (dk_at dksX0_isClash_0 14 rfl rfl)
theorem dX0_isClash_17 : decode cX0_isClash 17 = .ok (.ifCond .eq 38, 3) := dk_153 0 38 (dk_at dksX0_isClash_0 17 rfl rfl)
theorem dX0_isClash_20 : decode cX0_isClash 20 = .ok (.aload_n 1, 1) := dk_43 (dk_at dksX0_isClash_0 20 rfl rfl)
theorem dX0_isClash_21 : decode cX0_isClash 21 = .ok (.aload_n 2, 1) := dk_44 (dk_at dksX0_isClash_0 21 rfl rfl)
theorem dX0_isClash_22 : decode cX0_isClash 22 = .ok (.getfield 281, 3) := dk_180 1 25 (dk_at dksX0_isClash_1 0 rfl rfl)
theorem dX0_isClash_25 : decode cX0_isClash 25 = .ok (.aload_n 2, 1) := dk_44 (dk_at dksX0_isClash_1 3 rfl rfl)
theorem dX0_isClash_26 : decode cX0_isClash 26 = .ok (.getfield 278, 3) := dk_180 1 22 (dk_at dksX0_isClash_1 4 rfl rfl)
theorem dX0_isClash_29 : decode cX0_isClash 29 = .ok (.aload_n 2, 1) := dk_44 (dk_at dksX0_isClash_1 7 rfl rfl)
theorem dX0_isClash_30 : decode cX0_isClash 30 = .ok (.getfield 46, 3) := dk_180 0 46 (dk_at dksX0_isClash_1 8 rfl rfl)
theorem dX0_isClash_33 : decode cX0_isClash 33 = .ok (.aload_n 0, 1) := dk_42 (dk_at dksX0_isClash_1 11 rfl rfl)
theorem dX0_isClash_34 : decode cX0_isClash 34 = .ok (.getfield 33, 3) := dk_180 0 33 (dk_at dksX0_isClash_1 12 rfl rfl)
theorem dX0_isClash_37 : decode cX0_isClash 37 = .ok (.aload_n 1, 1) := dk_43 (dk_at dksX0_isClash_1 15 rfl rfl)
theorem dX0_isClash_38 : decode cX0_isClash 38 = .ok (.getfield 37, 3) := dk_180 0 37 (dk_at dksX0_isClash_1 16 rfl rfl)
theorem dX0_isClash_41 : decode cX0_isClash 41 = .ok (.aaload, 1) := dk_50 (dk_at dksX0_isClash_1 19 rfl rfl)
theorem dX0_isClash_42 : decode cX0_isClash 42 = .ok (.getfield 307, 3) := dk_180 1 51 (dk_at dksX0_isClash_1 20 rfl rfl)
theorem dX0_isClash_45 : decode cX0_isClash 45 = .ok (.invokevirtual 310, 3) := dk_182 1 54 (dk_at dksX0_isClash_2 0 rfl rfl)
theorem dX0_isClash_48 : decode cX0_isClash 48 = .ok (.ifCond .eq 7, 3) := dk_153 0 7 (dk_at dksX0_isClash_2 3 rfl rfl)
theorem dX0_isClash_51 : decode cX0_isClash 51 = .ok (.iconst 1, 1) := dk_4 (dk_at dksX0_isClash_2 6 rfl rfl)
theorem dX0_isClash_52 : decode cX0_isClash 52 = .ok (.goto 4, 3) := dk_167 0 4 (dk_at dksX0_isClash_2 7 rfl rfl)
theorem dX0_isClash_55 : decode cX0_isClash 55 = .ok (.iconst 0, 1) := dk_3 (dk_at dksX0_isClash_2 10 rfl rfl)
theorem dX0_isClash_56 : decode cX0_isClash 56 = .ok (.ireturn, 1) := dk_172 (dk_at dksX0_isClash_2 11 rfl rfl)
abbrev cX0_isAt : ByteArray := prog_1_method_27_code
def yX0_isAt : MethodName := ⟨RX0, "isAt", "(LVillageHalls$Booking;III)Z"⟩
def dkwX0_isAt_1 : List UInt8 := [160, 0, 7, 4, 167, 0, 4, 3, 172]
abbrev dktX0_isAt_1 : List UInt8 := dkwX0_isAt_1 ++ []
def dkwX0_isAt_0 : List UInt8 := [43, 180, 0, 37, 28, 160, 0, 24, 43, 180, 1, 37, 29, 160, 0, 16, 43, 180, 1, 18, 21, 4]
abbrev dktX0_isAt_0 : List UInt8 := dkwX0_isAt_0 ++ dktX0_isAt_1
theorem dksX0_isAt_0 : cX0_isAt.data.toList.drop 0 = dktX0_isAt_0 := by decide +kernel
theorem dksX0_isAt_1 : cX0_isAt.data.toList.drop 22 = dktX0_isAt_1 := dk_seg dksX0_isAt_0 22 rfl rfl
theorem dX0_isAt_0 : decode cX0_isAt 0 = .ok (.aload_n 1, 1) := dk_43 (dk_at dksX0_isAt_0 0 rfl rfl)
theorem dX0_isAt_1 : decode cX0_isAt 1 = .ok (.getfield 37, 3) := dk_180 0 37 (dk_at dksX0_isAt_0 1 rfl rfl)
theorem dX0_isAt_4 : decode cX0_isAt 4 = .ok (.iload_n 2, 1) := dk_28 (dk_at dksX0_isAt_0 4 rfl rfl)
theorem dX0_isAt_5 : decode cX0_isAt 5 = .ok (.if_icmp .ne 24, 3) := dk_160 0 24 (dk_at dksX0_isAt_0 5 rfl rfl)
theorem dX0_isAt_8 : decode cX0_isAt 8 = .ok (.aload_n 1, 1) := dk_43 (dk_at dksX0_isAt_0 8 rfl rfl)
theorem dX0_isAt_9 : decode cX0_isAt 9 = .ok (.getfield 293, 3) := dk_180 1 37 (dk_at dksX0_isAt_0 9 rfl rfl)
theorem dX0_isAt_12 : decode cX0_isAt 12 = .ok (.iload_n 3, 1) := dk_29 (dk_at dksX0_isAt_0 12 rfl rfl)
theorem dX0_isAt_13 : decode cX0_isAt 13 = .ok (.if_icmp .ne 16, 3) := dk_160 0 16 (dk_at dksX0_isAt_0 13 rfl rfl)
theorem dX0_isAt_16 : decode cX0_isAt 16 = .ok (.aload_n 1, 1) := dk_43 (dk_at dksX0_isAt_0 16 rfl rfl)
theorem dX0_isAt_17 : decode cX0_isAt 17 = .ok (.getfield 274, 3) := dk_180 1 18 (dk_at dksX0_isAt_0 17 rfl rfl)
theorem dX0_isAt_20 : decode cX0_isAt 20 = .ok (.iload 4, 2) := dk_21 4 (dk_at dksX0_isAt_0 20 rfl rfl)
theorem dX0_isAt_22 : decode cX0_isAt 22 = .ok (.if_icmp .ne 7, 3) := dk_160 0 7 (dk_at dksX0_isAt_1 0 rfl rfl)
theorem dX0_isAt_25 : decode cX0_isAt 25 = .ok (.iconst 1, 1) := dk_4 (dk_at dksX0_isAt_1 3 rfl rfl)
theorem dX0_isAt_26 : decode cX0_isAt 26 = .ok (.goto 4, 3) := dk_167 0 4 (dk_at dksX0_isAt_1 4 rfl rfl)
theorem dX0_isAt_29 : decode cX0_isAt 29 = .ok (.iconst 0, 1) := dk_3 (dk_at dksX0_isAt_1 7 rfl rfl)
theorem dX0_isAt_30 : decode cX0_isAt 30 = .ok (.ireturn, 1) := dk_172 (dk_at dksX0_isAt_1 8 rfl rfl)
abbrev cX0_holding : ByteArray := prog_1_method_33_code
def yX0_holding : MethodName := ⟨RX0, "holding", "(II)I"⟩
def dkwX0_holding_5 : List UInt8 := [167, 0, 4, 3, 96, 54, 4, 132, 5, 1, 167, 255, 168, 21, 4, 172]
abbrev dktX0_holding_5 : List UInt8 := dkwX0_holding_5 ++ []
def dkwX0_holding_4 : List UInt8 := [128, 54, 4, 167, 0, 28, 21, 4, 29, 21, 5, 122, 4, 126, 4, 160, 0, 12, 42, 25, 6, 182, 0, 51]
abbrev dktX0_holding_4 : List UInt8 := dkwX0_holding_4 ++ dktX0_holding_5
def dkwX0_holding_3 : List UInt8 := [28, 4, 160, 0, 28, 21, 4, 25, 6, 27, 182, 0, 61, 153, 0, 10, 4, 21, 5, 120, 167, 0, 4, 3]
abbrev dktX0_holding_3 : List UInt8 := dkwX0_holding_3 ++ dktX0_holding_4
def dkwX0_holding_2 : List UInt8 := [185, 0, 71, 1, 0, 162, 0, 80, 42, 180, 0, 1, 21, 5, 185, 0, 7, 2, 0, 192, 0, 13, 58, 6]
abbrev dktX0_holding_2 : List UInt8 := dkwX0_holding_2 ++ dktX0_holding_3
def dkwX0_holding_1 : List UInt8 := [182, 0, 29, 62, 28, 154, 0, 5, 29, 172, 3, 54, 4, 3, 54, 5, 21, 5, 42, 180, 0, 1]
abbrev dktX0_holding_1 : List UInt8 := dkwX0_holding_1 ++ dktX0_holding_2
def dkwX0_holding_0 : List UInt8 := [27, 184, 0, 243, 153, 0, 15, 28, 133, 9, 20, 0, 154, 184, 0, 143, 154, 0, 6, 18, 156, 172, 42, 27]
abbrev dktX0_holding_0 : List UInt8 := dkwX0_holding_0 ++ dktX0_holding_1
theorem dksX0_holding_0 : cX0_holding.data.toList.drop 0 = dktX0_holding_0 := by decide +kernel
theorem dksX0_holding_1 : cX0_holding.data.toList.drop 24 = dktX0_holding_1 := dk_seg dksX0_holding_0 24 rfl rfl
theorem dksX0_holding_2 : cX0_holding.data.toList.drop 46 = dktX0_holding_2 := dk_seg dksX0_holding_1 22 rfl rfl
theorem dksX0_holding_3 : cX0_holding.data.toList.drop 70 = dktX0_holding_3 := dk_seg dksX0_holding_2 24 rfl rfl
theorem dksX0_holding_4 : cX0_holding.data.toList.drop 94 = dktX0_holding_4 := dk_seg dksX0_holding_3 24 rfl rfl
theorem dksX0_holding_5 : cX0_holding.data.toList.drop 118 = dktX0_holding_5 := dk_seg dksX0_holding_4 24 rfl rfl
theorem dX0_holding_0 : decode cX0_holding 0 = .ok (.iload_n 1, 1) := dk_27 (dk_at dksX0_holding_0 0 rfl rfl)
theorem dX0_holding_1 : decode cX0_holding 1 = .ok (.invokestatic 243, 3) := dk_184 0 243 (dk_at dksX0_holding_0 1 rfl rfl)
theorem dX0_holding_4 : decode cX0_holding 4 = .ok (.ifCond .eq 15, 3) := dk_153 0 15 (dk_at dksX0_holding_0 4 rfl rfl)
theorem dX0_holding_7 : decode cX0_holding 7 = .ok (.iload_n 2, 1) := dk_28 (dk_at dksX0_holding_0 7 rfl rfl)
theorem dX0_holding_8 : decode cX0_holding 8 = .ok (.i2l, 1) := dk_133 (dk_at dksX0_holding_0 8 rfl rfl)
theorem dX0_holding_9 : decode cX0_holding 9 = .ok (.lconst 0, 1) := dk_9 (dk_at dksX0_holding_0 9 rfl rfl)
theorem dX0_holding_10 : decode cX0_holding 10 = .ok (.ldc2_w 154, 3) := dk_20 0 154 (dk_at dksX0_holding_0 10 rfl rfl)
theorem dX0_holding_13 : decode cX0_holding 13 = .ok (.invokestatic 143, 3) := dk_184 0 143 (dk_at dksX0_holding_0 13 rfl rfl)
theorem dX0_holding_16 : decode cX0_holding 16 = .ok (.ifCond .ne 6, 3) := dk_154 0 6 (dk_at dksX0_holding_0 16 rfl rfl)
theorem dX0_holding_19 : decode cX0_holding 19 = .ok (.ldc 156, 2) := dk_18 156 (dk_at dksX0_holding_0 19 rfl rfl)
theorem dX0_holding_21 : decode cX0_holding 21 = .ok (.ireturn, 1) := dk_172 (dk_at dksX0_holding_0 21 rfl rfl)
theorem dX0_holding_22 : decode cX0_holding 22 = .ok (.aload_n 0, 1) := dk_42 (dk_at dksX0_holding_0 22 rfl rfl)
theorem dX0_holding_23 : decode cX0_holding 23 = .ok (.iload_n 1, 1) := dk_27 (dk_at dksX0_holding_0 23 rfl rfl)
theorem dX0_holding_24 : decode cX0_holding 24 = .ok (.invokevirtual 29, 3) := dk_182 0 29 (dk_at dksX0_holding_1 0 rfl rfl)
theorem dX0_holding_27 : decode cX0_holding 27 = .ok (.istore_n 3, 1) := dk_62 (dk_at dksX0_holding_1 3 rfl rfl)
theorem dX0_holding_28 : decode cX0_holding 28 = .ok (.iload_n 2, 1) := dk_28 (dk_at dksX0_holding_1 4 rfl rfl)
theorem dX0_holding_29 : decode cX0_holding 29 = .ok (.ifCond .ne 5, 3) := dk_154 0 5 (dk_at dksX0_holding_1 5 rfl rfl)
theorem dX0_holding_32 : decode cX0_holding 32 = .ok (.iload_n 3, 1) := dk_29 (dk_at dksX0_holding_1 8 rfl rfl)
theorem dX0_holding_33 : decode cX0_holding 33 = .ok (.ireturn, 1) := dk_172 (dk_at dksX0_holding_1 9 rfl rfl)
theorem dX0_holding_34 : decode cX0_holding 34 = .ok (.iconst 0, 1) := dk_3 (dk_at dksX0_holding_1 10 rfl rfl)
theorem dX0_holding_35 : decode cX0_holding 35 = .ok (.istore 4, 2) := dk_54 4 (dk_at dksX0_holding_1 11 rfl rfl)
theorem dX0_holding_37 : decode cX0_holding 37 = .ok (.iconst 0, 1) := dk_3 (dk_at dksX0_holding_1 13 rfl rfl)
theorem dX0_holding_38 : decode cX0_holding 38 = .ok (.istore 5, 2) := dk_54 5 (dk_at dksX0_holding_1 14 rfl rfl)
theorem dX0_holding_40 : decode cX0_holding 40 = .ok (.iload 5, 2) := dk_21 5 (dk_at dksX0_holding_1 16 rfl rfl)
theorem dX0_holding_42 : decode cX0_holding 42 = .ok (.aload_n 0, 1) := dk_42 (dk_at dksX0_holding_1 18 rfl rfl)
theorem dX0_holding_43 : decode cX0_holding 43 = .ok (.getfield 1, 3) := dk_180 0 1 (dk_at dksX0_holding_1 19 rfl rfl)
theorem dX0_holding_46 : decode cX0_holding 46 = .ok (.invokeinterface 71 1, 5) := by decide +kernel
theorem dX0_holding_51 : decode cX0_holding 51 = .ok (.if_icmp .ge 80, 3) := dk_162 0 80 (dk_at dksX0_holding_2 5 rfl rfl)
theorem dX0_holding_54 : decode cX0_holding 54 = .ok (.aload_n 0, 1) := dk_42 (dk_at dksX0_holding_2 8 rfl rfl)
theorem dX0_holding_55 : decode cX0_holding 55 = .ok (.getfield 1, 3) := dk_180 0 1 (dk_at dksX0_holding_2 9 rfl rfl)
theorem dX0_holding_58 : decode cX0_holding 58 = .ok (.iload 5, 2) := dk_21 5 (dk_at dksX0_holding_2 12 rfl rfl)
theorem dX0_holding_60 : decode cX0_holding 60 = .ok (.invokeinterface 7 2, 5) := by decide +kernel
theorem dX0_holding_65 : decode cX0_holding 65 = .ok (.checkcast 13, 3) := dk_192 0 13 (dk_at dksX0_holding_2 19 rfl rfl)
theorem dX0_holding_68 : decode cX0_holding 68 = .ok (.astore 6, 2) := dk_58 6 (dk_at dksX0_holding_2 22 rfl rfl)
theorem dX0_holding_70 : decode cX0_holding 70 = .ok (.iload_n 2, 1) := dk_28 (dk_at dksX0_holding_3 0 rfl rfl)
theorem dX0_holding_71 : decode cX0_holding 71 = .ok (.iconst 1, 1) := dk_4 (dk_at dksX0_holding_3 1 rfl rfl)
theorem dX0_holding_72 : decode cX0_holding 72 = .ok (.if_icmp .ne 28, 3) := dk_160 0 28 (dk_at dksX0_holding_3 2 rfl rfl)
theorem dX0_holding_75 : decode cX0_holding 75 = .ok (.iload 4, 2) := dk_21 4 (dk_at dksX0_holding_3 5 rfl rfl)
theorem dX0_holding_77 : decode cX0_holding 77 = .ok (.aload 6, 2) := dk_25 6 (dk_at dksX0_holding_3 7 rfl rfl)
theorem dX0_holding_79 : decode cX0_holding 79 = .ok (.iload_n 1, 1) := dk_27 (dk_at dksX0_holding_3 9 rfl rfl)
theorem dX0_holding_80 : decode cX0_holding 80 = .ok (.invokevirtual 61, 3) := dk_182 0 61 (dk_at dksX0_holding_3 10 rfl rfl)
theorem dX0_holding_83 : decode cX0_holding 83 = .ok (.ifCond .eq 10, 3) := dk_153 0 10 (dk_at dksX0_holding_3 13 rfl rfl)
theorem dX0_holding_86 : decode cX0_holding 86 = .ok (.iconst 1, 1) := dk_4 (dk_at dksX0_holding_3 16 rfl rfl)
theorem dX0_holding_87 : decode cX0_holding 87 = .ok (.iload 5, 2) := dk_21 5 (dk_at dksX0_holding_3 17 rfl rfl)
theorem dX0_holding_89 : decode cX0_holding 89 = .ok (.ishl, 1) := dk_120 (dk_at dksX0_holding_3 19 rfl rfl)
theorem dX0_holding_90 : decode cX0_holding 90 = .ok (.goto 4, 3) := dk_167 0 4 (dk_at dksX0_holding_3 20 rfl rfl)
theorem dX0_holding_93 : decode cX0_holding 93 = .ok (.iconst 0, 1) := dk_3 (dk_at dksX0_holding_3 23 rfl rfl)
theorem dX0_holding_94 : decode cX0_holding 94 = .ok (.ior, 1) := dk_128 (dk_at dksX0_holding_4 0 rfl rfl)
theorem dX0_holding_95 : decode cX0_holding 95 = .ok (.istore 4, 2) := dk_54 4 (dk_at dksX0_holding_4 1 rfl rfl)
theorem dX0_holding_97 : decode cX0_holding 97 = .ok (.goto 28, 3) := dk_167 0 28 (dk_at dksX0_holding_4 3 rfl rfl)
theorem dX0_holding_100 : decode cX0_holding 100 = .ok (.iload 4, 2) := dk_21 4 (dk_at dksX0_holding_4 6 rfl rfl)
theorem dX0_holding_102 : decode cX0_holding 102 = .ok (.iload_n 3, 1) := dk_29 (dk_at dksX0_holding_4 8 rfl rfl)
theorem dX0_holding_103 : decode cX0_holding 103 = .ok (.iload 5, 2) := dk_21 5 (dk_at dksX0_holding_4 9 rfl rfl)
theorem dX0_holding_105 : decode cX0_holding 105 = .ok (.ishr, 1) := dk_122 (dk_at dksX0_holding_4 11 rfl rfl)
theorem dX0_holding_106 : decode cX0_holding 106 = .ok (.iconst 1, 1) := dk_4 (dk_at dksX0_holding_4 12 rfl rfl)
theorem dX0_holding_107 : decode cX0_holding 107 = .ok (.iand, 1) := dk_126 (dk_at dksX0_holding_4 13 rfl rfl)
theorem dX0_holding_108 : decode cX0_holding 108 = .ok (.iconst 1, 1) := dk_4 (dk_at dksX0_holding_4 14 rfl rfl)
theorem dX0_holding_109 : decode cX0_holding 109 = .ok (.if_icmp .ne 12, 3) := dk_160 0 12 (dk_at dksX0_holding_4 15 rfl rfl)
theorem dX0_holding_112 : decode cX0_holding 112 = .ok (.aload_n 0, 1) := dk_42 (dk_at dksX0_holding_4 18 rfl rfl)
theorem dX0_holding_113 : decode cX0_holding 113 = .ok (.aload 6, 2) := dk_25 6 (dk_at dksX0_holding_4 19 rfl rfl)
theorem dX0_holding_115 : decode cX0_holding 115 = .ok (.invokevirtual 51, 3) := dk_182 0 51 (dk_at dksX0_holding_4 21 rfl rfl)
theorem dX0_holding_118 : decode cX0_holding 118 = .ok (.goto 4, 3) := dk_167 0 4 (dk_at dksX0_holding_5 0 rfl rfl)
theorem dX0_holding_121 : decode cX0_holding 121 = .ok (.iconst 0, 1) := dk_3 (dk_at dksX0_holding_5 3 rfl rfl)
theorem dX0_holding_122 : decode cX0_holding 122 = .ok (.iadd, 1) := dk_96 (dk_at dksX0_holding_5 4 rfl rfl)
theorem dX0_holding_123 : decode cX0_holding 123 = .ok (.istore 4, 2) := dk_54 4 (dk_at dksX0_holding_5 5 rfl rfl)
theorem dX0_holding_125 : decode cX0_holding 125 = .ok (.iinc 5 1, 3) := dk_132 5 1 (dk_at dksX0_holding_5 7 rfl rfl)
theorem dX0_holding_128 : decode cX0_holding 128 = .ok (.goto (-88), 3) := dk_167 255 168 (dk_at dksX0_holding_5 10 rfl rfl)
theorem dX0_holding_131 : decode cX0_holding 131 = .ok (.iload 4, 2) := dk_21 4 (dk_at dksX0_holding_5 13 rfl rfl)
theorem dX0_holding_133 : decode cX0_holding 133 = .ok (.ireturn, 1) := dk_172 (dk_at dksX0_holding_5 15 rfl rfl)
abbrev cX0_held : ByteArray := prog_1_method_31_code
def yX0_held : MethodName := ⟨RX0, "held", "(I)I"⟩
def dkwX0_held_6 : List UInt8 := [4, 42, 180, 0, 121, 21, 4, 50, 180, 1, 69, 120, 128, 62, 132, 4, 1, 167, 255, 217, 29, 172]
abbrev dktX0_held_6 : List UInt8 := dkwX0_held_6 ++ []
def dkwX0_held_5 : List UInt8 := [54, 4, 21, 4, 28, 162, 0, 39, 42, 42, 180, 0, 121, 21, 4, 50, 29, 182, 1, 65, 153, 0, 18, 29]
abbrev dktX0_held_5 : List UInt8 := dkwX0_held_5 ++ dktX0_held_6
def dkwX0_held_4 : List UInt8 := [132, 5, 255, 167, 255, 214, 42, 180, 0, 121, 21, 5, 25, 4, 83, 132, 3, 1, 167, 255, 153, 3, 62, 3]
abbrev dktX0_held_4 : List UInt8 := dkwX0_held_4 ++ dktX0_held_5
def dkwX0_held_3 : List UInt8 := [182, 1, 62, 153, 0, 25, 42, 180, 0, 121, 21, 5, 42, 180, 0, 121, 21, 5, 4, 100, 50, 83]
abbrev dktX0_held_3 : List UInt8 := dkwX0_held_3 ++ dktX0_held_4
def dkwX0_held_2 : List UInt8 := [132, 2, 1, 54, 5, 21, 5, 158, 0, 43, 42, 25, 4, 42, 180, 0, 121, 21, 5, 4, 100, 50]
abbrev dktX0_held_2 : List UInt8 := dkwX0_held_2 ++ dktX0_held_3
def dkwX0_held_1 : List UInt8 := [185, 0, 7, 2, 0, 192, 0, 13, 58, 4, 25, 4, 27, 182, 0, 61, 154, 0, 6, 167, 0, 63, 28]
abbrev dktX0_held_1 : List UInt8 := dkwX0_held_1 ++ dktX0_held_2
def dkwX0_held_0 : List UInt8 := [3, 61, 3, 62, 29, 42, 180, 0, 1, 185, 0, 71, 1, 0, 162, 0, 96, 42, 180, 0, 1, 29]
abbrev dktX0_held_0 : List UInt8 := dkwX0_held_0 ++ dktX0_held_1
theorem dksX0_held_0 : cX0_held.data.toList.drop 0 = dktX0_held_0 := by decide +kernel
theorem dksX0_held_1 : cX0_held.data.toList.drop 22 = dktX0_held_1 := dk_seg dksX0_held_0 22 rfl rfl
theorem dksX0_held_2 : cX0_held.data.toList.drop 45 = dktX0_held_2 := dk_seg dksX0_held_1 23 rfl rfl
theorem dksX0_held_3 : cX0_held.data.toList.drop 67 = dktX0_held_3 := dk_seg dksX0_held_2 22 rfl rfl
theorem dksX0_held_4 : cX0_held.data.toList.drop 89 = dktX0_held_4 := dk_seg dksX0_held_3 22 rfl rfl
theorem dksX0_held_5 : cX0_held.data.toList.drop 113 = dktX0_held_5 := dk_seg dksX0_held_4 24 rfl rfl
theorem dksX0_held_6 : cX0_held.data.toList.drop 137 = dktX0_held_6 := dk_seg dksX0_held_5 24 rfl rfl
theorem dX0_held_0 : decode cX0_held 0 = .ok (.iconst 0, 1) := dk_3 (dk_at dksX0_held_0 0 rfl rfl)
theorem dX0_held_1 : decode cX0_held 1 = .ok (.istore_n 2, 1) := dk_61 (dk_at dksX0_held_0 1 rfl rfl)
theorem dX0_held_2 : decode cX0_held 2 = .ok (.iconst 0, 1) := dk_3 (dk_at dksX0_held_0 2 rfl rfl)
theorem dX0_held_3 : decode cX0_held 3 = .ok (.istore_n 3, 1) := dk_62 (dk_at dksX0_held_0 3 rfl rfl)
theorem dX0_held_4 : decode cX0_held 4 = .ok (.iload_n 3, 1) := dk_29 (dk_at dksX0_held_0 4 rfl rfl)
theorem dX0_held_5 : decode cX0_held 5 = .ok (.aload_n 0, 1) := dk_42 (dk_at dksX0_held_0 5 rfl rfl)
theorem dX0_held_6 : decode cX0_held 6 = .ok (.getfield 1, 3) := dk_180 0 1 (dk_at dksX0_held_0 6 rfl rfl)
theorem dX0_held_9 : decode cX0_held 9 = .ok (.invokeinterface 71 1, 5) := by decide +kernel
theorem dX0_held_14 : decode cX0_held 14 = .ok (.if_icmp .ge 96, 3) := dk_162 0 96 (dk_at dksX0_held_0 14 rfl rfl)
theorem dX0_held_17 : decode cX0_held 17 = .ok (.aload_n 0, 1) := dk_42 (dk_at dksX0_held_0 17 rfl rfl)
theorem dX0_held_18 : decode cX0_held 18 = .ok (.getfield 1, 3) := dk_180 0 1 (dk_at dksX0_held_0 18 rfl rfl)
theorem dX0_held_21 : decode cX0_held 21 = .ok (.iload_n 3, 1) := dk_29 (dk_at dksX0_held_0 21 rfl rfl)
theorem dX0_held_22 : decode cX0_held 22 = .ok (.invokeinterface 7 2, 5) := by decide +kernel
theorem dX0_held_27 : decode cX0_held 27 = .ok (.checkcast 13, 3) := dk_192 0 13 (dk_at dksX0_held_1 5 rfl rfl)
theorem dX0_held_30 : decode cX0_held 30 = .ok (.astore 4, 2) := dk_58 4 (dk_at dksX0_held_1 8 rfl rfl)
theorem dX0_held_32 : decode cX0_held 32 = .ok (.aload 4, 2) := dk_25 4 (dk_at dksX0_held_1 10 rfl rfl)
theorem dX0_held_34 : decode cX0_held 34 = .ok (.iload_n 1, 1) := dk_27 (dk_at dksX0_held_1 12 rfl rfl)
theorem dX0_held_35 : decode cX0_held 35 = .ok (.invokevirtual 61, 3) := dk_182 0 61 (dk_at dksX0_held_1 13 rfl rfl)
theorem dX0_held_38 : decode cX0_held 38 = .ok (.ifCond .ne 6, 3) := dk_154 0 6 (dk_at dksX0_held_1 16 rfl rfl)
theorem dX0_held_41 : decode cX0_held 41 = .ok (.goto 63, 3) := dk_167 0 63 (dk_at dksX0_held_1 19 rfl rfl)
theorem dX0_held_44 : decode cX0_held 44 = .ok (.iload_n 2, 1) := dk_28 (dk_at dksX0_held_1 22 rfl rfl)
theorem dX0_held_45 : decode cX0_held 45 = .ok (.iinc 2 1, 3) := dk_132 2 1 (dk_at dksX0_held_2 0 rfl rfl)
theorem dX0_held_48 : decode cX0_held 48 = .ok (.istore 5, 2) := dk_54 5 (dk_at dksX0_held_2 3 rfl rfl)
theorem dX0_held_50 : decode cX0_held 50 = .ok (.iload 5, 2) := dk_21 5 (dk_at dksX0_held_2 5 rfl rfl)
theorem dX0_held_52 : decode cX0_held 52 = .ok (.ifCond .le 43, 3) := dk_158 0 43 (dk_at dksX0_held_2 7 rfl rfl)
theorem dX0_held_55 : decode cX0_held 55 = .ok (.aload_n 0, 1) := dk_42 (dk_at dksX0_held_2 10 rfl rfl)
theorem dX0_held_56 : decode cX0_held 56 = .ok (.aload 4, 2) := dk_25 4 (dk_at dksX0_held_2 11 rfl rfl)
theorem dX0_held_58 : decode cX0_held 58 = .ok (.aload_n 0, 1) := dk_42 (dk_at dksX0_held_2 13 rfl rfl)
theorem dX0_held_59 : decode cX0_held 59 = .ok (.getfield 121, 3) := dk_180 0 121 (dk_at dksX0_held_2 14 rfl rfl)
theorem dX0_held_62 : decode cX0_held 62 = .ok (.iload 5, 2) := dk_21 5 (dk_at dksX0_held_2 17 rfl rfl)
theorem dX0_held_64 : decode cX0_held 64 = .ok (.iconst 1, 1) := dk_4 (dk_at dksX0_held_2 19 rfl rfl)
theorem dX0_held_65 : decode cX0_held 65 = .ok (.isub, 1) := dk_100 (dk_at dksX0_held_2 20 rfl rfl)
theorem dX0_held_66 : decode cX0_held 66 = .ok (.aaload, 1) := dk_50 (dk_at dksX0_held_2 21 rfl rfl)
theorem dX0_held_67 : decode cX0_held 67 = .ok (.invokevirtual 318, 3) := dk_182 1 62 (dk_at dksX0_held_3 0 rfl rfl)
theorem dX0_held_70 : decode cX0_held 70 = .ok (.ifCond .eq 25, 3) := dk_153 0 25 (dk_at dksX0_held_3 3 rfl rfl)
theorem dX0_held_73 : decode cX0_held 73 = .ok (.aload_n 0, 1) := dk_42 (dk_at dksX0_held_3 6 rfl rfl)
theorem dX0_held_74 : decode cX0_held 74 = .ok (.getfield 121, 3) := dk_180 0 121 (dk_at dksX0_held_3 7 rfl rfl)
theorem dX0_held_77 : decode cX0_held 77 = .ok (.iload 5, 2) := dk_21 5 (dk_at dksX0_held_3 10 rfl rfl)
theorem dX0_held_79 : decode cX0_held 79 = .ok (.aload_n 0, 1) := dk_42 (dk_at dksX0_held_3 12 rfl rfl)
theorem dX0_held_80 : decode cX0_held 80 = .ok (.getfield 121, 3) := dk_180 0 121 (dk_at dksX0_held_3 13 rfl rfl)
theorem dX0_held_83 : decode cX0_held 83 = .ok (.iload 5, 2) := dk_21 5 (dk_at dksX0_held_3 16 rfl rfl)
theorem dX0_held_85 : decode cX0_held 85 = .ok (.iconst 1, 1) := dk_4 (dk_at dksX0_held_3 18 rfl rfl)
theorem dX0_held_86 : decode cX0_held 86 = .ok (.isub, 1) := dk_100 (dk_at dksX0_held_3 19 rfl rfl)
theorem dX0_held_87 : decode cX0_held 87 = .ok (.aaload, 1) := dk_50 (dk_at dksX0_held_3 20 rfl rfl)
theorem dX0_held_88 : decode cX0_held 88 = .ok (.aastore, 1) := dk_83 (dk_at dksX0_held_3 21 rfl rfl)
theorem dX0_held_89 : decode cX0_held 89 = .ok (.iinc 5 (-1), 3) := dk_132 5 255 (dk_at dksX0_held_4 0 rfl rfl)
theorem dX0_held_92 : decode cX0_held 92 = .ok (.goto (-42), 3) := dk_167 255 214 (dk_at dksX0_held_4 3 rfl rfl)
theorem dX0_held_95 : decode cX0_held 95 = .ok (.aload_n 0, 1) := dk_42 (dk_at dksX0_held_4 6 rfl rfl)
theorem dX0_held_96 : decode cX0_held 96 = .ok (.getfield 121, 3) := dk_180 0 121 (dk_at dksX0_held_4 7 rfl rfl)
theorem dX0_held_99 : decode cX0_held 99 = .ok (.iload 5, 2) := dk_21 5 (dk_at dksX0_held_4 10 rfl rfl)
theorem dX0_held_101 : decode cX0_held 101 = .ok (.aload 4, 2) := dk_25 4 (dk_at dksX0_held_4 12 rfl rfl)
theorem dX0_held_103 : decode cX0_held 103 = .ok (.aastore, 1) := dk_83 (dk_at dksX0_held_4 14 rfl rfl)
theorem dX0_held_104 : decode cX0_held 104 = .ok (.iinc 3 1, 3) := dk_132 3 1 (dk_at dksX0_held_4 15 rfl rfl)
theorem dX0_held_107 : decode cX0_held 107 = .ok (.goto (-103), 3) := dk_167 255 153 (dk_at dksX0_held_4 18 rfl rfl)
theorem dX0_held_110 : decode cX0_held 110 = .ok (.iconst 0, 1) := dk_3 (dk_at dksX0_held_4 21 rfl rfl)
theorem dX0_held_111 : decode cX0_held 111 = .ok (.istore_n 3, 1) := dk_62 (dk_at dksX0_held_4 22 rfl rfl)
theorem dX0_held_112 : decode cX0_held 112 = .ok (.iconst 0, 1) := dk_3 (dk_at dksX0_held_4 23 rfl rfl)
theorem dX0_held_113 : decode cX0_held 113 = .ok (.istore 4, 2) := dk_54 4 (dk_at dksX0_held_5 0 rfl rfl)
theorem dX0_held_115 : decode cX0_held 115 = .ok (.iload 4, 2) := dk_21 4 (dk_at dksX0_held_5 2 rfl rfl)
theorem dX0_held_117 : decode cX0_held 117 = .ok (.iload_n 2, 1) := dk_28 (dk_at dksX0_held_5 4 rfl rfl)
theorem dX0_held_118 : decode cX0_held 118 = .ok (.if_icmp .ge 39, 3) := dk_162 0 39 (dk_at dksX0_held_5 5 rfl rfl)
theorem dX0_held_121 : decode cX0_held 121 = .ok (.aload_n 0, 1) := dk_42 (dk_at dksX0_held_5 8 rfl rfl)
theorem dX0_held_122 : decode cX0_held 122 = .ok (.aload_n 0, 1) := dk_42 (dk_at dksX0_held_5 9 rfl rfl)
theorem dX0_held_123 : decode cX0_held 123 = .ok (.getfield 121, 3) := dk_180 0 121 (dk_at dksX0_held_5 10 rfl rfl)
theorem dX0_held_126 : decode cX0_held 126 = .ok (.iload 4, 2) := dk_21 4 (dk_at dksX0_held_5 13 rfl rfl)
theorem dX0_held_128 : decode cX0_held 128 = .ok (.aaload, 1) := dk_50 (dk_at dksX0_held_5 15 rfl rfl)
theorem dX0_held_129 : decode cX0_held 129 = .ok (.iload_n 3, 1) := dk_29 (dk_at dksX0_held_5 16 rfl rfl)
theorem dX0_held_130 : decode cX0_held 130 = .ok (.invokevirtual 321, 3) := dk_182 1 65 (dk_at dksX0_held_5 17 rfl rfl)
theorem dX0_held_133 : decode cX0_held 133 = .ok (.ifCond .eq 18, 3) := dk_153 0 18 (dk_at dksX0_held_5 20 rfl rfl)
theorem dX0_held_136 : decode cX0_held 136 = .ok (.iload_n 3, 1) := dk_29 (dk_at dksX0_held_5 23 rfl rfl)
theorem dX0_held_137 : decode cX0_held 137 = .ok (.iconst 1, 1) := dk_4 (dk_at dksX0_held_6 0 rfl rfl)
theorem dX0_held_138 : decode cX0_held 138 = .ok (.aload_n 0, 1) := dk_42 (dk_at dksX0_held_6 1 rfl rfl)
theorem dX0_held_139 : decode cX0_held 139 = .ok (.getfield 121, 3) := dk_180 0 121 (dk_at dksX0_held_6 2 rfl rfl)
theorem dX0_held_142 : decode cX0_held 142 = .ok (.iload 4, 2) := dk_21 4 (dk_at dksX0_held_6 5 rfl rfl)
theorem dX0_held_144 : decode cX0_held 144 = .ok (.aaload, 1) := dk_50 (dk_at dksX0_held_6 7 rfl rfl)
theorem dX0_held_145 : decode cX0_held 145 = .ok (.getfield 325, 3) := dk_180 1 69 (dk_at dksX0_held_6 8 rfl rfl)
theorem dX0_held_148 : decode cX0_held 148 = .ok (.ishl, 1) := dk_120 (dk_at dksX0_held_6 11 rfl rfl)
theorem dX0_held_149 : decode cX0_held 149 = .ok (.ior, 1) := dk_128 (dk_at dksX0_held_6 12 rfl rfl)
theorem dX0_held_150 : decode cX0_held 150 = .ok (.istore_n 3, 1) := dk_62 (dk_at dksX0_held_6 13 rfl rfl)
theorem dX0_held_151 : decode cX0_held 151 = .ok (.iinc 4 1, 3) := dk_132 4 1 (dk_at dksX0_held_6 14 rfl rfl)
theorem dX0_held_154 : decode cX0_held 154 = .ok (.goto (-39), 3) := dk_167 255 217 (dk_at dksX0_held_6 17 rfl rfl)
theorem dX0_held_157 : decode cX0_held 157 = .ok (.iload_n 3, 1) := dk_29 (dk_at dksX0_held_6 20 rfl rfl)
theorem dX0_held_158 : decode cX0_held 158 = .ok (.ireturn, 1) := dk_172 (dk_at dksX0_held_6 21 rfl rfl)
abbrev cX0_isAhead : ByteArray := prog_1_method_30_code
def yX0_isAhead : MethodName := ⟨RX0, "isAhead", "(LVillageHalls$Booking;LVillageHalls$Booking;)Z"⟩
def dkwX0_isAhead_3 : List UInt8 := [167, 0, 4, 3, 172]
abbrev dktX0_isAhead_3 : List UInt8 := dkwX0_isAhead_3 ++ []
def dkwX0_isAhead_2 : List UInt8 := [162, 0, 7, 4, 167, 0, 23, 3, 167, 0, 19, 43, 180, 1, 15, 44, 180, 1, 15, 162, 0, 7, 4]
abbrev dktX0_isAhead_2 : List UInt8 := dkwX0_isAhead_2 ++ dktX0_isAhead_3
def dkwX0_isAhead_1 : List UInt8 := [180, 0, 37, 50, 180, 0, 40, 44, 180, 0, 46, 46, 54, 4, 29, 21, 4, 159, 0, 17, 29, 21, 4]
abbrev dktX0_isAhead_1 : List UInt8 := dkwX0_isAhead_1 ++ dktX0_isAhead_2
def dkwX0_isAhead_0 : List UInt8 := [42, 180, 0, 33, 43, 180, 0, 37, 50, 180, 0, 40, 43, 180, 0, 46, 46, 62, 42, 180, 0, 33, 44]
abbrev dktX0_isAhead_0 : List UInt8 := dkwX0_isAhead_0 ++ dktX0_isAhead_1
theorem dksX0_isAhead_0 : cX0_isAhead.data.toList.drop 0 = dktX0_isAhead_0 := by decide +kernel
theorem dksX0_isAhead_1 : cX0_isAhead.data.toList.drop 23 = dktX0_isAhead_1 := dk_seg dksX0_isAhead_0 23 rfl rfl
theorem dksX0_isAhead_2 : cX0_isAhead.data.toList.drop 46 = dktX0_isAhead_2 := dk_seg dksX0_isAhead_1 23 rfl rfl
theorem dksX0_isAhead_3 : cX0_isAhead.data.toList.drop 69 = dktX0_isAhead_3 := dk_seg dksX0_isAhead_2 23 rfl rfl
theorem dX0_isAhead_0 : decode cX0_isAhead 0 = .ok (.aload_n 0, 1) := dk_42 (dk_at dksX0_isAhead_0 0 rfl rfl)
theorem dX0_isAhead_1 : decode cX0_isAhead 1 = .ok (.getfield 33, 3) := dk_180 0 33 (dk_at dksX0_isAhead_0 1 rfl rfl)
theorem dX0_isAhead_4 : decode cX0_isAhead 4 = .ok (.aload_n 1, 1) := dk_43 (dk_at dksX0_isAhead_0 4 rfl rfl)
theorem dX0_isAhead_5 : decode cX0_isAhead 5 = .ok (.getfield 37, 3) := dk_180 0 37 (dk_at dksX0_isAhead_0 5 rfl rfl)
theorem dX0_isAhead_8 : decode cX0_isAhead 8 = .ok (.aaload, 1) := dk_50 (dk_at dksX0_isAhead_0 8 rfl rfl)
theorem dX0_isAhead_9 : decode cX0_isAhead 9 = .ok (.getfield 40, 3) := dk_180 0 40 (dk_at dksX0_isAhead_0 9 rfl rfl)
theorem dX0_isAhead_12 : decode cX0_isAhead 12 = .ok (.aload_n 1, 1) := dk_43 (dk_at dksX0_isAhead_0 12 rfl rfl)
theorem dX0_isAhead_13 : decode cX0_isAhead 13 = .ok (.getfield 46, 3) := dk_180 0 46 (dk_at dksX0_isAhead_0 13 rfl rfl)
theorem dX0_isAhead_16 : decode cX0_isAhead 16 = .ok (.iaload, 1) := dk_46 (dk_at dksX0_isAhead_0 16 rfl rfl)
theorem dX0_isAhead_17 : decode cX0_isAhead 17 = .ok (.istore_n 3, 1) := dk_62 (dk_at dksX0_isAhead_0 17 rfl rfl)
theorem dX0_isAhead_18 : decode cX0_isAhead 18 = .ok (.aload_n 0, 1) := dk_42 (dk_at dksX0_isAhead_0 18 rfl rfl)
theorem dX0_isAhead_19 : decode cX0_isAhead 19 = .ok (.getfield 33, 3) := dk_180 0 33 (dk_at dksX0_isAhead_0 19 rfl rfl)
theorem dX0_isAhead_22 : decode cX0_isAhead 22 = .ok (.aload_n 2, 1) := dk_44 (dk_at dksX0_isAhead_0 22 rfl rfl)
theorem dX0_isAhead_23 : decode cX0_isAhead 23 = .ok (.getfield 37, 3) := dk_180 0 37 (dk_at dksX0_isAhead_1 0 rfl rfl)
theorem dX0_isAhead_26 : decode cX0_isAhead 26 = .ok (.aaload, 1) := dk_50 (dk_at dksX0_isAhead_1 3 rfl rfl)
theorem dX0_isAhead_27 : decode cX0_isAhead 27 = .ok (.getfield 40, 3) := dk_180 0 40 (dk_at dksX0_isAhead_1 4 rfl rfl)
theorem dX0_isAhead_30 : decode cX0_isAhead 30 = .ok (.aload_n 2, 1) := dk_44 (dk_at dksX0_isAhead_1 7 rfl rfl)
theorem dX0_isAhead_31 : decode cX0_isAhead 31 = .ok (.getfield 46, 3) := dk_180 0 46 (dk_at dksX0_isAhead_1 8 rfl rfl)
theorem dX0_isAhead_34 : decode cX0_isAhead 34 = .ok (.iaload, 1) := dk_46 (dk_at dksX0_isAhead_1 11 rfl rfl)
theorem dX0_isAhead_35 : decode cX0_isAhead 35 = .ok (.istore 4, 2) := dk_54 4 (dk_at dksX0_isAhead_1 12 rfl rfl)
theorem dX0_isAhead_37 : decode cX0_isAhead 37 = .ok (.iload_n 3, 1) := dk_29 (dk_at dksX0_isAhead_1 14 rfl rfl)
theorem dX0_isAhead_38 : decode cX0_isAhead 38 = .ok (.iload 4, 2) := dk_21 4 (dk_at dksX0_isAhead_1 15 rfl rfl)
theorem dX0_isAhead_40 : decode cX0_isAhead 40 = .ok (.if_icmp .eq 17, 3) := dk_159 0 17 (dk_at dksX0_isAhead_1 17 rfl rfl)
theorem dX0_isAhead_43 : decode cX0_isAhead 43 = .ok (.iload_n 3, 1) := dk_29 (dk_at dksX0_isAhead_1 20 rfl rfl)
theorem dX0_isAhead_44 : decode cX0_isAhead 44 = .ok (.iload 4, 2) := dk_21 4 (dk_at dksX0_isAhead_1 21 rfl rfl)
theorem dX0_isAhead_46 : decode cX0_isAhead 46 = .ok (.if_icmp .ge 7, 3) := dk_162 0 7 (dk_at dksX0_isAhead_2 0 rfl rfl)
theorem dX0_isAhead_49 : decode cX0_isAhead 49 = .ok (.iconst 1, 1) := dk_4 (dk_at dksX0_isAhead_2 3 rfl rfl)
theorem dX0_isAhead_50 : decode cX0_isAhead 50 = .ok (.goto 23, 3) := dk_167 0 23 (dk_at dksX0_isAhead_2 4 rfl rfl)
theorem dX0_isAhead_53 : decode cX0_isAhead 53 = .ok (.iconst 0, 1) := dk_3 (dk_at dksX0_isAhead_2 7 rfl rfl)
theorem dX0_isAhead_54 : decode cX0_isAhead 54 = .ok (.goto 19, 3) := dk_167 0 19 (dk_at dksX0_isAhead_2 8 rfl rfl)
theorem dX0_isAhead_57 : decode cX0_isAhead 57 = .ok (.aload_n 1, 1) := dk_43 (dk_at dksX0_isAhead_2 11 rfl rfl)
theorem dX0_isAhead_58 : decode cX0_isAhead 58 = .ok (.getfield 271, 3) := dk_180 1 15 (dk_at dksX0_isAhead_2 12 rfl rfl)
theorem dX0_isAhead_61 : decode cX0_isAhead 61 = .ok (.aload_n 2, 1) := dk_44 (dk_at dksX0_isAhead_2 15 rfl rfl)
theorem dX0_isAhead_62 : decode cX0_isAhead 62 = .ok (.getfield 271, 3) := dk_180 1 15 (dk_at dksX0_isAhead_2 16 rfl rfl)
theorem dX0_isAhead_65 : decode cX0_isAhead 65 = .ok (.if_icmp .ge 7, 3) := dk_162 0 7 (dk_at dksX0_isAhead_2 19 rfl rfl)
theorem dX0_isAhead_68 : decode cX0_isAhead 68 = .ok (.iconst 1, 1) := dk_4 (dk_at dksX0_isAhead_2 22 rfl rfl)
theorem dX0_isAhead_69 : decode cX0_isAhead 69 = .ok (.goto 4, 3) := dk_167 0 4 (dk_at dksX0_isAhead_3 0 rfl rfl)
theorem dX0_isAhead_72 : decode cX0_isAhead 72 = .ok (.iconst 0, 1) := dk_3 (dk_at dksX0_isAhead_3 3 rfl rfl)
theorem dX0_isAhead_73 : decode cX0_isAhead 73 = .ok (.ireturn, 1) := dk_172 (dk_at dksX0_isAhead_3 4 rfl rfl)
abbrev cX0_mayHold : ByteArray := prog_1_method_32_code
def yX0_mayHold : MethodName := ⟨RX0, "mayHold", "(LVillageHalls$Booking;I)Z"⟩
def dkwX0_mayHold_6 : List UInt8 := [167, 0, 4, 3, 172]
abbrev dktX0_mayHold_6 : List UInt8 := dkwX0_mayHold_6 ++ []
def dkwX0_mayHold_5 : List UInt8 := [43, 180, 1, 43, 153, 0, 19, 29, 42, 180, 0, 33, 43, 180, 0, 37, 50, 180, 1, 73, 162, 0, 7, 4]
abbrev dktX0_mayHold_5 : List UInt8 := dkwX0_mayHold_5 ++ dktX0_mayHold_6
def dkwX0_mayHold_4 : List UInt8 := [160, 0, 15, 25, 5, 180, 1, 43, 153, 0, 7, 4, 167, 0, 4, 3, 96, 62, 132, 4, 1, 167, 255, 171]
abbrev dktX0_mayHold_4 : List UInt8 := dkwX0_mayHold_4 ++ dktX0_mayHold_5
def dkwX0_mayHold_3 : List UInt8 := [58, 5, 42, 43, 25, 5, 182, 1, 58, 153, 0, 5, 3, 172, 29, 25, 5, 180, 0, 37, 43, 180, 0, 37]
abbrev dktX0_mayHold_3 : List UInt8 := dkwX0_mayHold_3 ++ dktX0_mayHold_4
def dkwX0_mayHold_2 : List UInt8 := [122, 4, 126, 154, 0, 6, 167, 0, 59, 42, 180, 0, 1, 21, 4, 185, 0, 7, 2, 0, 192, 0, 13]
abbrev dktX0_mayHold_2 : List UInt8 := dkwX0_mayHold_2 ++ dktX0_mayHold_3
def dkwX0_mayHold_1 : List UInt8 := [3, 172, 3, 62, 3, 54, 4, 21, 4, 42, 180, 0, 1, 185, 0, 71, 1, 0, 162, 0, 77, 28, 21, 4]
abbrev dktX0_mayHold_1 : List UInt8 := dkwX0_mayHold_1 ++ dktX0_mayHold_2
def dkwX0_mayHold_0 : List UInt8 := [43, 180, 1, 40, 42, 180, 0, 33, 43, 180, 0, 37, 50, 180, 1, 70, 43, 180, 1, 37, 46, 164, 0, 5]
abbrev dktX0_mayHold_0 : List UInt8 := dkwX0_mayHold_0 ++ dktX0_mayHold_1
theorem dksX0_mayHold_0 : cX0_mayHold.data.toList.drop 0 = dktX0_mayHold_0 := by decide +kernel
theorem dksX0_mayHold_1 : cX0_mayHold.data.toList.drop 24 = dktX0_mayHold_1 := dk_seg dksX0_mayHold_0 24 rfl rfl
theorem dksX0_mayHold_2 : cX0_mayHold.data.toList.drop 48 = dktX0_mayHold_2 := dk_seg dksX0_mayHold_1 24 rfl rfl
theorem dksX0_mayHold_3 : cX0_mayHold.data.toList.drop 71 = dktX0_mayHold_3 := dk_seg dksX0_mayHold_2 23 rfl rfl
theorem dksX0_mayHold_4 : cX0_mayHold.data.toList.drop 95 = dktX0_mayHold_4 := dk_seg dksX0_mayHold_3 24 rfl rfl
theorem dksX0_mayHold_5 : cX0_mayHold.data.toList.drop 119 = dktX0_mayHold_5 := dk_seg dksX0_mayHold_4 24 rfl rfl
theorem dksX0_mayHold_6 : cX0_mayHold.data.toList.drop 143 = dktX0_mayHold_6 := dk_seg dksX0_mayHold_5 24 rfl rfl
theorem dX0_mayHold_0 : decode cX0_mayHold 0 = .ok (.aload_n 1, 1) := dk_43 (dk_at dksX0_mayHold_0 0 rfl rfl)
theorem dX0_mayHold_1 : decode cX0_mayHold 1 = .ok (.getfield 296, 3) := dk_180 1 40 (dk_at dksX0_mayHold_0 1 rfl rfl)
theorem dX0_mayHold_4 : decode cX0_mayHold 4 = .ok (.aload_n 0, 1) := dk_42 (dk_at dksX0_mayHold_0 4 rfl rfl)
theorem dX0_mayHold_5 : decode cX0_mayHold 5 = .ok (.getfield 33, 3) := dk_180 0 33 (dk_at dksX0_mayHold_0 5 rfl rfl)
theorem dX0_mayHold_8 : decode cX0_mayHold 8 = .ok (.aload_n 1, 1) := dk_43 (dk_at dksX0_mayHold_0 8 rfl rfl)
theorem dX0_mayHold_9 : decode cX0_mayHold 9 = .ok (.getfield 37, 3) := dk_180 0 37 (dk_at dksX0_mayHold_0 9 rfl rfl)
theorem dX0_mayHold_12 : decode cX0_mayHold 12 = .ok (.aaload, 1) := dk_50 (dk_at dksX0_mayHold_0 12 rfl rfl)
theorem dX0_mayHold_13 : decode cX0_mayHold 13 = .ok (.getfield 326, 3) := dk_180 1 70 (dk_at dksX0_mayHold_0 13 rfl rfl)
theorem dX0_mayHold_16 : decode cX0_mayHold 16 = .ok (.aload_n 1, 1) := dk_43 (dk_at dksX0_mayHold_0 16 rfl rfl)
theorem dX0_mayHold_17 : decode cX0_mayHold 17 = .ok (.getfield 293, 3) := dk_180 1 37 (dk_at dksX0_mayHold_0 17 rfl rfl)
theorem dX0_mayHold_20 : decode cX0_mayHold 20 = .ok (.iaload, 1) := dk_46 (dk_at dksX0_mayHold_0 20 rfl rfl)
theorem dX0_mayHold_21 : decode cX0_mayHold 21 = .ok (.if_icmp .le 5, 3) := dk_164 0 5 (dk_at dksX0_mayHold_0 21 rfl rfl)
theorem dX0_mayHold_24 : decode cX0_mayHold 24 = .ok (.iconst 0, 1) := dk_3 (dk_at dksX0_mayHold_1 0 rfl rfl)
theorem dX0_mayHold_25 : decode cX0_mayHold 25 = .ok (.ireturn, 1) := dk_172 (dk_at dksX0_mayHold_1 1 rfl rfl)
theorem dX0_mayHold_26 : decode cX0_mayHold 26 = .ok (.iconst 0, 1) := dk_3 (dk_at dksX0_mayHold_1 2 rfl rfl)
theorem dX0_mayHold_27 : decode cX0_mayHold 27 = .ok (.istore_n 3, 1) := dk_62 (dk_at dksX0_mayHold_1 3 rfl rfl)
theorem dX0_mayHold_28 : decode cX0_mayHold 28 = .ok (.iconst 0, 1) := dk_3 (dk_at dksX0_mayHold_1 4 rfl rfl)
theorem dX0_mayHold_29 : decode cX0_mayHold 29 = .ok (.istore 4, 2) := dk_54 4 (dk_at dksX0_mayHold_1 5 rfl rfl)
theorem dX0_mayHold_31 : decode cX0_mayHold 31 = .ok (.iload 4, 2) := dk_21 4 (dk_at dksX0_mayHold_1 7 rfl rfl)
theorem dX0_mayHold_33 : decode cX0_mayHold 33 = .ok (.aload_n 0, 1) := dk_42 (dk_at dksX0_mayHold_1 9 rfl rfl)
theorem dX0_mayHold_34 : decode cX0_mayHold 34 = .ok (.getfield 1, 3) := dk_180 0 1 (dk_at dksX0_mayHold_1 10 rfl rfl)
theorem dX0_mayHold_37 : decode cX0_mayHold 37 = .ok (.invokeinterface 71 1, 5) := by decide +kernel
theorem dX0_mayHold_42 : decode cX0_mayHold 42 = .ok (.if_icmp .ge 77, 3) := dk_162 0 77 (dk_at dksX0_mayHold_1 18 rfl rfl)
theorem dX0_mayHold_45 : decode cX0_mayHold 45 = .ok (.iload_n 2, 1) := dk_28 (dk_at dksX0_mayHold_1 21 rfl rfl)
theorem dX0_mayHold_46 : decode cX0_mayHold 46 = .ok (.iload 4, 2) := dk_21 4 (dk_at dksX0_mayHold_1 22 rfl rfl)
theorem dX0_mayHold_48 : decode cX0_mayHold 48 = .ok (.ishr, 1) := dk_122 (dk_at dksX0_mayHold_2 0 rfl rfl)
theorem dX0_mayHold_49 : decode cX0_mayHold 49 = .ok (.iconst 1, 1) := dk_4 (dk_at dksX0_mayHold_2 1 rfl rfl)
theorem dX0_mayHold_50 : decode cX0_mayHold 50 = .ok (.iand, 1) := dk_126 (dk_at dksX0_mayHold_2 2 rfl rfl)
theorem dX0_mayHold_51 : decode cX0_mayHold 51 = .ok (.ifCond .ne 6, 3) := dk_154 0 6 (dk_at dksX0_mayHold_2 3 rfl rfl)
theorem dX0_mayHold_54 : decode cX0_mayHold 54 = .ok (.goto 59, 3) := dk_167 0 59 (dk_at dksX0_mayHold_2 6 rfl rfl)
theorem dX0_mayHold_57 : decode cX0_mayHold 57 = .ok (.aload_n 0, 1) := dk_42 (dk_at dksX0_mayHold_2 9 rfl rfl)
theorem dX0_mayHold_58 : decode cX0_mayHold 58 = .ok (.getfield 1, 3) := dk_180 0 1 (dk_at dksX0_mayHold_2 10 rfl rfl)
theorem dX0_mayHold_61 : decode cX0_mayHold 61 = .ok (.iload 4, 2) := dk_21 4 (dk_at dksX0_mayHold_2 13 rfl rfl)
theorem dX0_mayHold_63 : decode cX0_mayHold 63 = .ok (.invokeinterface 7 2, 5) := by decide +kernel
theorem dX0_mayHold_68 : decode cX0_mayHold 68 = .ok (.checkcast 13, 3) := dk_192 0 13 (dk_at dksX0_mayHold_2 20 rfl rfl)
theorem dX0_mayHold_71 : decode cX0_mayHold 71 = .ok (.astore 5, 2) := dk_58 5 (dk_at dksX0_mayHold_3 0 rfl rfl)
theorem dX0_mayHold_73 : decode cX0_mayHold 73 = .ok (.aload_n 0, 1) := dk_42 (dk_at dksX0_mayHold_3 2 rfl rfl)
theorem dX0_mayHold_74 : decode cX0_mayHold 74 = .ok (.aload_n 1, 1) := dk_43 (dk_at dksX0_mayHold_3 3 rfl rfl)
theorem dX0_mayHold_75 : decode cX0_mayHold 75 = .ok (.aload 5, 2) := dk_25 5 (dk_at dksX0_mayHold_3 4 rfl rfl)
theorem dX0_mayHold_77 : decode cX0_mayHold 77 = .ok (.invokevirtual 314, 3) := dk_182 1 58 (dk_at dksX0_mayHold_3 6 rfl rfl)
theorem dX0_mayHold_80 : decode cX0_mayHold 80 = .ok (.ifCond .eq 5, 3) := dk_153 0 5 (dk_at dksX0_mayHold_3 9 rfl rfl)
theorem dX0_mayHold_83 : decode cX0_mayHold 83 = .ok (.iconst 0, 1) := dk_3 (dk_at dksX0_mayHold_3 12 rfl rfl)
theorem dX0_mayHold_84 : decode cX0_mayHold 84 = .ok (.ireturn, 1) := dk_172 (dk_at dksX0_mayHold_3 13 rfl rfl)
theorem dX0_mayHold_85 : decode cX0_mayHold 85 = .ok (.iload_n 3, 1) := dk_29 (dk_at dksX0_mayHold_3 14 rfl rfl)
theorem dX0_mayHold_86 : decode cX0_mayHold 86 = .ok (.aload 5, 2) := dk_25 5 (dk_at dksX0_mayHold_3 15 rfl rfl)
theorem dX0_mayHold_88 : decode cX0_mayHold 88 = .ok (.getfield 37, 3) := dk_180 0 37 (dk_at dksX0_mayHold_3 17 rfl rfl)
theorem dX0_mayHold_91 : decode cX0_mayHold 91 = .ok (.aload_n 1, 1) := dk_43 (dk_at dksX0_mayHold_3 20 rfl rfl)
theorem dX0_mayHold_92 : decode cX0_mayHold 92 = .ok (.getfield 37, 3) := dk_180 0 37 (dk_at dksX0_mayHold_3 21 rfl rfl)
theorem dX0_mayHold_95 : decode cX0_mayHold 95 = .ok (.if_icmp .ne 15, 3) := dk_160 0 15 (dk_at dksX0_mayHold_4 0 rfl rfl)
theorem dX0_mayHold_98 : decode cX0_mayHold 98 = .ok (.aload 5, 2) := dk_25 5 (dk_at dksX0_mayHold_4 3 rfl rfl)
theorem dX0_mayHold_100 : decode cX0_mayHold 100 = .ok (.getfield 299, 3) := dk_180 1 43 (dk_at dksX0_mayHold_4 5 rfl rfl)
theorem dX0_mayHold_103 : decode cX0_mayHold 103 = .ok (.ifCond .eq 7, 3) := dk_153 0 7 (dk_at dksX0_mayHold_4 8 rfl rfl)
theorem dX0_mayHold_106 : decode cX0_mayHold 106 = .ok (.iconst 1, 1) := dk_4 (dk_at dksX0_mayHold_4 11 rfl rfl)
theorem dX0_mayHold_107 : decode cX0_mayHold 107 = .ok (.goto 4, 3) := dk_167 0 4 (dk_at dksX0_mayHold_4 12 rfl rfl)
theorem dX0_mayHold_110 : decode cX0_mayHold 110 = .ok (.iconst 0, 1) := dk_3 (dk_at dksX0_mayHold_4 15 rfl rfl)
theorem dX0_mayHold_111 : decode cX0_mayHold 111 = .ok (.iadd, 1) := dk_96 (dk_at dksX0_mayHold_4 16 rfl rfl)
theorem dX0_mayHold_112 : decode cX0_mayHold 112 = .ok (.istore_n 3, 1) := dk_62 (dk_at dksX0_mayHold_4 17 rfl rfl)
theorem dX0_mayHold_113 : decode cX0_mayHold 113 = .ok (.iinc 4 1, 3) := dk_132 4 1 (dk_at dksX0_mayHold_4 18 rfl rfl)
theorem dX0_mayHold_116 : decode cX0_mayHold 116 = .ok (.goto (-85), 3) := dk_167 255 171 (dk_at dksX0_mayHold_4 21 rfl rfl)
theorem dX0_mayHold_119 : decode cX0_mayHold 119 = .ok (.aload_n 1, 1) := dk_43 (dk_at dksX0_mayHold_5 0 rfl rfl)
theorem dX0_mayHold_120 : decode cX0_mayHold 120 = .ok (.getfield 299, 3) := dk_180 1 43 (dk_at dksX0_mayHold_5 1 rfl rfl)
theorem dX0_mayHold_123 : decode cX0_mayHold 123 = .ok (.ifCond .eq 19, 3) := dk_153 0 19 (dk_at dksX0_mayHold_5 4 rfl rfl)
theorem dX0_mayHold_126 : decode cX0_mayHold 126 = .ok (.iload_n 3, 1) := dk_29 (dk_at dksX0_mayHold_5 7 rfl rfl)
theorem dX0_mayHold_127 : decode cX0_mayHold 127 = .ok (.aload_n 0, 1) := dk_42 (dk_at dksX0_mayHold_5 8 rfl rfl)
theorem dX0_mayHold_128 : decode cX0_mayHold 128 = .ok (.getfield 33, 3) := dk_180 0 33 (dk_at dksX0_mayHold_5 9 rfl rfl)
theorem dX0_mayHold_131 : decode cX0_mayHold 131 = .ok (.aload_n 1, 1) := dk_43 (dk_at dksX0_mayHold_5 12 rfl rfl)
theorem dX0_mayHold_132 : decode cX0_mayHold 132 = .ok (.getfield 37, 3) := dk_180 0 37 (dk_at dksX0_mayHold_5 13 rfl rfl)
theorem dX0_mayHold_135 : decode cX0_mayHold 135 = .ok (.aaload, 1) := dk_50 (dk_at dksX0_mayHold_5 16 rfl rfl)
theorem dX0_mayHold_136 : decode cX0_mayHold 136 = .ok (.getfield 329, 3) := dk_180 1 73 (dk_at dksX0_mayHold_5 17 rfl rfl)
theorem dX0_mayHold_139 : decode cX0_mayHold 139 = .ok (.if_icmp .ge 7, 3) := dk_162 0 7 (dk_at dksX0_mayHold_5 20 rfl rfl)
theorem dX0_mayHold_142 : decode cX0_mayHold 142 = .ok (.iconst 1, 1) := dk_4 (dk_at dksX0_mayHold_5 23 rfl rfl)
theorem dX0_mayHold_143 : decode cX0_mayHold 143 = .ok (.goto 4, 3) := dk_167 0 4 (dk_at dksX0_mayHold_6 0 rfl rfl)
theorem dX0_mayHold_146 : decode cX0_mayHold 146 = .ok (.iconst 0, 1) := dk_3 (dk_at dksX0_mayHold_6 3 rfl rfl)
theorem dX0_mayHold_147 : decode cX0_mayHold 147 = .ok (.ireturn, 1) := dk_172 (dk_at dksX0_mayHold_6 4 rfl rfl)
abbrev cX0_most : ByteArray := prog_1_method_37_code
def yX0_most : MethodName := ⟨RX0, "most", "(IIII)I"⟩
def dkwX0_most_2 : List UInt8 := [21, 4, 154, 0, 8, 21, 5, 167, 0, 9, 42, 21, 5, 182, 1, 79, 172]
abbrev dktX0_most_2 : List UInt8 := dkwX0_most_2 ++ []
def dkwX0_most_1 : List UInt8 := [21, 4, 133, 9, 10, 184, 0, 143, 154, 0, 6, 18, 156, 172, 42, 27, 28, 29, 182, 1, 82, 54, 5]
abbrev dktX0_most_1 : List UInt8 := dkwX0_most_1 ++ dktX0_most_2
def dkwX0_most_0 : List UInt8 := [27, 184, 0, 222, 153, 0, 31, 28, 133, 9, 10, 184, 0, 143, 153, 0, 21, 29, 184, 0, 243, 153, 0, 14]
abbrev dktX0_most_0 : List UInt8 := dkwX0_most_0 ++ dktX0_most_1
theorem dksX0_most_0 : cX0_most.data.toList.drop 0 = dktX0_most_0 := by decide +kernel
theorem dksX0_most_1 : cX0_most.data.toList.drop 24 = dktX0_most_1 := dk_seg dksX0_most_0 24 rfl rfl
theorem dksX0_most_2 : cX0_most.data.toList.drop 47 = dktX0_most_2 := dk_seg dksX0_most_1 23 rfl rfl
theorem dX0_most_0 : decode cX0_most 0 = .ok (.iload_n 1, 1) := dk_27 (dk_at dksX0_most_0 0 rfl rfl)
theorem dX0_most_1 : decode cX0_most 1 = .ok (.invokestatic 222, 3) := dk_184 0 222 (dk_at dksX0_most_0 1 rfl rfl)
theorem dX0_most_4 : decode cX0_most 4 = .ok (.ifCond .eq 31, 3) := dk_153 0 31 (dk_at dksX0_most_0 4 rfl rfl)
theorem dX0_most_7 : decode cX0_most 7 = .ok (.iload_n 2, 1) := dk_28 (dk_at dksX0_most_0 7 rfl rfl)
theorem dX0_most_8 : decode cX0_most 8 = .ok (.i2l, 1) := dk_133 (dk_at dksX0_most_0 8 rfl rfl)
theorem dX0_most_9 : decode cX0_most 9 = .ok (.lconst 0, 1) := dk_9 (dk_at dksX0_most_0 9 rfl rfl)
theorem dX0_most_10 : decode cX0_most 10 = .ok (.lconst 1, 1) := dk_10 (dk_at dksX0_most_0 10 rfl rfl)
theorem dX0_most_11 : decode cX0_most 11 = .ok (.invokestatic 143, 3) := dk_184 0 143 (dk_at dksX0_most_0 11 rfl rfl)
theorem dX0_most_14 : decode cX0_most 14 = .ok (.ifCond .eq 21, 3) := dk_153 0 21 (dk_at dksX0_most_0 14 rfl rfl)
theorem dX0_most_17 : decode cX0_most 17 = .ok (.iload_n 3, 1) := dk_29 (dk_at dksX0_most_0 17 rfl rfl)
theorem dX0_most_18 : decode cX0_most 18 = .ok (.invokestatic 243, 3) := dk_184 0 243 (dk_at dksX0_most_0 18 rfl rfl)
theorem dX0_most_21 : decode cX0_most 21 = .ok (.ifCond .eq 14, 3) := dk_153 0 14 (dk_at dksX0_most_0 21 rfl rfl)
theorem dX0_most_24 : decode cX0_most 24 = .ok (.iload 4, 2) := dk_21 4 (dk_at dksX0_most_1 0 rfl rfl)
theorem dX0_most_26 : decode cX0_most 26 = .ok (.i2l, 1) := dk_133 (dk_at dksX0_most_1 2 rfl rfl)
theorem dX0_most_27 : decode cX0_most 27 = .ok (.lconst 0, 1) := dk_9 (dk_at dksX0_most_1 3 rfl rfl)
theorem dX0_most_28 : decode cX0_most 28 = .ok (.lconst 1, 1) := dk_10 (dk_at dksX0_most_1 4 rfl rfl)
theorem dX0_most_29 : decode cX0_most 29 = .ok (.invokestatic 143, 3) := dk_184 0 143 (dk_at dksX0_most_1 5 rfl rfl)
theorem dX0_most_32 : decode cX0_most 32 = .ok (.ifCond .ne 6, 3) := dk_154 0 6 (dk_at dksX0_most_1 8 rfl rfl)
theorem dX0_most_35 : decode cX0_most 35 = .ok (.ldc 156, 2) := dk_18 156 (dk_at dksX0_most_1 11 rfl rfl)
theorem dX0_most_37 : decode cX0_most 37 = .ok (.ireturn, 1) := dk_172 (dk_at dksX0_most_1 13 rfl rfl)
theorem dX0_most_38 : decode cX0_most 38 = .ok (.aload_n 0, 1) := dk_42 (dk_at dksX0_most_1 14 rfl rfl)
theorem dX0_most_39 : decode cX0_most 39 = .ok (.iload_n 1, 1) := dk_27 (dk_at dksX0_most_1 15 rfl rfl)
theorem dX0_most_40 : decode cX0_most 40 = .ok (.iload_n 2, 1) := dk_28 (dk_at dksX0_most_1 16 rfl rfl)
theorem dX0_most_41 : decode cX0_most 41 = .ok (.iload_n 3, 1) := dk_29 (dk_at dksX0_most_1 17 rfl rfl)
theorem dX0_most_42 : decode cX0_most 42 = .ok (.invokevirtual 338, 3) := dk_182 1 82 (dk_at dksX0_most_1 18 rfl rfl)
theorem dX0_most_45 : decode cX0_most 45 = .ok (.istore 5, 2) := dk_54 5 (dk_at dksX0_most_1 21 rfl rfl)
theorem dX0_most_47 : decode cX0_most 47 = .ok (.iload 4, 2) := dk_21 4 (dk_at dksX0_most_2 0 rfl rfl)
theorem dX0_most_49 : decode cX0_most 49 = .ok (.ifCond .ne 8, 3) := dk_154 0 8 (dk_at dksX0_most_2 2 rfl rfl)
theorem dX0_most_52 : decode cX0_most 52 = .ok (.iload 5, 2) := dk_21 5 (dk_at dksX0_most_2 5 rfl rfl)
theorem dX0_most_54 : decode cX0_most 54 = .ok (.goto 9, 3) := dk_167 0 9 (dk_at dksX0_most_2 7 rfl rfl)
theorem dX0_most_57 : decode cX0_most 57 = .ok (.aload_n 0, 1) := dk_42 (dk_at dksX0_most_2 10 rfl rfl)
theorem dX0_most_58 : decode cX0_most 58 = .ok (.iload 5, 2) := dk_21 5 (dk_at dksX0_most_2 11 rfl rfl)
theorem dX0_most_60 : decode cX0_most 60 = .ok (.invokevirtual 335, 3) := dk_182 1 79 (dk_at dksX0_most_2 13 rfl rfl)
theorem dX0_most_63 : decode cX0_most 63 = .ok (.ireturn, 1) := dk_172 (dk_at dksX0_most_2 16 rfl rfl)
abbrev cX0_mostOf : ByteArray := prog_1_method_34_code
def yX0_mostOf : MethodName := ⟨RX0, "mostOf", "(III)I"⟩
def dkwX0_mostOf_10 : List UInt8 := [54, 5, 21, 8, 54, 6, 132, 7, 1, 167, 255, 198, 21, 5, 172]
abbrev dktX0_mostOf_10 : List UInt8 := dkwX0_mostOf_10 ++ []
def dkwX0_mostOf_9 : List UInt8 := [167, 0, 29, 42, 21, 7, 182, 1, 79, 54, 8, 21, 8, 21, 6, 163, 0, 6, 167, 0, 11, 21, 7]
abbrev dktX0_mostOf_9 : List UInt8 := dkwX0_mostOf_9 ++ dktX0_mostOf_10
def dkwX0_mostOf_8 : List UInt8 := [21, 4, 163, 0, 57, 21, 7, 21, 4, 2, 130, 126, 154, 0, 41, 42, 21, 7, 182, 1, 76, 154, 0, 6]
abbrev dktX0_mostOf_8 : List UInt8 := dkwX0_mostOf_8 ++ dktX0_mostOf_9
def dkwX0_mostOf_7 : List UInt8 := [132, 7, 1, 167, 255, 191, 132, 5, 1, 167, 255, 88, 3, 54, 5, 3, 54, 6, 4, 54, 7, 21, 7]
abbrev dktX0_mostOf_7 : List UInt8 := dkwX0_mostOf_7 ++ dktX0_mostOf_8
def dkwX0_mostOf_6 : List UInt8 := [185, 0, 7, 2, 0, 192, 0, 13, 182, 1, 58, 153, 0, 10, 4, 21, 7, 120, 167, 0, 4, 3, 128, 79]
abbrev dktX0_mostOf_6 : List UInt8 := dkwX0_mostOf_6 ++ dktX0_mostOf_7
def dkwX0_mostOf_5 : List UInt8 := [42, 180, 0, 125, 21, 5, 92, 46, 21, 7, 21, 5, 159, 0, 33, 42, 25, 6, 42, 180, 0, 1, 21, 7]
abbrev dktX0_mostOf_5 : List UInt8 := dkwX0_mostOf_5 ++ dktX0_mostOf_6
def dkwX0_mostOf_4 : List UInt8 := [180, 0, 125, 21, 5, 3, 79, 3, 54, 7, 21, 7, 42, 180, 0, 1, 185, 0, 71, 1, 0, 162, 0, 57]
abbrev dktX0_mostOf_4 : List UInt8 := dkwX0_mostOf_4 ++ dktX0_mostOf_5
def dkwX0_mostOf_3 : List UInt8 := [27, 50, 180, 1, 70, 28, 46, 163, 0, 10, 4, 21, 5, 120, 167, 0, 4, 3, 128, 54, 4, 42]
abbrev dktX0_mostOf_3 : List UInt8 := dkwX0_mostOf_3 ++ dktX0_mostOf_4
def dkwX0_mostOf_2 : List UInt8 := [153, 0, 41, 25, 6, 42, 180, 0, 20, 182, 0, 61, 153, 0, 29, 25, 6, 180, 1, 40, 42, 180, 0, 33]
abbrev dktX0_mostOf_2 : List UInt8 := dkwX0_mostOf_2 ++ dktX0_mostOf_3
def dkwX0_mostOf_1 : List UInt8 := [21, 5, 185, 0, 7, 2, 0, 192, 0, 13, 58, 6, 21, 4, 42, 25, 6, 27, 28, 29, 182, 1, 47]
abbrev dktX0_mostOf_1 : List UInt8 := dkwX0_mostOf_1 ++ dktX0_mostOf_2
def dkwX0_mostOf_0 : List UInt8 := [3, 54, 4, 3, 54, 5, 21, 5, 42, 180, 0, 1, 185, 0, 71, 1, 0, 162, 0, 160, 42, 180, 0, 1]
abbrev dktX0_mostOf_0 : List UInt8 := dkwX0_mostOf_0 ++ dktX0_mostOf_1
theorem dksX0_mostOf_0 : cX0_mostOf.data.toList.drop 0 = dktX0_mostOf_0 := by decide +kernel
theorem dksX0_mostOf_1 : cX0_mostOf.data.toList.drop 24 = dktX0_mostOf_1 := dk_seg dksX0_mostOf_0 24 rfl rfl
theorem dksX0_mostOf_2 : cX0_mostOf.data.toList.drop 47 = dktX0_mostOf_2 := dk_seg dksX0_mostOf_1 23 rfl rfl
theorem dksX0_mostOf_3 : cX0_mostOf.data.toList.drop 71 = dktX0_mostOf_3 := dk_seg dksX0_mostOf_2 24 rfl rfl
theorem dksX0_mostOf_4 : cX0_mostOf.data.toList.drop 93 = dktX0_mostOf_4 := dk_seg dksX0_mostOf_3 22 rfl rfl
theorem dksX0_mostOf_5 : cX0_mostOf.data.toList.drop 117 = dktX0_mostOf_5 := dk_seg dksX0_mostOf_4 24 rfl rfl
theorem dksX0_mostOf_6 : cX0_mostOf.data.toList.drop 141 = dktX0_mostOf_6 := dk_seg dksX0_mostOf_5 24 rfl rfl
theorem dksX0_mostOf_7 : cX0_mostOf.data.toList.drop 165 = dktX0_mostOf_7 := dk_seg dksX0_mostOf_6 24 rfl rfl
theorem dksX0_mostOf_8 : cX0_mostOf.data.toList.drop 188 = dktX0_mostOf_8 := dk_seg dksX0_mostOf_7 23 rfl rfl
theorem dksX0_mostOf_9 : cX0_mostOf.data.toList.drop 212 = dktX0_mostOf_9 := dk_seg dksX0_mostOf_8 24 rfl rfl
theorem dksX0_mostOf_10 : cX0_mostOf.data.toList.drop 235 = dktX0_mostOf_10 := dk_seg dksX0_mostOf_9 23 rfl rfl
theorem dX0_mostOf_0 : decode cX0_mostOf 0 = .ok (.iconst 0, 1) := dk_3 (dk_at dksX0_mostOf_0 0 rfl rfl)
theorem dX0_mostOf_1 : decode cX0_mostOf 1 = .ok (.istore 4, 2) := dk_54 4 (dk_at dksX0_mostOf_0 1 rfl rfl)
theorem dX0_mostOf_3 : decode cX0_mostOf 3 = .ok (.iconst 0, 1) := dk_3 (dk_at dksX0_mostOf_0 3 rfl rfl)
theorem dX0_mostOf_4 : decode cX0_mostOf 4 = .ok (.istore 5, 2) := dk_54 5 (dk_at dksX0_mostOf_0 4 rfl rfl)
theorem dX0_mostOf_6 : decode cX0_mostOf 6 = .ok (.iload 5, 2) := dk_21 5 (dk_at dksX0_mostOf_0 6 rfl rfl)
theorem dX0_mostOf_8 : decode cX0_mostOf 8 = .ok (.aload_n 0, 1) := dk_42 (dk_at dksX0_mostOf_0 8 rfl rfl)
theorem dX0_mostOf_9 : decode cX0_mostOf 9 = .ok (.getfield 1, 3) := dk_180 0 1 (dk_at dksX0_mostOf_0 9 rfl rfl)
theorem dX0_mostOf_12 : decode cX0_mostOf 12 = .ok (.invokeinterface 71 1, 5) := by decide +kernel
theorem dX0_mostOf_17 : decode cX0_mostOf 17 = .ok (.if_icmp .ge 160, 3) := dk_162 0 160 (dk_at dksX0_mostOf_0 17 rfl rfl)
theorem dX0_mostOf_20 : decode cX0_mostOf 20 = .ok (.aload_n 0, 1) := dk_42 (dk_at dksX0_mostOf_0 20 rfl rfl)
theorem dX0_mostOf_21 : decode cX0_mostOf 21 = .ok (.getfield 1, 3) := dk_180 0 1 (dk_at dksX0_mostOf_0 21 rfl rfl)
theorem dX0_mostOf_24 : decode cX0_mostOf 24 = .ok (.iload 5, 2) := dk_21 5 (dk_at dksX0_mostOf_1 0 rfl rfl)
theorem dX0_mostOf_26 : decode cX0_mostOf 26 = .ok (.invokeinterface 7 2, 5) := by decide +kernel
theorem dX0_mostOf_31 : decode cX0_mostOf 31 = .ok (.checkcast 13, 3) := dk_192 0 13 (dk_at dksX0_mostOf_1 7 rfl rfl)
theorem dX0_mostOf_34 : decode cX0_mostOf 34 = .ok (.astore 6, 2) := dk_58 6 (dk_at dksX0_mostOf_1 10 rfl rfl)
theorem dX0_mostOf_36 : decode cX0_mostOf 36 = .ok (.iload 4, 2) := dk_21 4 (dk_at dksX0_mostOf_1 12 rfl rfl)
theorem dX0_mostOf_38 : decode cX0_mostOf 38 = .ok (.aload_n 0, 1) := dk_42 (dk_at dksX0_mostOf_1 14 rfl rfl)
theorem dX0_mostOf_39 : decode cX0_mostOf 39 = .ok (.aload 6, 2) := dk_25 6 (dk_at dksX0_mostOf_1 15 rfl rfl)
theorem dX0_mostOf_41 : decode cX0_mostOf 41 = .ok (.iload_n 1, 1) := dk_27 (dk_at dksX0_mostOf_1 17 rfl rfl)
theorem dX0_mostOf_42 : decode cX0_mostOf 42 = .ok (.iload_n 2, 1) := dk_28 (dk_at dksX0_mostOf_1 18 rfl rfl)
theorem dX0_mostOf_43 : decode cX0_mostOf 43 = .ok (.iload_n 3, 1) := dk_29 (dk_at dksX0_mostOf_1 19 rfl rfl)
theorem dX0_mostOf_44 : decode cX0_mostOf 44 = .ok (.invokevirtual 303, 3) := dk_182 1 47 (dk_at dksX0_mostOf_1 20 rfl rfl)
theorem dX0_mostOf_47 : decode cX0_mostOf 47 = .ok (.ifCond .eq 41, 3) := dk_153 0 41 (dk_at dksX0_mostOf_2 0 rfl rfl)
theorem dX0_mostOf_50 : decode cX0_mostOf 50 = .ok (.aload 6, 2) := dk_25 6 (dk_at dksX0_mostOf_2 3 rfl rfl)
theorem dX0_mostOf_52 : decode cX0_mostOf 52 = .ok (.aload_n 0, 1) := dk_42 (dk_at dksX0_mostOf_2 5 rfl rfl)
theorem dX0_mostOf_53 : decode cX0_mostOf 53 = .ok (.getfield 20, 3) := dk_180 0 20 (dk_at dksX0_mostOf_2 6 rfl rfl)
theorem dX0_mostOf_56 : decode cX0_mostOf 56 = .ok (.invokevirtual 61, 3) := dk_182 0 61 (dk_at dksX0_mostOf_2 9 rfl rfl)
theorem dX0_mostOf_59 : decode cX0_mostOf 59 = .ok (.ifCond .eq 29, 3) := dk_153 0 29 (dk_at dksX0_mostOf_2 12 rfl rfl)
theorem dX0_mostOf_62 : decode cX0_mostOf 62 = .ok (.aload 6, 2) := dk_25 6 (dk_at dksX0_mostOf_2 15 rfl rfl)
theorem dX0_mostOf_64 : decode cX0_mostOf 64 = .ok (.getfield 296, 3) := dk_180 1 40 (dk_at dksX0_mostOf_2 17 rfl rfl)
theorem dX0_mostOf_67 : decode cX0_mostOf 67 = .ok (.aload_n 0, 1) := dk_42 (dk_at dksX0_mostOf_2 20 rfl rfl)
theorem dX0_mostOf_68 : decode cX0_mostOf 68 = .ok (.getfield 33, 3) := dk_180 0 33 (dk_at dksX0_mostOf_2 21 rfl rfl)
theorem dX0_mostOf_71 : decode cX0_mostOf 71 = .ok (.iload_n 1, 1) := dk_27 (dk_at dksX0_mostOf_3 0 rfl rfl)
theorem dX0_mostOf_72 : decode cX0_mostOf 72 = .ok (.aaload, 1) := dk_50 (dk_at dksX0_mostOf_3 1 rfl rfl)
theorem dX0_mostOf_73 : decode cX0_mostOf 73 = .ok (.getfield 326, 3) := dk_180 1 70 (dk_at dksX0_mostOf_3 2 rfl rfl)
theorem dX0_mostOf_76 : decode cX0_mostOf 76 = .ok (.iload_n 2, 1) := dk_28 (dk_at dksX0_mostOf_3 5 rfl rfl)
theorem dX0_mostOf_77 : decode cX0_mostOf 77 = .ok (.iaload, 1) := dk_46 (dk_at dksX0_mostOf_3 6 rfl rfl)
theorem dX0_mostOf_78 : decode cX0_mostOf 78 = .ok (.if_icmp .gt 10, 3) := dk_163 0 10 (dk_at dksX0_mostOf_3 7 rfl rfl)
theorem dX0_mostOf_81 : decode cX0_mostOf 81 = .ok (.iconst 1, 1) := dk_4 (dk_at dksX0_mostOf_3 10 rfl rfl)
theorem dX0_mostOf_82 : decode cX0_mostOf 82 = .ok (.iload 5, 2) := dk_21 5 (dk_at dksX0_mostOf_3 11 rfl rfl)
theorem dX0_mostOf_84 : decode cX0_mostOf 84 = .ok (.ishl, 1) := dk_120 (dk_at dksX0_mostOf_3 13 rfl rfl)
theorem dX0_mostOf_85 : decode cX0_mostOf 85 = .ok (.goto 4, 3) := dk_167 0 4 (dk_at dksX0_mostOf_3 14 rfl rfl)
theorem dX0_mostOf_88 : decode cX0_mostOf 88 = .ok (.iconst 0, 1) := dk_3 (dk_at dksX0_mostOf_3 17 rfl rfl)
theorem dX0_mostOf_89 : decode cX0_mostOf 89 = .ok (.ior, 1) := dk_128 (dk_at dksX0_mostOf_3 18 rfl rfl)
theorem dX0_mostOf_90 : decode cX0_mostOf 90 = .ok (.istore 4, 2) := dk_54 4 (dk_at dksX0_mostOf_3 19 rfl rfl)
theorem dX0_mostOf_92 : decode cX0_mostOf 92 = .ok (.aload_n 0, 1) := dk_42 (dk_at dksX0_mostOf_3 21 rfl rfl)
theorem dX0_mostOf_93 : decode cX0_mostOf 93 = .ok (.getfield 125, 3) := dk_180 0 125 (dk_at dksX0_mostOf_4 0 rfl rfl)
theorem dX0_mostOf_96 : decode cX0_mostOf 96 = .ok (.iload 5, 2) := dk_21 5 (dk_at dksX0_mostOf_4 3 rfl rfl)
theorem dX0_mostOf_98 : decode cX0_mostOf 98 = .ok (.iconst 0, 1) := dk_3 (dk_at dksX0_mostOf_4 5 rfl rfl)
theorem dX0_mostOf_99 : decode cX0_mostOf 99 = .ok (.iastore, 1) := dk_79 (dk_at dksX0_mostOf_4 6 rfl rfl)
theorem dX0_mostOf_100 : decode cX0_mostOf 100 = .ok (.iconst 0, 1) := dk_3 (dk_at dksX0_mostOf_4 7 rfl rfl)
theorem dX0_mostOf_101 : decode cX0_mostOf 101 = .ok (.istore 7, 2) := dk_54 7 (dk_at dksX0_mostOf_4 8 rfl rfl)
theorem dX0_mostOf_103 : decode cX0_mostOf 103 = .ok (.iload 7, 2) := dk_21 7 (dk_at dksX0_mostOf_4 10 rfl rfl)
theorem dX0_mostOf_105 : decode cX0_mostOf 105 = .ok (.aload_n 0, 1) := dk_42 (dk_at dksX0_mostOf_4 12 rfl rfl)
theorem dX0_mostOf_106 : decode cX0_mostOf 106 = .ok (.getfield 1, 3) := dk_180 0 1 (dk_at dksX0_mostOf_4 13 rfl rfl)
theorem dX0_mostOf_109 : decode cX0_mostOf 109 = .ok (.invokeinterface 71 1, 5) := by decide +kernel
theorem dX0_mostOf_114 : decode cX0_mostOf 114 = .ok (.if_icmp .ge 57, 3) := dk_162 0 57 (dk_at dksX0_mostOf_4 21 rfl rfl)
theorem dX0_mostOf_117 : decode cX0_mostOf 117 = .ok (.aload_n 0, 1) := dk_42 (dk_at dksX0_mostOf_5 0 rfl rfl)
theorem dX0_mostOf_118 : decode cX0_mostOf 118 = .ok (.getfield 125, 3) := dk_180 0 125 (dk_at dksX0_mostOf_5 1 rfl rfl)
theorem dX0_mostOf_121 : decode cX0_mostOf 121 = .ok (.iload 5, 2) := dk_21 5 (dk_at dksX0_mostOf_5 4 rfl rfl)
theorem dX0_mostOf_123 : decode cX0_mostOf 123 = .ok (.dup2, 1) := dk_92 (dk_at dksX0_mostOf_5 6 rfl rfl)
theorem dX0_mostOf_124 : decode cX0_mostOf 124 = .ok (.iaload, 1) := dk_46 (dk_at dksX0_mostOf_5 7 rfl rfl)
theorem dX0_mostOf_125 : decode cX0_mostOf 125 = .ok (.iload 7, 2) := dk_21 7 (dk_at dksX0_mostOf_5 8 rfl rfl)
theorem dX0_mostOf_127 : decode cX0_mostOf 127 = .ok (.iload 5, 2) := dk_21 5 (dk_at dksX0_mostOf_5 10 rfl rfl)
theorem dX0_mostOf_129 : decode cX0_mostOf 129 = .ok (.if_icmp .eq 33, 3) := dk_159 0 33 (dk_at dksX0_mostOf_5 12 rfl rfl)
theorem dX0_mostOf_132 : decode cX0_mostOf 132 = .ok (.aload_n 0, 1) := dk_42 (dk_at dksX0_mostOf_5 15 rfl rfl)
theorem dX0_mostOf_133 : decode cX0_mostOf 133 = .ok (.aload 6, 2) := dk_25 6 (dk_at dksX0_mostOf_5 16 rfl rfl)
theorem dX0_mostOf_135 : decode cX0_mostOf 135 = .ok (.aload_n 0, 1) := dk_42 (dk_at dksX0_mostOf_5 18 rfl rfl)
theorem dX0_mostOf_136 : decode cX0_mostOf 136 = .ok (.getfield 1, 3) := dk_180 0 1 (dk_at dksX0_mostOf_5 19 rfl rfl)
theorem dX0_mostOf_139 : decode cX0_mostOf 139 = .ok (.iload 7, 2) := dk_21 7 (dk_at dksX0_mostOf_5 22 rfl rfl)
theorem dX0_mostOf_141 : decode cX0_mostOf 141 = .ok (.invokeinterface 7 2, 5) := by decide +kernel
theorem dX0_mostOf_146 : decode cX0_mostOf 146 = .ok (.checkcast 13, 3) := dk_192 0 13 (dk_at dksX0_mostOf_6 5 rfl rfl)
theorem dX0_mostOf_149 : decode cX0_mostOf 149 = .ok (.invokevirtual 314, 3) := dk_182 1 58 (dk_at dksX0_mostOf_6 8 rfl rfl)
theorem dX0_mostOf_152 : decode cX0_mostOf 152 = .ok (.ifCond .eq 10, 3) := dk_153 0 10 (dk_at dksX0_mostOf_6 11 rfl rfl)
theorem dX0_mostOf_155 : decode cX0_mostOf 155 = .ok (.iconst 1, 1) := dk_4 (dk_at dksX0_mostOf_6 14 rfl rfl)
theorem dX0_mostOf_156 : decode cX0_mostOf 156 = .ok (.iload 7, 2) := dk_21 7 (dk_at dksX0_mostOf_6 15 rfl rfl)
theorem dX0_mostOf_158 : decode cX0_mostOf 158 = .ok (.ishl, 1) := dk_120 (dk_at dksX0_mostOf_6 17 rfl rfl)
theorem dX0_mostOf_159 : decode cX0_mostOf 159 = .ok (.goto 4, 3) := dk_167 0 4 (dk_at dksX0_mostOf_6 18 rfl rfl)
theorem dX0_mostOf_162 : decode cX0_mostOf 162 = .ok (.iconst 0, 1) := dk_3 (dk_at dksX0_mostOf_6 21 rfl rfl)
theorem dX0_mostOf_163 : decode cX0_mostOf 163 = .ok (.ior, 1) := dk_128 (dk_at dksX0_mostOf_6 22 rfl rfl)
theorem dX0_mostOf_164 : decode cX0_mostOf 164 = .ok (.iastore, 1) := dk_79 (dk_at dksX0_mostOf_6 23 rfl rfl)
theorem dX0_mostOf_165 : decode cX0_mostOf 165 = .ok (.iinc 7 1, 3) := dk_132 7 1 (dk_at dksX0_mostOf_7 0 rfl rfl)
theorem dX0_mostOf_168 : decode cX0_mostOf 168 = .ok (.goto (-65), 3) := dk_167 255 191 (dk_at dksX0_mostOf_7 3 rfl rfl)
theorem dX0_mostOf_171 : decode cX0_mostOf 171 = .ok (.iinc 5 1, 3) := dk_132 5 1 (dk_at dksX0_mostOf_7 6 rfl rfl)
theorem dX0_mostOf_174 : decode cX0_mostOf 174 = .ok (.goto (-168), 3) := dk_167 255 88 (dk_at dksX0_mostOf_7 9 rfl rfl)
theorem dX0_mostOf_177 : decode cX0_mostOf 177 = .ok (.iconst 0, 1) := dk_3 (dk_at dksX0_mostOf_7 12 rfl rfl)
theorem dX0_mostOf_178 : decode cX0_mostOf 178 = .ok (.istore 5, 2) := dk_54 5 (dk_at dksX0_mostOf_7 13 rfl rfl)
theorem dX0_mostOf_180 : decode cX0_mostOf 180 = .ok (.iconst 0, 1) := dk_3 (dk_at dksX0_mostOf_7 15 rfl rfl)
theorem dX0_mostOf_181 : decode cX0_mostOf 181 = .ok (.istore 6, 2) := dk_54 6 (dk_at dksX0_mostOf_7 16 rfl rfl)
theorem dX0_mostOf_183 : decode cX0_mostOf 183 = .ok (.iconst 1, 1) := dk_4 (dk_at dksX0_mostOf_7 18 rfl rfl)
theorem dX0_mostOf_184 : decode cX0_mostOf 184 = .ok (.istore 7, 2) := dk_54 7 (dk_at dksX0_mostOf_7 19 rfl rfl)
theorem dX0_mostOf_186 : decode cX0_mostOf 186 = .ok (.iload 7, 2) := dk_21 7 (dk_at dksX0_mostOf_7 21 rfl rfl)
theorem dX0_mostOf_188 : decode cX0_mostOf 188 = .ok (.iload 4, 2) := dk_21 4 (dk_at dksX0_mostOf_8 0 rfl rfl)
theorem dX0_mostOf_190 : decode cX0_mostOf 190 = .ok (.if_icmp .gt 57, 3) := dk_163 0 57 (dk_at dksX0_mostOf_8 2 rfl rfl)
theorem dX0_mostOf_193 : decode cX0_mostOf 193 = .ok (.iload 7, 2) := dk_21 7 (dk_at dksX0_mostOf_8 5 rfl rfl)
theorem dX0_mostOf_195 : decode cX0_mostOf 195 = .ok (.iload 4, 2) := dk_21 4 (dk_at dksX0_mostOf_8 7 rfl rfl)
theorem dX0_mostOf_197 : decode cX0_mostOf 197 = .ok (.iconst (-1), 1) := dk_2 (dk_at dksX0_mostOf_8 9 rfl rfl)
theorem dX0_mostOf_198 : decode cX0_mostOf 198 = .ok (.ixor, 1) := dk_130 (dk_at dksX0_mostOf_8 10 rfl rfl)
theorem dX0_mostOf_199 : decode cX0_mostOf 199 = .ok (.iand, 1) := dk_126 (dk_at dksX0_mostOf_8 11 rfl rfl)
theorem dX0_mostOf_200 : decode cX0_mostOf 200 = .ok (.ifCond .ne 41, 3) := dk_154 0 41 (dk_at dksX0_mostOf_8 12 rfl rfl)
theorem dX0_mostOf_203 : decode cX0_mostOf 203 = .ok (.aload_n 0, 1) := dk_42 (dk_at dksX0_mostOf_8 15 rfl rfl)
theorem dX0_mostOf_204 : decode cX0_mostOf 204 = .ok (.iload 7, 2) := dk_21 7 (dk_at dksX0_mostOf_8 16 rfl rfl)
theorem dX0_mostOf_206 : decode cX0_mostOf 206 = .ok (.invokevirtual 332, 3) := dk_182 1 76 (dk_at dksX0_mostOf_8 18 rfl rfl)
theorem dX0_mostOf_209 : decode cX0_mostOf 209 = .ok (.ifCond .ne 6, 3) := dk_154 0 6 (dk_at dksX0_mostOf_8 21 rfl rfl)
theorem dX0_mostOf_212 : decode cX0_mostOf 212 = .ok (.goto 29, 3) := dk_167 0 29 (dk_at dksX0_mostOf_9 0 rfl rfl)
theorem dX0_mostOf_215 : decode cX0_mostOf 215 = .ok (.aload_n 0, 1) := dk_42 (dk_at dksX0_mostOf_9 3 rfl rfl)
theorem dX0_mostOf_216 : decode cX0_mostOf 216 = .ok (.iload 7, 2) := dk_21 7 (dk_at dksX0_mostOf_9 4 rfl rfl)
theorem dX0_mostOf_218 : decode cX0_mostOf 218 = .ok (.invokevirtual 335, 3) := dk_182 1 79 (dk_at dksX0_mostOf_9 6 rfl rfl)
theorem dX0_mostOf_221 : decode cX0_mostOf 221 = .ok (.istore 8, 2) := dk_54 8 (dk_at dksX0_mostOf_9 9 rfl rfl)
theorem dX0_mostOf_223 : decode cX0_mostOf 223 = .ok (.iload 8, 2) := dk_21 8 (dk_at dksX0_mostOf_9 11 rfl rfl)
theorem dX0_mostOf_225 : decode cX0_mostOf 225 = .ok (.iload 6, 2) := dk_21 6 (dk_at dksX0_mostOf_9 13 rfl rfl)
theorem dX0_mostOf_227 : decode cX0_mostOf 227 = .ok (.if_icmp .gt 6, 3) := dk_163 0 6 (dk_at dksX0_mostOf_9 15 rfl rfl)
theorem dX0_mostOf_230 : decode cX0_mostOf 230 = .ok (.goto 11, 3) := dk_167 0 11 (dk_at dksX0_mostOf_9 18 rfl rfl)
theorem dX0_mostOf_233 : decode cX0_mostOf 233 = .ok (.iload 7, 2) := dk_21 7 (dk_at dksX0_mostOf_9 21 rfl rfl)
theorem dX0_mostOf_235 : decode cX0_mostOf 235 = .ok (.istore 5, 2) := dk_54 5 (dk_at dksX0_mostOf_10 0 rfl rfl)
theorem dX0_mostOf_237 : decode cX0_mostOf 237 = .ok (.iload 8, 2) := dk_21 8 (dk_at dksX0_mostOf_10 2 rfl rfl)
theorem dX0_mostOf_239 : decode cX0_mostOf 239 = .ok (.istore 6, 2) := dk_54 6 (dk_at dksX0_mostOf_10 4 rfl rfl)
theorem dX0_mostOf_241 : decode cX0_mostOf 241 = .ok (.iinc 7 1, 3) := dk_132 7 1 (dk_at dksX0_mostOf_10 6 rfl rfl)
theorem dX0_mostOf_244 : decode cX0_mostOf 244 = .ok (.goto (-58), 3) := dk_167 255 198 (dk_at dksX0_mostOf_10 9 rfl rfl)
theorem dX0_mostOf_247 : decode cX0_mostOf 247 = .ok (.iload 5, 2) := dk_21 5 (dk_at dksX0_mostOf_10 12 rfl rfl)
theorem dX0_mostOf_249 : decode cX0_mostOf 249 = .ok (.ireturn, 1) := dk_172 (dk_at dksX0_mostOf_10 14 rfl rfl)
abbrev cX0_isFree : ByteArray := prog_1_method_35_code
def yX0_isFree : MethodName := ⟨RX0, "isFree", "(I)Z"⟩
def dkwX0_isFree_1 : List UInt8 := [42, 180, 0, 125, 28, 46, 27, 126, 153, 0, 5, 3, 172, 132, 2, 1, 167, 255, 218, 4, 172]
abbrev dktX0_isFree_1 : List UInt8 := dkwX0_isFree_1 ++ []
def dkwX0_isFree_0 : List UInt8 := [3, 61, 28, 42, 180, 0, 1, 185, 0, 71, 1, 0, 162, 0, 31, 27, 28, 122, 4, 126, 4, 160, 0, 16]
abbrev dktX0_isFree_0 : List UInt8 := dkwX0_isFree_0 ++ dktX0_isFree_1
theorem dksX0_isFree_0 : cX0_isFree.data.toList.drop 0 = dktX0_isFree_0 := by decide +kernel
theorem dksX0_isFree_1 : cX0_isFree.data.toList.drop 24 = dktX0_isFree_1 := dk_seg dksX0_isFree_0 24 rfl rfl
theorem dX0_isFree_0 : decode cX0_isFree 0 = .ok (.iconst 0, 1) := dk_3 (dk_at dksX0_isFree_0 0 rfl rfl)
theorem dX0_isFree_1 : decode cX0_isFree 1 = .ok (.istore_n 2, 1) := dk_61 (dk_at dksX0_isFree_0 1 rfl rfl)
theorem dX0_isFree_2 : decode cX0_isFree 2 = .ok (.iload_n 2, 1) := dk_28 (dk_at dksX0_isFree_0 2 rfl rfl)
theorem dX0_isFree_3 : decode cX0_isFree 3 = .ok (.aload_n 0, 1) := dk_42 (dk_at dksX0_isFree_0 3 rfl rfl)
theorem dX0_isFree_4 : decode cX0_isFree 4 = .ok (.getfield 1, 3) := dk_180 0 1 (dk_at dksX0_isFree_0 4 rfl rfl)
theorem dX0_isFree_7 : decode cX0_isFree 7 = .ok (.invokeinterface 71 1, 5) := by decide +kernel
theorem dX0_isFree_12 : decode cX0_isFree 12 = .ok (.if_icmp .ge 31, 3) := dk_162 0 31 (dk_at dksX0_isFree_0 12 rfl rfl)
theorem dX0_isFree_15 : decode cX0_isFree 15 = .ok (.iload_n 1, 1) := dk_27 (dk_at dksX0_isFree_0 15 rfl rfl)
theorem dX0_isFree_16 : decode cX0_isFree 16 = .ok (.iload_n 2, 1) := dk_28 (dk_at dksX0_isFree_0 16 rfl rfl)
theorem dX0_isFree_17 : decode cX0_isFree 17 = .ok (.ishr, 1) := dk_122 (dk_at dksX0_isFree_0 17 rfl rfl)
theorem dX0_isFree_18 : decode cX0_isFree 18 = .ok (.iconst 1, 1) := dk_4 (dk_at dksX0_isFree_0 18 rfl rfl)
theorem dX0_isFree_19 : decode cX0_isFree 19 = .ok (.iand, 1) := dk_126 (dk_at dksX0_isFree_0 19 rfl rfl)
theorem dX0_isFree_20 : decode cX0_isFree 20 = .ok (.iconst 1, 1) := dk_4 (dk_at dksX0_isFree_0 20 rfl rfl)
theorem dX0_isFree_21 : decode cX0_isFree 21 = .ok (.if_icmp .ne 16, 3) := dk_160 0 16 (dk_at dksX0_isFree_0 21 rfl rfl)
theorem dX0_isFree_24 : decode cX0_isFree 24 = .ok (.aload_n 0, 1) := dk_42 (dk_at dksX0_isFree_1 0 rfl rfl)
theorem dX0_isFree_25 : decode cX0_isFree 25 = .ok (.getfield 125, 3) := dk_180 0 125 (dk_at dksX0_isFree_1 1 rfl rfl)
theorem dX0_isFree_28 : decode cX0_isFree 28 = .ok (.iload_n 2, 1) := dk_28 (dk_at dksX0_isFree_1 4 rfl rfl)
theorem dX0_isFree_29 : decode cX0_isFree 29 = .ok (.iaload, 1) := dk_46 (dk_at dksX0_isFree_1 5 rfl rfl)
theorem dX0_isFree_30 : decode cX0_isFree 30 = .ok (.iload_n 1, 1) := dk_27 (dk_at dksX0_isFree_1 6 rfl rfl)
theorem dX0_isFree_31 : decode cX0_isFree 31 = .ok (.iand, 1) := dk_126 (dk_at dksX0_isFree_1 7 rfl rfl)
theorem dX0_isFree_32 : decode cX0_isFree 32 = .ok (.ifCond .eq 5, 3) := dk_153 0 5 (dk_at dksX0_isFree_1 8 rfl rfl)
theorem dX0_isFree_35 : decode cX0_isFree 35 = .ok (.iconst 0, 1) := dk_3 (dk_at dksX0_isFree_1 11 rfl rfl)
theorem dX0_isFree_36 : decode cX0_isFree 36 = .ok (.ireturn, 1) := dk_172 (dk_at dksX0_isFree_1 12 rfl rfl)
theorem dX0_isFree_37 : decode cX0_isFree 37 = .ok (.iinc 2 1, 3) := dk_132 2 1 (dk_at dksX0_isFree_1 13 rfl rfl)
theorem dX0_isFree_40 : decode cX0_isFree 40 = .ok (.goto (-38), 3) := dk_167 255 218 (dk_at dksX0_isFree_1 16 rfl rfl)
theorem dX0_isFree_43 : decode cX0_isFree 43 = .ok (.iconst 1, 1) := dk_4 (dk_at dksX0_isFree_1 19 rfl rfl)
theorem dX0_isFree_44 : decode cX0_isFree 44 = .ok (.ireturn, 1) := dk_172 (dk_at dksX0_isFree_1 20 rfl rfl)
abbrev cX0_prices : ByteArray := prog_1_method_36_code
def yX0_prices : MethodName := ⟨RX0, "prices", "(I)I"⟩
def dkwX0_prices_2 : List UInt8 := [96, 61, 132, 3, 1, 167, 255, 207, 28, 172]
abbrev dktX0_prices_2 : List UInt8 := dkwX0_prices_2 ++ []
def dkwX0_prices_1 : List UInt8 := [160, 0, 23, 42, 42, 180, 0, 1, 29, 185, 0, 7, 2, 0, 192, 0, 13, 182, 0, 51, 167, 0, 4, 3]
abbrev dktX0_prices_1 : List UInt8 := dkwX0_prices_1 ++ dktX0_prices_2
def dkwX0_prices_0 : List UInt8 := [3, 61, 3, 62, 29, 42, 180, 0, 1, 185, 0, 71, 1, 0, 162, 0, 42, 28, 27, 29, 122, 4, 126, 4]
abbrev dktX0_prices_0 : List UInt8 := dkwX0_prices_0 ++ dktX0_prices_1
theorem dksX0_prices_0 : cX0_prices.data.toList.drop 0 = dktX0_prices_0 := by decide +kernel
theorem dksX0_prices_1 : cX0_prices.data.toList.drop 24 = dktX0_prices_1 := dk_seg dksX0_prices_0 24 rfl rfl
theorem dksX0_prices_2 : cX0_prices.data.toList.drop 48 = dktX0_prices_2 := dk_seg dksX0_prices_1 24 rfl rfl
theorem dX0_prices_0 : decode cX0_prices 0 = .ok (.iconst 0, 1) := dk_3 (dk_at dksX0_prices_0 0 rfl rfl)
theorem dX0_prices_1 : decode cX0_prices 1 = .ok (.istore_n 2, 1) := dk_61 (dk_at dksX0_prices_0 1 rfl rfl)
theorem dX0_prices_2 : decode cX0_prices 2 = .ok (.iconst 0, 1) := dk_3 (dk_at dksX0_prices_0 2 rfl rfl)
theorem dX0_prices_3 : decode cX0_prices 3 = .ok (.istore_n 3, 1) := dk_62 (dk_at dksX0_prices_0 3 rfl rfl)
theorem dX0_prices_4 : decode cX0_prices 4 = .ok (.iload_n 3, 1) := dk_29 (dk_at dksX0_prices_0 4 rfl rfl)
theorem dX0_prices_5 : decode cX0_prices 5 = .ok (.aload_n 0, 1) := dk_42 (dk_at dksX0_prices_0 5 rfl rfl)
theorem dX0_prices_6 : decode cX0_prices 6 = .ok (.getfield 1, 3) := dk_180 0 1 (dk_at dksX0_prices_0 6 rfl rfl)
theorem dX0_prices_9 : decode cX0_prices 9 = .ok (.invokeinterface 71 1, 5) := by decide +kernel
theorem dX0_prices_14 : decode cX0_prices 14 = .ok (.if_icmp .ge 42, 3) := dk_162 0 42 (dk_at dksX0_prices_0 14 rfl rfl)
theorem dX0_prices_17 : decode cX0_prices 17 = .ok (.iload_n 2, 1) := dk_28 (dk_at dksX0_prices_0 17 rfl rfl)
theorem dX0_prices_18 : decode cX0_prices 18 = .ok (.iload_n 1, 1) := dk_27 (dk_at dksX0_prices_0 18 rfl rfl)
theorem dX0_prices_19 : decode cX0_prices 19 = .ok (.iload_n 3, 1) := dk_29 (dk_at dksX0_prices_0 19 rfl rfl)
theorem dX0_prices_20 : decode cX0_prices 20 = .ok (.ishr, 1) := dk_122 (dk_at dksX0_prices_0 20 rfl rfl)
theorem dX0_prices_21 : decode cX0_prices 21 = .ok (.iconst 1, 1) := dk_4 (dk_at dksX0_prices_0 21 rfl rfl)
theorem dX0_prices_22 : decode cX0_prices 22 = .ok (.iand, 1) := dk_126 (dk_at dksX0_prices_0 22 rfl rfl)
theorem dX0_prices_23 : decode cX0_prices 23 = .ok (.iconst 1, 1) := dk_4 (dk_at dksX0_prices_0 23 rfl rfl)
theorem dX0_prices_24 : decode cX0_prices 24 = .ok (.if_icmp .ne 23, 3) := dk_160 0 23 (dk_at dksX0_prices_1 0 rfl rfl)
theorem dX0_prices_27 : decode cX0_prices 27 = .ok (.aload_n 0, 1) := dk_42 (dk_at dksX0_prices_1 3 rfl rfl)
theorem dX0_prices_28 : decode cX0_prices 28 = .ok (.aload_n 0, 1) := dk_42 (dk_at dksX0_prices_1 4 rfl rfl)
theorem dX0_prices_29 : decode cX0_prices 29 = .ok (.getfield 1, 3) := dk_180 0 1 (dk_at dksX0_prices_1 5 rfl rfl)
theorem dX0_prices_32 : decode cX0_prices 32 = .ok (.iload_n 3, 1) := dk_29 (dk_at dksX0_prices_1 8 rfl rfl)
theorem dX0_prices_33 : decode cX0_prices 33 = .ok (.invokeinterface 7 2, 5) := by decide +kernel
theorem dX0_prices_38 : decode cX0_prices 38 = .ok (.checkcast 13, 3) := dk_192 0 13 (dk_at dksX0_prices_1 14 rfl rfl)
theorem dX0_prices_41 : decode cX0_prices 41 = .ok (.invokevirtual 51, 3) := dk_182 0 51 (dk_at dksX0_prices_1 17 rfl rfl)
theorem dX0_prices_44 : decode cX0_prices 44 = .ok (.goto 4, 3) := dk_167 0 4 (dk_at dksX0_prices_1 20 rfl rfl)
theorem dX0_prices_47 : decode cX0_prices 47 = .ok (.iconst 0, 1) := dk_3 (dk_at dksX0_prices_1 23 rfl rfl)
theorem dX0_prices_48 : decode cX0_prices 48 = .ok (.iadd, 1) := dk_96 (dk_at dksX0_prices_2 0 rfl rfl)
theorem dX0_prices_49 : decode cX0_prices 49 = .ok (.istore_n 2, 1) := dk_61 (dk_at dksX0_prices_2 1 rfl rfl)
theorem dX0_prices_50 : decode cX0_prices 50 = .ok (.iinc 3 1, 3) := dk_132 3 1 (dk_at dksX0_prices_2 2 rfl rfl)
theorem dX0_prices_53 : decode cX0_prices 53 = .ok (.goto (-49), 3) := dk_167 255 207 (dk_at dksX0_prices_2 5 rfl rfl)
theorem dX0_prices_56 : decode cX0_prices 56 = .ok (.iload_n 2, 1) := dk_28 (dk_at dksX0_prices_2 8 rfl rfl)
theorem dX0_prices_57 : decode cX0_prices 57 = .ok (.ireturn, 1) := dk_172 (dk_at dksX0_prices_2 9 rfl rfl)
abbrev cX0_funeral : ByteArray := prog_1_method_38_code
def yX0_funeral : MethodName := ⟨RX0, "funeral", "(IIIIII)I"⟩
def dkwX0_funeral_5 : List UInt8 := [180, 1, 107, 21, 6, 6, 100, 46, 172]
abbrev dktX0_funeral_5 : List UInt8 := dkwX0_funeral_5 ++ []
def dkwX0_funeral_4 : List UInt8 := [184, 1, 99, 167, 0, 27, 21, 6, 5, 160, 0, 11, 25, 7, 182, 1, 104, 167, 0, 13, 25, 7]
abbrev dktX0_funeral_4 : List UInt8 := dkwX0_funeral_4 ++ dktX0_funeral_5
def dkwX0_funeral_3 : List UInt8 := [21, 6, 154, 0, 11, 25, 7, 180, 1, 95, 167, 0, 44, 21, 6, 4, 160, 0, 14, 25, 7, 180, 1, 96]
abbrev dktX0_funeral_3 : List UInt8 := dkwX0_funeral_3 ++ dktX0_funeral_4
def dkwX0_funeral_2 : List UInt8 := [154, 0, 6, 18, 156, 172, 187, 1, 90, 89, 42, 27, 28, 29, 21, 4, 21, 5, 183, 1, 92, 58, 7]
abbrev dktX0_funeral_2 : List UInt8 := dkwX0_funeral_2 ++ dktX0_funeral_3
def dkwX0_funeral_1 : List UInt8 := [21, 5, 133, 10, 20, 1, 86, 184, 0, 143, 153, 0, 16, 21, 6, 133, 9, 20, 1, 88, 184, 0, 143]
abbrev dktX0_funeral_1 : List UInt8 := dkwX0_funeral_1 ++ dktX0_funeral_2
def dkwX0_funeral_0 : List UInt8 := [27, 184, 0, 222, 153, 0, 45, 28, 184, 0, 243, 153, 0, 38, 29, 21, 4, 184, 0, 246, 153, 0, 29]
abbrev dktX0_funeral_0 : List UInt8 := dkwX0_funeral_0 ++ dktX0_funeral_1
theorem dksX0_funeral_0 : cX0_funeral.data.toList.drop 0 = dktX0_funeral_0 := by decide +kernel
theorem dksX0_funeral_1 : cX0_funeral.data.toList.drop 23 = dktX0_funeral_1 := dk_seg dksX0_funeral_0 23 rfl rfl
theorem dksX0_funeral_2 : cX0_funeral.data.toList.drop 46 = dktX0_funeral_2 := dk_seg dksX0_funeral_1 23 rfl rfl
theorem dksX0_funeral_3 : cX0_funeral.data.toList.drop 69 = dktX0_funeral_3 := dk_seg dksX0_funeral_2 23 rfl rfl
theorem dksX0_funeral_4 : cX0_funeral.data.toList.drop 93 = dktX0_funeral_4 := dk_seg dksX0_funeral_3 24 rfl rfl
theorem dksX0_funeral_5 : cX0_funeral.data.toList.drop 115 = dktX0_funeral_5 := dk_seg dksX0_funeral_4 22 rfl rfl
theorem dX0_funeral_0 : decode cX0_funeral 0 = .ok (.iload_n 1, 1) := dk_27 (dk_at dksX0_funeral_0 0 rfl rfl)
theorem dX0_funeral_1 : decode cX0_funeral 1 = .ok (.invokestatic 222, 3) := dk_184 0 222 (dk_at dksX0_funeral_0 1 rfl rfl)
theorem dX0_funeral_4 : decode cX0_funeral 4 = .ok (.ifCond .eq 45, 3) := dk_153 0 45 (dk_at dksX0_funeral_0 4 rfl rfl)
theorem dX0_funeral_7 : decode cX0_funeral 7 = .ok (.iload_n 2, 1) := dk_28 (dk_at dksX0_funeral_0 7 rfl rfl)
theorem dX0_funeral_8 : decode cX0_funeral 8 = .ok (.invokestatic 243, 3) := dk_184 0 243 (dk_at dksX0_funeral_0 8 rfl rfl)
theorem dX0_funeral_11 : decode cX0_funeral 11 = .ok (.ifCond .eq 38, 3) := dk_153 0 38 (dk_at dksX0_funeral_0 11 rfl rfl)
theorem dX0_funeral_14 : decode cX0_funeral 14 = .ok (.iload_n 3, 1) := dk_29 (dk_at dksX0_funeral_0 14 rfl rfl)
theorem dX0_funeral_15 : decode cX0_funeral 15 = .ok (.iload 4, 2) := dk_21 4 (dk_at dksX0_funeral_0 15 rfl rfl)
theorem dX0_funeral_17 : decode cX0_funeral 17 = .ok (.invokestatic 246, 3) := dk_184 0 246 (dk_at dksX0_funeral_0 17 rfl rfl)
theorem dX0_funeral_20 : decode cX0_funeral 20 = .ok (.ifCond .eq 29, 3) := dk_153 0 29 (dk_at dksX0_funeral_0 20 rfl rfl)
theorem dX0_funeral_23 : decode cX0_funeral 23 = .ok (.iload 5, 2) := dk_21 5 (dk_at dksX0_funeral_1 0 rfl rfl)
theorem dX0_funeral_25 : decode cX0_funeral 25 = .ok (.i2l, 1) := dk_133 (dk_at dksX0_funeral_1 2 rfl rfl)
theorem dX0_funeral_26 : decode cX0_funeral 26 = .ok (.lconst 1, 1) := dk_10 (dk_at dksX0_funeral_1 3 rfl rfl)
theorem dX0_funeral_27 : decode cX0_funeral 27 = .ok (.ldc2_w 342, 3) := dk_20 1 86 (dk_at dksX0_funeral_1 4 rfl rfl)
theorem dX0_funeral_30 : decode cX0_funeral 30 = .ok (.invokestatic 143, 3) := dk_184 0 143 (dk_at dksX0_funeral_1 7 rfl rfl)
theorem dX0_funeral_33 : decode cX0_funeral 33 = .ok (.ifCond .eq 16, 3) := dk_153 0 16 (dk_at dksX0_funeral_1 10 rfl rfl)
theorem dX0_funeral_36 : decode cX0_funeral 36 = .ok (.iload 6, 2) := dk_21 6 (dk_at dksX0_funeral_1 13 rfl rfl)
theorem dX0_funeral_38 : decode cX0_funeral 38 = .ok (.i2l, 1) := dk_133 (dk_at dksX0_funeral_1 15 rfl rfl)
theorem dX0_funeral_39 : decode cX0_funeral 39 = .ok (.lconst 0, 1) := dk_9 (dk_at dksX0_funeral_1 16 rfl rfl)
theorem dX0_funeral_40 : decode cX0_funeral 40 = .ok (.ldc2_w 344, 3) := dk_20 1 88 (dk_at dksX0_funeral_1 17 rfl rfl)
theorem dX0_funeral_43 : decode cX0_funeral 43 = .ok (.invokestatic 143, 3) := dk_184 0 143 (dk_at dksX0_funeral_1 20 rfl rfl)
theorem dX0_funeral_46 : decode cX0_funeral 46 = .ok (.ifCond .ne 6, 3) := dk_154 0 6 (dk_at dksX0_funeral_2 0 rfl rfl)
theorem dX0_funeral_49 : decode cX0_funeral 49 = .ok (.ldc 156, 2) := dk_18 156 (dk_at dksX0_funeral_2 3 rfl rfl)
theorem dX0_funeral_51 : decode cX0_funeral 51 = .ok (.ireturn, 1) := dk_172 (dk_at dksX0_funeral_2 5 rfl rfl)
theorem dX0_funeral_52 : decode cX0_funeral 52 = .ok (.new 346, 3) := dk_187 1 90 (dk_at dksX0_funeral_2 6 rfl rfl)
theorem dX0_funeral_55 : decode cX0_funeral 55 = .ok (.dup, 1) := dk_89 (dk_at dksX0_funeral_2 9 rfl rfl)
theorem dX0_funeral_56 : decode cX0_funeral 56 = .ok (.aload_n 0, 1) := dk_42 (dk_at dksX0_funeral_2 10 rfl rfl)
theorem dX0_funeral_57 : decode cX0_funeral 57 = .ok (.iload_n 1, 1) := dk_27 (dk_at dksX0_funeral_2 11 rfl rfl)
theorem dX0_funeral_58 : decode cX0_funeral 58 = .ok (.iload_n 2, 1) := dk_28 (dk_at dksX0_funeral_2 12 rfl rfl)
theorem dX0_funeral_59 : decode cX0_funeral 59 = .ok (.iload_n 3, 1) := dk_29 (dk_at dksX0_funeral_2 13 rfl rfl)
theorem dX0_funeral_60 : decode cX0_funeral 60 = .ok (.iload 4, 2) := dk_21 4 (dk_at dksX0_funeral_2 14 rfl rfl)
theorem dX0_funeral_62 : decode cX0_funeral 62 = .ok (.iload 5, 2) := dk_21 5 (dk_at dksX0_funeral_2 16 rfl rfl)
theorem dX0_funeral_64 : decode cX0_funeral 64 = .ok (.invokespecial 348, 3) := dk_183 1 92 (dk_at dksX0_funeral_2 18 rfl rfl)
theorem dX0_funeral_67 : decode cX0_funeral 67 = .ok (.astore 7, 2) := dk_58 7 (dk_at dksX0_funeral_2 21 rfl rfl)
theorem dX0_funeral_69 : decode cX0_funeral 69 = .ok (.iload 6, 2) := dk_21 6 (dk_at dksX0_funeral_3 0 rfl rfl)
theorem dX0_funeral_71 : decode cX0_funeral 71 = .ok (.ifCond .ne 11, 3) := dk_154 0 11 (dk_at dksX0_funeral_3 2 rfl rfl)
theorem dX0_funeral_74 : decode cX0_funeral 74 = .ok (.aload 7, 2) := dk_25 7 (dk_at dksX0_funeral_3 5 rfl rfl)
theorem dX0_funeral_76 : decode cX0_funeral 76 = .ok (.getfield 351, 3) := dk_180 1 95 (dk_at dksX0_funeral_3 7 rfl rfl)
theorem dX0_funeral_79 : decode cX0_funeral 79 = .ok (.goto 44, 3) := dk_167 0 44 (dk_at dksX0_funeral_3 10 rfl rfl)
theorem dX0_funeral_82 : decode cX0_funeral 82 = .ok (.iload 6, 2) := dk_21 6 (dk_at dksX0_funeral_3 13 rfl rfl)
theorem dX0_funeral_84 : decode cX0_funeral 84 = .ok (.iconst 1, 1) := dk_4 (dk_at dksX0_funeral_3 15 rfl rfl)
theorem dX0_funeral_85 : decode cX0_funeral 85 = .ok (.if_icmp .ne 14, 3) := dk_160 0 14 (dk_at dksX0_funeral_3 16 rfl rfl)
theorem dX0_funeral_88 : decode cX0_funeral 88 = .ok (.aload 7, 2) := dk_25 7 (dk_at dksX0_funeral_3 19 rfl rfl)
theorem dX0_funeral_90 : decode cX0_funeral 90 = .ok (.getfield 352, 3) := dk_180 1 96 (dk_at dksX0_funeral_3 21 rfl rfl)
theorem dX0_funeral_93 : decode cX0_funeral 93 = .ok (.invokestatic 355, 3) := dk_184 1 99 (dk_at dksX0_funeral_4 0 rfl rfl)
theorem dX0_funeral_96 : decode cX0_funeral 96 = .ok (.goto 27, 3) := dk_167 0 27 (dk_at dksX0_funeral_4 3 rfl rfl)
theorem dX0_funeral_99 : decode cX0_funeral 99 = .ok (.iload 6, 2) := dk_21 6 (dk_at dksX0_funeral_4 6 rfl rfl)
theorem dX0_funeral_101 : decode cX0_funeral 101 = .ok (.iconst 2, 1) := dk_5 (dk_at dksX0_funeral_4 8 rfl rfl)
theorem dX0_funeral_102 : decode cX0_funeral 102 = .ok (.if_icmp .ne 11, 3) := dk_160 0 11 (dk_at dksX0_funeral_4 9 rfl rfl)
theorem dX0_funeral_105 : decode cX0_funeral 105 = .ok (.aload 7, 2) := dk_25 7 (dk_at dksX0_funeral_4 12 rfl rfl)
theorem dX0_funeral_107 : decode cX0_funeral 107 = .ok (.invokevirtual 360, 3) := dk_182 1 104 (dk_at dksX0_funeral_4 14 rfl rfl)
theorem dX0_funeral_110 : decode cX0_funeral 110 = .ok (.goto 13, 3) := dk_167 0 13 (dk_at dksX0_funeral_4 17 rfl rfl)
theorem dX0_funeral_113 : decode cX0_funeral 113 = .ok (.aload 7, 2) := dk_25 7 (dk_at dksX0_funeral_4 20 rfl rfl)
theorem dX0_funeral_115 : decode cX0_funeral 115 = .ok (.getfield 363, 3) := dk_180 1 107 (dk_at dksX0_funeral_5 0 rfl rfl)
theorem dX0_funeral_118 : decode cX0_funeral 118 = .ok (.iload 6, 2) := dk_21 6 (dk_at dksX0_funeral_5 3 rfl rfl)
theorem dX0_funeral_120 : decode cX0_funeral 120 = .ok (.iconst 3, 1) := dk_6 (dk_at dksX0_funeral_5 5 rfl rfl)
theorem dX0_funeral_121 : decode cX0_funeral 121 = .ok (.isub, 1) := dk_100 (dk_at dksX0_funeral_5 6 rfl rfl)
theorem dX0_funeral_122 : decode cX0_funeral 122 = .ok (.iaload, 1) := dk_46 (dk_at dksX0_funeral_5 7 rfl rfl)
theorem dX0_funeral_123 : decode cX0_funeral 123 = .ok (.ireturn, 1) := dk_172 (dk_at dksX0_funeral_5 8 rfl rfl)
abbrev cX0_coin : ByteArray := prog_1_method_40_code
def yX0_coin : MethodName := ⟨RX0, "coin", "(IIII)I"⟩
def dkwX0_coin_3 : List UInt8 := [184, 1, 117, 172]
abbrev dktX0_coin_3 : List UInt8 := dkwX0_coin_3 ++ []
def dkwX0_coin_2 : List UInt8 := [180, 0, 98, 187, 0, 76, 89, 27, 17, 5, 160, 28, 104, 16, 15, 29, 104, 96, 21, 4, 3, 183, 1, 114]
abbrev dktX0_coin_2 : List UInt8 := dkwX0_coin_2 ++ dktX0_coin_3
def dkwX0_coin_1 : List UInt8 := [18, 156, 172, 42, 180, 0, 98, 185, 0, 71, 1, 0, 16, 40, 160, 0, 8, 18, 193, 167, 0, 31, 42]
abbrev dktX0_coin_1 : List UInt8 := dkwX0_coin_1 ++ dktX0_coin_2
def dkwX0_coin_0 : List UInt8 := [27, 28, 29, 16, 95, 184, 1, 109, 153, 0, 16, 21, 4, 133, 10, 20, 1, 112, 184, 0, 143, 154, 0, 6]
abbrev dktX0_coin_0 : List UInt8 := dkwX0_coin_0 ++ dktX0_coin_1
theorem dksX0_coin_0 : cX0_coin.data.toList.drop 0 = dktX0_coin_0 := by decide +kernel
theorem dksX0_coin_1 : cX0_coin.data.toList.drop 24 = dktX0_coin_1 := dk_seg dksX0_coin_0 24 rfl rfl
theorem dksX0_coin_2 : cX0_coin.data.toList.drop 47 = dktX0_coin_2 := dk_seg dksX0_coin_1 23 rfl rfl
theorem dksX0_coin_3 : cX0_coin.data.toList.drop 71 = dktX0_coin_3 := dk_seg dksX0_coin_2 24 rfl rfl
theorem dX0_coin_0 : decode cX0_coin 0 = .ok (.iload_n 1, 1) := dk_27 (dk_at dksX0_coin_0 0 rfl rfl)
theorem dX0_coin_1 : decode cX0_coin 1 = .ok (.iload_n 2, 1) := dk_28 (dk_at dksX0_coin_0 1 rfl rfl)
theorem dX0_coin_2 : decode cX0_coin 2 = .ok (.iload_n 3, 1) := dk_29 (dk_at dksX0_coin_0 2 rfl rfl)
theorem dX0_coin_3 : decode cX0_coin 3 = .ok (.bipush 95, 2) := dk_16 95 (dk_at dksX0_coin_0 3 rfl rfl)
theorem dX0_coin_5 : decode cX0_coin 5 = .ok (.invokestatic 365, 3) := dk_184 1 109 (dk_at dksX0_coin_0 5 rfl rfl)
theorem dX0_coin_8 : decode cX0_coin 8 = .ok (.ifCond .eq 16, 3) := dk_153 0 16 (dk_at dksX0_coin_0 8 rfl rfl)
theorem dX0_coin_11 : decode cX0_coin 11 = .ok (.iload 4, 2) := dk_21 4 (dk_at dksX0_coin_0 11 rfl rfl)
theorem dX0_coin_13 : decode cX0_coin 13 = .ok (.i2l, 1) := dk_133 (dk_at dksX0_coin_0 13 rfl rfl)
theorem dX0_coin_14 : decode cX0_coin 14 = .ok (.lconst 1, 1) := dk_10 (dk_at dksX0_coin_0 14 rfl rfl)
theorem dX0_coin_15 : decode cX0_coin 15 = .ok (.ldc2_w 368, 3) := dk_20 1 112 (dk_at dksX0_coin_0 15 rfl rfl)
theorem dX0_coin_18 : decode cX0_coin 18 = .ok (.invokestatic 143, 3) := dk_184 0 143 (dk_at dksX0_coin_0 18 rfl rfl)
theorem dX0_coin_21 : decode cX0_coin 21 = .ok (.ifCond .ne 6, 3) := dk_154 0 6 (dk_at dksX0_coin_0 21 rfl rfl)
theorem dX0_coin_24 : decode cX0_coin 24 = .ok (.ldc 156, 2) := dk_18 156 (dk_at dksX0_coin_1 0 rfl rfl)
theorem dX0_coin_26 : decode cX0_coin 26 = .ok (.ireturn, 1) := dk_172 (dk_at dksX0_coin_1 2 rfl rfl)
theorem dX0_coin_27 : decode cX0_coin 27 = .ok (.aload_n 0, 1) := dk_42 (dk_at dksX0_coin_1 3 rfl rfl)
theorem dX0_coin_28 : decode cX0_coin 28 = .ok (.getfield 98, 3) := dk_180 0 98 (dk_at dksX0_coin_1 4 rfl rfl)
theorem dX0_coin_31 : decode cX0_coin 31 = .ok (.invokeinterface 71 1, 5) := by decide +kernel
theorem dX0_coin_36 : decode cX0_coin 36 = .ok (.bipush 40, 2) := dk_16 40 (dk_at dksX0_coin_1 12 rfl rfl)
theorem dX0_coin_38 : decode cX0_coin 38 = .ok (.if_icmp .ne 8, 3) := dk_160 0 8 (dk_at dksX0_coin_1 14 rfl rfl)
theorem dX0_coin_41 : decode cX0_coin 41 = .ok (.ldc 193, 2) := dk_18 193 (dk_at dksX0_coin_1 17 rfl rfl)
theorem dX0_coin_43 : decode cX0_coin 43 = .ok (.goto 31, 3) := dk_167 0 31 (dk_at dksX0_coin_1 19 rfl rfl)
theorem dX0_coin_46 : decode cX0_coin 46 = .ok (.aload_n 0, 1) := dk_42 (dk_at dksX0_coin_1 22 rfl rfl)
theorem dX0_coin_47 : decode cX0_coin 47 = .ok (.getfield 98, 3) := dk_180 0 98 (dk_at dksX0_coin_2 0 rfl rfl)
theorem dX0_coin_50 : decode cX0_coin 50 = .ok (.new 76, 3) := dk_187 0 76 (dk_at dksX0_coin_2 3 rfl rfl)
theorem dX0_coin_53 : decode cX0_coin 53 = .ok (.dup, 1) := dk_89 (dk_at dksX0_coin_2 6 rfl rfl)
theorem dX0_coin_54 : decode cX0_coin 54 = .ok (.iload_n 1, 1) := dk_27 (dk_at dksX0_coin_2 7 rfl rfl)
theorem dX0_coin_55 : decode cX0_coin 55 = .ok (.sipush 1440, 3) := dk_17 5 160 (dk_at dksX0_coin_2 8 rfl rfl)
theorem dX0_coin_58 : decode cX0_coin 58 = .ok (.iload_n 2, 1) := dk_28 (dk_at dksX0_coin_2 11 rfl rfl)
theorem dX0_coin_59 : decode cX0_coin 59 = .ok (.imul, 1) := dk_104 (dk_at dksX0_coin_2 12 rfl rfl)
theorem dX0_coin_60 : decode cX0_coin 60 = .ok (.bipush 15, 2) := dk_16 15 (dk_at dksX0_coin_2 13 rfl rfl)
theorem dX0_coin_62 : decode cX0_coin 62 = .ok (.iload_n 3, 1) := dk_29 (dk_at dksX0_coin_2 15 rfl rfl)
theorem dX0_coin_63 : decode cX0_coin 63 = .ok (.imul, 1) := dk_104 (dk_at dksX0_coin_2 16 rfl rfl)
theorem dX0_coin_64 : decode cX0_coin 64 = .ok (.iadd, 1) := dk_96 (dk_at dksX0_coin_2 17 rfl rfl)
theorem dX0_coin_65 : decode cX0_coin 65 = .ok (.iload 4, 2) := dk_21 4 (dk_at dksX0_coin_2 18 rfl rfl)
theorem dX0_coin_67 : decode cX0_coin 67 = .ok (.iconst 0, 1) := dk_3 (dk_at dksX0_coin_2 20 rfl rfl)
theorem dX0_coin_68 : decode cX0_coin 68 = .ok (.invokespecial 370, 3) := dk_183 1 114 (dk_at dksX0_coin_2 21 rfl rfl)
theorem dX0_coin_71 : decode cX0_coin 71 = .ok (.invokestatic 373, 3) := dk_184 1 117 (dk_at dksX0_coin_3 0 rfl rfl)
theorem dX0_coin_74 : decode cX0_coin 74 = .ok (.ireturn, 1) := dk_172 (dk_at dksX0_coin_3 3 rfl rfl)
abbrev cX0_isTime : ByteArray := prog_1_method_39_code
def yX0_isTime : MethodName := ⟨RX0, "isTime", "(IIII)Z"⟩
def dkwX0_isTime_1 : List UInt8 := [153, 0, 7, 4, 167, 0, 4, 3, 172]
abbrev dktX0_isTime_1 : List UInt8 := dkwX0_isTime_1 ++ []
def dkwX0_isTime_0 : List UInt8 := [26, 184, 0, 222, 153, 0, 25, 27, 184, 0, 243, 153, 0, 18, 28, 133, 9, 29, 133, 184, 0, 143]
abbrev dktX0_isTime_0 : List UInt8 := dkwX0_isTime_0 ++ dktX0_isTime_1
theorem dksX0_isTime_0 : cX0_isTime.data.toList.drop 0 = dktX0_isTime_0 := by decide +kernel
theorem dksX0_isTime_1 : cX0_isTime.data.toList.drop 22 = dktX0_isTime_1 := dk_seg dksX0_isTime_0 22 rfl rfl
theorem dX0_isTime_0 : decode cX0_isTime 0 = .ok (.iload_n 0, 1) := dk_26 (dk_at dksX0_isTime_0 0 rfl rfl)
theorem dX0_isTime_1 : decode cX0_isTime 1 = .ok (.invokestatic 222, 3) := dk_184 0 222 (dk_at dksX0_isTime_0 1 rfl rfl)
theorem dX0_isTime_4 : decode cX0_isTime 4 = .ok (.ifCond .eq 25, 3) := dk_153 0 25 (dk_at dksX0_isTime_0 4 rfl rfl)
theorem dX0_isTime_7 : decode cX0_isTime 7 = .ok (.iload_n 1, 1) := dk_27 (dk_at dksX0_isTime_0 7 rfl rfl)
theorem dX0_isTime_8 : decode cX0_isTime 8 = .ok (.invokestatic 243, 3) := dk_184 0 243 (dk_at dksX0_isTime_0 8 rfl rfl)
theorem dX0_isTime_11 : decode cX0_isTime 11 = .ok (.ifCond .eq 18, 3) := dk_153 0 18 (dk_at dksX0_isTime_0 11 rfl rfl)
theorem dX0_isTime_14 : decode cX0_isTime 14 = .ok (.iload_n 2, 1) := dk_28 (dk_at dksX0_isTime_0 14 rfl rfl)
theorem dX0_isTime_15 : decode cX0_isTime 15 = .ok (.i2l, 1) := dk_133 (dk_at dksX0_isTime_0 15 rfl rfl)
theorem dX0_isTime_16 : decode cX0_isTime 16 = .ok (.lconst 0, 1) := dk_9 (dk_at dksX0_isTime_0 16 rfl rfl)
theorem dX0_isTime_17 : decode cX0_isTime 17 = .ok (.iload_n 3, 1) := dk_29 (dk_at dksX0_isTime_0 17 rfl rfl)
theorem dX0_isTime_18 : decode cX0_isTime 18 = .ok (.i2l, 1) := dk_133 (dk_at dksX0_isTime_0 18 rfl rfl)
theorem dX0_isTime_19 : decode cX0_isTime 19 = .ok (.invokestatic 143, 3) := dk_184 0 143 (dk_at dksX0_isTime_0 19 rfl rfl)
theorem dX0_isTime_22 : decode cX0_isTime 22 = .ok (.ifCond .eq 7, 3) := dk_153 0 7 (dk_at dksX0_isTime_1 0 rfl rfl)
theorem dX0_isTime_25 : decode cX0_isTime 25 = .ok (.iconst 1, 1) := dk_4 (dk_at dksX0_isTime_1 3 rfl rfl)
theorem dX0_isTime_26 : decode cX0_isTime 26 = .ok (.goto 4, 3) := dk_167 0 4 (dk_at dksX0_isTime_1 4 rfl rfl)
theorem dX0_isTime_29 : decode cX0_isTime 29 = .ok (.iconst 0, 1) := dk_3 (dk_at dksX0_isTime_1 7 rfl rfl)
theorem dX0_isTime_30 : decode cX0_isTime 30 = .ok (.ireturn, 1) := dk_172 (dk_at dksX0_isTime_1 8 rfl rfl)
abbrev cX0_come : ByteArray := prog_1_method_3_code
def yX0_come : MethodName := ⟨RX0, "come", "(Ljava/util/List;LVillageHalls$Told;)I"⟩
def dkwX0_come_2 : List UInt8 := [185, 0, 71, 1, 0, 172]
abbrev dktX0_come_2 : List UInt8 := dkwX0_come_2 ++ []
def dkwX0_come_1 : List UInt8 := [192, 0, 76, 180, 0, 75, 162, 0, 9, 132, 2, 255, 167, 255, 227, 42, 28, 43, 185, 0, 80, 3, 0, 42]
abbrev dktX0_come_1 : List UInt8 := dkwX0_come_1 ++ dktX0_come_2
def dkwX0_come_0 : List UInt8 := [42, 185, 0, 71, 1, 0, 61, 28, 158, 0, 31, 43, 180, 0, 75, 42, 28, 4, 100, 185, 0, 7, 2, 0]
abbrev dktX0_come_0 : List UInt8 := dkwX0_come_0 ++ dktX0_come_1
theorem dksX0_come_0 : cX0_come.data.toList.drop 0 = dktX0_come_0 := by decide +kernel
theorem dksX0_come_1 : cX0_come.data.toList.drop 24 = dktX0_come_1 := dk_seg dksX0_come_0 24 rfl rfl
theorem dksX0_come_2 : cX0_come.data.toList.drop 48 = dktX0_come_2 := dk_seg dksX0_come_1 24 rfl rfl
theorem dX0_come_0 : decode cX0_come 0 = .ok (.aload_n 0, 1) := dk_42 (dk_at dksX0_come_0 0 rfl rfl)
theorem dX0_come_1 : decode cX0_come 1 = .ok (.invokeinterface 71 1, 5) := by decide +kernel
theorem dX0_come_6 : decode cX0_come 6 = .ok (.istore_n 2, 1) := dk_61 (dk_at dksX0_come_0 6 rfl rfl)
theorem dX0_come_7 : decode cX0_come 7 = .ok (.iload_n 2, 1) := dk_28 (dk_at dksX0_come_0 7 rfl rfl)
theorem dX0_come_8 : decode cX0_come 8 = .ok (.ifCond .le 31, 3) := dk_158 0 31 (dk_at dksX0_come_0 8 rfl rfl)
theorem dX0_come_11 : decode cX0_come 11 = .ok (.aload_n 1, 1) := dk_43 (dk_at dksX0_come_0 11 rfl rfl)
theorem dX0_come_12 : decode cX0_come 12 = .ok (.getfield 75, 3) := dk_180 0 75 (dk_at dksX0_come_0 12 rfl rfl)
theorem dX0_come_15 : decode cX0_come 15 = .ok (.aload_n 0, 1) := dk_42 (dk_at dksX0_come_0 15 rfl rfl)
theorem dX0_come_16 : decode cX0_come 16 = .ok (.iload_n 2, 1) := dk_28 (dk_at dksX0_come_0 16 rfl rfl)
theorem dX0_come_17 : decode cX0_come 17 = .ok (.iconst 1, 1) := dk_4 (dk_at dksX0_come_0 17 rfl rfl)
theorem dX0_come_18 : decode cX0_come 18 = .ok (.isub, 1) := dk_100 (dk_at dksX0_come_0 18 rfl rfl)
theorem dX0_come_19 : decode cX0_come 19 = .ok (.invokeinterface 7 2, 5) := by decide +kernel
theorem dX0_come_24 : decode cX0_come 24 = .ok (.checkcast 76, 3) := dk_192 0 76 (dk_at dksX0_come_1 0 rfl rfl)
theorem dX0_come_27 : decode cX0_come 27 = .ok (.getfield 75, 3) := dk_180 0 75 (dk_at dksX0_come_1 3 rfl rfl)
theorem dX0_come_30 : decode cX0_come 30 = .ok (.if_icmp .ge 9, 3) := dk_162 0 9 (dk_at dksX0_come_1 6 rfl rfl)
theorem dX0_come_33 : decode cX0_come 33 = .ok (.iinc 2 (-1), 3) := dk_132 2 255 (dk_at dksX0_come_1 9 rfl rfl)
theorem dX0_come_36 : decode cX0_come 36 = .ok (.goto (-29), 3) := dk_167 255 227 (dk_at dksX0_come_1 12 rfl rfl)
theorem dX0_come_39 : decode cX0_come 39 = .ok (.aload_n 0, 1) := dk_42 (dk_at dksX0_come_1 15 rfl rfl)
theorem dX0_come_40 : decode cX0_come 40 = .ok (.iload_n 2, 1) := dk_28 (dk_at dksX0_come_1 16 rfl rfl)
theorem dX0_come_41 : decode cX0_come 41 = .ok (.aload_n 1, 1) := dk_43 (dk_at dksX0_come_1 17 rfl rfl)
theorem dX0_come_42 : decode cX0_come 42 = .ok (.invokeinterface 80 3, 5) := by decide +kernel
theorem dX0_come_47 : decode cX0_come 47 = .ok (.aload_n 0, 1) := dk_42 (dk_at dksX0_come_1 23 rfl rfl)
theorem dX0_come_48 : decode cX0_come 48 = .ok (.invokeinterface 71 1, 5) := by decide +kernel
theorem dX0_come_53 : decode cX0_come 53 = .ok (.ireturn, 1) := dk_172 (dk_at dksX0_come_2 5 rfl rfl)
abbrev cX0_run : ByteArray := prog_1_method_42_code
def yX0_run : MethodName := ⟨RX0, "run", "(III)I"⟩
def dkwX0_run_1 : List UInt8 := [182, 1, 136, 167, 0, 5, 18, 156, 172]
abbrev dktX0_run_1 : List UInt8 := dkwX0_run_1 ++ []
def dkwX0_run_0 : List UInt8 := [27, 28, 29, 16, 96, 184, 1, 109, 153, 0, 21, 42, 27, 17, 5, 160, 28, 104, 16, 15, 29, 104, 96]
abbrev dktX0_run_0 : List UInt8 := dkwX0_run_0 ++ dktX0_run_1
theorem dksX0_run_0 : cX0_run.data.toList.drop 0 = dktX0_run_0 := by decide +kernel
theorem dksX0_run_1 : cX0_run.data.toList.drop 23 = dktX0_run_1 := dk_seg dksX0_run_0 23 rfl rfl
theorem dX0_run_0 : decode cX0_run 0 = .ok (.iload_n 1, 1) := dk_27 (dk_at dksX0_run_0 0 rfl rfl)
theorem dX0_run_1 : decode cX0_run 1 = .ok (.iload_n 2, 1) := dk_28 (dk_at dksX0_run_0 1 rfl rfl)
theorem dX0_run_2 : decode cX0_run 2 = .ok (.iload_n 3, 1) := dk_29 (dk_at dksX0_run_0 2 rfl rfl)
theorem dX0_run_3 : decode cX0_run 3 = .ok (.bipush 96, 2) := dk_16 96 (dk_at dksX0_run_0 3 rfl rfl)
theorem dX0_run_5 : decode cX0_run 5 = .ok (.invokestatic 365, 3) := dk_184 1 109 (dk_at dksX0_run_0 5 rfl rfl)
theorem dX0_run_8 : decode cX0_run 8 = .ok (.ifCond .eq 21, 3) := dk_153 0 21 (dk_at dksX0_run_0 8 rfl rfl)
theorem dX0_run_11 : decode cX0_run 11 = .ok (.aload_n 0, 1) := dk_42 (dk_at dksX0_run_0 11 rfl rfl)
theorem dX0_run_12 : decode cX0_run 12 = .ok (.iload_n 1, 1) := dk_27 (dk_at dksX0_run_0 12 rfl rfl)
theorem dX0_run_13 : decode cX0_run 13 = .ok (.sipush 1440, 3) := dk_17 5 160 (dk_at dksX0_run_0 13 rfl rfl)
theorem dX0_run_16 : decode cX0_run 16 = .ok (.iload_n 2, 1) := dk_28 (dk_at dksX0_run_0 16 rfl rfl)
theorem dX0_run_17 : decode cX0_run 17 = .ok (.imul, 1) := dk_104 (dk_at dksX0_run_0 17 rfl rfl)
theorem dX0_run_18 : decode cX0_run 18 = .ok (.bipush 15, 2) := dk_16 15 (dk_at dksX0_run_0 18 rfl rfl)
theorem dX0_run_20 : decode cX0_run 20 = .ok (.iload_n 3, 1) := dk_29 (dk_at dksX0_run_0 20 rfl rfl)
theorem dX0_run_21 : decode cX0_run 21 = .ok (.imul, 1) := dk_104 (dk_at dksX0_run_0 21 rfl rfl)
theorem dX0_run_22 : decode cX0_run 22 = .ok (.iadd, 1) := dk_96 (dk_at dksX0_run_0 22 rfl rfl)
theorem dX0_run_23 : decode cX0_run 23 = .ok (.invokevirtual 392, 3) := dk_182 1 136 (dk_at dksX0_run_1 0 rfl rfl)
theorem dX0_run_26 : decode cX0_run 26 = .ok (.goto 5, 3) := dk_167 0 5 (dk_at dksX0_run_1 3 rfl rfl)
theorem dX0_run_29 : decode cX0_run 29 = .ok (.ldc 156, 2) := dk_18 156 (dk_at dksX0_run_1 6 rfl rfl)
theorem dX0_run_31 : decode cX0_run 31 = .ok (.ireturn, 1) := dk_172 (dk_at dksX0_run_1 8 rfl rfl)
abbrev cX0_runOf : ByteArray := prog_1_method_41_code
def yX0_runOf : MethodName := ⟨RX0, "runOf", "(II)I"⟩
def dkwX0_runOf_4 : List UInt8 := [54, 4, 132, 5, 1, 167, 255, 165, 21, 4, 172]
abbrev dktX0_runOf_4 : List UInt8 := dkwX0_runOf_4 ++ []
def dkwX0_runOf_3 : List UInt8 := [21, 7, 25, 6, 180, 1, 130, 96, 62, 21, 4, 3, 29, 28, 184, 1, 133, 21, 7, 100, 184, 1, 124, 96]
abbrev dktX0_runOf_3 : List UInt8 := dkwX0_runOf_3 ++ dktX0_runOf_4
def dkwX0_runOf_2 : List UInt8 := [25, 6, 180, 0, 75, 28, 164, 0, 6, 167, 0, 40, 29, 25, 6, 180, 0, 75, 184, 1, 124, 54, 7]
abbrev dktX0_runOf_2 : List UInt8 := dkwX0_runOf_2 ++ dktX0_runOf_3
def dkwX0_runOf_1 : List UInt8 := [180, 0, 98, 21, 5, 185, 0, 7, 2, 0, 192, 0, 76, 58, 6, 25, 6, 180, 1, 121, 27, 160, 0, 52]
abbrev dktX0_runOf_1 : List UInt8 := dkwX0_runOf_1 ++ dktX0_runOf_2
def dkwX0_runOf_0 : List UInt8 := [3, 62, 3, 54, 4, 3, 54, 5, 21, 5, 42, 180, 0, 98, 185, 0, 71, 1, 0, 162, 0, 83, 42]
abbrev dktX0_runOf_0 : List UInt8 := dkwX0_runOf_0 ++ dktX0_runOf_1
theorem dksX0_runOf_0 : cX0_runOf.data.toList.drop 0 = dktX0_runOf_0 := by decide +kernel
theorem dksX0_runOf_1 : cX0_runOf.data.toList.drop 23 = dktX0_runOf_1 := dk_seg dksX0_runOf_0 23 rfl rfl
theorem dksX0_runOf_2 : cX0_runOf.data.toList.drop 47 = dktX0_runOf_2 := dk_seg dksX0_runOf_1 24 rfl rfl
theorem dksX0_runOf_3 : cX0_runOf.data.toList.drop 70 = dktX0_runOf_3 := dk_seg dksX0_runOf_2 23 rfl rfl
theorem dksX0_runOf_4 : cX0_runOf.data.toList.drop 94 = dktX0_runOf_4 := dk_seg dksX0_runOf_3 24 rfl rfl
theorem dX0_runOf_0 : decode cX0_runOf 0 = .ok (.iconst 0, 1) := dk_3 (dk_at dksX0_runOf_0 0 rfl rfl)
theorem dX0_runOf_1 : decode cX0_runOf 1 = .ok (.istore_n 3, 1) := dk_62 (dk_at dksX0_runOf_0 1 rfl rfl)
theorem dX0_runOf_2 : decode cX0_runOf 2 = .ok (.iconst 0, 1) := dk_3 (dk_at dksX0_runOf_0 2 rfl rfl)
theorem dX0_runOf_3 : decode cX0_runOf 3 = .ok (.istore 4, 2) := dk_54 4 (dk_at dksX0_runOf_0 3 rfl rfl)
theorem dX0_runOf_5 : decode cX0_runOf 5 = .ok (.iconst 0, 1) := dk_3 (dk_at dksX0_runOf_0 5 rfl rfl)
theorem dX0_runOf_6 : decode cX0_runOf 6 = .ok (.istore 5, 2) := dk_54 5 (dk_at dksX0_runOf_0 6 rfl rfl)
theorem dX0_runOf_8 : decode cX0_runOf 8 = .ok (.iload 5, 2) := dk_21 5 (dk_at dksX0_runOf_0 8 rfl rfl)
theorem dX0_runOf_10 : decode cX0_runOf 10 = .ok (.aload_n 0, 1) := dk_42 (dk_at dksX0_runOf_0 10 rfl rfl)
theorem dX0_runOf_11 : decode cX0_runOf 11 = .ok (.getfield 98, 3) := dk_180 0 98 (dk_at dksX0_runOf_0 11 rfl rfl)
theorem dX0_runOf_14 : decode cX0_runOf 14 = .ok (.invokeinterface 71 1, 5) := by decide +kernel
theorem dX0_runOf_19 : decode cX0_runOf 19 = .ok (.if_icmp .ge 83, 3) := dk_162 0 83 (dk_at dksX0_runOf_0 19 rfl rfl)
theorem dX0_runOf_22 : decode cX0_runOf 22 = .ok (.aload_n 0, 1) := dk_42 (dk_at dksX0_runOf_0 22 rfl rfl)
theorem dX0_runOf_23 : decode cX0_runOf 23 = .ok (.getfield 98, 3) := dk_180 0 98 (dk_at dksX0_runOf_1 0 rfl rfl)
theorem dX0_runOf_26 : decode cX0_runOf 26 = .ok (.iload 5, 2) := dk_21 5 (dk_at dksX0_runOf_1 3 rfl rfl)
theorem dX0_runOf_28 : decode cX0_runOf 28 = .ok (.invokeinterface 7 2, 5) := by decide +kernel
theorem dX0_runOf_33 : decode cX0_runOf 33 = .ok (.checkcast 76, 3) := dk_192 0 76 (dk_at dksX0_runOf_1 10 rfl rfl)
theorem dX0_runOf_36 : decode cX0_runOf 36 = .ok (.astore 6, 2) := dk_58 6 (dk_at dksX0_runOf_1 13 rfl rfl)
theorem dX0_runOf_38 : decode cX0_runOf 38 = .ok (.aload 6, 2) := dk_25 6 (dk_at dksX0_runOf_1 15 rfl rfl)
theorem dX0_runOf_40 : decode cX0_runOf 40 = .ok (.getfield 377, 3) := dk_180 1 121 (dk_at dksX0_runOf_1 17 rfl rfl)
theorem dX0_runOf_43 : decode cX0_runOf 43 = .ok (.iload_n 1, 1) := dk_27 (dk_at dksX0_runOf_1 20 rfl rfl)
theorem dX0_runOf_44 : decode cX0_runOf 44 = .ok (.if_icmp .ne 52, 3) := dk_160 0 52 (dk_at dksX0_runOf_1 21 rfl rfl)
theorem dX0_runOf_47 : decode cX0_runOf 47 = .ok (.aload 6, 2) := dk_25 6 (dk_at dksX0_runOf_2 0 rfl rfl)
theorem dX0_runOf_49 : decode cX0_runOf 49 = .ok (.getfield 75, 3) := dk_180 0 75 (dk_at dksX0_runOf_2 2 rfl rfl)
theorem dX0_runOf_52 : decode cX0_runOf 52 = .ok (.iload_n 2, 1) := dk_28 (dk_at dksX0_runOf_2 5 rfl rfl)
theorem dX0_runOf_53 : decode cX0_runOf 53 = .ok (.if_icmp .le 6, 3) := dk_164 0 6 (dk_at dksX0_runOf_2 6 rfl rfl)
theorem dX0_runOf_56 : decode cX0_runOf 56 = .ok (.goto 40, 3) := dk_167 0 40 (dk_at dksX0_runOf_2 9 rfl rfl)
theorem dX0_runOf_59 : decode cX0_runOf 59 = .ok (.iload_n 3, 1) := dk_29 (dk_at dksX0_runOf_2 12 rfl rfl)
theorem dX0_runOf_60 : decode cX0_runOf 60 = .ok (.aload 6, 2) := dk_25 6 (dk_at dksX0_runOf_2 13 rfl rfl)
theorem dX0_runOf_62 : decode cX0_runOf 62 = .ok (.getfield 75, 3) := dk_180 0 75 (dk_at dksX0_runOf_2 15 rfl rfl)
theorem dX0_runOf_65 : decode cX0_runOf 65 = .ok (.invokestatic 380, 3) := dk_184 1 124 (dk_at dksX0_runOf_2 18 rfl rfl)
theorem dX0_runOf_68 : decode cX0_runOf 68 = .ok (.istore 7, 2) := dk_54 7 (dk_at dksX0_runOf_2 21 rfl rfl)
theorem dX0_runOf_70 : decode cX0_runOf 70 = .ok (.iload 7, 2) := dk_21 7 (dk_at dksX0_runOf_3 0 rfl rfl)
theorem dX0_runOf_72 : decode cX0_runOf 72 = .ok (.aload 6, 2) := dk_25 6 (dk_at dksX0_runOf_3 2 rfl rfl)
theorem dX0_runOf_74 : decode cX0_runOf 74 = .ok (.getfield 386, 3) := dk_180 1 130 (dk_at dksX0_runOf_3 4 rfl rfl)
theorem dX0_runOf_77 : decode cX0_runOf 77 = .ok (.iadd, 1) := dk_96 (dk_at dksX0_runOf_3 7 rfl rfl)
theorem dX0_runOf_78 : decode cX0_runOf 78 = .ok (.istore_n 3, 1) := dk_62 (dk_at dksX0_runOf_3 8 rfl rfl)
theorem dX0_runOf_79 : decode cX0_runOf 79 = .ok (.iload 4, 2) := dk_21 4 (dk_at dksX0_runOf_3 9 rfl rfl)
theorem dX0_runOf_81 : decode cX0_runOf 81 = .ok (.iconst 0, 1) := dk_3 (dk_at dksX0_runOf_3 11 rfl rfl)
theorem dX0_runOf_82 : decode cX0_runOf 82 = .ok (.iload_n 3, 1) := dk_29 (dk_at dksX0_runOf_3 12 rfl rfl)
theorem dX0_runOf_83 : decode cX0_runOf 83 = .ok (.iload_n 2, 1) := dk_28 (dk_at dksX0_runOf_3 13 rfl rfl)
theorem dX0_runOf_84 : decode cX0_runOf 84 = .ok (.invokestatic 389, 3) := dk_184 1 133 (dk_at dksX0_runOf_3 14 rfl rfl)
theorem dX0_runOf_87 : decode cX0_runOf 87 = .ok (.iload 7, 2) := dk_21 7 (dk_at dksX0_runOf_3 17 rfl rfl)
theorem dX0_runOf_89 : decode cX0_runOf 89 = .ok (.isub, 1) := dk_100 (dk_at dksX0_runOf_3 19 rfl rfl)
theorem dX0_runOf_90 : decode cX0_runOf 90 = .ok (.invokestatic 380, 3) := dk_184 1 124 (dk_at dksX0_runOf_3 20 rfl rfl)
theorem dX0_runOf_93 : decode cX0_runOf 93 = .ok (.iadd, 1) := dk_96 (dk_at dksX0_runOf_3 23 rfl rfl)
theorem dX0_runOf_94 : decode cX0_runOf 94 = .ok (.istore 4, 2) := dk_54 4 (dk_at dksX0_runOf_4 0 rfl rfl)
theorem dX0_runOf_96 : decode cX0_runOf 96 = .ok (.iinc 5 1, 3) := dk_132 5 1 (dk_at dksX0_runOf_4 2 rfl rfl)
theorem dX0_runOf_99 : decode cX0_runOf 99 = .ok (.goto (-91), 3) := dk_167 255 165 (dk_at dksX0_runOf_4 5 rfl rfl)
theorem dX0_runOf_102 : decode cX0_runOf 102 = .ok (.iload 4, 2) := dk_21 4 (dk_at dksX0_runOf_4 8 rfl rfl)
theorem dX0_runOf_104 : decode cX0_runOf 104 = .ok (.ireturn, 1) := dk_172 (dk_at dksX0_runOf_4 10 rfl rfl)
abbrev cX0_meter : ByteArray := prog_1_method_43_code
def yX0_meter : MethodName := ⟨RX0, "meter", "(IIII)I"⟩
def dkwX0_meter_2 : List UInt8 := [16, 15, 163, 0, 7, 4, 167, 0, 4, 3, 172]
abbrev dktX0_meter_2 : List UInt8 := dkwX0_meter_2 ++ []
def dkwX0_meter_1 : List UInt8 := [18, 156, 172, 21, 4, 42, 27, 17, 5, 160, 28, 104, 16, 15, 29, 104, 96, 182, 1, 136, 100, 184, 1, 141]
abbrev dktX0_meter_1 : List UInt8 := dkwX0_meter_1 ++ dktX0_meter_2
def dkwX0_meter_0 : List UInt8 := [27, 28, 29, 16, 96, 184, 1, 109, 153, 0, 16, 21, 4, 133, 9, 20, 1, 139, 184, 0, 143, 154, 0, 6]
abbrev dktX0_meter_0 : List UInt8 := dkwX0_meter_0 ++ dktX0_meter_1
theorem dksX0_meter_0 : cX0_meter.data.toList.drop 0 = dktX0_meter_0 := by decide +kernel
theorem dksX0_meter_1 : cX0_meter.data.toList.drop 24 = dktX0_meter_1 := dk_seg dksX0_meter_0 24 rfl rfl
theorem dksX0_meter_2 : cX0_meter.data.toList.drop 48 = dktX0_meter_2 := dk_seg dksX0_meter_1 24 rfl rfl
theorem dX0_meter_0 : decode cX0_meter 0 = .ok (.iload_n 1, 1) := dk_27 (dk_at dksX0_meter_0 0 rfl rfl)
theorem dX0_meter_1 : decode cX0_meter 1 = .ok (.iload_n 2, 1) := dk_28 (dk_at dksX0_meter_0 1 rfl rfl)
theorem dX0_meter_2 : decode cX0_meter 2 = .ok (.iload_n 3, 1) := dk_29 (dk_at dksX0_meter_0 2 rfl rfl)
theorem dX0_meter_3 : decode cX0_meter 3 = .ok (.bipush 96, 2) := dk_16 96 (dk_at dksX0_meter_0 3 rfl rfl)
theorem dX0_meter_5 : decode cX0_meter 5 = .ok (.invokestatic 365, 3) := dk_184 1 109 (dk_at dksX0_meter_0 5 rfl rfl)
theorem dX0_meter_8 : decode cX0_meter 8 = .ok (.ifCond .eq 16, 3) := dk_153 0 16 (dk_at dksX0_meter_0 8 rfl rfl)
theorem dX0_meter_11 : decode cX0_meter 11 = .ok (.iload 4, 2) := dk_21 4 (dk_at dksX0_meter_0 11 rfl rfl)
theorem dX0_meter_13 : decode cX0_meter 13 = .ok (.i2l, 1) := dk_133 (dk_at dksX0_meter_0 13 rfl rfl)
theorem dX0_meter_14 : decode cX0_meter 14 = .ok (.lconst 0, 1) := dk_9 (dk_at dksX0_meter_0 14 rfl rfl)
theorem dX0_meter_15 : decode cX0_meter 15 = .ok (.ldc2_w 395, 3) := dk_20 1 139 (dk_at dksX0_meter_0 15 rfl rfl)
theorem dX0_meter_18 : decode cX0_meter 18 = .ok (.invokestatic 143, 3) := dk_184 0 143 (dk_at dksX0_meter_0 18 rfl rfl)
theorem dX0_meter_21 : decode cX0_meter 21 = .ok (.ifCond .ne 6, 3) := dk_154 0 6 (dk_at dksX0_meter_0 21 rfl rfl)
theorem dX0_meter_24 : decode cX0_meter 24 = .ok (.ldc 156, 2) := dk_18 156 (dk_at dksX0_meter_1 0 rfl rfl)
theorem dX0_meter_26 : decode cX0_meter 26 = .ok (.ireturn, 1) := dk_172 (dk_at dksX0_meter_1 2 rfl rfl)
theorem dX0_meter_27 : decode cX0_meter 27 = .ok (.iload 4, 2) := dk_21 4 (dk_at dksX0_meter_1 3 rfl rfl)
theorem dX0_meter_29 : decode cX0_meter 29 = .ok (.aload_n 0, 1) := dk_42 (dk_at dksX0_meter_1 5 rfl rfl)
theorem dX0_meter_30 : decode cX0_meter 30 = .ok (.iload_n 1, 1) := dk_27 (dk_at dksX0_meter_1 6 rfl rfl)
theorem dX0_meter_31 : decode cX0_meter 31 = .ok (.sipush 1440, 3) := dk_17 5 160 (dk_at dksX0_meter_1 7 rfl rfl)
theorem dX0_meter_34 : decode cX0_meter 34 = .ok (.iload_n 2, 1) := dk_28 (dk_at dksX0_meter_1 10 rfl rfl)
theorem dX0_meter_35 : decode cX0_meter 35 = .ok (.imul, 1) := dk_104 (dk_at dksX0_meter_1 11 rfl rfl)
theorem dX0_meter_36 : decode cX0_meter 36 = .ok (.bipush 15, 2) := dk_16 15 (dk_at dksX0_meter_1 12 rfl rfl)
theorem dX0_meter_38 : decode cX0_meter 38 = .ok (.iload_n 3, 1) := dk_29 (dk_at dksX0_meter_1 14 rfl rfl)
theorem dX0_meter_39 : decode cX0_meter 39 = .ok (.imul, 1) := dk_104 (dk_at dksX0_meter_1 15 rfl rfl)
theorem dX0_meter_40 : decode cX0_meter 40 = .ok (.iadd, 1) := dk_96 (dk_at dksX0_meter_1 16 rfl rfl)
theorem dX0_meter_41 : decode cX0_meter 41 = .ok (.invokevirtual 392, 3) := dk_182 1 136 (dk_at dksX0_meter_1 17 rfl rfl)
theorem dX0_meter_44 : decode cX0_meter 44 = .ok (.isub, 1) := dk_100 (dk_at dksX0_meter_1 20 rfl rfl)
theorem dX0_meter_45 : decode cX0_meter 45 = .ok (.invokestatic 397, 3) := dk_184 1 141 (dk_at dksX0_meter_1 21 rfl rfl)
theorem dX0_meter_48 : decode cX0_meter 48 = .ok (.bipush 15, 2) := dk_16 15 (dk_at dksX0_meter_2 0 rfl rfl)
theorem dX0_meter_50 : decode cX0_meter 50 = .ok (.if_icmp .gt 7, 3) := dk_163 0 7 (dk_at dksX0_meter_2 2 rfl rfl)
theorem dX0_meter_53 : decode cX0_meter 53 = .ok (.iconst 1, 1) := dk_4 (dk_at dksX0_meter_2 5 rfl rfl)
theorem dX0_meter_54 : decode cX0_meter 54 = .ok (.goto 4, 3) := dk_167 0 4 (dk_at dksX0_meter_2 6 rfl rfl)
theorem dX0_meter_57 : decode cX0_meter 57 = .ok (.iconst 0, 1) := dk_3 (dk_at dksX0_meter_2 9 rfl rfl)
theorem dX0_meter_58 : decode cX0_meter 58 = .ok (.ireturn, 1) := dk_172 (dk_at dksX0_meter_2 10 rfl rfl)
abbrev cX0_give : ByteArray := prog_1_method_46_code
def yX0_give : MethodName := ⟨RX0, "give", "(IIII)I"⟩
def dkwX0_give_3 : List UInt8 := [183, 1, 114, 184, 1, 117, 172]
abbrev dktX0_give_3 : List UInt8 := dkwX0_give_3 ++ []
def dkwX0_give_2 : List UInt8 := [16, 40, 160, 0, 8, 18, 193, 167, 0, 22, 42, 180, 0, 101, 187, 0, 76, 89, 27, 21, 4, 28, 29]
abbrev dktX0_give_2 : List UInt8 := dkwX0_give_2 ++ dktX0_give_3
def dkwX0_give_1 : List UInt8 := [159, 0, 11, 21, 4, 184, 0, 243, 154, 0, 6, 18, 156, 172, 42, 180, 0, 101, 185, 0, 71, 1, 0]
abbrev dktX0_give_1 : List UInt8 := dkwX0_give_1 ++ dktX0_give_2
def dkwX0_give_0 : List UInt8 := [27, 184, 1, 146, 153, 0, 30, 28, 184, 1, 149, 153, 0, 23, 29, 184, 1, 149, 153, 0, 16, 28, 29]
abbrev dktX0_give_0 : List UInt8 := dkwX0_give_0 ++ dktX0_give_1
theorem dksX0_give_0 : cX0_give.data.toList.drop 0 = dktX0_give_0 := by decide +kernel
theorem dksX0_give_1 : cX0_give.data.toList.drop 23 = dktX0_give_1 := dk_seg dksX0_give_0 23 rfl rfl
theorem dksX0_give_2 : cX0_give.data.toList.drop 46 = dktX0_give_2 := dk_seg dksX0_give_1 23 rfl rfl
theorem dksX0_give_3 : cX0_give.data.toList.drop 69 = dktX0_give_3 := dk_seg dksX0_give_2 23 rfl rfl
theorem dX0_give_0 : decode cX0_give 0 = .ok (.iload_n 1, 1) := dk_27 (dk_at dksX0_give_0 0 rfl rfl)
theorem dX0_give_1 : decode cX0_give 1 = .ok (.invokestatic 402, 3) := dk_184 1 146 (dk_at dksX0_give_0 1 rfl rfl)
theorem dX0_give_4 : decode cX0_give 4 = .ok (.ifCond .eq 30, 3) := dk_153 0 30 (dk_at dksX0_give_0 4 rfl rfl)
theorem dX0_give_7 : decode cX0_give 7 = .ok (.iload_n 2, 1) := dk_28 (dk_at dksX0_give_0 7 rfl rfl)
theorem dX0_give_8 : decode cX0_give 8 = .ok (.invokestatic 405, 3) := dk_184 1 149 (dk_at dksX0_give_0 8 rfl rfl)
theorem dX0_give_11 : decode cX0_give 11 = .ok (.ifCond .eq 23, 3) := dk_153 0 23 (dk_at dksX0_give_0 11 rfl rfl)
theorem dX0_give_14 : decode cX0_give 14 = .ok (.iload_n 3, 1) := dk_29 (dk_at dksX0_give_0 14 rfl rfl)
theorem dX0_give_15 : decode cX0_give 15 = .ok (.invokestatic 405, 3) := dk_184 1 149 (dk_at dksX0_give_0 15 rfl rfl)
theorem dX0_give_18 : decode cX0_give 18 = .ok (.ifCond .eq 16, 3) := dk_153 0 16 (dk_at dksX0_give_0 18 rfl rfl)
theorem dX0_give_21 : decode cX0_give 21 = .ok (.iload_n 2, 1) := dk_28 (dk_at dksX0_give_0 21 rfl rfl)
theorem dX0_give_22 : decode cX0_give 22 = .ok (.iload_n 3, 1) := dk_29 (dk_at dksX0_give_0 22 rfl rfl)
theorem dX0_give_23 : decode cX0_give 23 = .ok (.if_icmp .eq 11, 3) := dk_159 0 11 (dk_at dksX0_give_1 0 rfl rfl)
theorem dX0_give_26 : decode cX0_give 26 = .ok (.iload 4, 2) := dk_21 4 (dk_at dksX0_give_1 3 rfl rfl)
theorem dX0_give_28 : decode cX0_give 28 = .ok (.invokestatic 243, 3) := dk_184 0 243 (dk_at dksX0_give_1 5 rfl rfl)
theorem dX0_give_31 : decode cX0_give 31 = .ok (.ifCond .ne 6, 3) := dk_154 0 6 (dk_at dksX0_give_1 8 rfl rfl)
theorem dX0_give_34 : decode cX0_give 34 = .ok (.ldc 156, 2) := dk_18 156 (dk_at dksX0_give_1 11 rfl rfl)
theorem dX0_give_36 : decode cX0_give 36 = .ok (.ireturn, 1) := dk_172 (dk_at dksX0_give_1 13 rfl rfl)
theorem dX0_give_37 : decode cX0_give 37 = .ok (.aload_n 0, 1) := dk_42 (dk_at dksX0_give_1 14 rfl rfl)
theorem dX0_give_38 : decode cX0_give 38 = .ok (.getfield 101, 3) := dk_180 0 101 (dk_at dksX0_give_1 15 rfl rfl)
theorem dX0_give_41 : decode cX0_give 41 = .ok (.invokeinterface 71 1, 5) := by decide +kernel
theorem dX0_give_46 : decode cX0_give 46 = .ok (.bipush 40, 2) := dk_16 40 (dk_at dksX0_give_2 0 rfl rfl)
theorem dX0_give_48 : decode cX0_give 48 = .ok (.if_icmp .ne 8, 3) := dk_160 0 8 (dk_at dksX0_give_2 2 rfl rfl)
theorem dX0_give_51 : decode cX0_give 51 = .ok (.ldc 193, 2) := dk_18 193 (dk_at dksX0_give_2 5 rfl rfl)
theorem dX0_give_53 : decode cX0_give 53 = .ok (.goto 22, 3) := dk_167 0 22 (dk_at dksX0_give_2 7 rfl rfl)
theorem dX0_give_56 : decode cX0_give 56 = .ok (.aload_n 0, 1) := dk_42 (dk_at dksX0_give_2 10 rfl rfl)
theorem dX0_give_57 : decode cX0_give 57 = .ok (.getfield 101, 3) := dk_180 0 101 (dk_at dksX0_give_2 11 rfl rfl)
theorem dX0_give_60 : decode cX0_give 60 = .ok (.new 76, 3) := dk_187 0 76 (dk_at dksX0_give_2 14 rfl rfl)
theorem dX0_give_63 : decode cX0_give 63 = .ok (.dup, 1) := dk_89 (dk_at dksX0_give_2 17 rfl rfl)
theorem dX0_give_64 : decode cX0_give 64 = .ok (.iload_n 1, 1) := dk_27 (dk_at dksX0_give_2 18 rfl rfl)
theorem dX0_give_65 : decode cX0_give 65 = .ok (.iload 4, 2) := dk_21 4 (dk_at dksX0_give_2 19 rfl rfl)
theorem dX0_give_67 : decode cX0_give 67 = .ok (.iload_n 2, 1) := dk_28 (dk_at dksX0_give_2 21 rfl rfl)
theorem dX0_give_68 : decode cX0_give 68 = .ok (.iload_n 3, 1) := dk_29 (dk_at dksX0_give_2 22 rfl rfl)
theorem dX0_give_69 : decode cX0_give 69 = .ok (.invokespecial 370, 3) := dk_183 1 114 (dk_at dksX0_give_3 0 rfl rfl)
theorem dX0_give_72 : decode cX0_give 72 = .ok (.invokestatic 373, 3) := dk_184 1 117 (dk_at dksX0_give_3 3 rfl rfl)
theorem dX0_give_75 : decode cX0_give 75 = .ok (.ireturn, 1) := dk_172 (dk_at dksX0_give_3 6 rfl rfl)
abbrev cX0_isKey : ByteArray := prog_1_method_44_code
def yX0_isKey : MethodName := ⟨RX0, "isKey", "(I)Z"⟩
def dkwX0_isKey_0 : List UInt8 := [26, 133, 9, 20, 0, 220, 184, 0, 143, 172]
abbrev dktX0_isKey_0 : List UInt8 := dkwX0_isKey_0 ++ []
theorem dksX0_isKey_0 : cX0_isKey.data.toList.drop 0 = dktX0_isKey_0 := by decide +kernel
theorem dX0_isKey_0 : decode cX0_isKey 0 = .ok (.iload_n 0, 1) := dk_26 (dk_at dksX0_isKey_0 0 rfl rfl)
theorem dX0_isKey_1 : decode cX0_isKey 1 = .ok (.i2l, 1) := dk_133 (dk_at dksX0_isKey_0 1 rfl rfl)
theorem dX0_isKey_2 : decode cX0_isKey 2 = .ok (.lconst 0, 1) := dk_9 (dk_at dksX0_isKey_0 2 rfl rfl)
theorem dX0_isKey_3 : decode cX0_isKey 3 = .ok (.ldc2_w 220, 3) := dk_20 0 220 (dk_at dksX0_isKey_0 3 rfl rfl)
theorem dX0_isKey_6 : decode cX0_isKey 6 = .ok (.invokestatic 143, 3) := dk_184 0 143 (dk_at dksX0_isKey_0 6 rfl rfl)
theorem dX0_isKey_9 : decode cX0_isKey 9 = .ok (.ireturn, 1) := dk_172 (dk_at dksX0_isKey_0 9 rfl rfl)
abbrev cX0_isPerson : ByteArray := prog_1_method_45_code
def yX0_isPerson : MethodName := ⟨RX0, "isPerson", "(I)Z"⟩
def dkwX0_isPerson_0 : List UInt8 := [26, 133, 9, 20, 1, 144, 184, 0, 143, 172]
abbrev dktX0_isPerson_0 : List UInt8 := dkwX0_isPerson_0 ++ []
theorem dksX0_isPerson_0 : cX0_isPerson.data.toList.drop 0 = dktX0_isPerson_0 := by decide +kernel
theorem dX0_isPerson_0 : decode cX0_isPerson 0 = .ok (.iload_n 0, 1) := dk_26 (dk_at dksX0_isPerson_0 0 rfl rfl)
theorem dX0_isPerson_1 : decode cX0_isPerson 1 = .ok (.i2l, 1) := dk_133 (dk_at dksX0_isPerson_0 1 rfl rfl)
theorem dX0_isPerson_2 : decode cX0_isPerson 2 = .ok (.lconst 0, 1) := dk_9 (dk_at dksX0_isPerson_0 2 rfl rfl)
theorem dX0_isPerson_3 : decode cX0_isPerson 3 = .ok (.ldc2_w 400, 3) := dk_20 1 144 (dk_at dksX0_isPerson_0 3 rfl rfl)
theorem dX0_isPerson_6 : decode cX0_isPerson 6 = .ok (.invokestatic 143, 3) := dk_184 0 143 (dk_at dksX0_isPerson_0 6 rfl rfl)
theorem dX0_isPerson_9 : decode cX0_isPerson 9 = .ok (.ireturn, 1) := dk_172 (dk_at dksX0_isPerson_0 9 rfl rfl)
abbrev cX0_key : ByteArray := prog_1_method_47_code
def yX0_key : MethodName := ⟨RX0, "key", "(III)I"⟩
def dkwX0_key_6 : List UInt8 := [21, 4, 167, 0, 5, 21, 5, 172]
abbrev dktX0_key_6 : List UInt8 := dkwX0_key_6 ++ []
def dkwX0_key_5 : List UInt8 := [132, 5, 1, 167, 0, 10, 25, 7, 180, 1, 152, 54, 4, 132, 6, 1, 167, 255, 160, 29, 154, 0, 8]
abbrev dktX0_key_5 : List UInt8 := dkwX0_key_5 ++ dktX0_key_6
def dkwX0_key_4 : List UInt8 := [159, 0, 6, 167, 0, 33, 21, 4, 18, 19, 159, 0, 19, 21, 4, 25, 7, 180, 1, 130, 159, 0, 9]
abbrev dktX0_key_4 : List UInt8 := dkwX0_key_4 ++ dktX0_key_5
def dkwX0_key_3 : List UInt8 := [42, 180, 0, 101, 21, 6, 185, 0, 7, 2, 0, 192, 0, 76, 58, 7, 25, 7, 180, 1, 121, 27]
abbrev dktX0_key_3 : List UInt8 := dkwX0_key_3 ++ dktX0_key_4
def dkwX0_key_2 : List UInt8 := [162, 0, 88, 42, 180, 0, 101, 21, 6, 185, 0, 7, 2, 0, 192, 0, 76, 180, 0, 75, 28, 163, 0, 67]
abbrev dktX0_key_2 : List UInt8 := dkwX0_key_2 ++ dktX0_key_3
def dkwX0_key_1 : List UInt8 := [18, 156, 172, 18, 19, 54, 4, 3, 54, 5, 3, 54, 6, 21, 6, 42, 180, 0, 101, 185, 0, 71, 1, 0]
abbrev dktX0_key_1 : List UInt8 := dkwX0_key_1 ++ dktX0_key_2
def dkwX0_key_0 : List UInt8 := [27, 184, 1, 146, 153, 0, 20, 28, 184, 0, 243, 153, 0, 13, 29, 133, 9, 10, 184, 0, 143, 154, 0, 6]
abbrev dktX0_key_0 : List UInt8 := dkwX0_key_0 ++ dktX0_key_1
theorem dksX0_key_0 : cX0_key.data.toList.drop 0 = dktX0_key_0 := by decide +kernel
theorem dksX0_key_1 : cX0_key.data.toList.drop 24 = dktX0_key_1 := dk_seg dksX0_key_0 24 rfl rfl
theorem dksX0_key_2 : cX0_key.data.toList.drop 48 = dktX0_key_2 := dk_seg dksX0_key_1 24 rfl rfl
theorem dksX0_key_3 : cX0_key.data.toList.drop 72 = dktX0_key_3 := dk_seg dksX0_key_2 24 rfl rfl
theorem dksX0_key_4 : cX0_key.data.toList.drop 94 = dktX0_key_4 := dk_seg dksX0_key_3 22 rfl rfl
theorem dksX0_key_5 : cX0_key.data.toList.drop 117 = dktX0_key_5 := dk_seg dksX0_key_4 23 rfl rfl
theorem dksX0_key_6 : cX0_key.data.toList.drop 140 = dktX0_key_6 := dk_seg dksX0_key_5 23 rfl rfl
theorem dX0_key_0 : decode cX0_key 0 = .ok (.iload_n 1, 1) := dk_27 (dk_at dksX0_key_0 0 rfl rfl)
theorem dX0_key_1 : decode cX0_key 1 = .ok (.invokestatic 402, 3) := dk_184 1 146 (dk_at dksX0_key_0 1 rfl rfl)
theorem dX0_key_4 : decode cX0_key 4 = .ok (.ifCond .eq 20, 3) := dk_153 0 20 (dk_at dksX0_key_0 4 rfl rfl)
theorem dX0_key_7 : decode cX0_key 7 = .ok (.iload_n 2, 1) := dk_28 (dk_at dksX0_key_0 7 rfl rfl)
theorem dX0_key_8 : decode cX0_key 8 = .ok (.invokestatic 243, 3) := dk_184 0 243 (dk_at dksX0_key_0 8 rfl rfl)
theorem dX0_key_11 : decode cX0_key 11 = .ok (.ifCond .eq 13, 3) := dk_153 0 13 (dk_at dksX0_key_0 11 rfl rfl)
theorem dX0_key_14 : decode cX0_key 14 = .ok (.iload_n 3, 1) := dk_29 (dk_at dksX0_key_0 14 rfl rfl)
theorem dX0_key_15 : decode cX0_key 15 = .ok (.i2l, 1) := dk_133 (dk_at dksX0_key_0 15 rfl rfl)
theorem dX0_key_16 : decode cX0_key 16 = .ok (.lconst 0, 1) := dk_9 (dk_at dksX0_key_0 16 rfl rfl)
theorem dX0_key_17 : decode cX0_key 17 = .ok (.lconst 1, 1) := dk_10 (dk_at dksX0_key_0 17 rfl rfl)
theorem dX0_key_18 : decode cX0_key 18 = .ok (.invokestatic 143, 3) := dk_184 0 143 (dk_at dksX0_key_0 18 rfl rfl)
theorem dX0_key_21 : decode cX0_key 21 = .ok (.ifCond .ne 6, 3) := dk_154 0 6 (dk_at dksX0_key_0 21 rfl rfl)
theorem dX0_key_24 : decode cX0_key 24 = .ok (.ldc 156, 2) := dk_18 156 (dk_at dksX0_key_1 0 rfl rfl)
theorem dX0_key_26 : decode cX0_key 26 = .ok (.ireturn, 1) := dk_172 (dk_at dksX0_key_1 2 rfl rfl)
theorem dX0_key_27 : decode cX0_key 27 = .ok (.ldc 19, 2) := dk_18 19 (dk_at dksX0_key_1 3 rfl rfl)
theorem dX0_key_29 : decode cX0_key 29 = .ok (.istore 4, 2) := dk_54 4 (dk_at dksX0_key_1 5 rfl rfl)
theorem dX0_key_31 : decode cX0_key 31 = .ok (.iconst 0, 1) := dk_3 (dk_at dksX0_key_1 7 rfl rfl)
theorem dX0_key_32 : decode cX0_key 32 = .ok (.istore 5, 2) := dk_54 5 (dk_at dksX0_key_1 8 rfl rfl)
theorem dX0_key_34 : decode cX0_key 34 = .ok (.iconst 0, 1) := dk_3 (dk_at dksX0_key_1 10 rfl rfl)
theorem dX0_key_35 : decode cX0_key 35 = .ok (.istore 6, 2) := dk_54 6 (dk_at dksX0_key_1 11 rfl rfl)
theorem dX0_key_37 : decode cX0_key 37 = .ok (.iload 6, 2) := dk_21 6 (dk_at dksX0_key_1 13 rfl rfl)
theorem dX0_key_39 : decode cX0_key 39 = .ok (.aload_n 0, 1) := dk_42 (dk_at dksX0_key_1 15 rfl rfl)
theorem dX0_key_40 : decode cX0_key 40 = .ok (.getfield 101, 3) := dk_180 0 101 (dk_at dksX0_key_1 16 rfl rfl)
theorem dX0_key_43 : decode cX0_key 43 = .ok (.invokeinterface 71 1, 5) := by decide +kernel
theorem dX0_key_48 : decode cX0_key 48 = .ok (.if_icmp .ge 88, 3) := dk_162 0 88 (dk_at dksX0_key_2 0 rfl rfl)
theorem dX0_key_51 : decode cX0_key 51 = .ok (.aload_n 0, 1) := dk_42 (dk_at dksX0_key_2 3 rfl rfl)
theorem dX0_key_52 : decode cX0_key 52 = .ok (.getfield 101, 3) := dk_180 0 101 (dk_at dksX0_key_2 4 rfl rfl)
theorem dX0_key_55 : decode cX0_key 55 = .ok (.iload 6, 2) := dk_21 6 (dk_at dksX0_key_2 7 rfl rfl)
theorem dX0_key_57 : decode cX0_key 57 = .ok (.invokeinterface 7 2, 5) := by decide +kernel
theorem dX0_key_62 : decode cX0_key 62 = .ok (.checkcast 76, 3) := dk_192 0 76 (dk_at dksX0_key_2 14 rfl rfl)
theorem dX0_key_65 : decode cX0_key 65 = .ok (.getfield 75, 3) := dk_180 0 75 (dk_at dksX0_key_2 17 rfl rfl)
theorem dX0_key_68 : decode cX0_key 68 = .ok (.iload_n 2, 1) := dk_28 (dk_at dksX0_key_2 20 rfl rfl)
theorem dX0_key_69 : decode cX0_key 69 = .ok (.if_icmp .gt 67, 3) := dk_163 0 67 (dk_at dksX0_key_2 21 rfl rfl)
theorem dX0_key_72 : decode cX0_key 72 = .ok (.aload_n 0, 1) := dk_42 (dk_at dksX0_key_3 0 rfl rfl)
theorem dX0_key_73 : decode cX0_key 73 = .ok (.getfield 101, 3) := dk_180 0 101 (dk_at dksX0_key_3 1 rfl rfl)
theorem dX0_key_76 : decode cX0_key 76 = .ok (.iload 6, 2) := dk_21 6 (dk_at dksX0_key_3 4 rfl rfl)
theorem dX0_key_78 : decode cX0_key 78 = .ok (.invokeinterface 7 2, 5) := by decide +kernel
theorem dX0_key_83 : decode cX0_key 83 = .ok (.checkcast 76, 3) := dk_192 0 76 (dk_at dksX0_key_3 11 rfl rfl)
theorem dX0_key_86 : decode cX0_key 86 = .ok (.astore 7, 2) := dk_58 7 (dk_at dksX0_key_3 14 rfl rfl)
theorem dX0_key_88 : decode cX0_key 88 = .ok (.aload 7, 2) := dk_25 7 (dk_at dksX0_key_3 16 rfl rfl)
theorem dX0_key_90 : decode cX0_key 90 = .ok (.getfield 377, 3) := dk_180 1 121 (dk_at dksX0_key_3 18 rfl rfl)
theorem dX0_key_93 : decode cX0_key 93 = .ok (.iload_n 1, 1) := dk_27 (dk_at dksX0_key_3 21 rfl rfl)
theorem dX0_key_94 : decode cX0_key 94 = .ok (.if_icmp .eq 6, 3) := dk_159 0 6 (dk_at dksX0_key_4 0 rfl rfl)
theorem dX0_key_97 : decode cX0_key 97 = .ok (.goto 33, 3) := dk_167 0 33 (dk_at dksX0_key_4 3 rfl rfl)
theorem dX0_key_100 : decode cX0_key 100 = .ok (.iload 4, 2) := dk_21 4 (dk_at dksX0_key_4 6 rfl rfl)
theorem dX0_key_102 : decode cX0_key 102 = .ok (.ldc 19, 2) := dk_18 19 (dk_at dksX0_key_4 8 rfl rfl)
theorem dX0_key_104 : decode cX0_key 104 = .ok (.if_icmp .eq 19, 3) := dk_159 0 19 (dk_at dksX0_key_4 10 rfl rfl)
theorem dX0_key_107 : decode cX0_key 107 = .ok (.iload 4, 2) := dk_21 4 (dk_at dksX0_key_4 13 rfl rfl)
theorem dX0_key_109 : decode cX0_key 109 = .ok (.aload 7, 2) := dk_25 7 (dk_at dksX0_key_4 15 rfl rfl)
theorem dX0_key_111 : decode cX0_key 111 = .ok (.getfield 386, 3) := dk_180 1 130 (dk_at dksX0_key_4 17 rfl rfl)
theorem dX0_key_114 : decode cX0_key 114 = .ok (.if_icmp .eq 9, 3) := dk_159 0 9 (dk_at dksX0_key_4 20 rfl rfl)
theorem dX0_key_117 : decode cX0_key 117 = .ok (.iinc 5 1, 3) := dk_132 5 1 (dk_at dksX0_key_5 0 rfl rfl)
theorem dX0_key_120 : decode cX0_key 120 = .ok (.goto 10, 3) := dk_167 0 10 (dk_at dksX0_key_5 3 rfl rfl)
theorem dX0_key_123 : decode cX0_key 123 = .ok (.aload 7, 2) := dk_25 7 (dk_at dksX0_key_5 6 rfl rfl)
theorem dX0_key_125 : decode cX0_key 125 = .ok (.getfield 408, 3) := dk_180 1 152 (dk_at dksX0_key_5 8 rfl rfl)
theorem dX0_key_128 : decode cX0_key 128 = .ok (.istore 4, 2) := dk_54 4 (dk_at dksX0_key_5 11 rfl rfl)
theorem dX0_key_130 : decode cX0_key 130 = .ok (.iinc 6 1, 3) := dk_132 6 1 (dk_at dksX0_key_5 13 rfl rfl)
theorem dX0_key_133 : decode cX0_key 133 = .ok (.goto (-96), 3) := dk_167 255 160 (dk_at dksX0_key_5 16 rfl rfl)
theorem dX0_key_136 : decode cX0_key 136 = .ok (.iload_n 3, 1) := dk_29 (dk_at dksX0_key_5 19 rfl rfl)
theorem dX0_key_137 : decode cX0_key 137 = .ok (.ifCond .ne 8, 3) := dk_154 0 8 (dk_at dksX0_key_5 20 rfl rfl)
theorem dX0_key_140 : decode cX0_key 140 = .ok (.iload 4, 2) := dk_21 4 (dk_at dksX0_key_6 0 rfl rfl)
theorem dX0_key_142 : decode cX0_key 142 = .ok (.goto 5, 3) := dk_167 0 5 (dk_at dksX0_key_6 2 rfl rfl)
theorem dX0_key_145 : decode cX0_key 145 = .ok (.iload 5, 2) := dk_21 5 (dk_at dksX0_key_6 5 rfl rfl)
theorem dX0_key_147 : decode cX0_key 147 = .ok (.ireturn, 1) := dk_172 (dk_at dksX0_key_6 7 rfl rfl)
abbrev cX0_look : ByteArray := prog_1_method_48_code
def yX0_look : MethodName := ⟨RX0, "look", "(IIII)I"⟩
def dkwX0_look_2 : List UInt8 := [180, 0, 104, 187, 0, 76, 89, 27, 16, 96, 28, 104, 29, 96, 21, 4, 3, 183, 1, 114, 184, 1, 117, 172]
abbrev dktX0_look_2 : List UInt8 := dkwX0_look_2 ++ []
def dkwX0_look_1 : List UInt8 := [18, 156, 172, 42, 180, 0, 104, 185, 0, 71, 1, 0, 16, 40, 160, 0, 8, 18, 193, 167, 0, 27, 42]
abbrev dktX0_look_1 : List UInt8 := dkwX0_look_1 ++ dktX0_look_2
def dkwX0_look_0 : List UInt8 := [27, 28, 29, 16, 95, 184, 1, 109, 153, 0, 16, 21, 4, 133, 9, 20, 1, 155, 184, 0, 143, 154, 0, 6]
abbrev dktX0_look_0 : List UInt8 := dkwX0_look_0 ++ dktX0_look_1
theorem dksX0_look_0 : cX0_look.data.toList.drop 0 = dktX0_look_0 := by decide +kernel
theorem dksX0_look_1 : cX0_look.data.toList.drop 24 = dktX0_look_1 := dk_seg dksX0_look_0 24 rfl rfl
theorem dksX0_look_2 : cX0_look.data.toList.drop 47 = dktX0_look_2 := dk_seg dksX0_look_1 23 rfl rfl
theorem dX0_look_0 : decode cX0_look 0 = .ok (.iload_n 1, 1) := dk_27 (dk_at dksX0_look_0 0 rfl rfl)
theorem dX0_look_1 : decode cX0_look 1 = .ok (.iload_n 2, 1) := dk_28 (dk_at dksX0_look_0 1 rfl rfl)
theorem dX0_look_2 : decode cX0_look 2 = .ok (.iload_n 3, 1) := dk_29 (dk_at dksX0_look_0 2 rfl rfl)
theorem dX0_look_3 : decode cX0_look 3 = .ok (.bipush 95, 2) := dk_16 95 (dk_at dksX0_look_0 3 rfl rfl)
theorem dX0_look_5 : decode cX0_look 5 = .ok (.invokestatic 365, 3) := dk_184 1 109 (dk_at dksX0_look_0 5 rfl rfl)
theorem dX0_look_8 : decode cX0_look 8 = .ok (.ifCond .eq 16, 3) := dk_153 0 16 (dk_at dksX0_look_0 8 rfl rfl)
theorem dX0_look_11 : decode cX0_look 11 = .ok (.iload 4, 2) := dk_21 4 (dk_at dksX0_look_0 11 rfl rfl)
theorem dX0_look_13 : decode cX0_look 13 = .ok (.i2l, 1) := dk_133 (dk_at dksX0_look_0 13 rfl rfl)
theorem dX0_look_14 : decode cX0_look 14 = .ok (.lconst 0, 1) := dk_9 (dk_at dksX0_look_0 14 rfl rfl)
theorem dX0_look_15 : decode cX0_look 15 = .ok (.ldc2_w 411, 3) := dk_20 1 155 (dk_at dksX0_look_0 15 rfl rfl)
theorem dX0_look_18 : decode cX0_look 18 = .ok (.invokestatic 143, 3) := dk_184 0 143 (dk_at dksX0_look_0 18 rfl rfl)
theorem dX0_look_21 : decode cX0_look 21 = .ok (.ifCond .ne 6, 3) := dk_154 0 6 (dk_at dksX0_look_0 21 rfl rfl)
theorem dX0_look_24 : decode cX0_look 24 = .ok (.ldc 156, 2) := dk_18 156 (dk_at dksX0_look_1 0 rfl rfl)
theorem dX0_look_26 : decode cX0_look 26 = .ok (.ireturn, 1) := dk_172 (dk_at dksX0_look_1 2 rfl rfl)
theorem dX0_look_27 : decode cX0_look 27 = .ok (.aload_n 0, 1) := dk_42 (dk_at dksX0_look_1 3 rfl rfl)
theorem dX0_look_28 : decode cX0_look 28 = .ok (.getfield 104, 3) := dk_180 0 104 (dk_at dksX0_look_1 4 rfl rfl)
theorem dX0_look_31 : decode cX0_look 31 = .ok (.invokeinterface 71 1, 5) := by decide +kernel
theorem dX0_look_36 : decode cX0_look 36 = .ok (.bipush 40, 2) := dk_16 40 (dk_at dksX0_look_1 12 rfl rfl)
theorem dX0_look_38 : decode cX0_look 38 = .ok (.if_icmp .ne 8, 3) := dk_160 0 8 (dk_at dksX0_look_1 14 rfl rfl)
theorem dX0_look_41 : decode cX0_look 41 = .ok (.ldc 193, 2) := dk_18 193 (dk_at dksX0_look_1 17 rfl rfl)
theorem dX0_look_43 : decode cX0_look 43 = .ok (.goto 27, 3) := dk_167 0 27 (dk_at dksX0_look_1 19 rfl rfl)
theorem dX0_look_46 : decode cX0_look 46 = .ok (.aload_n 0, 1) := dk_42 (dk_at dksX0_look_1 22 rfl rfl)
theorem dX0_look_47 : decode cX0_look 47 = .ok (.getfield 104, 3) := dk_180 0 104 (dk_at dksX0_look_2 0 rfl rfl)
theorem dX0_look_50 : decode cX0_look 50 = .ok (.new 76, 3) := dk_187 0 76 (dk_at dksX0_look_2 3 rfl rfl)
theorem dX0_look_53 : decode cX0_look 53 = .ok (.dup, 1) := dk_89 (dk_at dksX0_look_2 6 rfl rfl)
theorem dX0_look_54 : decode cX0_look 54 = .ok (.iload_n 1, 1) := dk_27 (dk_at dksX0_look_2 7 rfl rfl)
theorem dX0_look_55 : decode cX0_look 55 = .ok (.bipush 96, 2) := dk_16 96 (dk_at dksX0_look_2 8 rfl rfl)
theorem dX0_look_57 : decode cX0_look 57 = .ok (.iload_n 2, 1) := dk_28 (dk_at dksX0_look_2 10 rfl rfl)
theorem dX0_look_58 : decode cX0_look 58 = .ok (.imul, 1) := dk_104 (dk_at dksX0_look_2 11 rfl rfl)
theorem dX0_look_59 : decode cX0_look 59 = .ok (.iload_n 3, 1) := dk_29 (dk_at dksX0_look_2 12 rfl rfl)
theorem dX0_look_60 : decode cX0_look 60 = .ok (.iadd, 1) := dk_96 (dk_at dksX0_look_2 13 rfl rfl)
theorem dX0_look_61 : decode cX0_look 61 = .ok (.iload 4, 2) := dk_21 4 (dk_at dksX0_look_2 14 rfl rfl)
theorem dX0_look_63 : decode cX0_look 63 = .ok (.iconst 0, 1) := dk_3 (dk_at dksX0_look_2 16 rfl rfl)
theorem dX0_look_64 : decode cX0_look 64 = .ok (.invokespecial 370, 3) := dk_183 1 114 (dk_at dksX0_look_2 17 rfl rfl)
theorem dX0_look_67 : decode cX0_look 67 = .ok (.invokestatic 373, 3) := dk_184 1 117 (dk_at dksX0_look_2 20 rfl rfl)
theorem dX0_look_70 : decode cX0_look 70 = .ok (.ireturn, 1) := dk_172 (dk_at dksX0_look_2 23 rfl rfl)
abbrev cX0_home : ByteArray := prog_1_method_49_code
def yX0_home : MethodName := ⟨RX0, "home", "(II)I"⟩
def dkwX0_home_11 : List UInt8 := [21, 7, 54, 6, 132, 7, 1, 167, 255, 150, 21, 6, 172]
abbrev dktX0_home_11 : List UInt8 := dkwX0_home_11 ++ []
def dkwX0_home_10 : List UInt8 := [25, 8, 180, 1, 22, 96, 29, 163, 0, 6, 167, 0, 17, 21, 6, 18, 19, 159, 0, 6, 18, 19, 172]
abbrev dktX0_home_10 : List UInt8 := dkwX0_home_10 ++ dktX0_home_11
def dkwX0_home_9 : List UInt8 := [180, 1, 18, 104, 25, 8, 180, 1, 25, 96, 21, 4, 162, 0, 38, 16, 96, 25, 8, 180, 1, 18, 104]
abbrev dktX0_home_9 : List UInt8 := dkwX0_home_9 ++ dktX0_home_10
def dkwX0_home_8 : List UInt8 := [21, 5, 21, 7, 122, 4, 126, 153, 0, 66, 25, 8, 180, 0, 37, 27, 160, 0, 57, 16, 96, 25, 8]
abbrev dktX0_home_8 : List UInt8 := dkwX0_home_8 ++ dktX0_home_9
def dkwX0_home_7 : List UInt8 := [185, 0, 71, 1, 0, 162, 0, 98, 42, 180, 0, 1, 21, 7, 185, 0, 7, 2, 0, 192, 0, 13, 58, 8]
abbrev dktX0_home_7 : List UInt8 := dkwX0_home_7 ++ dktX0_home_8
def dkwX0_home_6 : List UInt8 := [17, 1, 108, 182, 0, 29, 54, 5, 18, 19, 54, 6, 3, 54, 7, 21, 7, 42, 180, 0, 1]
abbrev dktX0_home_6 : List UInt8 := dkwX0_home_6 ++ dktX0_home_7
def dkwX0_home_5 : List UInt8 := [18, 19, 159, 0, 16, 21, 4, 18, 19, 159, 0, 9, 29, 21, 4, 160, 0, 6, 18, 19, 172, 42]
abbrev dktX0_home_5 : List UInt8 := dkwX0_home_5 ++ dktX0_home_6
def dkwX0_home_4 : List UInt8 := [25, 6, 180, 0, 75, 54, 4, 167, 0, 9, 25, 6, 180, 0, 75, 62, 132, 5, 1, 167, 255, 175, 29]
abbrev dktX0_home_4 : List UInt8 := dkwX0_home_4 ++ dktX0_home_5
def dkwX0_home_3 : List UInt8 := [180, 1, 121, 27, 159, 0, 6, 167, 0, 32, 25, 6, 180, 1, 130, 28, 122, 4, 126, 4, 160, 0, 13]
abbrev dktX0_home_3 : List UInt8 := dkwX0_home_3 ++ dktX0_home_4
def dkwX0_home_2 : List UInt8 := [18, 19, 160, 0, 66, 42, 180, 0, 104, 21, 5, 185, 0, 7, 2, 0, 192, 0, 76, 58, 6, 25, 6]
abbrev dktX0_home_2 : List UInt8 := dkwX0_home_2 ++ dktX0_home_3
def dkwX0_home_1 : List UInt8 := [62, 18, 19, 54, 4, 3, 54, 5, 21, 5, 42, 180, 0, 104, 185, 0, 71, 1, 0, 162, 0, 73, 21, 4]
abbrev dktX0_home_1 : List UInt8 := dkwX0_home_1 ++ dktX0_home_2
def dkwX0_home_0 : List UInt8 := [27, 184, 0, 222, 153, 0, 15, 28, 133, 9, 20, 0, 141, 184, 0, 143, 154, 0, 6, 18, 156, 172, 18, 19]
abbrev dktX0_home_0 : List UInt8 := dkwX0_home_0 ++ dktX0_home_1
theorem dksX0_home_0 : cX0_home.data.toList.drop 0 = dktX0_home_0 := by decide +kernel
theorem dksX0_home_1 : cX0_home.data.toList.drop 24 = dktX0_home_1 := dk_seg dksX0_home_0 24 rfl rfl
theorem dksX0_home_2 : cX0_home.data.toList.drop 48 = dktX0_home_2 := dk_seg dksX0_home_1 24 rfl rfl
theorem dksX0_home_3 : cX0_home.data.toList.drop 71 = dktX0_home_3 := dk_seg dksX0_home_2 23 rfl rfl
theorem dksX0_home_4 : cX0_home.data.toList.drop 94 = dktX0_home_4 := dk_seg dksX0_home_3 23 rfl rfl
theorem dksX0_home_5 : cX0_home.data.toList.drop 117 = dktX0_home_5 := dk_seg dksX0_home_4 23 rfl rfl
theorem dksX0_home_6 : cX0_home.data.toList.drop 139 = dktX0_home_6 := dk_seg dksX0_home_5 22 rfl rfl
theorem dksX0_home_7 : cX0_home.data.toList.drop 160 = dktX0_home_7 := dk_seg dksX0_home_6 21 rfl rfl
theorem dksX0_home_8 : cX0_home.data.toList.drop 184 = dktX0_home_8 := dk_seg dksX0_home_7 24 rfl rfl
theorem dksX0_home_9 : cX0_home.data.toList.drop 207 = dktX0_home_9 := dk_seg dksX0_home_8 23 rfl rfl
theorem dksX0_home_10 : cX0_home.data.toList.drop 230 = dktX0_home_10 := dk_seg dksX0_home_9 23 rfl rfl
theorem dksX0_home_11 : cX0_home.data.toList.drop 253 = dktX0_home_11 := dk_seg dksX0_home_10 23 rfl rfl
theorem dX0_home_0 : decode cX0_home 0 = .ok (.iload_n 1, 1) := dk_27 (dk_at dksX0_home_0 0 rfl rfl)
theorem dX0_home_1 : decode cX0_home 1 = .ok (.invokestatic 222, 3) := dk_184 0 222 (dk_at dksX0_home_0 1 rfl rfl)
theorem dX0_home_4 : decode cX0_home 4 = .ok (.ifCond .eq 15, 3) := dk_153 0 15 (dk_at dksX0_home_0 4 rfl rfl)
theorem dX0_home_7 : decode cX0_home 7 = .ok (.iload_n 2, 1) := dk_28 (dk_at dksX0_home_0 7 rfl rfl)
theorem dX0_home_8 : decode cX0_home 8 = .ok (.i2l, 1) := dk_133 (dk_at dksX0_home_0 8 rfl rfl)
theorem dX0_home_9 : decode cX0_home 9 = .ok (.lconst 0, 1) := dk_9 (dk_at dksX0_home_0 9 rfl rfl)
theorem dX0_home_10 : decode cX0_home 10 = .ok (.ldc2_w 141, 3) := dk_20 0 141 (dk_at dksX0_home_0 10 rfl rfl)
theorem dX0_home_13 : decode cX0_home 13 = .ok (.invokestatic 143, 3) := dk_184 0 143 (dk_at dksX0_home_0 13 rfl rfl)
theorem dX0_home_16 : decode cX0_home 16 = .ok (.ifCond .ne 6, 3) := dk_154 0 6 (dk_at dksX0_home_0 16 rfl rfl)
theorem dX0_home_19 : decode cX0_home 19 = .ok (.ldc 156, 2) := dk_18 156 (dk_at dksX0_home_0 19 rfl rfl)
theorem dX0_home_21 : decode cX0_home 21 = .ok (.ireturn, 1) := dk_172 (dk_at dksX0_home_0 21 rfl rfl)
theorem dX0_home_22 : decode cX0_home 22 = .ok (.ldc 19, 2) := dk_18 19 (dk_at dksX0_home_0 22 rfl rfl)
theorem dX0_home_24 : decode cX0_home 24 = .ok (.istore_n 3, 1) := dk_62 (dk_at dksX0_home_1 0 rfl rfl)
theorem dX0_home_25 : decode cX0_home 25 = .ok (.ldc 19, 2) := dk_18 19 (dk_at dksX0_home_1 1 rfl rfl)
theorem dX0_home_27 : decode cX0_home 27 = .ok (.istore 4, 2) := dk_54 4 (dk_at dksX0_home_1 3 rfl rfl)
theorem dX0_home_29 : decode cX0_home 29 = .ok (.iconst 0, 1) := dk_3 (dk_at dksX0_home_1 5 rfl rfl)
theorem dX0_home_30 : decode cX0_home 30 = .ok (.istore 5, 2) := dk_54 5 (dk_at dksX0_home_1 6 rfl rfl)
theorem dX0_home_32 : decode cX0_home 32 = .ok (.iload 5, 2) := dk_21 5 (dk_at dksX0_home_1 8 rfl rfl)
theorem dX0_home_34 : decode cX0_home 34 = .ok (.aload_n 0, 1) := dk_42 (dk_at dksX0_home_1 10 rfl rfl)
theorem dX0_home_35 : decode cX0_home 35 = .ok (.getfield 104, 3) := dk_180 0 104 (dk_at dksX0_home_1 11 rfl rfl)
theorem dX0_home_38 : decode cX0_home 38 = .ok (.invokeinterface 71 1, 5) := by decide +kernel
theorem dX0_home_43 : decode cX0_home 43 = .ok (.if_icmp .ge 73, 3) := dk_162 0 73 (dk_at dksX0_home_1 19 rfl rfl)
theorem dX0_home_46 : decode cX0_home 46 = .ok (.iload 4, 2) := dk_21 4 (dk_at dksX0_home_1 22 rfl rfl)
theorem dX0_home_48 : decode cX0_home 48 = .ok (.ldc 19, 2) := dk_18 19 (dk_at dksX0_home_2 0 rfl rfl)
theorem dX0_home_50 : decode cX0_home 50 = .ok (.if_icmp .ne 66, 3) := dk_160 0 66 (dk_at dksX0_home_2 2 rfl rfl)
theorem dX0_home_53 : decode cX0_home 53 = .ok (.aload_n 0, 1) := dk_42 (dk_at dksX0_home_2 5 rfl rfl)
theorem dX0_home_54 : decode cX0_home 54 = .ok (.getfield 104, 3) := dk_180 0 104 (dk_at dksX0_home_2 6 rfl rfl)
theorem dX0_home_57 : decode cX0_home 57 = .ok (.iload 5, 2) := dk_21 5 (dk_at dksX0_home_2 9 rfl rfl)
theorem dX0_home_59 : decode cX0_home 59 = .ok (.invokeinterface 7 2, 5) := by decide +kernel
theorem dX0_home_64 : decode cX0_home 64 = .ok (.checkcast 76, 3) := dk_192 0 76 (dk_at dksX0_home_2 16 rfl rfl)
theorem dX0_home_67 : decode cX0_home 67 = .ok (.astore 6, 2) := dk_58 6 (dk_at dksX0_home_2 19 rfl rfl)
theorem dX0_home_69 : decode cX0_home 69 = .ok (.aload 6, 2) := dk_25 6 (dk_at dksX0_home_2 21 rfl rfl)
theorem dX0_home_71 : decode cX0_home 71 = .ok (.getfield 377, 3) := dk_180 1 121 (dk_at dksX0_home_3 0 rfl rfl)
theorem dX0_home_74 : decode cX0_home 74 = .ok (.iload_n 1, 1) := dk_27 (dk_at dksX0_home_3 3 rfl rfl)
theorem dX0_home_75 : decode cX0_home 75 = .ok (.if_icmp .eq 6, 3) := dk_159 0 6 (dk_at dksX0_home_3 4 rfl rfl)
theorem dX0_home_78 : decode cX0_home 78 = .ok (.goto 32, 3) := dk_167 0 32 (dk_at dksX0_home_3 7 rfl rfl)
theorem dX0_home_81 : decode cX0_home 81 = .ok (.aload 6, 2) := dk_25 6 (dk_at dksX0_home_3 10 rfl rfl)
theorem dX0_home_83 : decode cX0_home 83 = .ok (.getfield 386, 3) := dk_180 1 130 (dk_at dksX0_home_3 12 rfl rfl)
theorem dX0_home_86 : decode cX0_home 86 = .ok (.iload_n 2, 1) := dk_28 (dk_at dksX0_home_3 15 rfl rfl)
theorem dX0_home_87 : decode cX0_home 87 = .ok (.ishr, 1) := dk_122 (dk_at dksX0_home_3 16 rfl rfl)
theorem dX0_home_88 : decode cX0_home 88 = .ok (.iconst 1, 1) := dk_4 (dk_at dksX0_home_3 17 rfl rfl)
theorem dX0_home_89 : decode cX0_home 89 = .ok (.iand, 1) := dk_126 (dk_at dksX0_home_3 18 rfl rfl)
theorem dX0_home_90 : decode cX0_home 90 = .ok (.iconst 1, 1) := dk_4 (dk_at dksX0_home_3 19 rfl rfl)
theorem dX0_home_91 : decode cX0_home 91 = .ok (.if_icmp .ne 13, 3) := dk_160 0 13 (dk_at dksX0_home_3 20 rfl rfl)
theorem dX0_home_94 : decode cX0_home 94 = .ok (.aload 6, 2) := dk_25 6 (dk_at dksX0_home_4 0 rfl rfl)
theorem dX0_home_96 : decode cX0_home 96 = .ok (.getfield 75, 3) := dk_180 0 75 (dk_at dksX0_home_4 2 rfl rfl)
theorem dX0_home_99 : decode cX0_home 99 = .ok (.istore 4, 2) := dk_54 4 (dk_at dksX0_home_4 5 rfl rfl)
theorem dX0_home_101 : decode cX0_home 101 = .ok (.goto 9, 3) := dk_167 0 9 (dk_at dksX0_home_4 7 rfl rfl)
theorem dX0_home_104 : decode cX0_home 104 = .ok (.aload 6, 2) := dk_25 6 (dk_at dksX0_home_4 10 rfl rfl)
theorem dX0_home_106 : decode cX0_home 106 = .ok (.getfield 75, 3) := dk_180 0 75 (dk_at dksX0_home_4 12 rfl rfl)
theorem dX0_home_109 : decode cX0_home 109 = .ok (.istore_n 3, 1) := dk_62 (dk_at dksX0_home_4 15 rfl rfl)
theorem dX0_home_110 : decode cX0_home 110 = .ok (.iinc 5 1, 3) := dk_132 5 1 (dk_at dksX0_home_4 16 rfl rfl)
theorem dX0_home_113 : decode cX0_home 113 = .ok (.goto (-81), 3) := dk_167 255 175 (dk_at dksX0_home_4 19 rfl rfl)
theorem dX0_home_116 : decode cX0_home 116 = .ok (.iload_n 3, 1) := dk_29 (dk_at dksX0_home_4 22 rfl rfl)
theorem dX0_home_117 : decode cX0_home 117 = .ok (.ldc 19, 2) := dk_18 19 (dk_at dksX0_home_5 0 rfl rfl)
theorem dX0_home_119 : decode cX0_home 119 = .ok (.if_icmp .eq 16, 3) := dk_159 0 16 (dk_at dksX0_home_5 2 rfl rfl)
theorem dX0_home_122 : decode cX0_home 122 = .ok (.iload 4, 2) := dk_21 4 (dk_at dksX0_home_5 5 rfl rfl)
theorem dX0_home_124 : decode cX0_home 124 = .ok (.ldc 19, 2) := dk_18 19 (dk_at dksX0_home_5 7 rfl rfl)
theorem dX0_home_126 : decode cX0_home 126 = .ok (.if_icmp .eq 9, 3) := dk_159 0 9 (dk_at dksX0_home_5 9 rfl rfl)
theorem dX0_home_129 : decode cX0_home 129 = .ok (.iload_n 3, 1) := dk_29 (dk_at dksX0_home_5 12 rfl rfl)
theorem dX0_home_130 : decode cX0_home 130 = .ok (.iload 4, 2) := dk_21 4 (dk_at dksX0_home_5 13 rfl rfl)
theorem dX0_home_132 : decode cX0_home 132 = .ok (.if_icmp .ne 6, 3) := dk_160 0 6 (dk_at dksX0_home_5 15 rfl rfl)
theorem dX0_home_135 : decode cX0_home 135 = .ok (.ldc 19, 2) := dk_18 19 (dk_at dksX0_home_5 18 rfl rfl)
theorem dX0_home_137 : decode cX0_home 137 = .ok (.ireturn, 1) := dk_172 (dk_at dksX0_home_5 20 rfl rfl)
theorem dX0_home_138 : decode cX0_home 138 = .ok (.aload_n 0, 1) := dk_42 (dk_at dksX0_home_5 21 rfl rfl)
theorem dX0_home_139 : decode cX0_home 139 = .ok (.sipush 364, 3) := dk_17 1 108 (dk_at dksX0_home_6 0 rfl rfl)
theorem dX0_home_142 : decode cX0_home 142 = .ok (.invokevirtual 29, 3) := dk_182 0 29 (dk_at dksX0_home_6 3 rfl rfl)
theorem dX0_home_145 : decode cX0_home 145 = .ok (.istore 5, 2) := dk_54 5 (dk_at dksX0_home_6 6 rfl rfl)
theorem dX0_home_147 : decode cX0_home 147 = .ok (.ldc 19, 2) := dk_18 19 (dk_at dksX0_home_6 8 rfl rfl)
theorem dX0_home_149 : decode cX0_home 149 = .ok (.istore 6, 2) := dk_54 6 (dk_at dksX0_home_6 10 rfl rfl)
theorem dX0_home_151 : decode cX0_home 151 = .ok (.iconst 0, 1) := dk_3 (dk_at dksX0_home_6 12 rfl rfl)
theorem dX0_home_152 : decode cX0_home 152 = .ok (.istore 7, 2) := dk_54 7 (dk_at dksX0_home_6 13 rfl rfl)
theorem dX0_home_154 : decode cX0_home 154 = .ok (.iload 7, 2) := dk_21 7 (dk_at dksX0_home_6 15 rfl rfl)
theorem dX0_home_156 : decode cX0_home 156 = .ok (.aload_n 0, 1) := dk_42 (dk_at dksX0_home_6 17 rfl rfl)
theorem dX0_home_157 : decode cX0_home 157 = .ok (.getfield 1, 3) := dk_180 0 1 (dk_at dksX0_home_6 18 rfl rfl)
theorem dX0_home_160 : decode cX0_home 160 = .ok (.invokeinterface 71 1, 5) := by decide +kernel
theorem dX0_home_165 : decode cX0_home 165 = .ok (.if_icmp .ge 98, 3) := dk_162 0 98 (dk_at dksX0_home_7 5 rfl rfl)
theorem dX0_home_168 : decode cX0_home 168 = .ok (.aload_n 0, 1) := dk_42 (dk_at dksX0_home_7 8 rfl rfl)
theorem dX0_home_169 : decode cX0_home 169 = .ok (.getfield 1, 3) := dk_180 0 1 (dk_at dksX0_home_7 9 rfl rfl)
theorem dX0_home_172 : decode cX0_home 172 = .ok (.iload 7, 2) := dk_21 7 (dk_at dksX0_home_7 12 rfl rfl)
theorem dX0_home_174 : decode cX0_home 174 = .ok (.invokeinterface 7 2, 5) := by decide +kernel
theorem dX0_home_179 : decode cX0_home 179 = .ok (.checkcast 13, 3) := dk_192 0 13 (dk_at dksX0_home_7 19 rfl rfl)
theorem dX0_home_182 : decode cX0_home 182 = .ok (.astore 8, 2) := dk_58 8 (dk_at dksX0_home_7 22 rfl rfl)
theorem dX0_home_184 : decode cX0_home 184 = .ok (.iload 5, 2) := dk_21 5 (dk_at dksX0_home_8 0 rfl rfl)
theorem dX0_home_186 : decode cX0_home 186 = .ok (.iload 7, 2) := dk_21 7 (dk_at dksX0_home_8 2 rfl rfl)
theorem dX0_home_188 : decode cX0_home 188 = .ok (.ishr, 1) := dk_122 (dk_at dksX0_home_8 4 rfl rfl)
theorem dX0_home_189 : decode cX0_home 189 = .ok (.iconst 1, 1) := dk_4 (dk_at dksX0_home_8 5 rfl rfl)
theorem dX0_home_190 : decode cX0_home 190 = .ok (.iand, 1) := dk_126 (dk_at dksX0_home_8 6 rfl rfl)
theorem dX0_home_191 : decode cX0_home 191 = .ok (.ifCond .eq 66, 3) := dk_153 0 66 (dk_at dksX0_home_8 7 rfl rfl)
theorem dX0_home_194 : decode cX0_home 194 = .ok (.aload 8, 2) := dk_25 8 (dk_at dksX0_home_8 10 rfl rfl)
theorem dX0_home_196 : decode cX0_home 196 = .ok (.getfield 37, 3) := dk_180 0 37 (dk_at dksX0_home_8 12 rfl rfl)
theorem dX0_home_199 : decode cX0_home 199 = .ok (.iload_n 1, 1) := dk_27 (dk_at dksX0_home_8 15 rfl rfl)
theorem dX0_home_200 : decode cX0_home 200 = .ok (.if_icmp .ne 57, 3) := dk_160 0 57 (dk_at dksX0_home_8 16 rfl rfl)
theorem dX0_home_203 : decode cX0_home 203 = .ok (.bipush 96, 2) := dk_16 96 (dk_at dksX0_home_8 19 rfl rfl)
theorem dX0_home_205 : decode cX0_home 205 = .ok (.aload 8, 2) := dk_25 8 (dk_at dksX0_home_8 21 rfl rfl)
theorem dX0_home_207 : decode cX0_home 207 = .ok (.getfield 274, 3) := dk_180 1 18 (dk_at dksX0_home_9 0 rfl rfl)
theorem dX0_home_210 : decode cX0_home 210 = .ok (.imul, 1) := dk_104 (dk_at dksX0_home_9 3 rfl rfl)
theorem dX0_home_211 : decode cX0_home 211 = .ok (.aload 8, 2) := dk_25 8 (dk_at dksX0_home_9 4 rfl rfl)
theorem dX0_home_213 : decode cX0_home 213 = .ok (.getfield 281, 3) := dk_180 1 25 (dk_at dksX0_home_9 6 rfl rfl)
theorem dX0_home_216 : decode cX0_home 216 = .ok (.iadd, 1) := dk_96 (dk_at dksX0_home_9 9 rfl rfl)
theorem dX0_home_217 : decode cX0_home 217 = .ok (.iload 4, 2) := dk_21 4 (dk_at dksX0_home_9 10 rfl rfl)
theorem dX0_home_219 : decode cX0_home 219 = .ok (.if_icmp .ge 38, 3) := dk_162 0 38 (dk_at dksX0_home_9 12 rfl rfl)
theorem dX0_home_222 : decode cX0_home 222 = .ok (.bipush 96, 2) := dk_16 96 (dk_at dksX0_home_9 15 rfl rfl)
theorem dX0_home_224 : decode cX0_home 224 = .ok (.aload 8, 2) := dk_25 8 (dk_at dksX0_home_9 17 rfl rfl)
theorem dX0_home_226 : decode cX0_home 226 = .ok (.getfield 274, 3) := dk_180 1 18 (dk_at dksX0_home_9 19 rfl rfl)
theorem dX0_home_229 : decode cX0_home 229 = .ok (.imul, 1) := dk_104 (dk_at dksX0_home_9 22 rfl rfl)
theorem dX0_home_230 : decode cX0_home 230 = .ok (.aload 8, 2) := dk_25 8 (dk_at dksX0_home_10 0 rfl rfl)
theorem dX0_home_232 : decode cX0_home 232 = .ok (.getfield 278, 3) := dk_180 1 22 (dk_at dksX0_home_10 2 rfl rfl)
theorem dX0_home_235 : decode cX0_home 235 = .ok (.iadd, 1) := dk_96 (dk_at dksX0_home_10 5 rfl rfl)
theorem dX0_home_236 : decode cX0_home 236 = .ok (.iload_n 3, 1) := dk_29 (dk_at dksX0_home_10 6 rfl rfl)
theorem dX0_home_237 : decode cX0_home 237 = .ok (.if_icmp .gt 6, 3) := dk_163 0 6 (dk_at dksX0_home_10 7 rfl rfl)
theorem dX0_home_240 : decode cX0_home 240 = .ok (.goto 17, 3) := dk_167 0 17 (dk_at dksX0_home_10 10 rfl rfl)
theorem dX0_home_243 : decode cX0_home 243 = .ok (.iload 6, 2) := dk_21 6 (dk_at dksX0_home_10 13 rfl rfl)
theorem dX0_home_245 : decode cX0_home 245 = .ok (.ldc 19, 2) := dk_18 19 (dk_at dksX0_home_10 15 rfl rfl)
theorem dX0_home_247 : decode cX0_home 247 = .ok (.if_icmp .eq 6, 3) := dk_159 0 6 (dk_at dksX0_home_10 17 rfl rfl)
theorem dX0_home_250 : decode cX0_home 250 = .ok (.ldc 19, 2) := dk_18 19 (dk_at dksX0_home_10 20 rfl rfl)
theorem dX0_home_252 : decode cX0_home 252 = .ok (.ireturn, 1) := dk_172 (dk_at dksX0_home_10 22 rfl rfl)
theorem dX0_home_253 : decode cX0_home 253 = .ok (.iload 7, 2) := dk_21 7 (dk_at dksX0_home_11 0 rfl rfl)
theorem dX0_home_255 : decode cX0_home 255 = .ok (.istore 6, 2) := dk_54 6 (dk_at dksX0_home_11 2 rfl rfl)
theorem dX0_home_257 : decode cX0_home 257 = .ok (.iinc 7 1, 3) := dk_132 7 1 (dk_at dksX0_home_11 4 rfl rfl)
theorem dX0_home_260 : decode cX0_home 260 = .ok (.goto (-106), 3) := dk_167 255 150 (dk_at dksX0_home_11 7 rfl rfl)
theorem dX0_home_263 : decode cX0_home 263 = .ok (.iload 6, 2) := dk_21 6 (dk_at dksX0_home_11 10 rfl rfl)
theorem dX0_home_265 : decode cX0_home 265 = .ok (.ireturn, 1) := dk_172 (dk_at dksX0_home_11 12 rfl rfl)
abbrev cX0_meeting : ByteArray := prog_1_method_51_code
def yX0_meeting : MethodName := ⟨RX0, "meeting", "(IIIII)I"⟩
def dkwX0_meeting_5 : List UInt8 := [185, 0, 71, 1, 0, 4, 100, 172]
abbrev dktX0_meeting_5 : List UInt8 := dkwX0_meeting_5 ++ []
def dkwX0_meeting_4 : List UInt8 := [27, 28, 29, 21, 4, 21, 5, 183, 1, 164, 185, 1, 9, 2, 0, 87, 42, 180, 0, 107]
abbrev dktX0_meeting_4 : List UInt8 := dkwX0_meeting_4 ++ dktX0_meeting_5
def dkwX0_meeting_3 : List UInt8 := [180, 0, 107, 185, 0, 71, 1, 0, 16, 10, 160, 0, 6, 18, 193, 172, 42, 180, 0, 107, 187, 1, 162, 89]
abbrev dktX0_meeting_3 : List UInt8 := dkwX0_meeting_3 ++ dktX0_meeting_4
def dkwX0_meeting_2 : List UInt8 := [153, 0, 19, 21, 5, 18, 19, 159, 0, 15, 42, 21, 5, 182, 1, 159, 154, 0, 6, 18, 156, 172, 42]
abbrev dktX0_meeting_2 : List UInt8 := dkwX0_meeting_2 ++ dktX0_meeting_3
def dkwX0_meeting_1 : List UInt8 := [133, 9, 27, 28, 100, 133, 184, 0, 143, 153, 0, 32, 21, 4, 133, 9, 20, 1, 157, 184, 0, 143]
abbrev dktX0_meeting_1 : List UInt8 := dkwX0_meeting_1 ++ dktX0_meeting_2
def dkwX0_meeting_0 : List UInt8 := [27, 133, 10, 20, 1, 157, 184, 0, 143, 153, 0, 56, 28, 133, 9, 27, 133, 184, 0, 143, 153, 0, 45, 29]
abbrev dktX0_meeting_0 : List UInt8 := dkwX0_meeting_0 ++ dktX0_meeting_1
theorem dksX0_meeting_0 : cX0_meeting.data.toList.drop 0 = dktX0_meeting_0 := by decide +kernel
theorem dksX0_meeting_1 : cX0_meeting.data.toList.drop 24 = dktX0_meeting_1 := dk_seg dksX0_meeting_0 24 rfl rfl
theorem dksX0_meeting_2 : cX0_meeting.data.toList.drop 46 = dktX0_meeting_2 := dk_seg dksX0_meeting_1 22 rfl rfl
theorem dksX0_meeting_3 : cX0_meeting.data.toList.drop 69 = dktX0_meeting_3 := dk_seg dksX0_meeting_2 23 rfl rfl
theorem dksX0_meeting_4 : cX0_meeting.data.toList.drop 93 = dktX0_meeting_4 := dk_seg dksX0_meeting_3 24 rfl rfl
theorem dksX0_meeting_5 : cX0_meeting.data.toList.drop 113 = dktX0_meeting_5 := dk_seg dksX0_meeting_4 20 rfl rfl
theorem dX0_meeting_0 : decode cX0_meeting 0 = .ok (.iload_n 1, 1) := dk_27 (dk_at dksX0_meeting_0 0 rfl rfl)
theorem dX0_meeting_1 : decode cX0_meeting 1 = .ok (.i2l, 1) := dk_133 (dk_at dksX0_meeting_0 1 rfl rfl)
theorem dX0_meeting_2 : decode cX0_meeting 2 = .ok (.lconst 1, 1) := dk_10 (dk_at dksX0_meeting_0 2 rfl rfl)
theorem dX0_meeting_3 : decode cX0_meeting 3 = .ok (.ldc2_w 413, 3) := dk_20 1 157 (dk_at dksX0_meeting_0 3 rfl rfl)
theorem dX0_meeting_6 : decode cX0_meeting 6 = .ok (.invokestatic 143, 3) := dk_184 0 143 (dk_at dksX0_meeting_0 6 rfl rfl)
theorem dX0_meeting_9 : decode cX0_meeting 9 = .ok (.ifCond .eq 56, 3) := dk_153 0 56 (dk_at dksX0_meeting_0 9 rfl rfl)
theorem dX0_meeting_12 : decode cX0_meeting 12 = .ok (.iload_n 2, 1) := dk_28 (dk_at dksX0_meeting_0 12 rfl rfl)
theorem dX0_meeting_13 : decode cX0_meeting 13 = .ok (.i2l, 1) := dk_133 (dk_at dksX0_meeting_0 13 rfl rfl)
theorem dX0_meeting_14 : decode cX0_meeting 14 = .ok (.lconst 0, 1) := dk_9 (dk_at dksX0_meeting_0 14 rfl rfl)
theorem dX0_meeting_15 : decode cX0_meeting 15 = .ok (.iload_n 1, 1) := dk_27 (dk_at dksX0_meeting_0 15 rfl rfl)
theorem dX0_meeting_16 : decode cX0_meeting 16 = .ok (.i2l, 1) := dk_133 (dk_at dksX0_meeting_0 16 rfl rfl)
theorem dX0_meeting_17 : decode cX0_meeting 17 = .ok (.invokestatic 143, 3) := dk_184 0 143 (dk_at dksX0_meeting_0 17 rfl rfl)
theorem dX0_meeting_20 : decode cX0_meeting 20 = .ok (.ifCond .eq 45, 3) := dk_153 0 45 (dk_at dksX0_meeting_0 20 rfl rfl)
theorem dX0_meeting_23 : decode cX0_meeting 23 = .ok (.iload_n 3, 1) := dk_29 (dk_at dksX0_meeting_0 23 rfl rfl)
theorem dX0_meeting_24 : decode cX0_meeting 24 = .ok (.i2l, 1) := dk_133 (dk_at dksX0_meeting_1 0 rfl rfl)
theorem dX0_meeting_25 : decode cX0_meeting 25 = .ok (.lconst 0, 1) := dk_9 (dk_at dksX0_meeting_1 1 rfl rfl)
theorem dX0_meeting_26 : decode cX0_meeting 26 = .ok (.iload_n 1, 1) := dk_27 (dk_at dksX0_meeting_1 2 rfl rfl)
theorem dX0_meeting_27 : decode cX0_meeting 27 = .ok (.iload_n 2, 1) := dk_28 (dk_at dksX0_meeting_1 3 rfl rfl)
theorem dX0_meeting_28 : decode cX0_meeting 28 = .ok (.isub, 1) := dk_100 (dk_at dksX0_meeting_1 4 rfl rfl)
theorem dX0_meeting_29 : decode cX0_meeting 29 = .ok (.i2l, 1) := dk_133 (dk_at dksX0_meeting_1 5 rfl rfl)
theorem dX0_meeting_30 : decode cX0_meeting 30 = .ok (.invokestatic 143, 3) := dk_184 0 143 (dk_at dksX0_meeting_1 6 rfl rfl)
theorem dX0_meeting_33 : decode cX0_meeting 33 = .ok (.ifCond .eq 32, 3) := dk_153 0 32 (dk_at dksX0_meeting_1 9 rfl rfl)
theorem dX0_meeting_36 : decode cX0_meeting 36 = .ok (.iload 4, 2) := dk_21 4 (dk_at dksX0_meeting_1 12 rfl rfl)
theorem dX0_meeting_38 : decode cX0_meeting 38 = .ok (.i2l, 1) := dk_133 (dk_at dksX0_meeting_1 14 rfl rfl)
theorem dX0_meeting_39 : decode cX0_meeting 39 = .ok (.lconst 0, 1) := dk_9 (dk_at dksX0_meeting_1 15 rfl rfl)
theorem dX0_meeting_40 : decode cX0_meeting 40 = .ok (.ldc2_w 413, 3) := dk_20 1 157 (dk_at dksX0_meeting_1 16 rfl rfl)
theorem dX0_meeting_43 : decode cX0_meeting 43 = .ok (.invokestatic 143, 3) := dk_184 0 143 (dk_at dksX0_meeting_1 19 rfl rfl)
theorem dX0_meeting_46 : decode cX0_meeting 46 = .ok (.ifCond .eq 19, 3) := dk_153 0 19 (dk_at dksX0_meeting_2 0 rfl rfl)
theorem dX0_meeting_49 : decode cX0_meeting 49 = .ok (.iload 5, 2) := dk_21 5 (dk_at dksX0_meeting_2 3 rfl rfl)
theorem dX0_meeting_51 : decode cX0_meeting 51 = .ok (.ldc 19, 2) := dk_18 19 (dk_at dksX0_meeting_2 5 rfl rfl)
theorem dX0_meeting_53 : decode cX0_meeting 53 = .ok (.if_icmp .eq 15, 3) := dk_159 0 15 (dk_at dksX0_meeting_2 7 rfl rfl)
theorem dX0_meeting_56 : decode cX0_meeting 56 = .ok (.aload_n 0, 1) := dk_42 (dk_at dksX0_meeting_2 10 rfl rfl)
theorem dX0_meeting_57 : decode cX0_meeting 57 = .ok (.iload 5, 2) := dk_21 5 (dk_at dksX0_meeting_2 11 rfl rfl)
theorem dX0_meeting_59 : decode cX0_meeting 59 = .ok (.invokevirtual 415, 3) := dk_182 1 159 (dk_at dksX0_meeting_2 13 rfl rfl)
theorem dX0_meeting_62 : decode cX0_meeting 62 = .ok (.ifCond .ne 6, 3) := dk_154 0 6 (dk_at dksX0_meeting_2 16 rfl rfl)
theorem dX0_meeting_65 : decode cX0_meeting 65 = .ok (.ldc 156, 2) := dk_18 156 (dk_at dksX0_meeting_2 19 rfl rfl)
theorem dX0_meeting_67 : decode cX0_meeting 67 = .ok (.ireturn, 1) := dk_172 (dk_at dksX0_meeting_2 21 rfl rfl)
theorem dX0_meeting_68 : decode cX0_meeting 68 = .ok (.aload_n 0, 1) := dk_42 (dk_at dksX0_meeting_2 22 rfl rfl)
theorem dX0_meeting_69 : decode cX0_meeting 69 = .ok (.getfield 107, 3) := dk_180 0 107 (dk_at dksX0_meeting_3 0 rfl rfl)
theorem dX0_meeting_72 : decode cX0_meeting 72 = .ok (.invokeinterface 71 1, 5) := by decide +kernel
theorem dX0_meeting_77 : decode cX0_meeting 77 = .ok (.bipush 10, 2) := dk_16 10 (dk_at dksX0_meeting_3 8 rfl rfl)
theorem dX0_meeting_79 : decode cX0_meeting 79 = .ok (.if_icmp .ne 6, 3) := dk_160 0 6 (dk_at dksX0_meeting_3 10 rfl rfl)
theorem dX0_meeting_82 : decode cX0_meeting 82 = .ok (.ldc 193, 2) := dk_18 193 (dk_at dksX0_meeting_3 13 rfl rfl)
theorem dX0_meeting_84 : decode cX0_meeting 84 = .ok (.ireturn, 1) := dk_172 (dk_at dksX0_meeting_3 15 rfl rfl)
theorem dX0_meeting_85 : decode cX0_meeting 85 = .ok (.aload_n 0, 1) := dk_42 (dk_at dksX0_meeting_3 16 rfl rfl)
theorem dX0_meeting_86 : decode cX0_meeting 86 = .ok (.getfield 107, 3) := dk_180 0 107 (dk_at dksX0_meeting_3 17 rfl rfl)
theorem dX0_meeting_89 : decode cX0_meeting 89 = .ok (.new 418, 3) := dk_187 1 162 (dk_at dksX0_meeting_3 20 rfl rfl)
theorem dX0_meeting_92 : decode cX0_meeting 92 = .ok (.dup, 1) := dk_89 (dk_at dksX0_meeting_3 23 rfl rfl)
theorem dX0_meeting_93 : decode cX0_meeting 93 = .ok (.iload_n 1, 1) := dk_27 (dk_at dksX0_meeting_4 0 rfl rfl)
theorem dX0_meeting_94 : decode cX0_meeting 94 = .ok (.iload_n 2, 1) := dk_28 (dk_at dksX0_meeting_4 1 rfl rfl)
theorem dX0_meeting_95 : decode cX0_meeting 95 = .ok (.iload_n 3, 1) := dk_29 (dk_at dksX0_meeting_4 2 rfl rfl)
theorem dX0_meeting_96 : decode cX0_meeting 96 = .ok (.iload 4, 2) := dk_21 4 (dk_at dksX0_meeting_4 3 rfl rfl)
theorem dX0_meeting_98 : decode cX0_meeting 98 = .ok (.iload 5, 2) := dk_21 5 (dk_at dksX0_meeting_4 5 rfl rfl)
theorem dX0_meeting_100 : decode cX0_meeting 100 = .ok (.invokespecial 420, 3) := dk_183 1 164 (dk_at dksX0_meeting_4 7 rfl rfl)
theorem dX0_meeting_103 : decode cX0_meeting 103 = .ok (.invokeinterface 265 2, 5) := by decide +kernel
theorem dX0_meeting_108 : decode cX0_meeting 108 = .ok (.pop, 1) := dk_87 (dk_at dksX0_meeting_4 15 rfl rfl)
theorem dX0_meeting_109 : decode cX0_meeting 109 = .ok (.aload_n 0, 1) := dk_42 (dk_at dksX0_meeting_4 16 rfl rfl)
theorem dX0_meeting_110 : decode cX0_meeting 110 = .ok (.getfield 107, 3) := dk_180 0 107 (dk_at dksX0_meeting_4 17 rfl rfl)
theorem dX0_meeting_113 : decode cX0_meeting 113 = .ok (.invokeinterface 71 1, 5) := by decide +kernel
theorem dX0_meeting_118 : decode cX0_meeting 118 = .ok (.iconst 1, 1) := dk_4 (dk_at dksX0_meeting_5 5 rfl rfl)
theorem dX0_meeting_119 : decode cX0_meeting 119 = .ok (.isub, 1) := dk_100 (dk_at dksX0_meeting_5 6 rfl rfl)
theorem dX0_meeting_120 : decode cX0_meeting 120 = .ok (.ireturn, 1) := dk_172 (dk_at dksX0_meeting_5 7 rfl rfl)
abbrev cX0_isMeeting : ByteArray := prog_1_method_50_code
def yX0_isMeeting : MethodName := ⟨RX0, "isMeeting", "(I)Z"⟩
def dkwX0_isMeeting_0 : List UInt8 := [27, 133, 9, 42, 180, 0, 107, 185, 0, 71, 1, 0, 4, 100, 133, 184, 0, 143, 172]
abbrev dktX0_isMeeting_0 : List UInt8 := dkwX0_isMeeting_0 ++ []
theorem dksX0_isMeeting_0 : cX0_isMeeting.data.toList.drop 0 = dktX0_isMeeting_0 := by decide +kernel
theorem dX0_isMeeting_0 : decode cX0_isMeeting 0 = .ok (.iload_n 1, 1) := dk_27 (dk_at dksX0_isMeeting_0 0 rfl rfl)
theorem dX0_isMeeting_1 : decode cX0_isMeeting 1 = .ok (.i2l, 1) := dk_133 (dk_at dksX0_isMeeting_0 1 rfl rfl)
theorem dX0_isMeeting_2 : decode cX0_isMeeting 2 = .ok (.lconst 0, 1) := dk_9 (dk_at dksX0_isMeeting_0 2 rfl rfl)
theorem dX0_isMeeting_3 : decode cX0_isMeeting 3 = .ok (.aload_n 0, 1) := dk_42 (dk_at dksX0_isMeeting_0 3 rfl rfl)
theorem dX0_isMeeting_4 : decode cX0_isMeeting 4 = .ok (.getfield 107, 3) := dk_180 0 107 (dk_at dksX0_isMeeting_0 4 rfl rfl)
theorem dX0_isMeeting_7 : decode cX0_isMeeting 7 = .ok (.invokeinterface 71 1, 5) := by decide +kernel
theorem dX0_isMeeting_12 : decode cX0_isMeeting 12 = .ok (.iconst 1, 1) := dk_4 (dk_at dksX0_isMeeting_0 12 rfl rfl)
theorem dX0_isMeeting_13 : decode cX0_isMeeting 13 = .ok (.isub, 1) := dk_100 (dk_at dksX0_isMeeting_0 13 rfl rfl)
theorem dX0_isMeeting_14 : decode cX0_isMeeting 14 = .ok (.i2l, 1) := dk_133 (dk_at dksX0_isMeeting_0 14 rfl rfl)
theorem dX0_isMeeting_15 : decode cX0_isMeeting 15 = .ok (.invokestatic 143, 3) := dk_184 0 143 (dk_at dksX0_isMeeting_0 15 rfl rfl)
theorem dX0_isMeeting_18 : decode cX0_isMeeting 18 = .ok (.ireturn, 1) := dk_172 (dk_at dksX0_isMeeting_0 18 rfl rfl)
abbrev cX0_met : ByteArray := prog_1_method_54_code
def yX0_met : MethodName := ⟨RX0, "met", "(II)I"⟩
def dkwX0_met_6 : List UInt8 := [172]
abbrev dktX0_met_6 : List UInt8 := dkwX0_met_6 ++ []
def dkwX0_met_5 : List UInt8 := [167, 255, 224, 29, 21, 5, 27, 160, 0, 7, 4, 167, 0, 4, 3, 96, 62, 132, 4, 1, 167, 255, 186, 29]
abbrev dktX0_met_5 : List UInt8 := dkwX0_met_5 ++ dktX0_met_6
def dkwX0_met_4 : List UInt8 := [159, 0, 25, 42, 180, 0, 107, 21, 5, 185, 0, 7, 2, 0, 192, 1, 162, 180, 1, 176, 54, 5]
abbrev dktX0_met_4 : List UInt8 := dkwX0_met_4 ++ dktX0_met_5
def dkwX0_met_3 : List UInt8 := [185, 0, 71, 1, 0, 162, 0, 62, 21, 4, 54, 5, 21, 5, 18, 19, 159, 0, 31, 21, 5, 27]
abbrev dktX0_met_3 : List UInt8 := dkwX0_met_3 ++ dktX0_met_4
def dkwX0_met_2 : List UInt8 := [153, 0, 7, 4, 167, 0, 4, 3, 172, 3, 62, 27, 4, 96, 54, 4, 21, 4, 42, 180, 0, 107]
abbrev dktX0_met_2 : List UInt8 := dkwX0_met_2 ++ dktX0_met_3
def dkwX0_met_1 : List UInt8 := [5, 162, 0, 32, 28, 154, 0, 14, 42, 27, 182, 1, 182, 153, 0, 18, 167, 0, 11, 42, 27, 182, 1, 179]
abbrev dktX0_met_1 : List UInt8 := dkwX0_met_1 ++ dktX0_met_2
def dkwX0_met_0 : List UInt8 := [42, 27, 182, 1, 159, 153, 0, 15, 28, 133, 9, 20, 0, 154, 184, 0, 143, 154, 0, 6, 18, 156, 172, 28]
abbrev dktX0_met_0 : List UInt8 := dkwX0_met_0 ++ dktX0_met_1
theorem dksX0_met_0 : cX0_met.data.toList.drop 0 = dktX0_met_0 := by decide +kernel
theorem dksX0_met_1 : cX0_met.data.toList.drop 24 = dktX0_met_1 := dk_seg dksX0_met_0 24 rfl rfl
theorem dksX0_met_2 : cX0_met.data.toList.drop 48 = dktX0_met_2 := dk_seg dksX0_met_1 24 rfl rfl
theorem dksX0_met_3 : cX0_met.data.toList.drop 70 = dktX0_met_3 := dk_seg dksX0_met_2 22 rfl rfl
theorem dksX0_met_4 : cX0_met.data.toList.drop 92 = dktX0_met_4 := dk_seg dksX0_met_3 22 rfl rfl
theorem dksX0_met_5 : cX0_met.data.toList.drop 114 = dktX0_met_5 := dk_seg dksX0_met_4 22 rfl rfl
theorem dksX0_met_6 : cX0_met.data.toList.drop 138 = dktX0_met_6 := dk_seg dksX0_met_5 24 rfl rfl
theorem dX0_met_0 : decode cX0_met 0 = .ok (.aload_n 0, 1) := dk_42 (dk_at dksX0_met_0 0 rfl rfl)
theorem dX0_met_1 : decode cX0_met 1 = .ok (.iload_n 1, 1) := dk_27 (dk_at dksX0_met_0 1 rfl rfl)
theorem dX0_met_2 : decode cX0_met 2 = .ok (.invokevirtual 415, 3) := dk_182 1 159 (dk_at dksX0_met_0 2 rfl rfl)
theorem dX0_met_5 : decode cX0_met 5 = .ok (.ifCond .eq 15, 3) := dk_153 0 15 (dk_at dksX0_met_0 5 rfl rfl)
theorem dX0_met_8 : decode cX0_met 8 = .ok (.iload_n 2, 1) := dk_28 (dk_at dksX0_met_0 8 rfl rfl)
theorem dX0_met_9 : decode cX0_met 9 = .ok (.i2l, 1) := dk_133 (dk_at dksX0_met_0 9 rfl rfl)
theorem dX0_met_10 : decode cX0_met 10 = .ok (.lconst 0, 1) := dk_9 (dk_at dksX0_met_0 10 rfl rfl)
theorem dX0_met_11 : decode cX0_met 11 = .ok (.ldc2_w 154, 3) := dk_20 0 154 (dk_at dksX0_met_0 11 rfl rfl)
theorem dX0_met_14 : decode cX0_met 14 = .ok (.invokestatic 143, 3) := dk_184 0 143 (dk_at dksX0_met_0 14 rfl rfl)
theorem dX0_met_17 : decode cX0_met 17 = .ok (.ifCond .ne 6, 3) := dk_154 0 6 (dk_at dksX0_met_0 17 rfl rfl)
theorem dX0_met_20 : decode cX0_met 20 = .ok (.ldc 156, 2) := dk_18 156 (dk_at dksX0_met_0 20 rfl rfl)
theorem dX0_met_22 : decode cX0_met 22 = .ok (.ireturn, 1) := dk_172 (dk_at dksX0_met_0 22 rfl rfl)
theorem dX0_met_23 : decode cX0_met 23 = .ok (.iload_n 2, 1) := dk_28 (dk_at dksX0_met_0 23 rfl rfl)
theorem dX0_met_24 : decode cX0_met 24 = .ok (.iconst 2, 1) := dk_5 (dk_at dksX0_met_1 0 rfl rfl)
theorem dX0_met_25 : decode cX0_met 25 = .ok (.if_icmp .ge 32, 3) := dk_162 0 32 (dk_at dksX0_met_1 1 rfl rfl)
theorem dX0_met_28 : decode cX0_met 28 = .ok (.iload_n 2, 1) := dk_28 (dk_at dksX0_met_1 4 rfl rfl)
theorem dX0_met_29 : decode cX0_met 29 = .ok (.ifCond .ne 14, 3) := dk_154 0 14 (dk_at dksX0_met_1 5 rfl rfl)
theorem dX0_met_32 : decode cX0_met 32 = .ok (.aload_n 0, 1) := dk_42 (dk_at dksX0_met_1 8 rfl rfl)
theorem dX0_met_33 : decode cX0_met 33 = .ok (.iload_n 1, 1) := dk_27 (dk_at dksX0_met_1 9 rfl rfl)
theorem dX0_met_34 : decode cX0_met 34 = .ok (.invokevirtual 438, 3) := dk_182 1 182 (dk_at dksX0_met_1 10 rfl rfl)
theorem dX0_met_37 : decode cX0_met 37 = .ok (.ifCond .eq 18, 3) := dk_153 0 18 (dk_at dksX0_met_1 13 rfl rfl)
theorem dX0_met_40 : decode cX0_met 40 = .ok (.goto 11, 3) := dk_167 0 11 (dk_at dksX0_met_1 16 rfl rfl)
theorem dX0_met_43 : decode cX0_met 43 = .ok (.aload_n 0, 1) := dk_42 (dk_at dksX0_met_1 19 rfl rfl)
theorem dX0_met_44 : decode cX0_met 44 = .ok (.iload_n 1, 1) := dk_27 (dk_at dksX0_met_1 20 rfl rfl)
theorem dX0_met_45 : decode cX0_met 45 = .ok (.invokevirtual 435, 3) := dk_182 1 179 (dk_at dksX0_met_1 21 rfl rfl)
theorem dX0_met_48 : decode cX0_met 48 = .ok (.ifCond .eq 7, 3) := dk_153 0 7 (dk_at dksX0_met_2 0 rfl rfl)
theorem dX0_met_51 : decode cX0_met 51 = .ok (.iconst 1, 1) := dk_4 (dk_at dksX0_met_2 3 rfl rfl)
theorem dX0_met_52 : decode cX0_met 52 = .ok (.goto 4, 3) := dk_167 0 4 (dk_at dksX0_met_2 4 rfl rfl)
theorem dX0_met_55 : decode cX0_met 55 = .ok (.iconst 0, 1) := dk_3 (dk_at dksX0_met_2 7 rfl rfl)
theorem dX0_met_56 : decode cX0_met 56 = .ok (.ireturn, 1) := dk_172 (dk_at dksX0_met_2 8 rfl rfl)
theorem dX0_met_57 : decode cX0_met 57 = .ok (.iconst 0, 1) := dk_3 (dk_at dksX0_met_2 9 rfl rfl)
theorem dX0_met_58 : decode cX0_met 58 = .ok (.istore_n 3, 1) := dk_62 (dk_at dksX0_met_2 10 rfl rfl)
theorem dX0_met_59 : decode cX0_met 59 = .ok (.iload_n 1, 1) := dk_27 (dk_at dksX0_met_2 11 rfl rfl)
theorem dX0_met_60 : decode cX0_met 60 = .ok (.iconst 1, 1) := dk_4 (dk_at dksX0_met_2 12 rfl rfl)
theorem dX0_met_61 : decode cX0_met 61 = .ok (.iadd, 1) := dk_96 (dk_at dksX0_met_2 13 rfl rfl)
theorem dX0_met_62 : decode cX0_met 62 = .ok (.istore 4, 2) := dk_54 4 (dk_at dksX0_met_2 14 rfl rfl)
theorem dX0_met_64 : decode cX0_met 64 = .ok (.iload 4, 2) := dk_21 4 (dk_at dksX0_met_2 16 rfl rfl)
theorem dX0_met_66 : decode cX0_met 66 = .ok (.aload_n 0, 1) := dk_42 (dk_at dksX0_met_2 18 rfl rfl)
theorem dX0_met_67 : decode cX0_met 67 = .ok (.getfield 107, 3) := dk_180 0 107 (dk_at dksX0_met_2 19 rfl rfl)
theorem dX0_met_70 : decode cX0_met 70 = .ok (.invokeinterface 71 1, 5) := by decide +kernel
theorem dX0_met_75 : decode cX0_met 75 = .ok (.if_icmp .ge 62, 3) := dk_162 0 62 (dk_at dksX0_met_3 5 rfl rfl)
theorem dX0_met_78 : decode cX0_met 78 = .ok (.iload 4, 2) := dk_21 4 (dk_at dksX0_met_3 8 rfl rfl)
theorem dX0_met_80 : decode cX0_met 80 = .ok (.istore 5, 2) := dk_54 5 (dk_at dksX0_met_3 10 rfl rfl)
theorem dX0_met_82 : decode cX0_met 82 = .ok (.iload 5, 2) := dk_21 5 (dk_at dksX0_met_3 12 rfl rfl)
theorem dX0_met_84 : decode cX0_met 84 = .ok (.ldc 19, 2) := dk_18 19 (dk_at dksX0_met_3 14 rfl rfl)
theorem dX0_met_86 : decode cX0_met 86 = .ok (.if_icmp .eq 31, 3) := dk_159 0 31 (dk_at dksX0_met_3 16 rfl rfl)
theorem dX0_met_89 : decode cX0_met 89 = .ok (.iload 5, 2) := dk_21 5 (dk_at dksX0_met_3 19 rfl rfl)
theorem dX0_met_91 : decode cX0_met 91 = .ok (.iload_n 1, 1) := dk_27 (dk_at dksX0_met_3 21 rfl rfl)
theorem dX0_met_92 : decode cX0_met 92 = .ok (.if_icmp .eq 25, 3) := dk_159 0 25 (dk_at dksX0_met_4 0 rfl rfl)
theorem dX0_met_95 : decode cX0_met 95 = .ok (.aload_n 0, 1) := dk_42 (dk_at dksX0_met_4 3 rfl rfl)
theorem dX0_met_96 : decode cX0_met 96 = .ok (.getfield 107, 3) := dk_180 0 107 (dk_at dksX0_met_4 4 rfl rfl)
theorem dX0_met_99 : decode cX0_met 99 = .ok (.iload 5, 2) := dk_21 5 (dk_at dksX0_met_4 7 rfl rfl)
theorem dX0_met_101 : decode cX0_met 101 = .ok (.invokeinterface 7 2, 5) := by decide +kernel
theorem dX0_met_106 : decode cX0_met 106 = .ok (.checkcast 418, 3) := dk_192 1 162 (dk_at dksX0_met_4 14 rfl rfl)
theorem dX0_met_109 : decode cX0_met 109 = .ok (.getfield 432, 3) := dk_180 1 176 (dk_at dksX0_met_4 17 rfl rfl)
theorem dX0_met_112 : decode cX0_met 112 = .ok (.istore 5, 2) := dk_54 5 (dk_at dksX0_met_4 20 rfl rfl)
theorem dX0_met_114 : decode cX0_met 114 = .ok (.goto (-32), 3) := dk_167 255 224 (dk_at dksX0_met_5 0 rfl rfl)
theorem dX0_met_117 : decode cX0_met 117 = .ok (.iload_n 3, 1) := dk_29 (dk_at dksX0_met_5 3 rfl rfl)
theorem dX0_met_118 : decode cX0_met 118 = .ok (.iload 5, 2) := dk_21 5 (dk_at dksX0_met_5 4 rfl rfl)
theorem dX0_met_120 : decode cX0_met 120 = .ok (.iload_n 1, 1) := dk_27 (dk_at dksX0_met_5 6 rfl rfl)
theorem dX0_met_121 : decode cX0_met 121 = .ok (.if_icmp .ne 7, 3) := dk_160 0 7 (dk_at dksX0_met_5 7 rfl rfl)
theorem dX0_met_124 : decode cX0_met 124 = .ok (.iconst 1, 1) := dk_4 (dk_at dksX0_met_5 10 rfl rfl)
theorem dX0_met_125 : decode cX0_met 125 = .ok (.goto 4, 3) := dk_167 0 4 (dk_at dksX0_met_5 11 rfl rfl)
theorem dX0_met_128 : decode cX0_met 128 = .ok (.iconst 0, 1) := dk_3 (dk_at dksX0_met_5 14 rfl rfl)
theorem dX0_met_129 : decode cX0_met 129 = .ok (.iadd, 1) := dk_96 (dk_at dksX0_met_5 15 rfl rfl)
theorem dX0_met_130 : decode cX0_met 130 = .ok (.istore_n 3, 1) := dk_62 (dk_at dksX0_met_5 16 rfl rfl)
theorem dX0_met_131 : decode cX0_met 131 = .ok (.iinc 4 1, 3) := dk_132 4 1 (dk_at dksX0_met_5 17 rfl rfl)
theorem dX0_met_134 : decode cX0_met 134 = .ok (.goto (-70), 3) := dk_167 255 186 (dk_at dksX0_met_5 20 rfl rfl)
theorem dX0_met_137 : decode cX0_met 137 = .ok (.iload_n 3, 1) := dk_29 (dk_at dksX0_met_5 23 rfl rfl)
theorem dX0_met_138 : decode cX0_met 138 = .ok (.ireturn, 1) := dk_172 (dk_at dksX0_met_6 0 rfl rfl)
abbrev cX0_isValid : ByteArray := prog_1_method_52_code
def yX0_isValid : MethodName := ⟨RX0, "isValid", "(I)Z"⟩
def dkwX0_isValid_2 : List UInt8 := [153, 0, 7, 4, 167, 0, 4, 3, 172]
abbrev dktX0_isValid_2 : List UInt8 := dkwX0_isValid_2 ++ []
def dkwX0_isValid_1 : List UInt8 := [180, 1, 173, 161, 0, 27, 44, 180, 1, 176, 18, 19, 159, 0, 14, 42, 44, 180, 1, 176, 182, 1, 179]
abbrev dktX0_isValid_1 : List UInt8 := dkwX0_isValid_1 ++ dktX0_isValid_2
def dkwX0_isValid_0 : List UInt8 := [42, 180, 0, 107, 27, 185, 0, 7, 2, 0, 192, 1, 162, 77, 44, 180, 1, 167, 44, 180, 1, 170, 96, 44]
abbrev dktX0_isValid_0 : List UInt8 := dkwX0_isValid_0 ++ dktX0_isValid_1
theorem dksX0_isValid_0 : cX0_isValid.data.toList.drop 0 = dktX0_isValid_0 := by decide +kernel
theorem dksX0_isValid_1 : cX0_isValid.data.toList.drop 24 = dktX0_isValid_1 := dk_seg dksX0_isValid_0 24 rfl rfl
theorem dksX0_isValid_2 : cX0_isValid.data.toList.drop 47 = dktX0_isValid_2 := dk_seg dksX0_isValid_1 23 rfl rfl
theorem dX0_isValid_0 : decode cX0_isValid 0 = .ok (.aload_n 0, 1) := dk_42 (dk_at dksX0_isValid_0 0 rfl rfl)
theorem dX0_isValid_1 : decode cX0_isValid 1 = .ok (.getfield 107, 3) := dk_180 0 107 (dk_at dksX0_isValid_0 1 rfl rfl)
theorem dX0_isValid_4 : decode cX0_isValid 4 = .ok (.iload_n 1, 1) := dk_27 (dk_at dksX0_isValid_0 4 rfl rfl)
theorem dX0_isValid_5 : decode cX0_isValid 5 = .ok (.invokeinterface 7 2, 5) := by decide +kernel
theorem dX0_isValid_10 : decode cX0_isValid 10 = .ok (.checkcast 418, 3) := dk_192 1 162 (dk_at dksX0_isValid_0 10 rfl rfl)
theorem dX0_isValid_13 : decode cX0_isValid 13 = .ok (.astore_n 2, 1) := dk_77 (dk_at dksX0_isValid_0 13 rfl rfl)
theorem dX0_isValid_14 : decode cX0_isValid 14 = .ok (.aload_n 2, 1) := dk_44 (dk_at dksX0_isValid_0 14 rfl rfl)
theorem dX0_isValid_15 : decode cX0_isValid 15 = .ok (.getfield 423, 3) := dk_180 1 167 (dk_at dksX0_isValid_0 15 rfl rfl)
theorem dX0_isValid_18 : decode cX0_isValid 18 = .ok (.aload_n 2, 1) := dk_44 (dk_at dksX0_isValid_0 18 rfl rfl)
theorem dX0_isValid_19 : decode cX0_isValid 19 = .ok (.getfield 426, 3) := dk_180 1 170 (dk_at dksX0_isValid_0 19 rfl rfl)
theorem dX0_isValid_22 : decode cX0_isValid 22 = .ok (.iadd, 1) := dk_96 (dk_at dksX0_isValid_0 22 rfl rfl)
theorem dX0_isValid_23 : decode cX0_isValid 23 = .ok (.aload_n 2, 1) := dk_44 (dk_at dksX0_isValid_0 23 rfl rfl)
theorem dX0_isValid_24 : decode cX0_isValid 24 = .ok (.getfield 429, 3) := dk_180 1 173 (dk_at dksX0_isValid_1 0 rfl rfl)
theorem dX0_isValid_27 : decode cX0_isValid 27 = .ok (.if_icmp .lt 27, 3) := dk_161 0 27 (dk_at dksX0_isValid_1 3 rfl rfl)
theorem dX0_isValid_30 : decode cX0_isValid 30 = .ok (.aload_n 2, 1) := dk_44 (dk_at dksX0_isValid_1 6 rfl rfl)
theorem dX0_isValid_31 : decode cX0_isValid 31 = .ok (.getfield 432, 3) := dk_180 1 176 (dk_at dksX0_isValid_1 7 rfl rfl)
theorem dX0_isValid_34 : decode cX0_isValid 34 = .ok (.ldc 19, 2) := dk_18 19 (dk_at dksX0_isValid_1 10 rfl rfl)
theorem dX0_isValid_36 : decode cX0_isValid 36 = .ok (.if_icmp .eq 14, 3) := dk_159 0 14 (dk_at dksX0_isValid_1 12 rfl rfl)
theorem dX0_isValid_39 : decode cX0_isValid 39 = .ok (.aload_n 0, 1) := dk_42 (dk_at dksX0_isValid_1 15 rfl rfl)
theorem dX0_isValid_40 : decode cX0_isValid 40 = .ok (.aload_n 2, 1) := dk_44 (dk_at dksX0_isValid_1 16 rfl rfl)
theorem dX0_isValid_41 : decode cX0_isValid 41 = .ok (.getfield 432, 3) := dk_180 1 176 (dk_at dksX0_isValid_1 17 rfl rfl)
theorem dX0_isValid_44 : decode cX0_isValid 44 = .ok (.invokevirtual 435, 3) := dk_182 1 179 (dk_at dksX0_isValid_1 20 rfl rfl)
theorem dX0_isValid_47 : decode cX0_isValid 47 = .ok (.ifCond .eq 7, 3) := dk_153 0 7 (dk_at dksX0_isValid_2 0 rfl rfl)
theorem dX0_isValid_50 : decode cX0_isValid 50 = .ok (.iconst 1, 1) := dk_4 (dk_at dksX0_isValid_2 3 rfl rfl)
theorem dX0_isValid_51 : decode cX0_isValid 51 = .ok (.goto 4, 3) := dk_167 0 4 (dk_at dksX0_isValid_2 4 rfl rfl)
theorem dX0_isValid_54 : decode cX0_isValid 54 = .ok (.iconst 0, 1) := dk_3 (dk_at dksX0_isValid_2 7 rfl rfl)
theorem dX0_isValid_55 : decode cX0_isValid 55 = .ok (.ireturn, 1) := dk_172 (dk_at dksX0_isValid_2 8 rfl rfl)
abbrev cX0_isCarried : ByteArray := prog_1_method_53_code
def yX0_isCarried : MethodName := ⟨RX0, "isCarried", "(I)Z"⟩
def dkwX0_isCarried_2 : List UInt8 := [172]
abbrev dktX0_isCarried_2 : List UInt8 := dkwX0_isCarried_2 ++ []
def dkwX0_isCarried_1 : List UInt8 := [42, 180, 0, 107, 27, 185, 0, 7, 2, 0, 192, 1, 162, 180, 1, 170, 164, 0, 7, 4, 167, 0, 4, 3]
abbrev dktX0_isCarried_1 : List UInt8 := dkwX0_isCarried_1 ++ dktX0_isCarried_2
def dkwX0_isCarried_0 : List UInt8 := [42, 27, 182, 1, 182, 153, 0, 42, 42, 180, 0, 107, 27, 185, 0, 7, 2, 0, 192, 1, 162, 180, 1, 167]
abbrev dktX0_isCarried_0 : List UInt8 := dkwX0_isCarried_0 ++ dktX0_isCarried_1
theorem dksX0_isCarried_0 : cX0_isCarried.data.toList.drop 0 = dktX0_isCarried_0 := by decide +kernel
theorem dksX0_isCarried_1 : cX0_isCarried.data.toList.drop 24 = dktX0_isCarried_1 := dk_seg dksX0_isCarried_0 24 rfl rfl
theorem dksX0_isCarried_2 : cX0_isCarried.data.toList.drop 48 = dktX0_isCarried_2 := dk_seg dksX0_isCarried_1 24 rfl rfl
theorem dX0_isCarried_0 : decode cX0_isCarried 0 = .ok (.aload_n 0, 1) := dk_42 (dk_at dksX0_isCarried_0 0 rfl rfl)
theorem dX0_isCarried_1 : decode cX0_isCarried 1 = .ok (.iload_n 1, 1) := dk_27 (dk_at dksX0_isCarried_0 1 rfl rfl)
theorem dX0_isCarried_2 : decode cX0_isCarried 2 = .ok (.invokevirtual 438, 3) := dk_182 1 182 (dk_at dksX0_isCarried_0 2 rfl rfl)
theorem dX0_isCarried_5 : decode cX0_isCarried 5 = .ok (.ifCond .eq 42, 3) := dk_153 0 42 (dk_at dksX0_isCarried_0 5 rfl rfl)
theorem dX0_isCarried_8 : decode cX0_isCarried 8 = .ok (.aload_n 0, 1) := dk_42 (dk_at dksX0_isCarried_0 8 rfl rfl)
theorem dX0_isCarried_9 : decode cX0_isCarried 9 = .ok (.getfield 107, 3) := dk_180 0 107 (dk_at dksX0_isCarried_0 9 rfl rfl)
theorem dX0_isCarried_12 : decode cX0_isCarried 12 = .ok (.iload_n 1, 1) := dk_27 (dk_at dksX0_isCarried_0 12 rfl rfl)
theorem dX0_isCarried_13 : decode cX0_isCarried 13 = .ok (.invokeinterface 7 2, 5) := by decide +kernel
theorem dX0_isCarried_18 : decode cX0_isCarried 18 = .ok (.checkcast 418, 3) := dk_192 1 162 (dk_at dksX0_isCarried_0 18 rfl rfl)
theorem dX0_isCarried_21 : decode cX0_isCarried 21 = .ok (.getfield 423, 3) := dk_180 1 167 (dk_at dksX0_isCarried_0 21 rfl rfl)
theorem dX0_isCarried_24 : decode cX0_isCarried 24 = .ok (.aload_n 0, 1) := dk_42 (dk_at dksX0_isCarried_1 0 rfl rfl)
theorem dX0_isCarried_25 : decode cX0_isCarried 25 = .ok (.getfield 107, 3) := dk_180 0 107 (dk_at dksX0_isCarried_1 1 rfl rfl)
theorem dX0_isCarried_28 : decode cX0_isCarried 28 = .ok (.iload_n 1, 1) := dk_27 (dk_at dksX0_isCarried_1 4 rfl rfl)
theorem dX0_isCarried_29 : decode cX0_isCarried 29 = .ok (.invokeinterface 7 2, 5) := by decide +kernel
theorem dX0_isCarried_34 : decode cX0_isCarried 34 = .ok (.checkcast 418, 3) := dk_192 1 162 (dk_at dksX0_isCarried_1 10 rfl rfl)
theorem dX0_isCarried_37 : decode cX0_isCarried 37 = .ok (.getfield 426, 3) := dk_180 1 170 (dk_at dksX0_isCarried_1 13 rfl rfl)
theorem dX0_isCarried_40 : decode cX0_isCarried 40 = .ok (.if_icmp .le 7, 3) := dk_164 0 7 (dk_at dksX0_isCarried_1 16 rfl rfl)
theorem dX0_isCarried_43 : decode cX0_isCarried 43 = .ok (.iconst 1, 1) := dk_4 (dk_at dksX0_isCarried_1 19 rfl rfl)
theorem dX0_isCarried_44 : decode cX0_isCarried 44 = .ok (.goto 4, 3) := dk_167 0 4 (dk_at dksX0_isCarried_1 20 rfl rfl)
theorem dX0_isCarried_47 : decode cX0_isCarried 47 = .ok (.iconst 0, 1) := dk_3 (dk_at dksX0_isCarried_1 23 rfl rfl)
theorem dX0_isCarried_48 : decode cX0_isCarried 48 = .ok (.ireturn, 1) := dk_172 (dk_at dksX0_isCarried_2 0 rfl rfl)
abbrev cX0_day : ByteArray := prog_1_method_55_code
def yX0_day : MethodName := ⟨RX0, "day", "(I)I"⟩
def dkwX0_day_0 : List UInt8 := [27, 184, 0, 243, 154, 0, 6, 18, 156, 172, 42, 180, 0, 20, 61, 42, 27, 181, 0, 20, 28, 172]
abbrev dktX0_day_0 : List UInt8 := dkwX0_day_0 ++ []
theorem dksX0_day_0 : cX0_day.data.toList.drop 0 = dktX0_day_0 := by decide +kernel
theorem dX0_day_0 : decode cX0_day 0 = .ok (.iload_n 1, 1) := dk_27 (dk_at dksX0_day_0 0 rfl rfl)
theorem dX0_day_1 : decode cX0_day 1 = .ok (.invokestatic 243, 3) := dk_184 0 243 (dk_at dksX0_day_0 1 rfl rfl)
theorem dX0_day_4 : decode cX0_day 4 = .ok (.ifCond .ne 6, 3) := dk_154 0 6 (dk_at dksX0_day_0 4 rfl rfl)
theorem dX0_day_7 : decode cX0_day 7 = .ok (.ldc 156, 2) := dk_18 156 (dk_at dksX0_day_0 7 rfl rfl)
theorem dX0_day_9 : decode cX0_day 9 = .ok (.ireturn, 1) := dk_172 (dk_at dksX0_day_0 9 rfl rfl)
theorem dX0_day_10 : decode cX0_day 10 = .ok (.aload_n 0, 1) := dk_42 (dk_at dksX0_day_0 10 rfl rfl)
theorem dX0_day_11 : decode cX0_day 11 = .ok (.getfield 20, 3) := dk_180 0 20 (dk_at dksX0_day_0 11 rfl rfl)
theorem dX0_day_14 : decode cX0_day 14 = .ok (.istore_n 2, 1) := dk_61 (dk_at dksX0_day_0 14 rfl rfl)
theorem dX0_day_15 : decode cX0_day 15 = .ok (.aload_n 0, 1) := dk_42 (dk_at dksX0_day_0 15 rfl rfl)
theorem dX0_day_16 : decode cX0_day 16 = .ok (.iload_n 1, 1) := dk_27 (dk_at dksX0_day_0 16 rfl rfl)
theorem dX0_day_17 : decode cX0_day 17 = .ok (.putfield 20, 3) := dk_181 0 20 (dk_at dksX0_day_0 17 rfl rfl)
theorem dX0_day_20 : decode cX0_day 20 = .ok (.iload_n 2, 1) := dk_28 (dk_at dksX0_day_0 20 rfl rfl)
theorem dX0_day_21 : decode cX0_day 21 = .ok (.ireturn, 1) := dk_172 (dk_at dksX0_day_0 21 rfl rfl)
abbrev cX0_kind : ByteArray := prog_1_method_56_code
def yX0_kind : MethodName := ⟨RX0, "kind", "(I)I"⟩
def dkwX0_kind_0 : List UInt8 := [42, 27, 182, 1, 12, 153, 0, 14, 42, 27, 182, 1, 185, 182, 1, 189, 167, 0, 5, 18, 156, 172]
abbrev dktX0_kind_0 : List UInt8 := dkwX0_kind_0 ++ []
theorem dksX0_kind_0 : cX0_kind.data.toList.drop 0 = dktX0_kind_0 := by decide +kernel
theorem dX0_kind_0 : decode cX0_kind 0 = .ok (.aload_n 0, 1) := dk_42 (dk_at dksX0_kind_0 0 rfl rfl)
theorem dX0_kind_1 : decode cX0_kind 1 = .ok (.iload_n 1, 1) := dk_27 (dk_at dksX0_kind_0 1 rfl rfl)
theorem dX0_kind_2 : decode cX0_kind 2 = .ok (.invokevirtual 268, 3) := dk_182 1 12 (dk_at dksX0_kind_0 2 rfl rfl)
theorem dX0_kind_5 : decode cX0_kind 5 = .ok (.ifCond .eq 14, 3) := dk_153 0 14 (dk_at dksX0_kind_0 5 rfl rfl)
theorem dX0_kind_8 : decode cX0_kind 8 = .ok (.aload_n 0, 1) := dk_42 (dk_at dksX0_kind_0 8 rfl rfl)
theorem dX0_kind_9 : decode cX0_kind 9 = .ok (.iload_n 1, 1) := dk_27 (dk_at dksX0_kind_0 9 rfl rfl)
theorem dX0_kind_10 : decode cX0_kind 10 = .ok (.invokevirtual 441, 3) := dk_182 1 185 (dk_at dksX0_kind_0 10 rfl rfl)
theorem dX0_kind_13 : decode cX0_kind 13 = .ok (.invokevirtual 445, 3) := dk_182 1 189 (dk_at dksX0_kind_0 13 rfl rfl)
theorem dX0_kind_16 : decode cX0_kind 16 = .ok (.goto 5, 3) := dk_167 0 5 (dk_at dksX0_kind_0 16 rfl rfl)
theorem dX0_kind_19 : decode cX0_kind 19 = .ok (.ldc 156, 2) := dk_18 156 (dk_at dksX0_kind_0 19 rfl rfl)
theorem dX0_kind_21 : decode cX0_kind 21 = .ok (.ireturn, 1) := dk_172 (dk_at dksX0_kind_0 21 rfl rfl)
abbrev cX0_asked : ByteArray := prog_1_method_2_code
def yX0_asked : MethodName := ⟨RX0, "asked", "(I)LVillageHalls$AsBooking;"⟩
def dkwX0_asked_5 : List UInt8 := [153, 0, 14, 187, 0, 65, 89, 44, 183, 0, 67, 167, 0, 11, 187, 0, 68, 89, 44, 183, 0, 70, 176]
abbrev dktX0_asked_5 : List UInt8 := dkwX0_asked_5 ++ []
def dkwX0_asked_4 : List UInt8 := [187, 0, 58, 89, 44, 42, 44, 182, 0, 51, 183, 0, 60, 176, 44, 42, 180, 0, 20, 182, 0, 61]
abbrev dktX0_asked_4 : List UInt8 := dkwX0_asked_4 ++ dktX0_asked_5
def dkwX0_asked_3 : List UInt8 := [180, 0, 46, 46, 154, 0, 19, 187, 0, 49, 89, 44, 42, 44, 182, 0, 51, 183, 0, 55, 167, 0, 16]
abbrev dktX0_asked_3 : List UInt8 := dkwX0_asked_3 ++ dktX0_asked_4
def dkwX0_asked_2 : List UInt8 := [182, 0, 29, 27, 122, 4, 126, 4, 160, 0, 53, 42, 180, 0, 33, 44, 180, 0, 37, 50, 180, 0, 40, 44]
abbrev dktX0_asked_2 : List UInt8 := dkwX0_asked_2 ++ dktX0_asked_3
def dkwX0_asked_1 : List UInt8 := [180, 0, 15, 42, 180, 0, 20, 163, 0, 12, 187, 0, 23, 89, 44, 183, 0, 25, 176, 42, 42, 180, 0, 20]
abbrev dktX0_asked_1 : List UInt8 := dkwX0_asked_1 ++ dktX0_asked_2
def dkwX0_asked_0 : List UInt8 := [42, 180, 0, 1, 27, 185, 0, 7, 2, 0, 192, 0, 13, 77, 44, 180, 0, 15, 18, 19, 159, 0, 23, 44]
abbrev dktX0_asked_0 : List UInt8 := dkwX0_asked_0 ++ dktX0_asked_1
theorem dksX0_asked_0 : cX0_asked.data.toList.drop 0 = dktX0_asked_0 := by decide +kernel
theorem dksX0_asked_1 : cX0_asked.data.toList.drop 24 = dktX0_asked_1 := dk_seg dksX0_asked_0 24 rfl rfl
theorem dksX0_asked_2 : cX0_asked.data.toList.drop 48 = dktX0_asked_2 := dk_seg dksX0_asked_1 24 rfl rfl
theorem dksX0_asked_3 : cX0_asked.data.toList.drop 72 = dktX0_asked_3 := dk_seg dksX0_asked_2 24 rfl rfl
theorem dksX0_asked_4 : cX0_asked.data.toList.drop 95 = dktX0_asked_4 := dk_seg dksX0_asked_3 23 rfl rfl
theorem dksX0_asked_5 : cX0_asked.data.toList.drop 117 = dktX0_asked_5 := dk_seg dksX0_asked_4 22 rfl rfl
theorem dX0_asked_0 : decode cX0_asked 0 = .ok (.aload_n 0, 1) := dk_42 (dk_at dksX0_asked_0 0 rfl rfl)
theorem dX0_asked_1 : decode cX0_asked 1 = .ok (.getfield 1, 3) := dk_180 0 1 (dk_at dksX0_asked_0 1 rfl rfl)
theorem dX0_asked_4 : decode cX0_asked 4 = .ok (.iload_n 1, 1) := dk_27 (dk_at dksX0_asked_0 4 rfl rfl)
theorem dX0_asked_5 : decode cX0_asked 5 = .ok (.invokeinterface 7 2, 5) := by decide +kernel
theorem dX0_asked_10 : decode cX0_asked 10 = .ok (.checkcast 13, 3) := dk_192 0 13 (dk_at dksX0_asked_0 10 rfl rfl)
theorem dX0_asked_13 : decode cX0_asked 13 = .ok (.astore_n 2, 1) := dk_77 (dk_at dksX0_asked_0 13 rfl rfl)
theorem dX0_asked_14 : decode cX0_asked 14 = .ok (.aload_n 2, 1) := dk_44 (dk_at dksX0_asked_0 14 rfl rfl)
theorem dX0_asked_15 : decode cX0_asked 15 = .ok (.getfield 15, 3) := dk_180 0 15 (dk_at dksX0_asked_0 15 rfl rfl)
theorem dX0_asked_18 : decode cX0_asked 18 = .ok (.ldc 19, 2) := dk_18 19 (dk_at dksX0_asked_0 18 rfl rfl)
theorem dX0_asked_20 : decode cX0_asked 20 = .ok (.if_icmp .eq 23, 3) := dk_159 0 23 (dk_at dksX0_asked_0 20 rfl rfl)
theorem dX0_asked_23 : decode cX0_asked 23 = .ok (.aload_n 2, 1) := dk_44 (dk_at dksX0_asked_0 23 rfl rfl)
theorem dX0_asked_24 : decode cX0_asked 24 = .ok (.getfield 15, 3) := dk_180 0 15 (dk_at dksX0_asked_1 0 rfl rfl)
theorem dX0_asked_27 : decode cX0_asked 27 = .ok (.aload_n 0, 1) := dk_42 (dk_at dksX0_asked_1 3 rfl rfl)
theorem dX0_asked_28 : decode cX0_asked 28 = .ok (.getfield 20, 3) := dk_180 0 20 (dk_at dksX0_asked_1 4 rfl rfl)
theorem dX0_asked_31 : decode cX0_asked 31 = .ok (.if_icmp .gt 12, 3) := dk_163 0 12 (dk_at dksX0_asked_1 7 rfl rfl)
theorem dX0_asked_34 : decode cX0_asked 34 = .ok (.new 23, 3) := dk_187 0 23 (dk_at dksX0_asked_1 10 rfl rfl)
theorem dX0_asked_37 : decode cX0_asked 37 = .ok (.dup, 1) := dk_89 (dk_at dksX0_asked_1 13 rfl rfl)
theorem dX0_asked_38 : decode cX0_asked 38 = .ok (.aload_n 2, 1) := dk_44 (dk_at dksX0_asked_1 14 rfl rfl)
theorem dX0_asked_39 : decode cX0_asked 39 = .ok (.invokespecial 25, 3) := dk_183 0 25 (dk_at dksX0_asked_1 15 rfl rfl)
theorem dX0_asked_42 : decode cX0_asked 42 = .ok (.areturn, 1) := dk_176 (dk_at dksX0_asked_1 18 rfl rfl)
theorem dX0_asked_43 : decode cX0_asked 43 = .ok (.aload_n 0, 1) := dk_42 (dk_at dksX0_asked_1 19 rfl rfl)
theorem dX0_asked_44 : decode cX0_asked 44 = .ok (.aload_n 0, 1) := dk_42 (dk_at dksX0_asked_1 20 rfl rfl)
theorem dX0_asked_45 : decode cX0_asked 45 = .ok (.getfield 20, 3) := dk_180 0 20 (dk_at dksX0_asked_1 21 rfl rfl)
theorem dX0_asked_48 : decode cX0_asked 48 = .ok (.invokevirtual 29, 3) := dk_182 0 29 (dk_at dksX0_asked_2 0 rfl rfl)
theorem dX0_asked_51 : decode cX0_asked 51 = .ok (.iload_n 1, 1) := dk_27 (dk_at dksX0_asked_2 3 rfl rfl)
theorem dX0_asked_52 : decode cX0_asked 52 = .ok (.ishr, 1) := dk_122 (dk_at dksX0_asked_2 4 rfl rfl)
theorem dX0_asked_53 : decode cX0_asked 53 = .ok (.iconst 1, 1) := dk_4 (dk_at dksX0_asked_2 5 rfl rfl)
theorem dX0_asked_54 : decode cX0_asked 54 = .ok (.iand, 1) := dk_126 (dk_at dksX0_asked_2 6 rfl rfl)
theorem dX0_asked_55 : decode cX0_asked 55 = .ok (.iconst 1, 1) := dk_4 (dk_at dksX0_asked_2 7 rfl rfl)
theorem dX0_asked_56 : decode cX0_asked 56 = .ok (.if_icmp .ne 53, 3) := dk_160 0 53 (dk_at dksX0_asked_2 8 rfl rfl)
theorem dX0_asked_59 : decode cX0_asked 59 = .ok (.aload_n 0, 1) := dk_42 (dk_at dksX0_asked_2 11 rfl rfl)
theorem dX0_asked_60 : decode cX0_asked 60 = .ok (.getfield 33, 3) := dk_180 0 33 (dk_at dksX0_asked_2 12 rfl rfl)
theorem dX0_asked_63 : decode cX0_asked 63 = .ok (.aload_n 2, 1) := dk_44 (dk_at dksX0_asked_2 15 rfl rfl)
theorem dX0_asked_64 : decode cX0_asked 64 = .ok (.getfield 37, 3) := dk_180 0 37 (dk_at dksX0_asked_2 16 rfl rfl)
theorem dX0_asked_67 : decode cX0_asked 67 = .ok (.aaload, 1) := dk_50 (dk_at dksX0_asked_2 19 rfl rfl)
theorem dX0_asked_68 : decode cX0_asked 68 = .ok (.getfield 40, 3) := dk_180 0 40 (dk_at dksX0_asked_2 20 rfl rfl)
theorem dX0_asked_71 : decode cX0_asked 71 = .ok (.aload_n 2, 1) := dk_44 (dk_at dksX0_asked_2 23 rfl rfl)
theorem dX0_asked_72 : decode cX0_asked 72 = .ok (.getfield 46, 3) := dk_180 0 46 (dk_at dksX0_asked_3 0 rfl rfl)
theorem dX0_asked_75 : decode cX0_asked 75 = .ok (.iaload, 1) := dk_46 (dk_at dksX0_asked_3 3 rfl rfl)
theorem dX0_asked_76 : decode cX0_asked 76 = .ok (.ifCond .ne 19, 3) := dk_154 0 19 (dk_at dksX0_asked_3 4 rfl rfl)
theorem dX0_asked_79 : decode cX0_asked 79 = .ok (.new 49, 3) := dk_187 0 49 (dk_at dksX0_asked_3 7 rfl rfl)
theorem dX0_asked_82 : decode cX0_asked 82 = .ok (.dup, 1) := dk_89 (dk_at dksX0_asked_3 10 rfl rfl)
theorem dX0_asked_83 : decode cX0_asked 83 = .ok (.aload_n 2, 1) := dk_44 (dk_at dksX0_asked_3 11 rfl rfl)
theorem dX0_asked_84 : decode cX0_asked 84 = .ok (.aload_n 0, 1) := dk_42 (dk_at dksX0_asked_3 12 rfl rfl)
theorem dX0_asked_85 : decode cX0_asked 85 = .ok (.aload_n 2, 1) := dk_44 (dk_at dksX0_asked_3 13 rfl rfl)
theorem dX0_asked_86 : decode cX0_asked 86 = .ok (.invokevirtual 51, 3) := dk_182 0 51 (dk_at dksX0_asked_3 14 rfl rfl)
theorem dX0_asked_89 : decode cX0_asked 89 = .ok (.invokespecial 55, 3) := dk_183 0 55 (dk_at dksX0_asked_3 17 rfl rfl)
theorem dX0_asked_92 : decode cX0_asked 92 = .ok (.goto 16, 3) := dk_167 0 16 (dk_at dksX0_asked_3 20 rfl rfl)
theorem dX0_asked_95 : decode cX0_asked 95 = .ok (.new 58, 3) := dk_187 0 58 (dk_at dksX0_asked_4 0 rfl rfl)
theorem dX0_asked_98 : decode cX0_asked 98 = .ok (.dup, 1) := dk_89 (dk_at dksX0_asked_4 3 rfl rfl)
theorem dX0_asked_99 : decode cX0_asked 99 = .ok (.aload_n 2, 1) := dk_44 (dk_at dksX0_asked_4 4 rfl rfl)
theorem dX0_asked_100 : decode cX0_asked 100 = .ok (.aload_n 0, 1) := dk_42 (dk_at dksX0_asked_4 5 rfl rfl)
theorem dX0_asked_101 : decode cX0_asked 101 = .ok (.aload_n 2, 1) := dk_44 (dk_at dksX0_asked_4 6 rfl rfl)
theorem dX0_asked_102 : decode cX0_asked 102 = .ok (.invokevirtual 51, 3) := dk_182 0 51 (dk_at dksX0_asked_4 7 rfl rfl)
theorem dX0_asked_105 : decode cX0_asked 105 = .ok (.invokespecial 60, 3) := dk_183 0 60 (dk_at dksX0_asked_4 10 rfl rfl)
theorem dX0_asked_108 : decode cX0_asked 108 = .ok (.areturn, 1) := dk_176 (dk_at dksX0_asked_4 13 rfl rfl)
theorem dX0_asked_109 : decode cX0_asked 109 = .ok (.aload_n 2, 1) := dk_44 (dk_at dksX0_asked_4 14 rfl rfl)
theorem dX0_asked_110 : decode cX0_asked 110 = .ok (.aload_n 0, 1) := dk_42 (dk_at dksX0_asked_4 15 rfl rfl)
theorem dX0_asked_111 : decode cX0_asked 111 = .ok (.getfield 20, 3) := dk_180 0 20 (dk_at dksX0_asked_4 16 rfl rfl)
theorem dX0_asked_114 : decode cX0_asked 114 = .ok (.invokevirtual 61, 3) := dk_182 0 61 (dk_at dksX0_asked_4 19 rfl rfl)
theorem dX0_asked_117 : decode cX0_asked 117 = .ok (.ifCond .eq 14, 3) := dk_153 0 14 (dk_at dksX0_asked_5 0 rfl rfl)
theorem dX0_asked_120 : decode cX0_asked 120 = .ok (.new 65, 3) := dk_187 0 65 (dk_at dksX0_asked_5 3 rfl rfl)
theorem dX0_asked_123 : decode cX0_asked 123 = .ok (.dup, 1) := dk_89 (dk_at dksX0_asked_5 6 rfl rfl)
theorem dX0_asked_124 : decode cX0_asked 124 = .ok (.aload_n 2, 1) := dk_44 (dk_at dksX0_asked_5 7 rfl rfl)
theorem dX0_asked_125 : decode cX0_asked 125 = .ok (.invokespecial 67, 3) := dk_183 0 67 (dk_at dksX0_asked_5 8 rfl rfl)
theorem dX0_asked_128 : decode cX0_asked 128 = .ok (.goto 11, 3) := dk_167 0 11 (dk_at dksX0_asked_5 11 rfl rfl)
theorem dX0_asked_131 : decode cX0_asked 131 = .ok (.new 68, 3) := dk_187 0 68 (dk_at dksX0_asked_5 14 rfl rfl)
theorem dX0_asked_134 : decode cX0_asked 134 = .ok (.dup, 1) := dk_89 (dk_at dksX0_asked_5 17 rfl rfl)
theorem dX0_asked_135 : decode cX0_asked 135 = .ok (.aload_n 2, 1) := dk_44 (dk_at dksX0_asked_5 18 rfl rfl)
theorem dX0_asked_136 : decode cX0_asked 136 = .ok (.invokespecial 70, 3) := dk_183 0 70 (dk_at dksX0_asked_5 19 rfl rfl)
theorem dX0_asked_139 : decode cX0_asked 139 = .ok (.areturn, 1) := dk_176 (dk_at dksX0_asked_5 22 rfl rfl)
abbrev cX0_as : ByteArray := prog_1_method_57_code
def yX0_as : MethodName := ⟨RX0, "as", "(II)I"⟩
def dkwX0_as_4 : List UInt8 := [187, 0, 130, 89, 6, 183, 0, 138, 191, 78, 42, 45, 182, 0, 163, 172]
abbrev dktX0_as_4 : List UInt8 := dkwX0_as_4 ++ []
def dkwX0_as_3 : List UInt8 := [167, 0, 7, 45, 192, 0, 65, 58, 4, 42, 25, 4, 180, 1, 191, 180, 1, 18, 182, 0, 160, 172, 58, 4]
abbrev dktX0_as_3 : List UInt8 := dkwX0_as_3 ++ dktX0_as_4
def dkwX0_as_2 : List UInt8 := [167, 0, 31, 28, 5, 160, 0, 10, 45, 192, 0, 49, 167, 0, 19, 28, 6, 160, 0, 10, 45, 192, 0, 23]
abbrev dktX0_as_2 : List UInt8 := dkwX0_as_2 ++ dktX0_as_3
def dkwX0_as_1 : List UInt8 := [27, 182, 1, 185, 78, 28, 154, 0, 7, 45, 167, 0, 43, 28, 4, 160, 0, 10, 45, 192, 0, 58]
abbrev dktX0_as_1 : List UInt8 := dkwX0_as_1 ++ dktX0_as_2
def dkwX0_as_0 : List UInt8 := [42, 27, 182, 1, 12, 153, 0, 15, 28, 133, 9, 20, 0, 252, 184, 0, 143, 154, 0, 6, 18, 156, 172, 42]
abbrev dktX0_as_0 : List UInt8 := dkwX0_as_0 ++ dktX0_as_1
theorem dksX0_as_0 : cX0_as.data.toList.drop 0 = dktX0_as_0 := by decide +kernel
theorem dksX0_as_1 : cX0_as.data.toList.drop 24 = dktX0_as_1 := dk_seg dksX0_as_0 24 rfl rfl
theorem dksX0_as_2 : cX0_as.data.toList.drop 46 = dktX0_as_2 := dk_seg dksX0_as_1 22 rfl rfl
theorem dksX0_as_3 : cX0_as.data.toList.drop 70 = dktX0_as_3 := dk_seg dksX0_as_2 24 rfl rfl
theorem dksX0_as_4 : cX0_as.data.toList.drop 94 = dktX0_as_4 := dk_seg dksX0_as_3 24 rfl rfl
theorem dX0_as_0 : decode cX0_as 0 = .ok (.aload_n 0, 1) := dk_42 (dk_at dksX0_as_0 0 rfl rfl)
theorem dX0_as_1 : decode cX0_as 1 = .ok (.iload_n 1, 1) := dk_27 (dk_at dksX0_as_0 1 rfl rfl)
theorem dX0_as_2 : decode cX0_as 2 = .ok (.invokevirtual 268, 3) := dk_182 1 12 (dk_at dksX0_as_0 2 rfl rfl)
theorem dX0_as_5 : decode cX0_as 5 = .ok (.ifCond .eq 15, 3) := dk_153 0 15 (dk_at dksX0_as_0 5 rfl rfl)
theorem dX0_as_8 : decode cX0_as 8 = .ok (.iload_n 2, 1) := dk_28 (dk_at dksX0_as_0 8 rfl rfl)
theorem dX0_as_9 : decode cX0_as 9 = .ok (.i2l, 1) := dk_133 (dk_at dksX0_as_0 9 rfl rfl)
theorem dX0_as_10 : decode cX0_as 10 = .ok (.lconst 0, 1) := dk_9 (dk_at dksX0_as_0 10 rfl rfl)
theorem dX0_as_11 : decode cX0_as 11 = .ok (.ldc2_w 252, 3) := dk_20 0 252 (dk_at dksX0_as_0 11 rfl rfl)
theorem dX0_as_14 : decode cX0_as 14 = .ok (.invokestatic 143, 3) := dk_184 0 143 (dk_at dksX0_as_0 14 rfl rfl)
theorem dX0_as_17 : decode cX0_as 17 = .ok (.ifCond .ne 6, 3) := dk_154 0 6 (dk_at dksX0_as_0 17 rfl rfl)
theorem dX0_as_20 : decode cX0_as 20 = .ok (.ldc 156, 2) := dk_18 156 (dk_at dksX0_as_0 20 rfl rfl)
theorem dX0_as_22 : decode cX0_as 22 = .ok (.ireturn, 1) := dk_172 (dk_at dksX0_as_0 22 rfl rfl)
theorem dX0_as_23 : decode cX0_as 23 = .ok (.aload_n 0, 1) := dk_42 (dk_at dksX0_as_0 23 rfl rfl)
theorem dX0_as_24 : decode cX0_as 24 = .ok (.iload_n 1, 1) := dk_27 (dk_at dksX0_as_1 0 rfl rfl)
theorem dX0_as_25 : decode cX0_as 25 = .ok (.invokevirtual 441, 3) := dk_182 1 185 (dk_at dksX0_as_1 1 rfl rfl)
theorem dX0_as_28 : decode cX0_as 28 = .ok (.astore_n 3, 1) := dk_78 (dk_at dksX0_as_1 4 rfl rfl)
theorem dX0_as_29 : decode cX0_as 29 = .ok (.iload_n 2, 1) := dk_28 (dk_at dksX0_as_1 5 rfl rfl)
theorem dX0_as_30 : decode cX0_as 30 = .ok (.ifCond .ne 7, 3) := dk_154 0 7 (dk_at dksX0_as_1 6 rfl rfl)
theorem dX0_as_33 : decode cX0_as 33 = .ok (.aload_n 3, 1) := dk_45 (dk_at dksX0_as_1 9 rfl rfl)
theorem dX0_as_34 : decode cX0_as 34 = .ok (.goto 43, 3) := dk_167 0 43 (dk_at dksX0_as_1 10 rfl rfl)
theorem dX0_as_37 : decode cX0_as 37 = .ok (.iload_n 2, 1) := dk_28 (dk_at dksX0_as_1 13 rfl rfl)
theorem dX0_as_38 : decode cX0_as 38 = .ok (.iconst 1, 1) := dk_4 (dk_at dksX0_as_1 14 rfl rfl)
theorem dX0_as_39 : decode cX0_as 39 = .ok (.if_icmp .ne 10, 3) := dk_160 0 10 (dk_at dksX0_as_1 15 rfl rfl)
theorem dX0_as_42 : decode cX0_as 42 = .ok (.aload_n 3, 1) := dk_45 (dk_at dksX0_as_1 18 rfl rfl)
theorem dX0_as_43 : decode cX0_as 43 = .ok (.checkcast 58, 3) := dk_192 0 58 (dk_at dksX0_as_1 19 rfl rfl)
theorem dX0_as_46 : decode cX0_as 46 = .ok (.goto 31, 3) := dk_167 0 31 (dk_at dksX0_as_2 0 rfl rfl)
theorem dX0_as_49 : decode cX0_as 49 = .ok (.iload_n 2, 1) := dk_28 (dk_at dksX0_as_2 3 rfl rfl)
theorem dX0_as_50 : decode cX0_as 50 = .ok (.iconst 2, 1) := dk_5 (dk_at dksX0_as_2 4 rfl rfl)
theorem dX0_as_51 : decode cX0_as 51 = .ok (.if_icmp .ne 10, 3) := dk_160 0 10 (dk_at dksX0_as_2 5 rfl rfl)
theorem dX0_as_54 : decode cX0_as 54 = .ok (.aload_n 3, 1) := dk_45 (dk_at dksX0_as_2 8 rfl rfl)
theorem dX0_as_55 : decode cX0_as 55 = .ok (.checkcast 49, 3) := dk_192 0 49 (dk_at dksX0_as_2 9 rfl rfl)
theorem dX0_as_58 : decode cX0_as 58 = .ok (.goto 19, 3) := dk_167 0 19 (dk_at dksX0_as_2 12 rfl rfl)
theorem dX0_as_61 : decode cX0_as 61 = .ok (.iload_n 2, 1) := dk_28 (dk_at dksX0_as_2 15 rfl rfl)
theorem dX0_as_62 : decode cX0_as 62 = .ok (.iconst 3, 1) := dk_6 (dk_at dksX0_as_2 16 rfl rfl)
theorem dX0_as_63 : decode cX0_as 63 = .ok (.if_icmp .ne 10, 3) := dk_160 0 10 (dk_at dksX0_as_2 17 rfl rfl)
theorem dX0_as_66 : decode cX0_as 66 = .ok (.aload_n 3, 1) := dk_45 (dk_at dksX0_as_2 20 rfl rfl)
theorem dX0_as_67 : decode cX0_as 67 = .ok (.checkcast 23, 3) := dk_192 0 23 (dk_at dksX0_as_2 21 rfl rfl)
theorem dX0_as_70 : decode cX0_as 70 = .ok (.goto 7, 3) := dk_167 0 7 (dk_at dksX0_as_3 0 rfl rfl)
theorem dX0_as_73 : decode cX0_as 73 = .ok (.aload_n 3, 1) := dk_45 (dk_at dksX0_as_3 3 rfl rfl)
theorem dX0_as_74 : decode cX0_as 74 = .ok (.checkcast 65, 3) := dk_192 0 65 (dk_at dksX0_as_3 4 rfl rfl)
theorem dX0_as_77 : decode cX0_as 77 = .ok (.astore 4, 2) := dk_58 4 (dk_at dksX0_as_3 7 rfl rfl)
theorem dX0_as_79 : decode cX0_as 79 = .ok (.aload_n 0, 1) := dk_42 (dk_at dksX0_as_3 9 rfl rfl)
theorem dX0_as_80 : decode cX0_as 80 = .ok (.aload 4, 2) := dk_25 4 (dk_at dksX0_as_3 10 rfl rfl)
theorem dX0_as_82 : decode cX0_as 82 = .ok (.getfield 447, 3) := dk_180 1 191 (dk_at dksX0_as_3 12 rfl rfl)
theorem dX0_as_85 : decode cX0_as 85 = .ok (.getfield 274, 3) := dk_180 1 18 (dk_at dksX0_as_3 15 rfl rfl)
theorem dX0_as_88 : decode cX0_as 88 = .ok (.invokevirtual 160, 3) := dk_182 0 160 (dk_at dksX0_as_3 18 rfl rfl)
theorem dX0_as_91 : decode cX0_as 91 = .ok (.ireturn, 1) := dk_172 (dk_at dksX0_as_3 21 rfl rfl)
theorem dX0_as_92 : decode cX0_as 92 = .ok (.astore 4, 2) := dk_58 4 (dk_at dksX0_as_3 22 rfl rfl)
theorem dX0_as_94 : decode cX0_as 94 = .ok (.new 130, 3) := dk_187 0 130 (dk_at dksX0_as_4 0 rfl rfl)
theorem dX0_as_97 : decode cX0_as 97 = .ok (.dup, 1) := dk_89 (dk_at dksX0_as_4 3 rfl rfl)
theorem dX0_as_98 : decode cX0_as 98 = .ok (.iconst 3, 1) := dk_6 (dk_at dksX0_as_4 4 rfl rfl)
theorem dX0_as_99 : decode cX0_as 99 = .ok (.invokespecial 138, 3) := dk_183 0 138 (dk_at dksX0_as_4 5 rfl rfl)
theorem dX0_as_102 : decode cX0_as 102 = .ok (.athrow, 1) := dk_191 (dk_at dksX0_as_4 8 rfl rfl)
theorem dX0_as_103 : decode cX0_as 103 = .ok (.astore_n 3, 1) := dk_78 (dk_at dksX0_as_4 9 rfl rfl)
theorem dX0_as_104 : decode cX0_as 104 = .ok (.aload_n 0, 1) := dk_42 (dk_at dksX0_as_4 10 rfl rfl)
theorem dX0_as_105 : decode cX0_as 105 = .ok (.aload_n 3, 1) := dk_45 (dk_at dksX0_as_4 11 rfl rfl)
theorem dX0_as_106 : decode cX0_as 106 = .ok (.invokevirtual 163, 3) := dk_182 0 163 (dk_at dksX0_as_4 12 rfl rfl)
theorem dX0_as_109 : decode cX0_as 109 = .ok (.ireturn, 1) := dk_172 (dk_at dksX0_as_4 15 rfl rfl)
abbrev cX0_ask : ByteArray := prog_1_method_58_code
def yX0_ask : MethodName := ⟨RX0, "ask", "(II)I"⟩
def dkwX0_ask_2 : List UInt8 := [180, 0, 117, 182, 1, 197, 167, 0, 11, 45, 42, 180, 0, 117, 182, 1, 200, 172]
abbrev dktX0_ask_2 : List UInt8 := dkwX0_ask_2 ++ []
def dkwX0_ask_1 : List UInt8 := [187, 0, 114, 89, 183, 0, 116, 181, 0, 117, 42, 27, 182, 1, 185, 78, 28, 154, 0, 14, 45, 42]
abbrev dktX0_ask_1 : List UInt8 := dkwX0_ask_1 ++ dktX0_ask_2
def dkwX0_ask_0 : List UInt8 := [42, 27, 182, 1, 12, 153, 0, 13, 28, 133, 9, 10, 184, 0, 143, 154, 0, 6, 18, 156, 172, 42]
abbrev dktX0_ask_0 : List UInt8 := dkwX0_ask_0 ++ dktX0_ask_1
theorem dksX0_ask_0 : cX0_ask.data.toList.drop 0 = dktX0_ask_0 := by decide +kernel
theorem dksX0_ask_1 : cX0_ask.data.toList.drop 22 = dktX0_ask_1 := dk_seg dksX0_ask_0 22 rfl rfl
theorem dksX0_ask_2 : cX0_ask.data.toList.drop 44 = dktX0_ask_2 := dk_seg dksX0_ask_1 22 rfl rfl
theorem dX0_ask_0 : decode cX0_ask 0 = .ok (.aload_n 0, 1) := dk_42 (dk_at dksX0_ask_0 0 rfl rfl)
theorem dX0_ask_1 : decode cX0_ask 1 = .ok (.iload_n 1, 1) := dk_27 (dk_at dksX0_ask_0 1 rfl rfl)
theorem dX0_ask_2 : decode cX0_ask 2 = .ok (.invokevirtual 268, 3) := dk_182 1 12 (dk_at dksX0_ask_0 2 rfl rfl)
theorem dX0_ask_5 : decode cX0_ask 5 = .ok (.ifCond .eq 13, 3) := dk_153 0 13 (dk_at dksX0_ask_0 5 rfl rfl)
theorem dX0_ask_8 : decode cX0_ask 8 = .ok (.iload_n 2, 1) := dk_28 (dk_at dksX0_ask_0 8 rfl rfl)
theorem dX0_ask_9 : decode cX0_ask 9 = .ok (.i2l, 1) := dk_133 (dk_at dksX0_ask_0 9 rfl rfl)
theorem dX0_ask_10 : decode cX0_ask 10 = .ok (.lconst 0, 1) := dk_9 (dk_at dksX0_ask_0 10 rfl rfl)
theorem dX0_ask_11 : decode cX0_ask 11 = .ok (.lconst 1, 1) := dk_10 (dk_at dksX0_ask_0 11 rfl rfl)
theorem dX0_ask_12 : decode cX0_ask 12 = .ok (.invokestatic 143, 3) := dk_184 0 143 (dk_at dksX0_ask_0 12 rfl rfl)
theorem dX0_ask_15 : decode cX0_ask 15 = .ok (.ifCond .ne 6, 3) := dk_154 0 6 (dk_at dksX0_ask_0 15 rfl rfl)
theorem dX0_ask_18 : decode cX0_ask 18 = .ok (.ldc 156, 2) := dk_18 156 (dk_at dksX0_ask_0 18 rfl rfl)
theorem dX0_ask_20 : decode cX0_ask 20 = .ok (.ireturn, 1) := dk_172 (dk_at dksX0_ask_0 20 rfl rfl)
theorem dX0_ask_21 : decode cX0_ask 21 = .ok (.aload_n 0, 1) := dk_42 (dk_at dksX0_ask_0 21 rfl rfl)
theorem dX0_ask_22 : decode cX0_ask 22 = .ok (.new 114, 3) := dk_187 0 114 (dk_at dksX0_ask_1 0 rfl rfl)
theorem dX0_ask_25 : decode cX0_ask 25 = .ok (.dup, 1) := dk_89 (dk_at dksX0_ask_1 3 rfl rfl)
theorem dX0_ask_26 : decode cX0_ask 26 = .ok (.invokespecial 116, 3) := dk_183 0 116 (dk_at dksX0_ask_1 4 rfl rfl)
theorem dX0_ask_29 : decode cX0_ask 29 = .ok (.putfield 117, 3) := dk_181 0 117 (dk_at dksX0_ask_1 7 rfl rfl)
theorem dX0_ask_32 : decode cX0_ask 32 = .ok (.aload_n 0, 1) := dk_42 (dk_at dksX0_ask_1 10 rfl rfl)
theorem dX0_ask_33 : decode cX0_ask 33 = .ok (.iload_n 1, 1) := dk_27 (dk_at dksX0_ask_1 11 rfl rfl)
theorem dX0_ask_34 : decode cX0_ask 34 = .ok (.invokevirtual 441, 3) := dk_182 1 185 (dk_at dksX0_ask_1 12 rfl rfl)
theorem dX0_ask_37 : decode cX0_ask 37 = .ok (.astore_n 3, 1) := dk_78 (dk_at dksX0_ask_1 15 rfl rfl)
theorem dX0_ask_38 : decode cX0_ask 38 = .ok (.iload_n 2, 1) := dk_28 (dk_at dksX0_ask_1 16 rfl rfl)
theorem dX0_ask_39 : decode cX0_ask 39 = .ok (.ifCond .ne 14, 3) := dk_154 0 14 (dk_at dksX0_ask_1 17 rfl rfl)
theorem dX0_ask_42 : decode cX0_ask 42 = .ok (.aload_n 3, 1) := dk_45 (dk_at dksX0_ask_1 20 rfl rfl)
theorem dX0_ask_43 : decode cX0_ask 43 = .ok (.aload_n 0, 1) := dk_42 (dk_at dksX0_ask_1 21 rfl rfl)
theorem dX0_ask_44 : decode cX0_ask 44 = .ok (.getfield 117, 3) := dk_180 0 117 (dk_at dksX0_ask_2 0 rfl rfl)
theorem dX0_ask_47 : decode cX0_ask 47 = .ok (.invokevirtual 453, 3) := dk_182 1 197 (dk_at dksX0_ask_2 3 rfl rfl)
theorem dX0_ask_50 : decode cX0_ask 50 = .ok (.goto 11, 3) := dk_167 0 11 (dk_at dksX0_ask_2 6 rfl rfl)
theorem dX0_ask_53 : decode cX0_ask 53 = .ok (.aload_n 3, 1) := dk_45 (dk_at dksX0_ask_2 9 rfl rfl)
theorem dX0_ask_54 : decode cX0_ask 54 = .ok (.aload_n 0, 1) := dk_42 (dk_at dksX0_ask_2 10 rfl rfl)
theorem dX0_ask_55 : decode cX0_ask 55 = .ok (.getfield 117, 3) := dk_180 0 117 (dk_at dksX0_ask_2 11 rfl rfl)
theorem dX0_ask_58 : decode cX0_ask 58 = .ok (.invokevirtual 456, 3) := dk_182 1 200 (dk_at dksX0_ask_2 14 rfl rfl)
theorem dX0_ask_61 : decode cX0_ask 61 = .ok (.ireturn, 1) := dk_172 (dk_at dksX0_ask_2 17 rfl rfl)
abbrev cX0_trace : ByteArray := prog_1_method_59_code
def yX0_trace : MethodName := ⟨RX0, "trace", "(I)I"⟩
def dkwX0_trace_1 : List UInt8 := [180, 1, 206, 27, 46, 167, 0, 5, 18, 19, 172]
abbrev dktX0_trace_1 : List UInt8 := dkwX0_trace_1 ++ []
def dkwX0_trace_0 : List UInt8 := [27, 133, 9, 42, 180, 0, 117, 180, 1, 203, 4, 100, 133, 184, 0, 143, 153, 0, 15, 42, 180, 0, 117]
abbrev dktX0_trace_0 : List UInt8 := dkwX0_trace_0 ++ dktX0_trace_1
theorem dksX0_trace_0 : cX0_trace.data.toList.drop 0 = dktX0_trace_0 := by decide +kernel
theorem dksX0_trace_1 : cX0_trace.data.toList.drop 23 = dktX0_trace_1 := dk_seg dksX0_trace_0 23 rfl rfl
theorem dX0_trace_0 : decode cX0_trace 0 = .ok (.iload_n 1, 1) := dk_27 (dk_at dksX0_trace_0 0 rfl rfl)
theorem dX0_trace_1 : decode cX0_trace 1 = .ok (.i2l, 1) := dk_133 (dk_at dksX0_trace_0 1 rfl rfl)
theorem dX0_trace_2 : decode cX0_trace 2 = .ok (.lconst 0, 1) := dk_9 (dk_at dksX0_trace_0 2 rfl rfl)
theorem dX0_trace_3 : decode cX0_trace 3 = .ok (.aload_n 0, 1) := dk_42 (dk_at dksX0_trace_0 3 rfl rfl)
theorem dX0_trace_4 : decode cX0_trace 4 = .ok (.getfield 117, 3) := dk_180 0 117 (dk_at dksX0_trace_0 4 rfl rfl)
theorem dX0_trace_7 : decode cX0_trace 7 = .ok (.getfield 459, 3) := dk_180 1 203 (dk_at dksX0_trace_0 7 rfl rfl)
theorem dX0_trace_10 : decode cX0_trace 10 = .ok (.iconst 1, 1) := dk_4 (dk_at dksX0_trace_0 10 rfl rfl)
theorem dX0_trace_11 : decode cX0_trace 11 = .ok (.isub, 1) := dk_100 (dk_at dksX0_trace_0 11 rfl rfl)
theorem dX0_trace_12 : decode cX0_trace 12 = .ok (.i2l, 1) := dk_133 (dk_at dksX0_trace_0 12 rfl rfl)
theorem dX0_trace_13 : decode cX0_trace 13 = .ok (.invokestatic 143, 3) := dk_184 0 143 (dk_at dksX0_trace_0 13 rfl rfl)
theorem dX0_trace_16 : decode cX0_trace 16 = .ok (.ifCond .eq 15, 3) := dk_153 0 15 (dk_at dksX0_trace_0 16 rfl rfl)
theorem dX0_trace_19 : decode cX0_trace 19 = .ok (.aload_n 0, 1) := dk_42 (dk_at dksX0_trace_0 19 rfl rfl)
theorem dX0_trace_20 : decode cX0_trace 20 = .ok (.getfield 117, 3) := dk_180 0 117 (dk_at dksX0_trace_0 20 rfl rfl)
theorem dX0_trace_23 : decode cX0_trace 23 = .ok (.getfield 462, 3) := dk_180 1 206 (dk_at dksX0_trace_1 0 rfl rfl)
theorem dX0_trace_26 : decode cX0_trace 26 = .ok (.iload_n 1, 1) := dk_27 (dk_at dksX0_trace_1 3 rfl rfl)
theorem dX0_trace_27 : decode cX0_trace 27 = .ok (.iaload, 1) := dk_46 (dk_at dksX0_trace_1 4 rfl rfl)
theorem dX0_trace_28 : decode cX0_trace 28 = .ok (.goto 5, 3) := dk_167 0 5 (dk_at dksX0_trace_1 5 rfl rfl)
theorem dX0_trace_31 : decode cX0_trace 31 = .ok (.ldc 19, 2) := dk_18 19 (dk_at dksX0_trace_1 8 rfl rfl)
theorem dX0_trace_33 : decode cX0_trace 33 = .ok (.ireturn, 1) := dk_172 (dk_at dksX0_trace_1 10 rfl rfl)
abbrev cX0_count : ByteArray := prog_1_method_61_code
def yX0_count : MethodName := ⟨RX0, "count", "(I)I"⟩
def dkwX0_count_5 : List UInt8 := [172, 42, 180, 0, 190, 172, 18, 156, 172]
abbrev dktX0_count_5 : List UInt8 := dkwX0_count_5 ++ []
def dkwX0_count_4 : List UInt8 := [100, 182, 1, 209, 172, 42, 180, 0, 98, 185, 0, 71, 1, 0, 172, 42, 180, 0, 107, 185, 0, 71, 1, 0]
abbrev dktX0_count_4 : List UInt8 := dkwX0_count_4 ++ dktX0_count_5
def dkwX0_count_3 : List UInt8 := [4, 96, 61, 132, 3, 1, 167, 255, 230, 28, 172, 42, 180, 0, 1, 185, 0, 71, 1, 0, 172, 42, 27, 4]
abbrev dktX0_count_3 : List UInt8 := dkwX0_count_3 ++ dktX0_count_4
def dkwX0_count_2 : List UInt8 := [3, 61, 3, 62, 29, 16, 8, 162, 0, 26, 28, 42, 180, 0, 91, 29, 50, 199, 0, 7, 3, 167, 0, 4]
abbrev dktX0_count_2 : List UInt8 := dkwX0_count_2 ++ dktX0_count_3
def dkwX0_count_1 : List UInt8 := [170, 0, 0, 0, 0, 0, 129, 0, 0, 0, 0, 0, 0, 0, 8, 0, 0, 0, 51, 0, 0, 0, 86, 0, 0, 0, 96, 0, 0, 0, 96, 0, 0, 0, 96, 0, 0, 0, 96, 0, 0, 0, 104, 0, 0, 0, 114, 0, 0, 0, 124]
abbrev dktX0_count_1 : List UInt8 := dkwX0_count_1 ++ dktX0_count_2
def dkwX0_count_0 : List UInt8 := [27]
abbrev dktX0_count_0 : List UInt8 := dkwX0_count_0 ++ dktX0_count_1
theorem dksX0_count_0 : cX0_count.data.toList.drop 0 = dktX0_count_0 := by decide +kernel
theorem dksX0_count_1 : cX0_count.data.toList.drop 1 = dktX0_count_1 := dk_seg dksX0_count_0 1 rfl rfl
theorem dksX0_count_2 : cX0_count.data.toList.drop 52 = dktX0_count_2 := dk_seg dksX0_count_1 51 rfl rfl
theorem dksX0_count_3 : cX0_count.data.toList.drop 76 = dktX0_count_3 := dk_seg dksX0_count_2 24 rfl rfl
theorem dksX0_count_4 : cX0_count.data.toList.drop 100 = dktX0_count_4 := dk_seg dksX0_count_3 24 rfl rfl
theorem dksX0_count_5 : cX0_count.data.toList.drop 124 = dktX0_count_5 := dk_seg dksX0_count_4 24 rfl rfl
theorem dX0_count_0 : decode cX0_count 0 = .ok (.iload_n 1, 1) := dk_27 (dk_at dksX0_count_0 0 rfl rfl)
theorem dX0_count_1 : decode cX0_count 1 = .ok (.tableswitch 129 0 8 #[51, 86, 96, 96, 96, 96, 104, 114, 124], 51) := by decide +kernel
theorem dX0_count_52 : decode cX0_count 52 = .ok (.iconst 0, 1) := dk_3 (dk_at dksX0_count_2 0 rfl rfl)
theorem dX0_count_53 : decode cX0_count 53 = .ok (.istore_n 2, 1) := dk_61 (dk_at dksX0_count_2 1 rfl rfl)
theorem dX0_count_54 : decode cX0_count 54 = .ok (.iconst 0, 1) := dk_3 (dk_at dksX0_count_2 2 rfl rfl)
theorem dX0_count_55 : decode cX0_count 55 = .ok (.istore_n 3, 1) := dk_62 (dk_at dksX0_count_2 3 rfl rfl)
theorem dX0_count_56 : decode cX0_count 56 = .ok (.iload_n 3, 1) := dk_29 (dk_at dksX0_count_2 4 rfl rfl)
theorem dX0_count_57 : decode cX0_count 57 = .ok (.bipush 8, 2) := dk_16 8 (dk_at dksX0_count_2 5 rfl rfl)
theorem dX0_count_59 : decode cX0_count 59 = .ok (.if_icmp .ge 26, 3) := dk_162 0 26 (dk_at dksX0_count_2 7 rfl rfl)
theorem dX0_count_62 : decode cX0_count 62 = .ok (.iload_n 2, 1) := dk_28 (dk_at dksX0_count_2 10 rfl rfl)
theorem dX0_count_63 : decode cX0_count 63 = .ok (.aload_n 0, 1) := dk_42 (dk_at dksX0_count_2 11 rfl rfl)
theorem dX0_count_64 : decode cX0_count 64 = .ok (.getfield 91, 3) := dk_180 0 91 (dk_at dksX0_count_2 12 rfl rfl)
theorem dX0_count_67 : decode cX0_count 67 = .ok (.iload_n 3, 1) := dk_29 (dk_at dksX0_count_2 15 rfl rfl)
theorem dX0_count_68 : decode cX0_count 68 = .ok (.aaload, 1) := dk_50 (dk_at dksX0_count_2 16 rfl rfl)
theorem dX0_count_69 : decode cX0_count 69 = .ok (.ifnonnull 7, 3) := dk_199 0 7 (dk_at dksX0_count_2 17 rfl rfl)
theorem dX0_count_72 : decode cX0_count 72 = .ok (.iconst 0, 1) := dk_3 (dk_at dksX0_count_2 20 rfl rfl)
theorem dX0_count_73 : decode cX0_count 73 = .ok (.goto 4, 3) := dk_167 0 4 (dk_at dksX0_count_2 21 rfl rfl)
theorem dX0_count_76 : decode cX0_count 76 = .ok (.iconst 1, 1) := dk_4 (dk_at dksX0_count_3 0 rfl rfl)
theorem dX0_count_77 : decode cX0_count 77 = .ok (.iadd, 1) := dk_96 (dk_at dksX0_count_3 1 rfl rfl)
theorem dX0_count_78 : decode cX0_count 78 = .ok (.istore_n 2, 1) := dk_61 (dk_at dksX0_count_3 2 rfl rfl)
theorem dX0_count_79 : decode cX0_count 79 = .ok (.iinc 3 1, 3) := dk_132 3 1 (dk_at dksX0_count_3 3 rfl rfl)
theorem dX0_count_82 : decode cX0_count 82 = .ok (.goto (-26), 3) := dk_167 255 230 (dk_at dksX0_count_3 6 rfl rfl)
theorem dX0_count_85 : decode cX0_count 85 = .ok (.iload_n 2, 1) := dk_28 (dk_at dksX0_count_3 9 rfl rfl)
theorem dX0_count_86 : decode cX0_count 86 = .ok (.ireturn, 1) := dk_172 (dk_at dksX0_count_3 10 rfl rfl)
theorem dX0_count_87 : decode cX0_count 87 = .ok (.aload_n 0, 1) := dk_42 (dk_at dksX0_count_3 11 rfl rfl)
theorem dX0_count_88 : decode cX0_count 88 = .ok (.getfield 1, 3) := dk_180 0 1 (dk_at dksX0_count_3 12 rfl rfl)
theorem dX0_count_91 : decode cX0_count 91 = .ok (.invokeinterface 71 1, 5) := by decide +kernel
theorem dX0_count_96 : decode cX0_count 96 = .ok (.ireturn, 1) := dk_172 (dk_at dksX0_count_3 20 rfl rfl)
theorem dX0_count_97 : decode cX0_count 97 = .ok (.aload_n 0, 1) := dk_42 (dk_at dksX0_count_3 21 rfl rfl)
theorem dX0_count_98 : decode cX0_count 98 = .ok (.iload_n 1, 1) := dk_27 (dk_at dksX0_count_3 22 rfl rfl)
theorem dX0_count_99 : decode cX0_count 99 = .ok (.iconst 1, 1) := dk_4 (dk_at dksX0_count_3 23 rfl rfl)
theorem dX0_count_100 : decode cX0_count 100 = .ok (.isub, 1) := dk_100 (dk_at dksX0_count_4 0 rfl rfl)
theorem dX0_count_101 : decode cX0_count 101 = .ok (.invokevirtual 465, 3) := dk_182 1 209 (dk_at dksX0_count_4 1 rfl rfl)
theorem dX0_count_104 : decode cX0_count 104 = .ok (.ireturn, 1) := dk_172 (dk_at dksX0_count_4 4 rfl rfl)
theorem dX0_count_105 : decode cX0_count 105 = .ok (.aload_n 0, 1) := dk_42 (dk_at dksX0_count_4 5 rfl rfl)
theorem dX0_count_106 : decode cX0_count 106 = .ok (.getfield 98, 3) := dk_180 0 98 (dk_at dksX0_count_4 6 rfl rfl)
theorem dX0_count_109 : decode cX0_count 109 = .ok (.invokeinterface 71 1, 5) := by decide +kernel
theorem dX0_count_114 : decode cX0_count 114 = .ok (.ireturn, 1) := dk_172 (dk_at dksX0_count_4 14 rfl rfl)
theorem dX0_count_115 : decode cX0_count 115 = .ok (.aload_n 0, 1) := dk_42 (dk_at dksX0_count_4 15 rfl rfl)
theorem dX0_count_116 : decode cX0_count 116 = .ok (.getfield 107, 3) := dk_180 0 107 (dk_at dksX0_count_4 16 rfl rfl)
theorem dX0_count_119 : decode cX0_count 119 = .ok (.invokeinterface 71 1, 5) := by decide +kernel
theorem dX0_count_124 : decode cX0_count 124 = .ok (.ireturn, 1) := dk_172 (dk_at dksX0_count_5 0 rfl rfl)
theorem dX0_count_125 : decode cX0_count 125 = .ok (.aload_n 0, 1) := dk_42 (dk_at dksX0_count_5 1 rfl rfl)
theorem dX0_count_126 : decode cX0_count 126 = .ok (.getfield 190, 3) := dk_180 0 190 (dk_at dksX0_count_5 2 rfl rfl)
theorem dX0_count_129 : decode cX0_count 129 = .ok (.ireturn, 1) := dk_172 (dk_at dksX0_count_5 5 rfl rfl)
theorem dX0_count_130 : decode cX0_count 130 = .ok (.ldc 156, 2) := dk_18 156 (dk_at dksX0_count_5 6 rfl rfl)
theorem dX0_count_132 : decode cX0_count 132 = .ok (.ireturn, 1) := dk_172 (dk_at dksX0_count_5 8 rfl rfl)
abbrev cX0_countOf : ByteArray := prog_1_method_60_code
def yX0_countOf : MethodName := ⟨RX0, "countOf", "(I)I"⟩
def dkwX0_countOf_2 : List UInt8 := [167, 0, 4, 3, 96, 61, 132, 3, 1, 167, 255, 205, 28, 172]
abbrev dktX0_countOf_2 : List UInt8 := dkwX0_countOf_2 ++ []
def dkwX0_countOf_1 : List UInt8 := [182, 1, 189, 54, 4, 28, 21, 4, 27, 159, 0, 14, 27, 4, 160, 0, 13, 21, 4, 5, 160, 0, 7, 4]
abbrev dktX0_countOf_1 : List UInt8 := dkwX0_countOf_1 ++ dktX0_countOf_2
def dkwX0_countOf_0 : List UInt8 := [3, 61, 3, 62, 29, 42, 180, 0, 1, 185, 0, 71, 1, 0, 162, 0, 44, 42, 29, 182, 1, 185]
abbrev dktX0_countOf_0 : List UInt8 := dkwX0_countOf_0 ++ dktX0_countOf_1
theorem dksX0_countOf_0 : cX0_countOf.data.toList.drop 0 = dktX0_countOf_0 := by decide +kernel
theorem dksX0_countOf_1 : cX0_countOf.data.toList.drop 22 = dktX0_countOf_1 := dk_seg dksX0_countOf_0 22 rfl rfl
theorem dksX0_countOf_2 : cX0_countOf.data.toList.drop 46 = dktX0_countOf_2 := dk_seg dksX0_countOf_1 24 rfl rfl
theorem dX0_countOf_0 : decode cX0_countOf 0 = .ok (.iconst 0, 1) := dk_3 (dk_at dksX0_countOf_0 0 rfl rfl)
theorem dX0_countOf_1 : decode cX0_countOf 1 = .ok (.istore_n 2, 1) := dk_61 (dk_at dksX0_countOf_0 1 rfl rfl)
theorem dX0_countOf_2 : decode cX0_countOf 2 = .ok (.iconst 0, 1) := dk_3 (dk_at dksX0_countOf_0 2 rfl rfl)
theorem dX0_countOf_3 : decode cX0_countOf 3 = .ok (.istore_n 3, 1) := dk_62 (dk_at dksX0_countOf_0 3 rfl rfl)
theorem dX0_countOf_4 : decode cX0_countOf 4 = .ok (.iload_n 3, 1) := dk_29 (dk_at dksX0_countOf_0 4 rfl rfl)
theorem dX0_countOf_5 : decode cX0_countOf 5 = .ok (.aload_n 0, 1) := dk_42 (dk_at dksX0_countOf_0 5 rfl rfl)
theorem dX0_countOf_6 : decode cX0_countOf 6 = .ok (.getfield 1, 3) := dk_180 0 1 (dk_at dksX0_countOf_0 6 rfl rfl)
theorem dX0_countOf_9 : decode cX0_countOf 9 = .ok (.invokeinterface 71 1, 5) := by decide +kernel
theorem dX0_countOf_14 : decode cX0_countOf 14 = .ok (.if_icmp .ge 44, 3) := dk_162 0 44 (dk_at dksX0_countOf_0 14 rfl rfl)
theorem dX0_countOf_17 : decode cX0_countOf 17 = .ok (.aload_n 0, 1) := dk_42 (dk_at dksX0_countOf_0 17 rfl rfl)
theorem dX0_countOf_18 : decode cX0_countOf 18 = .ok (.iload_n 3, 1) := dk_29 (dk_at dksX0_countOf_0 18 rfl rfl)
theorem dX0_countOf_19 : decode cX0_countOf 19 = .ok (.invokevirtual 441, 3) := dk_182 1 185 (dk_at dksX0_countOf_0 19 rfl rfl)
theorem dX0_countOf_22 : decode cX0_countOf 22 = .ok (.invokevirtual 445, 3) := dk_182 1 189 (dk_at dksX0_countOf_1 0 rfl rfl)
theorem dX0_countOf_25 : decode cX0_countOf 25 = .ok (.istore 4, 2) := dk_54 4 (dk_at dksX0_countOf_1 3 rfl rfl)
theorem dX0_countOf_27 : decode cX0_countOf 27 = .ok (.iload_n 2, 1) := dk_28 (dk_at dksX0_countOf_1 5 rfl rfl)
theorem dX0_countOf_28 : decode cX0_countOf 28 = .ok (.iload 4, 2) := dk_21 4 (dk_at dksX0_countOf_1 6 rfl rfl)
theorem dX0_countOf_30 : decode cX0_countOf 30 = .ok (.iload_n 1, 1) := dk_27 (dk_at dksX0_countOf_1 8 rfl rfl)
theorem dX0_countOf_31 : decode cX0_countOf 31 = .ok (.if_icmp .eq 14, 3) := dk_159 0 14 (dk_at dksX0_countOf_1 9 rfl rfl)
theorem dX0_countOf_34 : decode cX0_countOf 34 = .ok (.iload_n 1, 1) := dk_27 (dk_at dksX0_countOf_1 12 rfl rfl)
theorem dX0_countOf_35 : decode cX0_countOf 35 = .ok (.iconst 1, 1) := dk_4 (dk_at dksX0_countOf_1 13 rfl rfl)
theorem dX0_countOf_36 : decode cX0_countOf 36 = .ok (.if_icmp .ne 13, 3) := dk_160 0 13 (dk_at dksX0_countOf_1 14 rfl rfl)
theorem dX0_countOf_39 : decode cX0_countOf 39 = .ok (.iload 4, 2) := dk_21 4 (dk_at dksX0_countOf_1 17 rfl rfl)
theorem dX0_countOf_41 : decode cX0_countOf 41 = .ok (.iconst 2, 1) := dk_5 (dk_at dksX0_countOf_1 19 rfl rfl)
theorem dX0_countOf_42 : decode cX0_countOf 42 = .ok (.if_icmp .ne 7, 3) := dk_160 0 7 (dk_at dksX0_countOf_1 20 rfl rfl)
theorem dX0_countOf_45 : decode cX0_countOf 45 = .ok (.iconst 1, 1) := dk_4 (dk_at dksX0_countOf_1 23 rfl rfl)
theorem dX0_countOf_46 : decode cX0_countOf 46 = .ok (.goto 4, 3) := dk_167 0 4 (dk_at dksX0_countOf_2 0 rfl rfl)
theorem dX0_countOf_49 : decode cX0_countOf 49 = .ok (.iconst 0, 1) := dk_3 (dk_at dksX0_countOf_2 3 rfl rfl)
theorem dX0_countOf_50 : decode cX0_countOf 50 = .ok (.iadd, 1) := dk_96 (dk_at dksX0_countOf_2 4 rfl rfl)
theorem dX0_countOf_51 : decode cX0_countOf 51 = .ok (.istore_n 2, 1) := dk_61 (dk_at dksX0_countOf_2 5 rfl rfl)
theorem dX0_countOf_52 : decode cX0_countOf 52 = .ok (.iinc 3 1, 3) := dk_132 3 1 (dk_at dksX0_countOf_2 6 rfl rfl)
theorem dX0_countOf_55 : decode cX0_countOf 55 = .ok (.goto (-51), 3) := dk_167 255 205 (dk_at dksX0_countOf_2 9 rfl rfl)
theorem dX0_countOf_58 : decode cX0_countOf 58 = .ok (.iload_n 2, 1) := dk_28 (dk_at dksX0_countOf_2 12 rfl rfl)
theorem dX0_countOf_59 : decode cX0_countOf 59 = .ok (.ireturn, 1) := dk_172 (dk_at dksX0_countOf_2 13 rfl rfl)
abbrev cX0_status : ByteArray := prog_1_method_62_code
def yX0_status : MethodName := ⟨RX0, "status", "()I"⟩
theorem dX0_status_0 : decode cX0_status 0 = .ok (.aload_n 0, 1) := by decide +kernel
theorem dX0_status_1 : decode cX0_status 1 = .ok (.getfield 134, 3) := by decide +kernel
theorem dX0_status_4 : decode cX0_status 4 = .ok (.ireturn, 1) := by decide +kernel
theorem q70 : (Jvm.Cond.initialized "VillageHalls") ∈ lw_all := lw_g (lw_at lw_m1 1 rfl) rfl
theorem q110 : (Jvm.Cond.instantiable "VillageHalls" (15 : Nat)) ∈ lw_all := lw_g (lw_at lw_m1 41 rfl) rfl
theorem q112 : (Jvm.Cond.instanceMethod ({ cls := "VillageHalls", name := "<init>", desc := "()V" } : Jvm.MethodName)) ∈ lw_all := lw_g (lw_at lw_m1 43 rfl) rfl
theorem q113 : (Jvm.Cond.code ({ cls := "VillageHalls", name := "<init>", desc := "()V" } : Jvm.MethodName) prog_1_method_4_code (2 : Nat) (Option.none : Option Jvm.ClassFile.FieldType)) ∈ lw_all := lw_g (lw_at lw_m1 44 rfl) rfl
theorem q114 : (Jvm.Cond.methodLink "VillageHalls" (84 : Nat) ({ cls := "java/lang/Object", name := "<init>", desc := "()V" } : Jvm.MethodName)) ∈ lw_all := lw_g (lw_at lw_m1 45 rfl) rfl
theorem q117 : (Jvm.Cond.classLink "VillageHalls" (89 : Nat) "VillageHalls$Sheet") ∈ lw_all := lw_g (lw_at lw_m1 48 rfl) rfl
theorem q119 : (Jvm.Cond.classLink "VillageHalls" (41 : Nat) "VillageHalls$Hall") ∈ lw_all := lw_g (lw_at lw_m1 50 rfl) rfl
theorem q121 : (Jvm.Cond.classLink "VillageHalls" (95 : Nat) "java/util/ArrayList") ∈ lw_all := lw_g (lw_at lw_m1 52 rfl) rfl
theorem q123 : (Jvm.Cond.methodLink "VillageHalls" (97 : Nat) ({ cls := "java/util/ArrayList", name := "<init>", desc := "()V" } : Jvm.MethodName)) ∈ lw_all := lw_g (lw_at lw_m1 54 rfl) rfl
theorem q147 : (Jvm.Cond.classLink "VillageHalls" (114 : Nat) "VillageHalls$Trail") ∈ lw_all := lw_g (lw_at lw_m1 78 rfl) rfl
theorem q149 : (Jvm.Cond.methodLinkNest "VillageHalls" (116 : Nat) ({ cls := "VillageHalls$Trail", name := "<init>", desc := "()V" } : Jvm.MethodName) "VillageHalls") ∈ lw_tbl := lw_at lw_m1 80 rfl
theorem q154 : (Jvm.Cond.fieldLinkNest "VillageHalls" (462 : Nat) "VillageHalls$Trail" "body" "[I" "VillageHalls") ∈ lw_tbl := lw_at lw_m1 85 rfl
theorem q156 : (Jvm.Cond.fieldLinkNest "VillageHalls" (459 : Nat) "VillageHalls$Trail" "many" "I" "VillageHalls") ∈ lw_tbl := lw_at lw_m1 87 rfl
theorem q164 : (Jvm.Cond.classLink "VillageHalls" (13 : Nat) "VillageHalls$Booking") ∈ lw_all := lw_g (lw_at lw_m1 95 rfl) rfl
theorem q167 : (Jvm.Cond.methodLink "VillageHalls" (128 : Nat) ({ cls := "VillageHalls$Hall", name := "<init>", desc := "()V" } : Jvm.MethodName)) ∈ lw_all := lw_g (lw_at lw_m1 98 rfl) rfl
theorem q174 : (Jvm.Cond.fieldLinkNest "VillageHalls" (307 : Nat) "VillageHalls$Hall" "setup" "I" "VillageHalls") ∈ lw_tbl := lw_at lw_m1 105 rfl
theorem q177 : (Jvm.Cond.fieldLinkNest "VillageHalls" (329 : Nat) "VillageHalls$Hall" "licences" "I" "VillageHalls") ∈ lw_tbl := lw_at lw_m1 108 rfl
theorem q180 : (Jvm.Cond.fieldLinkNest "VillageHalls" (287 : Nat) "VillageHalls$Hall" "late" "I" "VillageHalls") ∈ lw_tbl := lw_at lw_m1 111 rfl
theorem q183 : (Jvm.Cond.fieldLinkNest "VillageHalls" (290 : Nat) "VillageHalls$Hall" "forfeit" "I" "VillageHalls") ∈ lw_tbl := lw_at lw_m1 114 rfl
theorem q187 : (Jvm.Cond.fieldLinkNest "VillageHalls" (326 : Nat) "VillageHalls$Hall" "fire" "[I" "VillageHalls") ∈ lw_tbl := lw_at lw_m1 118 rfl
theorem q190 : (Jvm.Cond.fieldLinkNest "VillageHalls" (284 : Nat) "VillageHalls$Hall" "rate" "[I" "VillageHalls") ∈ lw_tbl := lw_at lw_m1 121 rfl
theorem q192 : (Jvm.Cond.fieldLinkNest "VillageHalls" (40 : Nat) "VillageHalls$Hall" "rank" "[I" "VillageHalls") ∈ lw_tbl := lw_at lw_m1 123 rfl
theorem q208 : (Jvm.Cond.fieldLink "VillageHalls" (91 : Nat) "VillageHalls" "sheets" "[LVillageHalls$Sheet;") ∈ lw_all := lw_g (lw_at lw_m1 139 rfl) rfl
theorem q211 : (Jvm.Cond.fieldLink "VillageHalls" (33 : Nat) "VillageHalls" "halls" "[LVillageHalls$Hall;") ∈ lw_all := lw_g (lw_at lw_m1 142 rfl) rfl
theorem q213 : (Jvm.Cond.fieldLink "VillageHalls" (1 : Nat) "VillageHalls" "bookings" "Ljava/util/List;") ∈ lw_all := lw_g (lw_at lw_m1 144 rfl) rfl
theorem q214 : (Jvm.Cond.fieldLink "VillageHalls" (98 : Nat) "VillageHalls" "coins" "Ljava/util/List;") ∈ lw_all := lw_g (lw_at lw_m1 145 rfl) rfl
theorem q215 : (Jvm.Cond.fieldLink "VillageHalls" (101 : Nat) "VillageHalls" "keys" "Ljava/util/List;") ∈ lw_all := lw_g (lw_at lw_m1 146 rfl) rfl
theorem q216 : (Jvm.Cond.fieldLink "VillageHalls" (104 : Nat) "VillageHalls" "looks" "Ljava/util/List;") ∈ lw_all := lw_g (lw_at lw_m1 147 rfl) rfl
theorem q217 : (Jvm.Cond.fieldLink "VillageHalls" (107 : Nat) "VillageHalls" "meetings" "Ljava/util/List;") ∈ lw_all := lw_g (lw_at lw_m1 148 rfl) rfl
theorem q219 : (Jvm.Cond.fieldLink "VillageHalls" (110 : Nat) "VillageHalls" "tape" "[B") ∈ lw_all := lw_g (lw_at lw_m1 150 rfl) rfl
theorem q221 : (Jvm.Cond.fieldLink "VillageHalls" (190 : Nat) "VillageHalls" "taped" "I") ∈ lw_all := lw_g (lw_at lw_m1 152 rfl) rfl
theorem q222 : (Jvm.Cond.fieldLink "VillageHalls" (207 : Nat) "VillageHalls" "faultKind" "I") ∈ lw_all := lw_g (lw_at lw_m1 153 rfl) rfl
theorem q224 : (Jvm.Cond.fieldLink "VillageHalls" (20 : Nat) "VillageHalls" "today" "I") ∈ lw_all := lw_g (lw_at lw_m1 155 rfl) rfl
theorem q225 : (Jvm.Cond.fieldLink "VillageHalls" (117 : Nat) "VillageHalls" "trail" "LVillageHalls$Trail;") ∈ lw_all := lw_g (lw_at lw_m1 156 rfl) rfl
theorem q226 : (Jvm.Cond.fieldLink "VillageHalls" (134 : Nat) "VillageHalls" "status" "I") ∈ lw_all := lw_g (lw_at lw_m1 157 rfl) rfl
theorem q227 : (Jvm.Cond.fieldLink "VillageHalls" (121 : Nat) "VillageHalls" "turn" "[LVillageHalls$Booking;") ∈ lw_all := lw_g (lw_at lw_m1 158 rfl) rfl
theorem q228 : (Jvm.Cond.fieldLink "VillageHalls" (125 : Nat) "VillageHalls" "against" "[I") ∈ lw_all := lw_g (lw_at lw_m1 159 rfl) rfl
theorem q229 : (Jvm.Cond.laysFinal "VillageHalls" "VillageHalls" "sheets" "[LVillageHalls$Sheet;") ∈ lw_all := lw_g (lw_at lw_m1 160 rfl) rfl
theorem q230 : (Jvm.Cond.soleField "VillageHalls" "sheets") ∈ lw_all := lw_g (lw_at lw_m1 161 rfl) rfl
theorem q231 : (Jvm.Cond.laysFinal "VillageHalls" "VillageHalls" "halls" "[LVillageHalls$Hall;") ∈ lw_all := lw_g (lw_at lw_m1 162 rfl) rfl
theorem q232 : (Jvm.Cond.soleField "VillageHalls" "halls") ∈ lw_all := lw_g (lw_at lw_m1 163 rfl) rfl
theorem q233 : (Jvm.Cond.laysFinal "VillageHalls" "VillageHalls" "bookings" "Ljava/util/List;") ∈ lw_all := lw_g (lw_at lw_m1 164 rfl) rfl
theorem q234 : (Jvm.Cond.soleField "VillageHalls" "bookings") ∈ lw_all := lw_g (lw_at lw_m1 165 rfl) rfl
theorem q235 : (Jvm.Cond.laysFinal "VillageHalls" "VillageHalls" "coins" "Ljava/util/List;") ∈ lw_all := lw_g (lw_at lw_m1 166 rfl) rfl
theorem q236 : (Jvm.Cond.soleField "VillageHalls" "coins") ∈ lw_all := lw_g (lw_at lw_m1 167 rfl) rfl
theorem q237 : (Jvm.Cond.laysFinal "VillageHalls" "VillageHalls" "keys" "Ljava/util/List;") ∈ lw_all := lw_g (lw_at lw_m1 168 rfl) rfl
theorem q238 : (Jvm.Cond.soleField "VillageHalls" "keys") ∈ lw_all := lw_g (lw_at lw_m1 169 rfl) rfl
theorem q239 : (Jvm.Cond.laysFinal "VillageHalls" "VillageHalls" "looks" "Ljava/util/List;") ∈ lw_all := lw_g (lw_at lw_m1 170 rfl) rfl
theorem q240 : (Jvm.Cond.soleField "VillageHalls" "looks") ∈ lw_all := lw_g (lw_at lw_m1 171 rfl) rfl
theorem q241 : (Jvm.Cond.laysFinal "VillageHalls" "VillageHalls" "meetings" "Ljava/util/List;") ∈ lw_all := lw_g (lw_at lw_m1 172 rfl) rfl
theorem q242 : (Jvm.Cond.soleField "VillageHalls" "meetings") ∈ lw_all := lw_g (lw_at lw_m1 173 rfl) rfl
theorem q243 : (Jvm.Cond.laysFinal "VillageHalls" "VillageHalls" "tape" "[B") ∈ lw_all := lw_g (lw_at lw_m1 174 rfl) rfl
theorem q244 : (Jvm.Cond.soleField "VillageHalls" "tape") ∈ lw_all := lw_g (lw_at lw_m1 175 rfl) rfl
theorem q245 : (Jvm.Cond.lays "VillageHalls" "VillageHalls" "taped" "I") ∈ lw_all := lw_g (lw_at lw_m1 176 rfl) rfl
theorem q246 : (Jvm.Cond.soleField "VillageHalls" "taped") ∈ lw_all := lw_g (lw_at lw_m1 177 rfl) rfl
theorem q247 : (Jvm.Cond.lays "VillageHalls" "VillageHalls" "faultKind" "I") ∈ lw_all := lw_g (lw_at lw_m1 178 rfl) rfl
theorem q248 : (Jvm.Cond.soleField "VillageHalls" "faultKind") ∈ lw_all := lw_g (lw_at lw_m1 179 rfl) rfl
theorem q249 : (Jvm.Cond.lays "VillageHalls" "VillageHalls" "today" "I") ∈ lw_all := lw_g (lw_at lw_m1 180 rfl) rfl
theorem q250 : (Jvm.Cond.soleField "VillageHalls" "today") ∈ lw_all := lw_g (lw_at lw_m1 181 rfl) rfl
theorem q251 : (Jvm.Cond.lays "VillageHalls" "VillageHalls" "trail" "LVillageHalls$Trail;") ∈ lw_all := lw_g (lw_at lw_m1 182 rfl) rfl
theorem q252 : (Jvm.Cond.soleField "VillageHalls" "trail") ∈ lw_all := lw_g (lw_at lw_m1 183 rfl) rfl
theorem q253 : (Jvm.Cond.lays "VillageHalls" "VillageHalls" "status" "I") ∈ lw_all := lw_g (lw_at lw_m1 184 rfl) rfl
theorem q254 : (Jvm.Cond.soleField "VillageHalls" "status") ∈ lw_all := lw_g (lw_at lw_m1 185 rfl) rfl
theorem q255 : (Jvm.Cond.laysFinal "VillageHalls" "VillageHalls" "turn" "[LVillageHalls$Booking;") ∈ lw_all := lw_g (lw_at lw_m1 186 rfl) rfl
theorem q256 : (Jvm.Cond.soleField "VillageHalls" "turn") ∈ lw_all := lw_g (lw_at lw_m1 187 rfl) rfl
theorem q257 : (Jvm.Cond.laysFinal "VillageHalls" "VillageHalls" "against" "[I") ∈ lw_all := lw_g (lw_at lw_m1 188 rfl) rfl
theorem q258 : (Jvm.Cond.soleField "VillageHalls" "against") ∈ lw_all := lw_g (lw_at lw_m1 189 rfl) rfl
theorem q259 : (Jvm.Cond.superclass "VillageHalls" "java/lang/Object") ∈ lw_all := lw_g (lw_at lw_m1 190 rfl) rfl
theorem q261 : (Jvm.Cond.instanceMethod ({ cls := "VillageHalls", name := "sheet", desc := "(III)I" } : Jvm.MethodName)) ∈ lw_all := lw_g (lw_at lw_m1 192 rfl) rfl
theorem q262 : (Jvm.Cond.selects "VillageHalls" ({ cls := "VillageHalls", name := "sheet", desc := "(III)I" } : Jvm.MethodName) ({ cls := "VillageHalls", name := "sheet", desc := "(III)I" } : Jvm.MethodName)) ∈ lw_all := lw_g (lw_at lw_m1 193 rfl) rfl
theorem q263 : (Jvm.Cond.codeWith ({ cls := "VillageHalls", name := "sheet", desc := "(III)I" } : Jvm.MethodName) prog_1_method_10_code (5 : Nat) (Option.some Jvm.ClassFile.FieldType.int) [((28 : Nat), (61 : Nat), (62 : Nat), (130 : Nat))]) ∈ lw_all := lw_g (lw_at lw_m1 194 rfl) rfl
theorem q264 : (Jvm.Cond.classLink "VillageHalls" (130 : Nat) "VillageHalls$Finding") ∈ lw_all := lw_g (lw_at lw_m1 195 rfl) rfl
theorem q265 : (Jvm.Cond.methodLink "VillageHalls" (151 : Nat) ({ cls := "VillageHalls", name := "isSheet", desc := "(I)Z" } : Jvm.MethodName)) ∈ lw_all := lw_g (lw_at lw_m1 196 rfl) rfl
theorem q266 : (Jvm.Cond.static ({ cls := "VillageHalls", name := "isSheet", desc := "(I)Z" } : Jvm.MethodName)) ∈ lw_all := lw_g (lw_at lw_m1 197 rfl) rfl
theorem q267 : (Jvm.Cond.code ({ cls := "VillageHalls", name := "isSheet", desc := "(I)Z" } : Jvm.MethodName) prog_1_method_8_code (1 : Nat) (Option.some Jvm.ClassFile.FieldType.boolean)) ∈ lw_all := lw_g (lw_at lw_m1 198 rfl) rfl
theorem q268 : (Jvm.Cond.constantLong "VillageHalls" (141 : Nat) (7 : Int64)) ∈ lw_all := lw_g (lw_at lw_m1 199 rfl) rfl
theorem q269 : (Jvm.Cond.methodLink "VillageHalls" (143 : Nat) ({ cls := "VillageHalls", name := "isIn", desc := "(JJJ)Z" } : Jvm.MethodName)) ∈ lw_all := lw_g (lw_at lw_m1 200 rfl) rfl
theorem q270 : (Jvm.Cond.static ({ cls := "VillageHalls", name := "isIn", desc := "(JJJ)Z" } : Jvm.MethodName)) ∈ lw_all := lw_g (lw_at lw_m1 201 rfl) rfl
theorem q271 : (Jvm.Cond.code ({ cls := "VillageHalls", name := "isIn", desc := "(JJJ)Z" } : Jvm.MethodName) prog_1_method_1_code (6 : Nat) (Option.some Jvm.ClassFile.FieldType.boolean)) ∈ lw_all := lw_g (lw_at lw_m1 202 rfl) rfl
theorem q272 : (Jvm.Cond.constantLong "VillageHalls" (154 : Nat) (2 : Int64)) ∈ lw_all := lw_g (lw_at lw_m1 203 rfl) rfl
theorem q273 : (Jvm.Cond.constant "VillageHalls" (156 : Nat) (-1000001 : Int32)) ∈ lw_all := lw_g (lw_at lw_m1 204 rfl) rfl
theorem q274 : (Jvm.Cond.methodLink "VillageHalls" (147 : Nat) ({ cls := "VillageHalls", name := "must", desc := "(ZI)V" } : Jvm.MethodName)) ∈ lw_all := lw_g (lw_at lw_m1 205 rfl) rfl
theorem q275 : (Jvm.Cond.static ({ cls := "VillageHalls", name := "must", desc := "(ZI)V" } : Jvm.MethodName)) ∈ lw_all := lw_g (lw_at lw_m1 206 rfl) rfl
theorem q276 : (Jvm.Cond.code ({ cls := "VillageHalls", name := "must", desc := "(ZI)V" } : Jvm.MethodName) prog_1_method_7_code (2 : Nat) (Option.none : Option Jvm.ClassFile.FieldType)) ∈ lw_all := lw_g (lw_at lw_m1 207 rfl) rfl
theorem q317 : (Jvm.Cond.methodLink "VillageHalls" (138 : Nat) ({ cls := "VillageHalls$Finding", name := "<init>", desc := "(I)V" } : Jvm.MethodName)) ∈ lw_all := lw_g (lw_at lw_m2 8 rfl) rfl
theorem q327 : (Jvm.Cond.fieldLink "VillageHalls" (129 : Nat) "VillageHalls$Finding" "number" "I") ∈ lw_all := lw_g (lw_at lw_m2 18 rfl) rfl
theorem q344 : (Jvm.Cond.methodLink "VillageHalls" (157 : Nat) ({ cls := "VillageHalls$Sheet", name := "<init>", desc := "(II)V" } : Jvm.MethodName)) ∈ lw_all := lw_g (lw_at lw_m2 35 rfl) rfl
theorem q349 : (Jvm.Cond.fieldLink "VillageHalls" (177 : Nat) "VillageHalls$Sheet" "lane" "I") ∈ lw_all := lw_g (lw_at lw_m2 40 rfl) rfl
theorem q351 : (Jvm.Cond.fieldLink "VillageHalls" (171 : Nat) "VillageHalls$Sheet" "items" "[I") ∈ lw_all := lw_g (lw_at lw_m2 42 rfl) rfl
theorem q357 : (Jvm.Cond.methodLink "VillageHalls" (160 : Nat) ({ cls := "VillageHalls", name := "well", desc := "(I)I" } : Jvm.MethodName)) ∈ lw_all := lw_g (lw_at lw_m2 48 rfl) rfl
theorem q358 : (Jvm.Cond.privateMethod ({ cls := "VillageHalls", name := "well", desc := "(I)I" } : Jvm.MethodName)) ∈ lw_tbl := lw_at lw_m2 49 rfl
theorem q359 : (Jvm.Cond.instanceMethod ({ cls := "VillageHalls", name := "well", desc := "(I)I" } : Jvm.MethodName)) ∈ lw_all := lw_g (lw_at lw_m2 50 rfl) rfl
theorem q360 : (Jvm.Cond.code ({ cls := "VillageHalls", name := "well", desc := "(I)I" } : Jvm.MethodName) prog_1_method_6_code (2 : Nat) (Option.some Jvm.ClassFile.FieldType.int)) ∈ lw_all := lw_g (lw_at lw_m2 51 rfl) rfl
theorem q361 : (Jvm.Cond.methodLink "VillageHalls" (163 : Nat) ({ cls := "VillageHalls", name := "found", desc := "(LVillageHalls$Finding;)I" } : Jvm.MethodName)) ∈ lw_all := lw_g (lw_at lw_m2 52 rfl) rfl
theorem q362 : (Jvm.Cond.privateMethod ({ cls := "VillageHalls", name := "found", desc := "(LVillageHalls$Finding;)I" } : Jvm.MethodName)) ∈ lw_tbl := lw_at lw_m2 53 rfl
theorem q363 : (Jvm.Cond.instanceMethod ({ cls := "VillageHalls", name := "found", desc := "(LVillageHalls$Finding;)I" } : Jvm.MethodName)) ∈ lw_all := lw_g (lw_at lw_m2 54 rfl) rfl
theorem q364 : (Jvm.Cond.code ({ cls := "VillageHalls", name := "found", desc := "(LVillageHalls$Finding;)I" } : Jvm.MethodName) prog_1_method_5_code (2 : Nat) (Option.some Jvm.ClassFile.FieldType.int)) ∈ lw_all := lw_g (lw_at lw_m2 55 rfl) rfl
theorem q365 : (Jvm.Cond.constant "VillageHalls" (137 : Nat) (-1000010 : Int32)) ∈ lw_all := lw_g (lw_at lw_m2 56 rfl) rfl
theorem q367 : (Jvm.Cond.instanceMethod ({ cls := "VillageHalls", name := "set", desc := "(III)I" } : Jvm.MethodName)) ∈ lw_all := lw_g (lw_at lw_m2 58 rfl) rfl
theorem q368 : (Jvm.Cond.selects "VillageHalls" ({ cls := "VillageHalls", name := "set", desc := "(III)I" } : Jvm.MethodName) ({ cls := "VillageHalls", name := "set", desc := "(III)I" } : Jvm.MethodName)) ∈ lw_all := lw_g (lw_at lw_m2 59 rfl) rfl
theorem q369 : (Jvm.Cond.codeWith ({ cls := "VillageHalls", name := "set", desc := "(III)I" } : Jvm.MethodName) prog_1_method_11_code (5 : Nat) (Option.some Jvm.ClassFile.FieldType.int) [((10 : Nat), (60 : Nat), (61 : Nat), (130 : Nat))]) ∈ lw_all := lw_g (lw_at lw_m2 60 rfl) rfl
theorem q370 : (Jvm.Cond.methodLink "VillageHalls" (167 : Nat) ({ cls := "VillageHalls", name := "sheetAt", desc := "(I)LVillageHalls$Sheet;" } : Jvm.MethodName)) ∈ lw_all := lw_g (lw_at lw_m2 61 rfl) rfl
theorem q371 : (Jvm.Cond.privateMethod ({ cls := "VillageHalls", name := "sheetAt", desc := "(I)LVillageHalls$Sheet;" } : Jvm.MethodName)) ∈ lw_tbl := lw_at lw_m2 62 rfl
theorem q372 : (Jvm.Cond.instanceMethod ({ cls := "VillageHalls", name := "sheetAt", desc := "(I)LVillageHalls$Sheet;" } : Jvm.MethodName)) ∈ lw_all := lw_g (lw_at lw_m2 63 rfl) rfl
theorem q373 : (Jvm.Cond.code ({ cls := "VillageHalls", name := "sheetAt", desc := "(I)LVillageHalls$Sheet;" } : Jvm.MethodName) prog_1_method_9_code (2 : Nat) (Option.some (Jvm.ClassFile.FieldType.object "VillageHalls$Sheet"))) ∈ lw_all := lw_g (lw_at lw_m2 64 rfl) rfl
theorem q374 : (Jvm.Cond.methodLink "VillageHalls" (174 : Nat) ({ cls := "VillageHalls$Sheet", name := "cut", desc := "(I)I" } : Jvm.MethodName)) ∈ lw_all := lw_g (lw_at lw_m2 65 rfl) rfl
theorem q379 : (Jvm.Cond.instanceMethod ({ cls := "VillageHalls", name := "copy", desc := "(IIIII)I" } : Jvm.MethodName)) ∈ lw_all := lw_g (lw_at lw_m2 70 rfl) rfl
theorem q380 : (Jvm.Cond.selects "VillageHalls" ({ cls := "VillageHalls", name := "copy", desc := "(IIIII)I" } : Jvm.MethodName) ({ cls := "VillageHalls", name := "copy", desc := "(IIIII)I" } : Jvm.MethodName)) ∈ lw_all := lw_g (lw_at lw_m2 71 rfl) rfl
theorem q381 : (Jvm.Cond.codeWith ({ cls := "VillageHalls", name := "copy", desc := "(IIIII)I" } : Jvm.MethodName) prog_1_method_12_code (9 : Nat) (Option.some Jvm.ClassFile.FieldType.int) [((53 : Nat), (71 : Nat), (74 : Nat), (186 : Nat)), ((17 : Nat), (91 : Nat), (92 : Nat), (130 : Nat))]) ∈ lw_all := lw_g (lw_at lw_m2 72 rfl) rfl
theorem q382 : (Jvm.Cond.classLink "VillageHalls" (186 : Nat) "java/lang/IndexOutOfBoundsException") ∈ lw_all := lw_g (lw_at lw_m2 73 rfl) rfl
theorem q416 : (Jvm.Cond.methodLink "VillageHalls" (180 : Nat) ({ cls := "java/lang/System", name := "arraycopy", desc := "(Ljava/lang/Object;ILjava/lang/Object;II)V" } : Jvm.MethodName)) ∈ lw_all := lw_g (lw_at lw_m2 107 rfl) rfl
theorem q420 : (Jvm.Cond.instanceMethod ({ cls := "VillageHalls", name := "drop", desc := "(I)I" } : Jvm.MethodName)) ∈ lw_all := lw_g (lw_at lw_m2 111 rfl) rfl
theorem q421 : (Jvm.Cond.selects "VillageHalls" ({ cls := "VillageHalls", name := "drop", desc := "(I)I" } : Jvm.MethodName) ({ cls := "VillageHalls", name := "drop", desc := "(I)I" } : Jvm.MethodName)) ∈ lw_all := lw_g (lw_at lw_m2 112 rfl) rfl
theorem q422 : (Jvm.Cond.codeWith ({ cls := "VillageHalls", name := "drop", desc := "(I)I" } : Jvm.MethodName) prog_1_method_13_code (3 : Nat) (Option.some Jvm.ClassFile.FieldType.int) [((10 : Nat), (32 : Nat), (33 : Nat), (130 : Nat))]) ∈ lw_all := lw_g (lw_at lw_m2 113 rfl) rfl
theorem q424 : (Jvm.Cond.instanceMethod ({ cls := "VillageHalls", name := "feed", desc := "(JI)I" } : Jvm.MethodName)) ∈ lw_all := lw_g (lw_at lw_m2 115 rfl) rfl
theorem q425 : (Jvm.Cond.selects "VillageHalls" ({ cls := "VillageHalls", name := "feed", desc := "(JI)I" } : Jvm.MethodName) ({ cls := "VillageHalls", name := "feed", desc := "(JI)I" } : Jvm.MethodName)) ∈ lw_all := lw_g (lw_at lw_m2 116 rfl) rfl
theorem q426 : (Jvm.Cond.code ({ cls := "VillageHalls", name := "feed", desc := "(JI)I" } : Jvm.MethodName) prog_1_method_14_code (5 : Nat) (Option.some Jvm.ClassFile.FieldType.int)) ∈ lw_all := lw_g (lw_at lw_m2 117 rfl) rfl
theorem q427 : (Jvm.Cond.constantLong "VillageHalls" (188 : Nat) (8 : Int64)) ∈ lw_all := lw_g (lw_at lw_m2 118 rfl) rfl
theorem q428 : (Jvm.Cond.constant "VillageHalls" (193 : Nat) (-1000003 : Int32)) ∈ lw_all := lw_g (lw_at lw_m2 119 rfl) rfl
theorem q430 : (Jvm.Cond.instanceMethod ({ cls := "VillageHalls", name := "rules", desc := "()I" } : Jvm.MethodName)) ∈ lw_all := lw_g (lw_at lw_m2 121 rfl) rfl
theorem q431 : (Jvm.Cond.selects "VillageHalls" ({ cls := "VillageHalls", name := "rules", desc := "()I" } : Jvm.MethodName) ({ cls := "VillageHalls", name := "rules", desc := "()I" } : Jvm.MethodName)) ∈ lw_all := lw_g (lw_at lw_m2 122 rfl) rfl
theorem q432 : (Jvm.Cond.codeWith ({ cls := "VillageHalls", name := "rules", desc := "()I" } : Jvm.MethodName) prog_1_method_15_code (3 : Nat) (Option.some Jvm.ClassFile.FieldType.int) [((9 : Nat), (13 : Nat), (16 : Nat), (202 : Nat))]) ∈ lw_all := lw_g (lw_at lw_m2 123 rfl) rfl
theorem q433 : (Jvm.Cond.classLink "VillageHalls" (202 : Nat) "VillageHalls$Fault") ∈ lw_all := lw_g (lw_at lw_m2 124 rfl) rfl
theorem q434 : (Jvm.Cond.classLink "VillageHalls" (194 : Nat) "VillageHalls$Reader") ∈ lw_all := lw_g (lw_at lw_m2 125 rfl) rfl
theorem q436 : (Jvm.Cond.methodLink "VillageHalls" (196 : Nat) ({ cls := "VillageHalls$Reader", name := "<init>", desc := "(LVillageHalls;)V" } : Jvm.MethodName)) ∈ lw_all := lw_g (lw_at lw_m2 127 rfl) rfl
theorem q452 : (Jvm.Cond.fieldLink "VillageHalls" (214 : Nat) "VillageHalls$Reader" "told" "[LVillageHalls$Hall;") ∈ lw_all := lw_g (lw_at lw_m2 143 rfl) rfl
theorem q454 : (Jvm.Cond.fieldLinkNest "VillageHalls" (217 : Nat) "VillageHalls$Reader" "done" "I" "VillageHalls") ∈ lw_tbl := lw_at lw_m2 145 rfl
theorem q473 : (Jvm.Cond.methodLink "VillageHalls" (199 : Nat) ({ cls := "VillageHalls$Reader", name := "all", desc := "()V" } : Jvm.MethodName)) ∈ lw_all := lw_g (lw_at lw_m2 164 rfl) rfl
theorem q706 : (Jvm.Cond.fieldLink "VillageHalls" (204 : Nat) "VillageHalls$Fault" "kind" "I") ∈ lw_all := lw_g (lw_at lw_m3 157 rfl) rfl
theorem q708 : (Jvm.Cond.fieldLink "VillageHalls" (211 : Nat) "VillageHalls$Fault" "place" "I") ∈ lw_all := lw_g (lw_at lw_m3 159 rfl) rfl
theorem q734 : (Jvm.Cond.laysStatic "VillageHalls" "NAMES" "[Ljava/lang/String;") ∈ lw_tbl := lw_at lw_m3 185 rfl
theorem q743 : (Jvm.Cond.constant "VillageHalls" (210 : Nat) (-1000100 : Int32)) ∈ lw_all := lw_g (lw_at lw_m3 194 rfl) rfl
theorem q745 : (Jvm.Cond.instanceMethod ({ cls := "VillageHalls", name := "fault", desc := "()I" } : Jvm.MethodName)) ∈ lw_all := lw_g (lw_at lw_m3 196 rfl) rfl
theorem q746 : (Jvm.Cond.selects "VillageHalls" ({ cls := "VillageHalls", name := "fault", desc := "()I" } : Jvm.MethodName) ({ cls := "VillageHalls", name := "fault", desc := "()I" } : Jvm.MethodName)) ∈ lw_all := lw_g (lw_at lw_m3 197 rfl) rfl
theorem q747 : (Jvm.Cond.code ({ cls := "VillageHalls", name := "fault", desc := "()I" } : Jvm.MethodName) prog_1_method_16_code (1 : Nat) (Option.some Jvm.ClassFile.FieldType.int)) ∈ lw_all := lw_g (lw_at lw_m3 198 rfl) rfl
theorem q749 : (Jvm.Cond.instanceMethod ({ cls := "VillageHalls", name := "hall", desc := "(II)I" } : Jvm.MethodName)) ∈ lw_all := lw_g (lw_at lw_m3 200 rfl) rfl
theorem q750 : (Jvm.Cond.selects "VillageHalls" ({ cls := "VillageHalls", name := "hall", desc := "(II)I" } : Jvm.MethodName) ({ cls := "VillageHalls", name := "hall", desc := "(II)I" } : Jvm.MethodName)) ∈ lw_all := lw_g (lw_at lw_m3 201 rfl) rfl
theorem q751 : (Jvm.Cond.code ({ cls := "VillageHalls", name := "hall", desc := "(II)I" } : Jvm.MethodName) prog_1_method_18_code (3 : Nat) (Option.some Jvm.ClassFile.FieldType.int)) ∈ lw_all := lw_g (lw_at lw_m3 202 rfl) rfl
theorem q752 : (Jvm.Cond.methodLink "VillageHalls" (222 : Nat) ({ cls := "VillageHalls", name := "isHall", desc := "(I)Z" } : Jvm.MethodName)) ∈ lw_all := lw_g (lw_at lw_m3 203 rfl) rfl
theorem q753 : (Jvm.Cond.static ({ cls := "VillageHalls", name := "isHall", desc := "(I)Z" } : Jvm.MethodName)) ∈ lw_all := lw_g (lw_at lw_m3 204 rfl) rfl
theorem q754 : (Jvm.Cond.code ({ cls := "VillageHalls", name := "isHall", desc := "(I)Z" } : Jvm.MethodName) prog_1_method_17_code (1 : Nat) (Option.some Jvm.ClassFile.FieldType.boolean)) ∈ lw_all := lw_g (lw_at lw_m3 205 rfl) rfl
theorem q755 : (Jvm.Cond.constantLong "VillageHalls" (220 : Nat) (3 : Int64)) ∈ lw_all := lw_g (lw_at lw_m3 206 rfl) rfl
theorem q756 : (Jvm.Cond.constantLong "VillageHalls" (225 : Nat) (5 : Int64)) ∈ lw_all := lw_g (lw_at lw_m3 207 rfl) rfl
theorem q757 : (Jvm.Cond.constantLong "VillageHalls" (227 : Nat) (10 : Int64)) ∈ lw_all := lw_g (lw_at lw_m3 208 rfl) rfl
theorem q758 : (Jvm.Cond.constantLong "VillageHalls" (229 : Nat) (14 : Int64)) ∈ lw_all := lw_g (lw_at lw_m3 209 rfl) rfl
theorem q759 : (Jvm.Cond.constantLong "VillageHalls" (231 : Nat) (20 : Int64)) ∈ lw_all := lw_g (lw_at lw_m3 210 rfl) rfl
theorem q760 : (Jvm.Cond.constantLong "VillageHalls" (233 : Nat) (24 : Int64)) ∈ lw_all := lw_g (lw_at lw_m3 211 rfl) rfl
theorem q761 : (Jvm.Cond.methodLink "VillageHalls" (235 : Nat) ({ cls := "VillageHalls$Hall", name := "told", desc := "(I)I" } : Jvm.MethodName)) ∈ lw_all := lw_g (lw_at lw_m3 212 rfl) rfl
theorem q766 : (Jvm.Cond.instanceMethod ({ cls := "VillageHalls", name := "book", desc := "(II)I" } : Jvm.MethodName)) ∈ lw_all := lw_g (lw_at lw_m3 217 rfl) rfl
theorem q767 : (Jvm.Cond.selects "VillageHalls" ({ cls := "VillageHalls", name := "book", desc := "(II)I" } : Jvm.MethodName) ({ cls := "VillageHalls", name := "book", desc := "(II)I" } : Jvm.MethodName)) ∈ lw_all := lw_g (lw_at lw_m3 218 rfl) rfl
theorem q768 : (Jvm.Cond.codeWith ({ cls := "VillageHalls", name := "book", desc := "(II)I" } : Jvm.MethodName) prog_1_method_22_code (4 : Nat) (Option.some Jvm.ClassFile.FieldType.int) [((27 : Nat), (48 : Nat), (92 : Nat), (130 : Nat)), ((49 : Nat), (91 : Nat), (92 : Nat), (130 : Nat))]) ∈ lw_all := lw_g (lw_at lw_m3 219 rfl) rfl
theorem q769 : (Jvm.Cond.interfaceEntry "VillageHalls" (71 : Nat)) ∈ lw_tbl := lw_at lw_m3 220 rfl
theorem q770 : (Jvm.Cond.methodLink "VillageHalls" (71 : Nat) ({ cls := "java/util/List", name := "size", desc := "()I" } : Jvm.MethodName)) ∈ lw_all := lw_g (lw_at lw_m3 221 rfl) rfl
theorem q779 : (Jvm.Cond.methodLink "VillageHalls" (254 : Nat) ({ cls := "VillageHalls$Sheet", name := "row", desc := "(II)[I" } : Jvm.MethodName)) ∈ lw_all := lw_g (lw_at lw_m3 230 rfl) rfl
theorem q785 : (Jvm.Cond.methodLink "VillageHalls" (258 : Nat) ({ cls := "VillageHalls", name := "isBooked", desc := "([I)Z" } : Jvm.MethodName)) ∈ lw_all := lw_g (lw_at lw_m3 236 rfl) rfl
theorem q786 : (Jvm.Cond.static ({ cls := "VillageHalls", name := "isBooked", desc := "([I)Z" } : Jvm.MethodName)) ∈ lw_all := lw_g (lw_at lw_m3 237 rfl) rfl
theorem q787 : (Jvm.Cond.code ({ cls := "VillageHalls", name := "isBooked", desc := "([I)Z" } : Jvm.MethodName) prog_1_method_21_code (1 : Nat) (Option.some Jvm.ClassFile.FieldType.boolean)) ∈ lw_all := lw_g (lw_at lw_m3 238 rfl) rfl
theorem q788 : (Jvm.Cond.methodLink "VillageHalls" (243 : Nat) ({ cls := "VillageHalls", name := "isDay", desc := "(I)Z" } : Jvm.MethodName)) ∈ lw_all := lw_g (lw_at lw_m3 239 rfl) rfl
theorem q789 : (Jvm.Cond.static ({ cls := "VillageHalls", name := "isDay", desc := "(I)Z" } : Jvm.MethodName)) ∈ lw_all := lw_g (lw_at lw_m4 0 rfl) rfl
theorem q790 : (Jvm.Cond.code ({ cls := "VillageHalls", name := "isDay", desc := "(I)Z" } : Jvm.MethodName) prog_1_method_19_code (1 : Nat) (Option.some Jvm.ClassFile.FieldType.boolean)) ∈ lw_all := lw_g (lw_at lw_m4 1 rfl) rfl
theorem q791 : (Jvm.Cond.constantLong "VillageHalls" (237 : Nat) (364 : Int64)) ∈ lw_all := lw_g (lw_at lw_m4 2 rfl) rfl
theorem q792 : (Jvm.Cond.methodLink "VillageHalls" (246 : Nat) ({ cls := "VillageHalls", name := "areQuarters", desc := "(II)Z" } : Jvm.MethodName)) ∈ lw_all := lw_g (lw_at lw_m4 3 rfl) rfl
theorem q793 : (Jvm.Cond.static ({ cls := "VillageHalls", name := "areQuarters", desc := "(II)Z" } : Jvm.MethodName)) ∈ lw_all := lw_g (lw_at lw_m4 4 rfl) rfl
theorem q794 : (Jvm.Cond.code ({ cls := "VillageHalls", name := "areQuarters", desc := "(II)Z" } : Jvm.MethodName) prog_1_method_20_code (2 : Nat) (Option.some Jvm.ClassFile.FieldType.boolean)) ∈ lw_all := lw_g (lw_at lw_m4 5 rfl) rfl
theorem q795 : (Jvm.Cond.constantLong "VillageHalls" (239 : Nat) (95 : Int64)) ∈ lw_all := lw_g (lw_at lw_m4 6 rfl) rfl
theorem q796 : (Jvm.Cond.constantLong "VillageHalls" (241 : Nat) (96 : Int64)) ∈ lw_all := lw_g (lw_at lw_m4 7 rfl) rfl
theorem q797 : (Jvm.Cond.constantLong "VillageHalls" (250 : Nat) (999 : Int64)) ∈ lw_all := lw_g (lw_at lw_m4 8 rfl) rfl
theorem q798 : (Jvm.Cond.constantLong "VillageHalls" (252 : Nat) (4 : Int64)) ∈ lw_all := lw_g (lw_at lw_m4 9 rfl) rfl
theorem q800 : (Jvm.Cond.methodLink "VillageHalls" (262 : Nat) ({ cls := "VillageHalls$Booking", name := "<init>", desc := "(I[I)V" } : Jvm.MethodName)) ∈ lw_all := lw_g (lw_at lw_m4 11 rfl) rfl
theorem q806 : (Jvm.Cond.fieldLink "VillageHalls" (325 : Nat) "VillageHalls$Booking" "number" "I") ∈ lw_all := lw_g (lw_at lw_m4 17 rfl) rfl
theorem q808 : (Jvm.Cond.fieldLink "VillageHalls" (37 : Nat) "VillageHalls$Booking" "hall" "I") ∈ lw_all := lw_g (lw_at lw_m4 19 rfl) rfl
theorem q811 : (Jvm.Cond.fieldLink "VillageHalls" (293 : Nat) "VillageHalls$Booking" "floor" "I") ∈ lw_all := lw_g (lw_at lw_m4 22 rfl) rfl
theorem q815 : (Jvm.Cond.fieldLink "VillageHalls" (274 : Nat) "VillageHalls$Booking" "day" "I") ∈ lw_all := lw_g (lw_at lw_m4 26 rfl) rfl
theorem q818 : (Jvm.Cond.fieldLink "VillageHalls" (281 : Nat) "VillageHalls$Booking" "from" "I") ∈ lw_all := lw_g (lw_at lw_m4 29 rfl) rfl
theorem q821 : (Jvm.Cond.fieldLink "VillageHalls" (278 : Nat) "VillageHalls$Booking" "to" "I") ∈ lw_all := lw_g (lw_at lw_m4 32 rfl) rfl
theorem q825 : (Jvm.Cond.fieldLink "VillageHalls" (296 : Nat) "VillageHalls$Booking" "people" "I") ∈ lw_all := lw_g (lw_at lw_m4 36 rfl) rfl
theorem q827 : (Jvm.Cond.fieldLink "VillageHalls" (46 : Nat) "VillageHalls$Booking" "use" "I") ∈ lw_all := lw_g (lw_at lw_m4 38 rfl) rfl
theorem q831 : (Jvm.Cond.fieldLink "VillageHalls" (299 : Nat) "VillageHalls$Booking" "isLicensed" "Z") ∈ lw_all := lw_g (lw_at lw_m4 42 rfl) rfl
theorem q833 : (Jvm.Cond.fieldLink "VillageHalls" (271 : Nat) "VillageHalls$Booking" "came" "I") ∈ lw_all := lw_g (lw_at lw_m4 44 rfl) rfl
theorem q835 : (Jvm.Cond.fieldLinkNest "VillageHalls" (15 : Nat) "VillageHalls$Booking" "cancelled" "I" "VillageHalls") ∈ lw_tbl := lw_at lw_m4 46 rfl
theorem q859 : (Jvm.Cond.interfaceEntry "VillageHalls" (265 : Nat)) ∈ lw_tbl := lw_at lw_m4 70 rfl
theorem q860 : (Jvm.Cond.methodLink "VillageHalls" (265 : Nat) ({ cls := "java/util/List", name := "add", desc := "(Ljava/lang/Object;)Z" } : Jvm.MethodName)) ∈ lw_all := lw_g (lw_at lw_m4 71 rfl) rfl
theorem q887 : (Jvm.Cond.selects "VillageHalls" ({ cls := "java/lang/Object", name := "getClass", desc := "()Ljava/lang/Class;" } : Jvm.MethodName) ({ cls := "java/lang/Object", name := "getClass", desc := "()Ljava/lang/Class;" } : Jvm.MethodName)) ∈ lw_all := lw_g (lw_at lw_m4 98 rfl) rfl
theorem q920 : (Jvm.Cond.instanceMethod ({ cls := "VillageHalls", name := "cancel", desc := "(II)I" } : Jvm.MethodName)) ∈ lw_all := lw_g (lw_at lw_m4 131 rfl) rfl
theorem q921 : (Jvm.Cond.selects "VillageHalls" ({ cls := "VillageHalls", name := "cancel", desc := "(II)I" } : Jvm.MethodName) ({ cls := "VillageHalls", name := "cancel", desc := "(II)I" } : Jvm.MethodName)) ∈ lw_all := lw_g (lw_at lw_m4 132 rfl) rfl
theorem q922 : (Jvm.Cond.code ({ cls := "VillageHalls", name := "cancel", desc := "(II)I" } : Jvm.MethodName) prog_1_method_24_code (3 : Nat) (Option.some Jvm.ClassFile.FieldType.int)) ∈ lw_all := lw_g (lw_at lw_m4 133 rfl) rfl
theorem q923 : (Jvm.Cond.methodLink "VillageHalls" (268 : Nat) ({ cls := "VillageHalls", name := "isBooking", desc := "(I)Z" } : Jvm.MethodName)) ∈ lw_all := lw_g (lw_at lw_m4 134 rfl) rfl
theorem q924 : (Jvm.Cond.privateMethod ({ cls := "VillageHalls", name := "isBooking", desc := "(I)Z" } : Jvm.MethodName)) ∈ lw_tbl := lw_at lw_m4 135 rfl
theorem q925 : (Jvm.Cond.instanceMethod ({ cls := "VillageHalls", name := "isBooking", desc := "(I)Z" } : Jvm.MethodName)) ∈ lw_all := lw_g (lw_at lw_m4 136 rfl) rfl
theorem q926 : (Jvm.Cond.code ({ cls := "VillageHalls", name := "isBooking", desc := "(I)Z" } : Jvm.MethodName) prog_1_method_23_code (2 : Nat) (Option.some Jvm.ClassFile.FieldType.boolean)) ∈ lw_all := lw_g (lw_at lw_m4 137 rfl) rfl
theorem q927 : (Jvm.Cond.interfaceEntry "VillageHalls" (7 : Nat)) ∈ lw_tbl := lw_at lw_m4 138 rfl
theorem q928 : (Jvm.Cond.methodLink "VillageHalls" (7 : Nat) ({ cls := "java/util/List", name := "get", desc := "(I)Ljava/lang/Object;" } : Jvm.MethodName)) ∈ lw_all := lw_g (lw_at lw_m4 139 rfl) rfl
theorem q944 : (Jvm.Cond.constant "VillageHalls" (19 : Nat) (-1000000 : Int32)) ∈ lw_all := lw_g (lw_at lw_m4 155 rfl) rfl
theorem q945 : (Jvm.Cond.constant "VillageHalls" (277 : Nat) (-1000002 : Int32)) ∈ lw_all := lw_g (lw_at lw_m4 156 rfl) rfl
theorem q947 : (Jvm.Cond.instanceMethod ({ cls := "VillageHalls", name := "told", desc := "(II)I" } : Jvm.MethodName)) ∈ lw_all := lw_g (lw_at lw_m4 158 rfl) rfl
theorem q948 : (Jvm.Cond.selects "VillageHalls" ({ cls := "VillageHalls", name := "told", desc := "(II)I" } : Jvm.MethodName) ({ cls := "VillageHalls", name := "told", desc := "(II)I" } : Jvm.MethodName)) ∈ lw_all := lw_g (lw_at lw_m4 159 rfl) rfl
theorem q949 : (Jvm.Cond.code ({ cls := "VillageHalls", name := "told", desc := "(II)I" } : Jvm.MethodName) prog_1_method_26_code (4 : Nat) (Option.some Jvm.ClassFile.FieldType.int)) ∈ lw_all := lw_g (lw_at lw_m4 160 rfl) rfl
theorem q950 : (Jvm.Cond.methodLink "VillageHalls" (51 : Nat) ({ cls := "VillageHalls", name := "price", desc := "(LVillageHalls$Booking;)I" } : Jvm.MethodName)) ∈ lw_all := lw_g (lw_at lw_m4 161 rfl) rfl
theorem q951 : (Jvm.Cond.privateMethod ({ cls := "VillageHalls", name := "price", desc := "(LVillageHalls$Booking;)I" } : Jvm.MethodName)) ∈ lw_tbl := lw_at lw_m4 162 rfl
theorem q952 : (Jvm.Cond.instanceMethod ({ cls := "VillageHalls", name := "price", desc := "(LVillageHalls$Booking;)I" } : Jvm.MethodName)) ∈ lw_all := lw_g (lw_at lw_m4 163 rfl) rfl
theorem q953 : (Jvm.Cond.code ({ cls := "VillageHalls", name := "price", desc := "(LVillageHalls$Booking;)I" } : Jvm.MethodName) prog_1_method_25_code (4 : Nat) (Option.some Jvm.ClassFile.FieldType.int)) ∈ lw_all := lw_g (lw_at lw_m4 164 rfl) rfl
theorem q955 : (Jvm.Cond.instanceMethod ({ cls := "VillageHalls", name := "clash", desc := "(II)I" } : Jvm.MethodName)) ∈ lw_all := lw_g (lw_at lw_m4 166 rfl) rfl
theorem q956 : (Jvm.Cond.selects "VillageHalls" ({ cls := "VillageHalls", name := "clash", desc := "(II)I" } : Jvm.MethodName) ({ cls := "VillageHalls", name := "clash", desc := "(II)I" } : Jvm.MethodName)) ∈ lw_all := lw_g (lw_at lw_m4 167 rfl) rfl
theorem q957 : (Jvm.Cond.code ({ cls := "VillageHalls", name := "clash", desc := "(II)I" } : Jvm.MethodName) prog_1_method_29_code (3 : Nat) (Option.some Jvm.ClassFile.FieldType.int)) ∈ lw_all := lw_g (lw_at lw_m4 168 rfl) rfl
theorem q958 : (Jvm.Cond.methodLink "VillageHalls" (314 : Nat) ({ cls := "VillageHalls", name := "isClash", desc := "(LVillageHalls$Booking;LVillageHalls$Booking;)Z" } : Jvm.MethodName)) ∈ lw_all := lw_g (lw_at lw_m4 169 rfl) rfl
theorem q959 : (Jvm.Cond.privateMethod ({ cls := "VillageHalls", name := "isClash", desc := "(LVillageHalls$Booking;LVillageHalls$Booking;)Z" } : Jvm.MethodName)) ∈ lw_tbl := lw_at lw_m4 170 rfl
theorem q960 : (Jvm.Cond.instanceMethod ({ cls := "VillageHalls", name := "isClash", desc := "(LVillageHalls$Booking;LVillageHalls$Booking;)Z" } : Jvm.MethodName)) ∈ lw_all := lw_g (lw_at lw_m4 171 rfl) rfl
theorem q961 : (Jvm.Cond.code ({ cls := "VillageHalls", name := "isClash", desc := "(LVillageHalls$Booking;LVillageHalls$Booking;)Z" } : Jvm.MethodName) prog_1_method_28_code (3 : Nat) (Option.some Jvm.ClassFile.FieldType.boolean)) ∈ lw_all := lw_g (lw_at lw_m4 172 rfl) rfl
theorem q962 : (Jvm.Cond.methodLink "VillageHalls" (303 : Nat) ({ cls := "VillageHalls", name := "isAt", desc := "(LVillageHalls$Booking;III)Z" } : Jvm.MethodName)) ∈ lw_all := lw_g (lw_at lw_m4 173 rfl) rfl
theorem q963 : (Jvm.Cond.privateMethod ({ cls := "VillageHalls", name := "isAt", desc := "(LVillageHalls$Booking;III)Z" } : Jvm.MethodName)) ∈ lw_tbl := lw_at lw_m4 174 rfl
theorem q964 : (Jvm.Cond.instanceMethod ({ cls := "VillageHalls", name := "isAt", desc := "(LVillageHalls$Booking;III)Z" } : Jvm.MethodName)) ∈ lw_all := lw_g (lw_at lw_m4 175 rfl) rfl
theorem q965 : (Jvm.Cond.code ({ cls := "VillageHalls", name := "isAt", desc := "(LVillageHalls$Booking;III)Z" } : Jvm.MethodName) prog_1_method_27_code (5 : Nat) (Option.some Jvm.ClassFile.FieldType.boolean)) ∈ lw_all := lw_g (lw_at lw_m4 176 rfl) rfl
theorem q966 : (Jvm.Cond.methodLink "VillageHalls" (310 : Nat) ({ cls := "VillageHalls$Booking", name := "isAgainst", desc := "(IIII)Z" } : Jvm.MethodName)) ∈ lw_all := lw_g (lw_at lw_m4 177 rfl) rfl
theorem q971 : (Jvm.Cond.instanceMethod ({ cls := "VillageHalls", name := "holding", desc := "(II)I" } : Jvm.MethodName)) ∈ lw_all := lw_g (lw_at lw_m4 182 rfl) rfl
theorem q972 : (Jvm.Cond.selects "VillageHalls" ({ cls := "VillageHalls", name := "holding", desc := "(II)I" } : Jvm.MethodName) ({ cls := "VillageHalls", name := "holding", desc := "(II)I" } : Jvm.MethodName)) ∈ lw_all := lw_g (lw_at lw_m4 183 rfl) rfl
theorem q973 : (Jvm.Cond.code ({ cls := "VillageHalls", name := "holding", desc := "(II)I" } : Jvm.MethodName) prog_1_method_33_code (7 : Nat) (Option.some Jvm.ClassFile.FieldType.int)) ∈ lw_all := lw_g (lw_at lw_m4 184 rfl) rfl
theorem q974 : (Jvm.Cond.methodLink "VillageHalls" (29 : Nat) ({ cls := "VillageHalls", name := "held", desc := "(I)I" } : Jvm.MethodName)) ∈ lw_all := lw_g (lw_at lw_m4 185 rfl) rfl
theorem q975 : (Jvm.Cond.privateMethod ({ cls := "VillageHalls", name := "held", desc := "(I)I" } : Jvm.MethodName)) ∈ lw_tbl := lw_at lw_m4 186 rfl
theorem q976 : (Jvm.Cond.instanceMethod ({ cls := "VillageHalls", name := "held", desc := "(I)I" } : Jvm.MethodName)) ∈ lw_all := lw_g (lw_at lw_m4 187 rfl) rfl
theorem q977 : (Jvm.Cond.code ({ cls := "VillageHalls", name := "held", desc := "(I)I" } : Jvm.MethodName) prog_1_method_31_code (6 : Nat) (Option.some Jvm.ClassFile.FieldType.int)) ∈ lw_all := lw_g (lw_at lw_m4 188 rfl) rfl
theorem q978 : (Jvm.Cond.methodLink "VillageHalls" (61 : Nat) ({ cls := "VillageHalls$Booking", name := "isThere", desc := "(I)Z" } : Jvm.MethodName)) ∈ lw_all := lw_g (lw_at lw_m4 189 rfl) rfl
theorem q982 : (Jvm.Cond.methodLink "VillageHalls" (318 : Nat) ({ cls := "VillageHalls", name := "isAhead", desc := "(LVillageHalls$Booking;LVillageHalls$Booking;)Z" } : Jvm.MethodName)) ∈ lw_all := lw_g (lw_at lw_m4 193 rfl) rfl
theorem q983 : (Jvm.Cond.privateMethod ({ cls := "VillageHalls", name := "isAhead", desc := "(LVillageHalls$Booking;LVillageHalls$Booking;)Z" } : Jvm.MethodName)) ∈ lw_tbl := lw_at lw_m4 194 rfl
theorem q984 : (Jvm.Cond.instanceMethod ({ cls := "VillageHalls", name := "isAhead", desc := "(LVillageHalls$Booking;LVillageHalls$Booking;)Z" } : Jvm.MethodName)) ∈ lw_all := lw_g (lw_at lw_m4 195 rfl) rfl
theorem q985 : (Jvm.Cond.code ({ cls := "VillageHalls", name := "isAhead", desc := "(LVillageHalls$Booking;LVillageHalls$Booking;)Z" } : Jvm.MethodName) prog_1_method_30_code (5 : Nat) (Option.some Jvm.ClassFile.FieldType.boolean)) ∈ lw_all := lw_g (lw_at lw_m4 196 rfl) rfl
theorem q986 : (Jvm.Cond.methodLink "VillageHalls" (321 : Nat) ({ cls := "VillageHalls", name := "mayHold", desc := "(LVillageHalls$Booking;I)Z" } : Jvm.MethodName)) ∈ lw_all := lw_g (lw_at lw_m4 197 rfl) rfl
theorem q987 : (Jvm.Cond.privateMethod ({ cls := "VillageHalls", name := "mayHold", desc := "(LVillageHalls$Booking;I)Z" } : Jvm.MethodName)) ∈ lw_tbl := lw_at lw_m4 198 rfl
theorem q988 : (Jvm.Cond.instanceMethod ({ cls := "VillageHalls", name := "mayHold", desc := "(LVillageHalls$Booking;I)Z" } : Jvm.MethodName)) ∈ lw_all := lw_g (lw_at lw_m4 199 rfl) rfl
theorem q989 : (Jvm.Cond.code ({ cls := "VillageHalls", name := "mayHold", desc := "(LVillageHalls$Booking;I)Z" } : Jvm.MethodName) prog_1_method_32_code (6 : Nat) (Option.some Jvm.ClassFile.FieldType.boolean)) ∈ lw_all := lw_g (lw_at lw_m4 200 rfl) rfl
theorem q991 : (Jvm.Cond.instanceMethod ({ cls := "VillageHalls", name := "most", desc := "(IIII)I" } : Jvm.MethodName)) ∈ lw_all := lw_g (lw_at lw_m4 202 rfl) rfl
theorem q992 : (Jvm.Cond.selects "VillageHalls" ({ cls := "VillageHalls", name := "most", desc := "(IIII)I" } : Jvm.MethodName) ({ cls := "VillageHalls", name := "most", desc := "(IIII)I" } : Jvm.MethodName)) ∈ lw_all := lw_g (lw_at lw_m4 203 rfl) rfl
theorem q993 : (Jvm.Cond.code ({ cls := "VillageHalls", name := "most", desc := "(IIII)I" } : Jvm.MethodName) prog_1_method_37_code (6 : Nat) (Option.some Jvm.ClassFile.FieldType.int)) ∈ lw_all := lw_g (lw_at lw_m4 204 rfl) rfl
theorem q994 : (Jvm.Cond.methodLink "VillageHalls" (338 : Nat) ({ cls := "VillageHalls", name := "mostOf", desc := "(III)I" } : Jvm.MethodName)) ∈ lw_all := lw_g (lw_at lw_m4 205 rfl) rfl
theorem q995 : (Jvm.Cond.privateMethod ({ cls := "VillageHalls", name := "mostOf", desc := "(III)I" } : Jvm.MethodName)) ∈ lw_tbl := lw_at lw_m4 206 rfl
theorem q996 : (Jvm.Cond.instanceMethod ({ cls := "VillageHalls", name := "mostOf", desc := "(III)I" } : Jvm.MethodName)) ∈ lw_all := lw_g (lw_at lw_m4 207 rfl) rfl
theorem q997 : (Jvm.Cond.code ({ cls := "VillageHalls", name := "mostOf", desc := "(III)I" } : Jvm.MethodName) prog_1_method_34_code (9 : Nat) (Option.some Jvm.ClassFile.FieldType.int)) ∈ lw_all := lw_g (lw_at lw_m4 208 rfl) rfl
theorem q998 : (Jvm.Cond.methodLink "VillageHalls" (332 : Nat) ({ cls := "VillageHalls", name := "isFree", desc := "(I)Z" } : Jvm.MethodName)) ∈ lw_all := lw_g (lw_at lw_m4 209 rfl) rfl
theorem q999 : (Jvm.Cond.privateMethod ({ cls := "VillageHalls", name := "isFree", desc := "(I)Z" } : Jvm.MethodName)) ∈ lw_tbl := lw_at lw_m4 210 rfl
theorem q1000 : (Jvm.Cond.instanceMethod ({ cls := "VillageHalls", name := "isFree", desc := "(I)Z" } : Jvm.MethodName)) ∈ lw_all := lw_g (lw_at lw_m4 211 rfl) rfl
theorem q1001 : (Jvm.Cond.code ({ cls := "VillageHalls", name := "isFree", desc := "(I)Z" } : Jvm.MethodName) prog_1_method_35_code (3 : Nat) (Option.some Jvm.ClassFile.FieldType.boolean)) ∈ lw_all := lw_g (lw_at lw_m4 212 rfl) rfl
theorem q1002 : (Jvm.Cond.methodLink "VillageHalls" (335 : Nat) ({ cls := "VillageHalls", name := "prices", desc := "(I)I" } : Jvm.MethodName)) ∈ lw_all := lw_g (lw_at lw_m4 213 rfl) rfl
theorem q1003 : (Jvm.Cond.privateMethod ({ cls := "VillageHalls", name := "prices", desc := "(I)I" } : Jvm.MethodName)) ∈ lw_tbl := lw_at lw_m4 214 rfl
theorem q1004 : (Jvm.Cond.instanceMethod ({ cls := "VillageHalls", name := "prices", desc := "(I)I" } : Jvm.MethodName)) ∈ lw_all := lw_g (lw_at lw_m4 215 rfl) rfl
theorem q1005 : (Jvm.Cond.code ({ cls := "VillageHalls", name := "prices", desc := "(I)I" } : Jvm.MethodName) prog_1_method_36_code (4 : Nat) (Option.some Jvm.ClassFile.FieldType.int)) ∈ lw_all := lw_g (lw_at lw_m4 216 rfl) rfl
theorem q1007 : (Jvm.Cond.instanceMethod ({ cls := "VillageHalls", name := "funeral", desc := "(IIIIII)I" } : Jvm.MethodName)) ∈ lw_all := lw_g (lw_at lw_m4 218 rfl) rfl
theorem q1008 : (Jvm.Cond.selects "VillageHalls" ({ cls := "VillageHalls", name := "funeral", desc := "(IIIIII)I" } : Jvm.MethodName) ({ cls := "VillageHalls", name := "funeral", desc := "(IIIIII)I" } : Jvm.MethodName)) ∈ lw_all := lw_g (lw_at lw_m4 219 rfl) rfl
theorem q1009 : (Jvm.Cond.code ({ cls := "VillageHalls", name := "funeral", desc := "(IIIIII)I" } : Jvm.MethodName) prog_1_method_38_code (8 : Nat) (Option.some Jvm.ClassFile.FieldType.int)) ∈ lw_all := lw_g (lw_at lw_m4 220 rfl) rfl
theorem q1010 : (Jvm.Cond.constantLong "VillageHalls" (342 : Nat) (500 : Int64)) ∈ lw_all := lw_g (lw_at lw_m4 221 rfl) rfl
theorem q1011 : (Jvm.Cond.constantLong "VillageHalls" (344 : Nat) (18 : Int64)) ∈ lw_all := lw_g (lw_at lw_m4 222 rfl) rfl
theorem q1012 : (Jvm.Cond.classLink "VillageHalls" (346 : Nat) "VillageHalls$Funeral") ∈ lw_all := lw_g (lw_at lw_m4 223 rfl) rfl
theorem q1014 : (Jvm.Cond.methodLink "VillageHalls" (348 : Nat) ({ cls := "VillageHalls$Funeral", name := "<init>", desc := "(LVillageHalls;IIIII)V" } : Jvm.MethodName)) ∈ lw_all := lw_g (lw_at lw_m4 225 rfl) rfl
theorem q1051 : (Jvm.Cond.fieldLinkNest "VillageHalls" (351 : Nat) "VillageHalls$Funeral" "floor" "I" "VillageHalls") ∈ lw_tbl := lw_at lw_m5 22 rfl
theorem q1053 : (Jvm.Cond.fieldLinkNest "VillageHalls" (352 : Nat) "VillageHalls$Funeral" "moved" "I" "VillageHalls") ∈ lw_tbl := lw_at lw_m5 24 rfl
theorem q1055 : (Jvm.Cond.fieldLinkNest "VillageHalls" (363 : Nat) "VillageHalls$Funeral" "place" "[I" "VillageHalls") ∈ lw_tbl := lw_at lw_m5 26 rfl
theorem q1076 : (Jvm.Cond.methodLink "VillageHalls" (355 : Nat) ({ cls := "java/lang/Integer", name := "bitCount", desc := "(I)I" } : Jvm.MethodName)) ∈ lw_all := lw_g (lw_at lw_m5 47 rfl) rfl
theorem q1077 : (Jvm.Cond.methodLink "VillageHalls" (360 : Nat) ({ cls := "VillageHalls$Funeral", name := "lost", desc := "()I" } : Jvm.MethodName)) ∈ lw_all := lw_g (lw_at lw_m5 48 rfl) rfl
theorem q1082 : (Jvm.Cond.instanceMethod ({ cls := "VillageHalls", name := "coin", desc := "(IIII)I" } : Jvm.MethodName)) ∈ lw_all := lw_g (lw_at lw_m5 53 rfl) rfl
theorem q1083 : (Jvm.Cond.selects "VillageHalls" ({ cls := "VillageHalls", name := "coin", desc := "(IIII)I" } : Jvm.MethodName) ({ cls := "VillageHalls", name := "coin", desc := "(IIII)I" } : Jvm.MethodName)) ∈ lw_all := lw_g (lw_at lw_m5 54 rfl) rfl
theorem q1084 : (Jvm.Cond.code ({ cls := "VillageHalls", name := "coin", desc := "(IIII)I" } : Jvm.MethodName) prog_1_method_40_code (5 : Nat) (Option.some Jvm.ClassFile.FieldType.int)) ∈ lw_all := lw_g (lw_at lw_m5 55 rfl) rfl
theorem q1085 : (Jvm.Cond.methodLink "VillageHalls" (365 : Nat) ({ cls := "VillageHalls", name := "isTime", desc := "(IIII)Z" } : Jvm.MethodName)) ∈ lw_all := lw_g (lw_at lw_m5 56 rfl) rfl
theorem q1086 : (Jvm.Cond.static ({ cls := "VillageHalls", name := "isTime", desc := "(IIII)Z" } : Jvm.MethodName)) ∈ lw_all := lw_g (lw_at lw_m5 57 rfl) rfl
theorem q1087 : (Jvm.Cond.code ({ cls := "VillageHalls", name := "isTime", desc := "(IIII)Z" } : Jvm.MethodName) prog_1_method_39_code (4 : Nat) (Option.some Jvm.ClassFile.FieldType.boolean)) ∈ lw_all := lw_g (lw_at lw_m5 58 rfl) rfl
theorem q1088 : (Jvm.Cond.constantLong "VillageHalls" (368 : Nat) (600 : Int64)) ∈ lw_all := lw_g (lw_at lw_m5 59 rfl) rfl
theorem q1089 : (Jvm.Cond.classLink "VillageHalls" (76 : Nat) "VillageHalls$Told") ∈ lw_all := lw_g (lw_at lw_m5 60 rfl) rfl
theorem q1091 : (Jvm.Cond.methodLink "VillageHalls" (370 : Nat) ({ cls := "VillageHalls$Told", name := "<init>", desc := "(IIII)V" } : Jvm.MethodName)) ∈ lw_all := lw_g (lw_at lw_m5 62 rfl) rfl
theorem q1096 : (Jvm.Cond.fieldLink "VillageHalls" (377 : Nat) "VillageHalls$Told" "of" "I") ∈ lw_all := lw_g (lw_at lw_m5 67 rfl) rfl
theorem q1098 : (Jvm.Cond.fieldLink "VillageHalls" (75 : Nat) "VillageHalls$Told" "time" "I") ∈ lw_all := lw_g (lw_at lw_m5 69 rfl) rfl
theorem q1100 : (Jvm.Cond.fieldLink "VillageHalls" (386 : Nat) "VillageHalls$Told" "a" "I") ∈ lw_all := lw_g (lw_at lw_m5 71 rfl) rfl
theorem q1102 : (Jvm.Cond.fieldLink "VillageHalls" (408 : Nat) "VillageHalls$Told" "b" "I") ∈ lw_all := lw_g (lw_at lw_m5 73 rfl) rfl
theorem q1112 : (Jvm.Cond.methodLink "VillageHalls" (373 : Nat) ({ cls := "VillageHalls", name := "come", desc := "(Ljava/util/List;LVillageHalls$Told;)I" } : Jvm.MethodName)) ∈ lw_all := lw_g (lw_at lw_m5 83 rfl) rfl
theorem q1113 : (Jvm.Cond.static ({ cls := "VillageHalls", name := "come", desc := "(Ljava/util/List;LVillageHalls$Told;)I" } : Jvm.MethodName)) ∈ lw_all := lw_g (lw_at lw_m5 84 rfl) rfl
theorem q1114 : (Jvm.Cond.code ({ cls := "VillageHalls", name := "come", desc := "(Ljava/util/List;LVillageHalls$Told;)I" } : Jvm.MethodName) prog_1_method_3_code (3 : Nat) (Option.some Jvm.ClassFile.FieldType.int)) ∈ lw_all := lw_g (lw_at lw_m5 85 rfl) rfl
theorem q1115 : (Jvm.Cond.interfaceEntry "VillageHalls" (80 : Nat)) ∈ lw_tbl := lw_at lw_m5 86 rfl
theorem q1116 : (Jvm.Cond.methodLink "VillageHalls" (80 : Nat) ({ cls := "java/util/List", name := "add", desc := "(ILjava/lang/Object;)V" } : Jvm.MethodName)) ∈ lw_all := lw_g (lw_at lw_m5 87 rfl) rfl
theorem q1222 : (Jvm.Cond.instanceMethod ({ cls := "VillageHalls", name := "run", desc := "(III)I" } : Jvm.MethodName)) ∈ lw_all := lw_g (lw_at lw_m5 193 rfl) rfl
theorem q1223 : (Jvm.Cond.selects "VillageHalls" ({ cls := "VillageHalls", name := "run", desc := "(III)I" } : Jvm.MethodName) ({ cls := "VillageHalls", name := "run", desc := "(III)I" } : Jvm.MethodName)) ∈ lw_all := lw_g (lw_at lw_m5 194 rfl) rfl
theorem q1224 : (Jvm.Cond.code ({ cls := "VillageHalls", name := "run", desc := "(III)I" } : Jvm.MethodName) prog_1_method_42_code (4 : Nat) (Option.some Jvm.ClassFile.FieldType.int)) ∈ lw_all := lw_g (lw_at lw_m5 195 rfl) rfl
theorem q1225 : (Jvm.Cond.methodLink "VillageHalls" (392 : Nat) ({ cls := "VillageHalls", name := "runOf", desc := "(II)I" } : Jvm.MethodName)) ∈ lw_all := lw_g (lw_at lw_m5 196 rfl) rfl
theorem q1226 : (Jvm.Cond.privateMethod ({ cls := "VillageHalls", name := "runOf", desc := "(II)I" } : Jvm.MethodName)) ∈ lw_tbl := lw_at lw_m5 197 rfl
theorem q1227 : (Jvm.Cond.instanceMethod ({ cls := "VillageHalls", name := "runOf", desc := "(II)I" } : Jvm.MethodName)) ∈ lw_all := lw_g (lw_at lw_m5 198 rfl) rfl
theorem q1228 : (Jvm.Cond.code ({ cls := "VillageHalls", name := "runOf", desc := "(II)I" } : Jvm.MethodName) prog_1_method_41_code (8 : Nat) (Option.some Jvm.ClassFile.FieldType.int)) ∈ lw_all := lw_g (lw_at lw_m5 199 rfl) rfl
theorem q1229 : (Jvm.Cond.methodLink "VillageHalls" (380 : Nat) ({ cls := "java/lang/Math", name := "max", desc := "(II)I" } : Jvm.MethodName)) ∈ lw_all := lw_g (lw_at lw_m5 200 rfl) rfl
theorem q1230 : (Jvm.Cond.methodLink "VillageHalls" (389 : Nat) ({ cls := "java/lang/Math", name := "min", desc := "(II)I" } : Jvm.MethodName)) ∈ lw_all := lw_g (lw_at lw_m5 201 rfl) rfl
theorem q1232 : (Jvm.Cond.instanceMethod ({ cls := "VillageHalls", name := "meter", desc := "(IIII)I" } : Jvm.MethodName)) ∈ lw_all := lw_g (lw_at lw_m5 203 rfl) rfl
theorem q1233 : (Jvm.Cond.selects "VillageHalls" ({ cls := "VillageHalls", name := "meter", desc := "(IIII)I" } : Jvm.MethodName) ({ cls := "VillageHalls", name := "meter", desc := "(IIII)I" } : Jvm.MethodName)) ∈ lw_all := lw_g (lw_at lw_m5 204 rfl) rfl
theorem q1234 : (Jvm.Cond.code ({ cls := "VillageHalls", name := "meter", desc := "(IIII)I" } : Jvm.MethodName) prog_1_method_43_code (5 : Nat) (Option.some Jvm.ClassFile.FieldType.int)) ∈ lw_all := lw_g (lw_at lw_m5 205 rfl) rfl
theorem q1235 : (Jvm.Cond.constantLong "VillageHalls" (395 : Nat) (100000 : Int64)) ∈ lw_all := lw_g (lw_at lw_m5 206 rfl) rfl
theorem q1236 : (Jvm.Cond.methodLink "VillageHalls" (397 : Nat) ({ cls := "java/lang/Math", name := "abs", desc := "(I)I" } : Jvm.MethodName)) ∈ lw_all := lw_g (lw_at lw_m5 207 rfl) rfl
theorem q1240 : (Jvm.Cond.instanceMethod ({ cls := "VillageHalls", name := "give", desc := "(IIII)I" } : Jvm.MethodName)) ∈ lw_all := lw_g (lw_at lw_m5 211 rfl) rfl
theorem q1241 : (Jvm.Cond.selects "VillageHalls" ({ cls := "VillageHalls", name := "give", desc := "(IIII)I" } : Jvm.MethodName) ({ cls := "VillageHalls", name := "give", desc := "(IIII)I" } : Jvm.MethodName)) ∈ lw_all := lw_g (lw_at lw_m5 212 rfl) rfl
theorem q1242 : (Jvm.Cond.code ({ cls := "VillageHalls", name := "give", desc := "(IIII)I" } : Jvm.MethodName) prog_1_method_46_code (5 : Nat) (Option.some Jvm.ClassFile.FieldType.int)) ∈ lw_all := lw_g (lw_at lw_m5 213 rfl) rfl
theorem q1243 : (Jvm.Cond.methodLink "VillageHalls" (402 : Nat) ({ cls := "VillageHalls", name := "isKey", desc := "(I)Z" } : Jvm.MethodName)) ∈ lw_all := lw_g (lw_at lw_m5 214 rfl) rfl
theorem q1244 : (Jvm.Cond.static ({ cls := "VillageHalls", name := "isKey", desc := "(I)Z" } : Jvm.MethodName)) ∈ lw_all := lw_g (lw_at lw_m5 215 rfl) rfl
theorem q1245 : (Jvm.Cond.code ({ cls := "VillageHalls", name := "isKey", desc := "(I)Z" } : Jvm.MethodName) prog_1_method_44_code (1 : Nat) (Option.some Jvm.ClassFile.FieldType.boolean)) ∈ lw_all := lw_g (lw_at lw_m5 216 rfl) rfl
theorem q1246 : (Jvm.Cond.methodLink "VillageHalls" (405 : Nat) ({ cls := "VillageHalls", name := "isPerson", desc := "(I)Z" } : Jvm.MethodName)) ∈ lw_all := lw_g (lw_at lw_m5 217 rfl) rfl
theorem q1247 : (Jvm.Cond.static ({ cls := "VillageHalls", name := "isPerson", desc := "(I)Z" } : Jvm.MethodName)) ∈ lw_all := lw_g (lw_at lw_m5 218 rfl) rfl
theorem q1248 : (Jvm.Cond.code ({ cls := "VillageHalls", name := "isPerson", desc := "(I)Z" } : Jvm.MethodName) prog_1_method_45_code (1 : Nat) (Option.some Jvm.ClassFile.FieldType.boolean)) ∈ lw_all := lw_g (lw_at lw_m5 219 rfl) rfl
theorem q1249 : (Jvm.Cond.constantLong "VillageHalls" (400 : Nat) (9 : Int64)) ∈ lw_all := lw_g (lw_at lw_m5 220 rfl) rfl
theorem q1251 : (Jvm.Cond.instanceMethod ({ cls := "VillageHalls", name := "key", desc := "(III)I" } : Jvm.MethodName)) ∈ lw_all := lw_g (lw_at lw_m5 222 rfl) rfl
theorem q1252 : (Jvm.Cond.selects "VillageHalls" ({ cls := "VillageHalls", name := "key", desc := "(III)I" } : Jvm.MethodName) ({ cls := "VillageHalls", name := "key", desc := "(III)I" } : Jvm.MethodName)) ∈ lw_all := lw_g (lw_at lw_m5 223 rfl) rfl
theorem q1253 : (Jvm.Cond.code ({ cls := "VillageHalls", name := "key", desc := "(III)I" } : Jvm.MethodName) prog_1_method_47_code (8 : Nat) (Option.some Jvm.ClassFile.FieldType.int)) ∈ lw_all := lw_g (lw_at lw_m5 224 rfl) rfl
theorem q1255 : (Jvm.Cond.instanceMethod ({ cls := "VillageHalls", name := "look", desc := "(IIII)I" } : Jvm.MethodName)) ∈ lw_all := lw_g (lw_at lw_m5 226 rfl) rfl
theorem q1256 : (Jvm.Cond.selects "VillageHalls" ({ cls := "VillageHalls", name := "look", desc := "(IIII)I" } : Jvm.MethodName) ({ cls := "VillageHalls", name := "look", desc := "(IIII)I" } : Jvm.MethodName)) ∈ lw_all := lw_g (lw_at lw_m5 227 rfl) rfl
theorem q1257 : (Jvm.Cond.code ({ cls := "VillageHalls", name := "look", desc := "(IIII)I" } : Jvm.MethodName) prog_1_method_48_code (5 : Nat) (Option.some Jvm.ClassFile.FieldType.int)) ∈ lw_all := lw_g (lw_at lw_m5 228 rfl) rfl
theorem q1258 : (Jvm.Cond.constantLong "VillageHalls" (411 : Nat) (255 : Int64)) ∈ lw_all := lw_g (lw_at lw_m5 229 rfl) rfl
theorem q1260 : (Jvm.Cond.instanceMethod ({ cls := "VillageHalls", name := "home", desc := "(II)I" } : Jvm.MethodName)) ∈ lw_all := lw_g (lw_at lw_m5 231 rfl) rfl
theorem q1261 : (Jvm.Cond.selects "VillageHalls" ({ cls := "VillageHalls", name := "home", desc := "(II)I" } : Jvm.MethodName) ({ cls := "VillageHalls", name := "home", desc := "(II)I" } : Jvm.MethodName)) ∈ lw_all := lw_g (lw_at lw_m5 232 rfl) rfl
theorem q1262 : (Jvm.Cond.code ({ cls := "VillageHalls", name := "home", desc := "(II)I" } : Jvm.MethodName) prog_1_method_49_code (9 : Nat) (Option.some Jvm.ClassFile.FieldType.int)) ∈ lw_all := lw_g (lw_at lw_m5 233 rfl) rfl
theorem q1264 : (Jvm.Cond.instanceMethod ({ cls := "VillageHalls", name := "meeting", desc := "(IIIII)I" } : Jvm.MethodName)) ∈ lw_all := lw_g (lw_at lw_m5 235 rfl) rfl
theorem q1265 : (Jvm.Cond.selects "VillageHalls" ({ cls := "VillageHalls", name := "meeting", desc := "(IIIII)I" } : Jvm.MethodName) ({ cls := "VillageHalls", name := "meeting", desc := "(IIIII)I" } : Jvm.MethodName)) ∈ lw_all := lw_g (lw_at lw_m5 236 rfl) rfl
theorem q1266 : (Jvm.Cond.code ({ cls := "VillageHalls", name := "meeting", desc := "(IIIII)I" } : Jvm.MethodName) prog_1_method_51_code (6 : Nat) (Option.some Jvm.ClassFile.FieldType.int)) ∈ lw_all := lw_g (lw_at lw_m5 237 rfl) rfl
theorem q1267 : (Jvm.Cond.constantLong "VillageHalls" (413 : Nat) (99 : Int64)) ∈ lw_all := lw_g (lw_at lw_m5 238 rfl) rfl
theorem q1268 : (Jvm.Cond.methodLink "VillageHalls" (415 : Nat) ({ cls := "VillageHalls", name := "isMeeting", desc := "(I)Z" } : Jvm.MethodName)) ∈ lw_all := lw_g (lw_at lw_m5 239 rfl) rfl
theorem q1269 : (Jvm.Cond.privateMethod ({ cls := "VillageHalls", name := "isMeeting", desc := "(I)Z" } : Jvm.MethodName)) ∈ lw_tbl := lw_at lw_m6 0 rfl
theorem q1270 : (Jvm.Cond.instanceMethod ({ cls := "VillageHalls", name := "isMeeting", desc := "(I)Z" } : Jvm.MethodName)) ∈ lw_all := lw_g (lw_at lw_m6 1 rfl) rfl
theorem q1271 : (Jvm.Cond.code ({ cls := "VillageHalls", name := "isMeeting", desc := "(I)Z" } : Jvm.MethodName) prog_1_method_50_code (2 : Nat) (Option.some Jvm.ClassFile.FieldType.boolean)) ∈ lw_all := lw_g (lw_at lw_m6 2 rfl) rfl
theorem q1272 : (Jvm.Cond.classLink "VillageHalls" (418 : Nat) "VillageHalls$Meeting") ∈ lw_all := lw_g (lw_at lw_m6 3 rfl) rfl
theorem q1274 : (Jvm.Cond.methodLink "VillageHalls" (420 : Nat) ({ cls := "VillageHalls$Meeting", name := "<init>", desc := "(IIIII)V" } : Jvm.MethodName)) ∈ lw_all := lw_g (lw_at lw_m6 5 rfl) rfl
theorem q1280 : (Jvm.Cond.fieldLink "VillageHalls" (423 : Nat) "VillageHalls$Meeting" "yes" "I") ∈ lw_all := lw_g (lw_at lw_m6 11 rfl) rfl
theorem q1282 : (Jvm.Cond.fieldLink "VillageHalls" (426 : Nat) "VillageHalls$Meeting" "no" "I") ∈ lw_all := lw_g (lw_at lw_m6 13 rfl) rfl
theorem q1284 : (Jvm.Cond.fieldLink "VillageHalls" (429 : Nat) "VillageHalls$Meeting" "quorum" "I") ∈ lw_all := lw_g (lw_at lw_m6 15 rfl) rfl
theorem q1286 : (Jvm.Cond.fieldLink "VillageHalls" (432 : Nat) "VillageHalls$Meeting" "hangs" "I") ∈ lw_all := lw_g (lw_at lw_m6 17 rfl) rfl
theorem q1299 : (Jvm.Cond.instanceMethod ({ cls := "VillageHalls", name := "met", desc := "(II)I" } : Jvm.MethodName)) ∈ lw_all := lw_g (lw_at lw_m6 30 rfl) rfl
theorem q1300 : (Jvm.Cond.selects "VillageHalls" ({ cls := "VillageHalls", name := "met", desc := "(II)I" } : Jvm.MethodName) ({ cls := "VillageHalls", name := "met", desc := "(II)I" } : Jvm.MethodName)) ∈ lw_all := lw_g (lw_at lw_m6 31 rfl) rfl
theorem q1301 : (Jvm.Cond.code ({ cls := "VillageHalls", name := "met", desc := "(II)I" } : Jvm.MethodName) prog_1_method_54_code (6 : Nat) (Option.some Jvm.ClassFile.FieldType.int)) ∈ lw_all := lw_g (lw_at lw_m6 32 rfl) rfl
theorem q1302 : (Jvm.Cond.methodLink "VillageHalls" (438 : Nat) ({ cls := "VillageHalls", name := "isValid", desc := "(I)Z" } : Jvm.MethodName)) ∈ lw_all := lw_g (lw_at lw_m6 33 rfl) rfl
theorem q1303 : (Jvm.Cond.privateMethod ({ cls := "VillageHalls", name := "isValid", desc := "(I)Z" } : Jvm.MethodName)) ∈ lw_tbl := lw_at lw_m6 34 rfl
theorem q1304 : (Jvm.Cond.instanceMethod ({ cls := "VillageHalls", name := "isValid", desc := "(I)Z" } : Jvm.MethodName)) ∈ lw_all := lw_g (lw_at lw_m6 35 rfl) rfl
theorem q1305 : (Jvm.Cond.code ({ cls := "VillageHalls", name := "isValid", desc := "(I)Z" } : Jvm.MethodName) prog_1_method_52_code (3 : Nat) (Option.some Jvm.ClassFile.FieldType.boolean)) ∈ lw_all := lw_g (lw_at lw_m6 36 rfl) rfl
theorem q1306 : (Jvm.Cond.methodLink "VillageHalls" (435 : Nat) ({ cls := "VillageHalls", name := "isCarried", desc := "(I)Z" } : Jvm.MethodName)) ∈ lw_all := lw_g (lw_at lw_m6 37 rfl) rfl
theorem q1307 : (Jvm.Cond.privateMethod ({ cls := "VillageHalls", name := "isCarried", desc := "(I)Z" } : Jvm.MethodName)) ∈ lw_tbl := lw_at lw_m6 38 rfl
theorem q1308 : (Jvm.Cond.instanceMethod ({ cls := "VillageHalls", name := "isCarried", desc := "(I)Z" } : Jvm.MethodName)) ∈ lw_all := lw_g (lw_at lw_m6 39 rfl) rfl
theorem q1309 : (Jvm.Cond.code ({ cls := "VillageHalls", name := "isCarried", desc := "(I)Z" } : Jvm.MethodName) prog_1_method_53_code (2 : Nat) (Option.some Jvm.ClassFile.FieldType.boolean)) ∈ lw_all := lw_g (lw_at lw_m6 40 rfl) rfl
theorem q1311 : (Jvm.Cond.instanceMethod ({ cls := "VillageHalls", name := "day", desc := "(I)I" } : Jvm.MethodName)) ∈ lw_all := lw_g (lw_at lw_m6 42 rfl) rfl
theorem q1312 : (Jvm.Cond.selects "VillageHalls" ({ cls := "VillageHalls", name := "day", desc := "(I)I" } : Jvm.MethodName) ({ cls := "VillageHalls", name := "day", desc := "(I)I" } : Jvm.MethodName)) ∈ lw_all := lw_g (lw_at lw_m6 43 rfl) rfl
theorem q1313 : (Jvm.Cond.code ({ cls := "VillageHalls", name := "day", desc := "(I)I" } : Jvm.MethodName) prog_1_method_55_code (3 : Nat) (Option.some Jvm.ClassFile.FieldType.int)) ∈ lw_all := lw_g (lw_at lw_m6 44 rfl) rfl
theorem q1315 : (Jvm.Cond.instanceMethod ({ cls := "VillageHalls", name := "kind", desc := "(I)I" } : Jvm.MethodName)) ∈ lw_all := lw_g (lw_at lw_m6 46 rfl) rfl
theorem q1316 : (Jvm.Cond.selects "VillageHalls" ({ cls := "VillageHalls", name := "kind", desc := "(I)I" } : Jvm.MethodName) ({ cls := "VillageHalls", name := "kind", desc := "(I)I" } : Jvm.MethodName)) ∈ lw_all := lw_g (lw_at lw_m6 47 rfl) rfl
theorem q1317 : (Jvm.Cond.code ({ cls := "VillageHalls", name := "kind", desc := "(I)I" } : Jvm.MethodName) prog_1_method_56_code (2 : Nat) (Option.some Jvm.ClassFile.FieldType.int)) ∈ lw_all := lw_g (lw_at lw_m6 48 rfl) rfl
theorem q1318 : (Jvm.Cond.methodLink "VillageHalls" (441 : Nat) ({ cls := "VillageHalls", name := "asked", desc := "(I)LVillageHalls$AsBooking;" } : Jvm.MethodName)) ∈ lw_all := lw_g (lw_at lw_m6 49 rfl) rfl
theorem q1319 : (Jvm.Cond.privateMethod ({ cls := "VillageHalls", name := "asked", desc := "(I)LVillageHalls$AsBooking;" } : Jvm.MethodName)) ∈ lw_tbl := lw_at lw_m6 50 rfl
theorem q1320 : (Jvm.Cond.instanceMethod ({ cls := "VillageHalls", name := "asked", desc := "(I)LVillageHalls$AsBooking;" } : Jvm.MethodName)) ∈ lw_all := lw_g (lw_at lw_m6 51 rfl) rfl
theorem q1321 : (Jvm.Cond.code ({ cls := "VillageHalls", name := "asked", desc := "(I)LVillageHalls$AsBooking;" } : Jvm.MethodName) prog_1_method_2_code (3 : Nat) (Option.some (Jvm.ClassFile.FieldType.object "VillageHalls$AsBooking"))) ∈ lw_all := lw_g (lw_at lw_m6 52 rfl) rfl
theorem q1322 : (Jvm.Cond.classLink "VillageHalls" (23 : Nat) "VillageHalls$AsGone") ∈ lw_all := lw_g (lw_at lw_m6 53 rfl) rfl
theorem q1324 : (Jvm.Cond.methodLink "VillageHalls" (25 : Nat) ({ cls := "VillageHalls$AsGone", name := "<init>", desc := "(LVillageHalls$Booking;)V" } : Jvm.MethodName)) ∈ lw_all := lw_g (lw_at lw_m6 55 rfl) rfl
theorem q1334 : (Jvm.Cond.fieldLink "VillageHalls" (447 : Nat) "VillageHalls$AsBooking" "it" "LVillageHalls$Booking;") ∈ lw_all := lw_g (lw_at lw_m6 65 rfl) rfl
theorem q1338 : (Jvm.Cond.classLink "VillageHalls" (49 : Nat) "VillageHalls$AsFirm") ∈ lw_all := lw_g (lw_at lw_m6 69 rfl) rfl
theorem q1340 : (Jvm.Cond.methodLink "VillageHalls" (55 : Nat) ({ cls := "VillageHalls$AsFirm", name := "<init>", desc := "(LVillageHalls$Booking;I)V" } : Jvm.MethodName)) ∈ lw_all := lw_g (lw_at lw_m6 71 rfl) rfl
theorem q1352 : (Jvm.Cond.classLink "VillageHalls" (58 : Nat) "VillageHalls$AsHeld") ∈ lw_all := lw_g (lw_at lw_m6 83 rfl) rfl
theorem q1354 : (Jvm.Cond.methodLink "VillageHalls" (60 : Nat) ({ cls := "VillageHalls$AsHeld", name := "<init>", desc := "(LVillageHalls$Booking;I)V" } : Jvm.MethodName)) ∈ lw_all := lw_g (lw_at lw_m6 85 rfl) rfl
theorem q1358 : (Jvm.Cond.classLink "VillageHalls" (65 : Nat) "VillageHalls$AsOut") ∈ lw_all := lw_g (lw_at lw_m6 89 rfl) rfl
theorem q1360 : (Jvm.Cond.methodLink "VillageHalls" (67 : Nat) ({ cls := "VillageHalls$AsOut", name := "<init>", desc := "(LVillageHalls$Booking;)V" } : Jvm.MethodName)) ∈ lw_all := lw_g (lw_at lw_m6 91 rfl) rfl
theorem q1366 : (Jvm.Cond.classLink "VillageHalls" (68 : Nat) "VillageHalls$AsBooking") ∈ lw_all := lw_g (lw_at lw_m6 97 rfl) rfl
theorem q1368 : (Jvm.Cond.methodLink "VillageHalls" (70 : Nat) ({ cls := "VillageHalls$AsBooking", name := "<init>", desc := "(LVillageHalls$Booking;)V" } : Jvm.MethodName)) ∈ lw_all := lw_g (lw_at lw_m6 99 rfl) rfl
theorem q1371 : (Jvm.Cond.methodLink "VillageHalls" (445 : Nat) ({ cls := "VillageHalls$AsBooking", name := "kind", desc := "()I" } : Jvm.MethodName)) ∈ lw_all := lw_g (lw_at lw_m6 102 rfl) rfl
theorem q1389 : (Jvm.Cond.instanceMethod ({ cls := "VillageHalls", name := "as", desc := "(II)I" } : Jvm.MethodName)) ∈ lw_all := lw_g (lw_at lw_m6 120 rfl) rfl
theorem q1390 : (Jvm.Cond.selects "VillageHalls" ({ cls := "VillageHalls", name := "as", desc := "(II)I" } : Jvm.MethodName) ({ cls := "VillageHalls", name := "as", desc := "(II)I" } : Jvm.MethodName)) ∈ lw_all := lw_g (lw_at lw_m6 121 rfl) rfl
theorem q1391 : (Jvm.Cond.codeWith ({ cls := "VillageHalls", name := "as", desc := "(II)I" } : Jvm.MethodName) prog_1_method_57_code (5 : Nat) (Option.some Jvm.ClassFile.FieldType.int) [((29 : Nat), (91 : Nat), (92 : Nat), (451 : Nat)), ((23 : Nat), (91 : Nat), (103 : Nat), (130 : Nat)), ((92 : Nat), (103 : Nat), (103 : Nat), (130 : Nat))]) ∈ lw_all := lw_g (lw_at lw_m6 122 rfl) rfl
theorem q1392 : (Jvm.Cond.classLink "VillageHalls" (451 : Nat) "java/lang/ClassCastException") ∈ lw_all := lw_g (lw_at lw_m6 123 rfl) rfl
theorem q1407 : (Jvm.Cond.instanceMethod ({ cls := "VillageHalls", name := "ask", desc := "(II)I" } : Jvm.MethodName)) ∈ lw_all := lw_g (lw_at lw_m6 138 rfl) rfl
theorem q1408 : (Jvm.Cond.selects "VillageHalls" ({ cls := "VillageHalls", name := "ask", desc := "(II)I" } : Jvm.MethodName) ({ cls := "VillageHalls", name := "ask", desc := "(II)I" } : Jvm.MethodName)) ∈ lw_all := lw_g (lw_at lw_m6 139 rfl) rfl
theorem q1409 : (Jvm.Cond.code ({ cls := "VillageHalls", name := "ask", desc := "(II)I" } : Jvm.MethodName) prog_1_method_58_code (4 : Nat) (Option.some Jvm.ClassFile.FieldType.int)) ∈ lw_all := lw_g (lw_at lw_m6 140 rfl) rfl
theorem q1410 : (Jvm.Cond.methodLink "VillageHalls" (453 : Nat) ({ cls := "VillageHalls$AsBooking", name := "size", desc := "(LVillageHalls$Trail;)I" } : Jvm.MethodName)) ∈ lw_all := lw_g (lw_at lw_m6 141 rfl) rfl
theorem q1481 : (Jvm.Cond.instanceMethod ({ cls := "VillageHalls", name := "trace", desc := "(I)I" } : Jvm.MethodName)) ∈ lw_all := lw_g (lw_at lw_m6 212 rfl) rfl
theorem q1482 : (Jvm.Cond.selects "VillageHalls" ({ cls := "VillageHalls", name := "trace", desc := "(I)I" } : Jvm.MethodName) ({ cls := "VillageHalls", name := "trace", desc := "(I)I" } : Jvm.MethodName)) ∈ lw_all := lw_g (lw_at lw_m6 213 rfl) rfl
theorem q1483 : (Jvm.Cond.code ({ cls := "VillageHalls", name := "trace", desc := "(I)I" } : Jvm.MethodName) prog_1_method_59_code (2 : Nat) (Option.some Jvm.ClassFile.FieldType.int)) ∈ lw_all := lw_g (lw_at lw_m6 214 rfl) rfl
theorem q1485 : (Jvm.Cond.instanceMethod ({ cls := "VillageHalls", name := "count", desc := "(I)I" } : Jvm.MethodName)) ∈ lw_all := lw_g (lw_at lw_m6 216 rfl) rfl
theorem q1486 : (Jvm.Cond.selects "VillageHalls" ({ cls := "VillageHalls", name := "count", desc := "(I)I" } : Jvm.MethodName) ({ cls := "VillageHalls", name := "count", desc := "(I)I" } : Jvm.MethodName)) ∈ lw_all := lw_g (lw_at lw_m6 217 rfl) rfl
theorem q1487 : (Jvm.Cond.code ({ cls := "VillageHalls", name := "count", desc := "(I)I" } : Jvm.MethodName) prog_1_method_61_code (4 : Nat) (Option.some Jvm.ClassFile.FieldType.int)) ∈ lw_all := lw_g (lw_at lw_m6 218 rfl) rfl
theorem q1488 : (Jvm.Cond.methodLink "VillageHalls" (465 : Nat) ({ cls := "VillageHalls", name := "countOf", desc := "(I)I" } : Jvm.MethodName)) ∈ lw_all := lw_g (lw_at lw_m6 219 rfl) rfl
theorem q1489 : (Jvm.Cond.privateMethod ({ cls := "VillageHalls", name := "countOf", desc := "(I)I" } : Jvm.MethodName)) ∈ lw_tbl := lw_at lw_m6 220 rfl
theorem q1490 : (Jvm.Cond.instanceMethod ({ cls := "VillageHalls", name := "countOf", desc := "(I)I" } : Jvm.MethodName)) ∈ lw_all := lw_g (lw_at lw_m6 221 rfl) rfl
theorem q1491 : (Jvm.Cond.code ({ cls := "VillageHalls", name := "countOf", desc := "(I)I" } : Jvm.MethodName) prog_1_method_60_code (5 : Nat) (Option.some Jvm.ClassFile.FieldType.int)) ∈ lw_all := lw_g (lw_at lw_m6 222 rfl) rfl
theorem q1493 : (Jvm.Cond.instanceMethod ({ cls := "VillageHalls", name := "status", desc := "()I" } : Jvm.MethodName)) ∈ lw_all := lw_g (lw_at lw_m6 224 rfl) rfl
theorem q1494 : (Jvm.Cond.selects "VillageHalls" ({ cls := "VillageHalls", name := "status", desc := "()I" } : Jvm.MethodName) ({ cls := "VillageHalls", name := "status", desc := "()I" } : Jvm.MethodName)) ∈ lw_all := lw_g (lw_at lw_m6 225 rfl) rfl
theorem q1495 : (Jvm.Cond.code ({ cls := "VillageHalls", name := "status", desc := "()I" } : Jvm.MethodName) prog_1_method_62_code (1 : Nat) (Option.some Jvm.ClassFile.FieldType.int)) ∈ lw_all := lw_g (lw_at lw_m6 226 rfl) rfl
theorem q2009 : (Jvm.Cond.castable "VillageHalls" "java/lang/Object") ∈ lw_tbl := lw_at lw_m9 20 rfl
theorem q2040 : (Jvm.Cond.stringRef "VillageHalls" (470 : Nat) "regular") ∈ lw_tbl := lw_at lw_m9 51 rfl
theorem q2041 : (Jvm.Cond.stringRef "VillageHalls" (472 : Nat) "party") ∈ lw_tbl := lw_at lw_m9 52 rfl
theorem q2042 : (Jvm.Cond.stringRef "VillageHalls" (474 : Nat) "club") ∈ lw_tbl := lw_at lw_m9 53 rfl
theorem q2043 : (Jvm.Cond.stringRef "VillageHalls" (476 : Nat) "funeral") ∈ lw_tbl := lw_at lw_m9 54 rfl
theorem q2044 : (Jvm.Cond.stringRef "VillageHalls" (478 : Nat) "school") ∈ lw_tbl := lw_at lw_m9 55 rfl
theorem in_X0 : ∀ w ∈ wsX00, w ∈ lw_all := lw_in wsX00 [229, 231, 233, 235, 237, 239, 241, 243, 245, 247, 249, 251, 253, 255, 257] (by decide +kernel) (by decide +kernel)
