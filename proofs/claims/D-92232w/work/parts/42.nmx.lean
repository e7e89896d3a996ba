/-! VillageHalls$Trail -/
set_option maxRecDepth 100000
def RX1 : String := "VillageHalls$Trail"
def TX1 : u_T := fun k => match k with
  | 0 => ("VillageHalls$Trail", "body", "[I", true)
  | _ => ("VillageHalls$Trail", "many", "I", false)
def tyX1 : Nat → FieldType := fun k => match k with
  | 0 => .array .int
  | _ => .int
abbrev wsX10 : List Cond := u_ws RX1 TX1 2
theorem nmX1 : ∀ a, a < 2 → ∀ b, b < 2 → a ≠ b → (TX1 a).2.1 ≠ (TX1 b).2.1 := by decide +kernel
theorem tyX1_ok : ∀ k, k < 2 → parseFieldDescriptor (TX1 k).2.2.1 = some (tyX1 k) := by decide +kernel
abbrev cX1_init : ByteArray := prog_17_method_1_code
def yX1_init : MethodName := ⟨RX1, "<init>", "()V"⟩
def dkwX1_init_0 : List UInt8 := [42, 183, 0, 3, 42, 16, 16, 188, 10, 181, 0, 9, 177]
abbrev dktX1_init_0 : List UInt8 := dkwX1_init_0 ++ []
theorem dksX1_init_0 : cX1_init.data.toList.drop 0 = dktX1_init_0 := by decide +kernel
theorem dX1_init_0 : decode cX1_init 0 = .ok (.aload_n 0, 1) := dk_42 (dk_at dksX1_init_0 0 rfl rfl)
theorem dX1_init_1 : decode cX1_init 1 = .ok (.invokespecial 3, 3) := dk_183 0 3 (dk_at dksX1_init_0 1 rfl rfl)
theorem dX1_init_4 : decode cX1_init 4 = .ok (.aload_n 0, 1) := dk_42 (dk_at dksX1_init_0 4 rfl rfl)
theorem dX1_init_5 : decode cX1_init 5 = .ok (.bipush 16, 2) := dk_16 16 (dk_at dksX1_init_0 5 rfl rfl)
theorem dX1_init_7 : decode cX1_init 7 = .ok (.newarray .int, 2) := dk_188_10 (dk_at dksX1_init_0 7 rfl rfl)
theorem dX1_init_9 : decode cX1_init 9 = .ok (.putfield 9, 3) := dk_181 0 9 (dk_at dksX1_init_0 9 rfl rfl)
theorem dX1_init_12 : decode cX1_init 12 = .ok (.return_, 1) := dk_177 (dk_at dksX1_init_0 12 rfl rfl)
abbrev cX1_begins : ByteArray := prog_17_method_2_code
def yX1_begins : MethodName := ⟨RX1, "begins", "(I)V"⟩
def dkwX1_begins_1 : List UInt8 := [27, 79, 177]
abbrev dktX1_begins_1 : List UInt8 := dkwX1_begins_1 ++ []
def dkwX1_begins_0 : List UInt8 := [42, 180, 0, 15, 16, 16, 162, 0, 20, 42, 180, 0, 9, 42, 89, 180, 0, 15, 90, 4, 96, 181, 0, 15]
abbrev dktX1_begins_0 : List UInt8 := dkwX1_begins_0 ++ dktX1_begins_1
theorem dksX1_begins_0 : cX1_begins.data.toList.drop 0 = dktX1_begins_0 := by decide +kernel
theorem dksX1_begins_1 : cX1_begins.data.toList.drop 24 = dktX1_begins_1 := dk_seg dksX1_begins_0 24 rfl rfl
theorem dX1_begins_0 : decode cX1_begins 0 = .ok (.aload_n 0, 1) := dk_42 (dk_at dksX1_begins_0 0 rfl rfl)
theorem dX1_begins_1 : decode cX1_begins 1 = .ok (.getfield 15, 3) := dk_180 0 15 (dk_at dksX1_begins_0 1 rfl rfl)
theorem dX1_begins_4 : decode cX1_begins 4 = .ok (.bipush 16, 2) := dk_16 16 (dk_at dksX1_begins_0 4 rfl rfl)
theorem dX1_begins_6 : decode cX1_begins 6 = .ok (.if_icmp .ge 20, 3) := dk_162 0 20 (dk_at dksX1_begins_0 6 rfl rfl)
theorem dX1_begins_9 : decode cX1_begins 9 = .ok (.aload_n 0, 1) := dk_42 (dk_at dksX1_begins_0 9 rfl rfl)
theorem dX1_begins_10 : decode cX1_begins 10 = .ok (.getfield 9, 3) := dk_180 0 9 (dk_at dksX1_begins_0 10 rfl rfl)
theorem dX1_begins_13 : decode cX1_begins 13 = .ok (.aload_n 0, 1) := dk_42 (dk_at dksX1_begins_0 13 rfl rfl)
theorem dX1_begins_14 : decode cX1_begins 14 = .ok (.dup, 1) := dk_89 (dk_at dksX1_begins_0 14 rfl rfl)
theorem dX1_begins_15 : decode cX1_begins 15 = .ok (.getfield 15, 3) := dk_180 0 15 (dk_at dksX1_begins_0 15 rfl rfl)
theorem dX1_begins_18 : decode cX1_begins 18 = .ok (.dup_x1, 1) := dk_90 (dk_at dksX1_begins_0 18 rfl rfl)
theorem dX1_begins_19 : decode cX1_begins 19 = .ok (.iconst 1, 1) := dk_4 (dk_at dksX1_begins_0 19 rfl rfl)
theorem dX1_begins_20 : decode cX1_begins 20 = .ok (.iadd, 1) := dk_96 (dk_at dksX1_begins_0 20 rfl rfl)
theorem dX1_begins_21 : decode cX1_begins 21 = .ok (.putfield 15, 3) := dk_181 0 15 (dk_at dksX1_begins_0 21 rfl rfl)
theorem dX1_begins_24 : decode cX1_begins 24 = .ok (.iload_n 1, 1) := dk_27 (dk_at dksX1_begins_1 0 rfl rfl)
theorem dX1_begins_25 : decode cX1_begins 25 = .ok (.iastore, 1) := dk_79 (dk_at dksX1_begins_1 1 rfl rfl)
theorem dX1_begins_26 : decode cX1_begins 26 = .ok (.return_, 1) := dk_177 (dk_at dksX1_begins_1 2 rfl rfl)
theorem q74 : (Jvm.Cond.initialized "VillageHalls$Trail") ∈ lw_all := lw_g (lw_at lw_m1 5 rfl) rfl
theorem q148 : (Jvm.Cond.instantiable "VillageHalls$Trail" (2 : Nat)) ∈ lw_all := lw_g (lw_at lw_m1 79 rfl) rfl
theorem q150 : (Jvm.Cond.instanceMethod ({ cls := "VillageHalls$Trail", name := "<init>", desc := "()V" } : Jvm.MethodName)) ∈ lw_all := lw_g (lw_at lw_m1 81 rfl) rfl
theorem q151 : (Jvm.Cond.code ({ cls := "VillageHalls$Trail", name := "<init>", desc := "()V" } : Jvm.MethodName) prog_17_method_1_code (1 : Nat) (Option.none : Option Jvm.ClassFile.FieldType)) ∈ lw_all := lw_g (lw_at lw_m1 82 rfl) rfl
theorem q152 : (Jvm.Cond.methodLink "VillageHalls$Trail" (3 : Nat) ({ cls := "java/lang/Object", name := "<init>", desc := "()V" } : Jvm.MethodName)) ∈ lw_all := lw_g (lw_at lw_m1 83 rfl) rfl
theorem q153 : (Jvm.Cond.fieldLink "VillageHalls$Trail" (9 : Nat) "VillageHalls$Trail" "body" "[I") ∈ lw_all := lw_g (lw_at lw_m1 84 rfl) rfl
theorem q155 : (Jvm.Cond.fieldLink "VillageHalls$Trail" (15 : Nat) "VillageHalls$Trail" "many" "I") ∈ lw_all := lw_g (lw_at lw_m1 86 rfl) rfl
theorem q157 : (Jvm.Cond.laysFinal "VillageHalls$Trail" "VillageHalls$Trail" "body" "[I") ∈ lw_all := lw_g (lw_at lw_m1 88 rfl) rfl
theorem q158 : (Jvm.Cond.soleField "VillageHalls$Trail" "body") ∈ lw_all := lw_g (lw_at lw_m1 89 rfl) rfl
theorem q159 : (Jvm.Cond.lays "VillageHalls$Trail" "VillageHalls$Trail" "many" "I") ∈ lw_all := lw_g (lw_at lw_m1 90 rfl) rfl
theorem q160 : (Jvm.Cond.soleField "VillageHalls$Trail" "many") ∈ lw_all := lw_g (lw_at lw_m1 91 rfl) rfl
theorem q161 : (Jvm.Cond.superclass "VillageHalls$Trail" "java/lang/Object") ∈ lw_all := lw_g (lw_at lw_m1 92 rfl) rfl
theorem q902 : (Jvm.Cond.selects "VillageHalls$Trail" ({ cls := "java/lang/Object", name := "getClass", desc := "()Ljava/lang/Class;" } : Jvm.MethodName) ({ cls := "java/lang/Object", name := "getClass", desc := "()Ljava/lang/Class;" } : Jvm.MethodName)) ∈ lw_all := lw_g (lw_at lw_m4 113 rfl) rfl
theorem q1418 : (Jvm.Cond.instanceMethod ({ cls := "VillageHalls$Trail", name := "begins", desc := "(I)V" } : Jvm.MethodName)) ∈ lw_all := lw_g (lw_at lw_m6 149 rfl) rfl
theorem q1419 : (Jvm.Cond.selects "VillageHalls$Trail" ({ cls := "VillageHalls$Trail", name := "begins", desc := "(I)V" } : Jvm.MethodName) ({ cls := "VillageHalls$Trail", name := "begins", desc := "(I)V" } : Jvm.MethodName)) ∈ lw_all := lw_g (lw_at lw_m6 150 rfl) rfl
theorem q1420 : (Jvm.Cond.code ({ cls := "VillageHalls$Trail", name := "begins", desc := "(I)V" } : Jvm.MethodName) prog_17_method_2_code (2 : Nat) (Option.none : Option Jvm.ClassFile.FieldType)) ∈ lw_all := lw_g (lw_at lw_m6 151 rfl) rfl
theorem q2011 : (Jvm.Cond.castable "VillageHalls$Trail" "java/lang/Object") ∈ lw_tbl := lw_at lw_m9 22 rfl
theorem in_X1 : ∀ w ∈ wsX10, w ∈ lw_all := lw_in wsX10 [157, 159] (by decide +kernel) (by decide +kernel)

/-! VillageHalls$Hall -/
set_option maxRecDepth 100000
def RX2 : String := "VillageHalls$Hall"
def TX2 : u_T := fun k => match k with
  | 0 => ("VillageHalls$Hall", "setup", "I", false)
  | 1 => ("VillageHalls$Hall", "licences", "I", false)
  | 2 => ("VillageHalls$Hall", "late", "I", false)
  | 3 => ("VillageHalls$Hall", "forfeit", "I", false)
  | 4 => ("VillageHalls$Hall", "fire", "[I", true)
  | 5 => ("VillageHalls$Hall", "rate", "[I", true)
  | _ => ("VillageHalls$Hall", "rank", "[I", true)
def tyX2 : Nat → FieldType := fun k => match k with
  | 0 => .int
  | 1 => .int
  | 2 => .int
  | 3 => .int
  | 4 => .array .int
  | 5 => .array .int
  | _ => .array .int
abbrev wsX20 : List Cond := u_ws RX2 TX2 7
theorem nmX2 : ∀ a, a < 7 → ∀ b, b < 7 → a ≠ b → (TX2 a).2.1 ≠ (TX2 b).2.1 := by decide +kernel
theorem tyX2_ok : ∀ k, k < 7 → parseFieldDescriptor (TX2 k).2.2.1 = some (tyX2 k) := by decide +kernel
abbrev cX2_init : ByteArray := prog_11_method_1_code
def yX2_init : MethodName := ⟨RX2, "<init>", "()V"⟩
def dkwX2_init_4 : List UInt8 := [89, 7, 7, 79, 181, 0, 31, 177]
abbrev dktX2_init_4 : List UInt8 := dkwX2_init_4 ++ []
def dkwX2_init_3 : List UInt8 := [79, 181, 0, 28, 42, 8, 188, 10, 89, 3, 3, 79, 89, 4, 4, 79, 89, 5, 5, 79, 89, 6, 6, 79]
abbrev dktX2_init_3 : List UInt8 := dkwX2_init_3 ++ dktX2_init_4
def dkwX2_init_2 : List UInt8 := [89, 3, 16, 10, 79, 89, 4, 16, 10, 79, 89, 5, 16, 10, 79, 89, 6, 16, 10, 79, 89, 7, 16, 10]
abbrev dktX2_init_2 : List UInt8 := dkwX2_init_2 ++ dktX2_init_3
def dkwX2_init_1 : List UInt8 := [181, 0, 21, 42, 5, 188, 10, 89, 3, 16, 100, 79, 89, 4, 16, 100, 79, 181, 0, 24, 42, 8, 188, 10]
abbrev dktX2_init_1 : List UInt8 := dkwX2_init_1 ++ dktX2_init_2
def dkwX2_init_0 : List UInt8 := [42, 183, 0, 3, 42, 5, 181, 0, 9, 42, 16, 12, 181, 0, 15, 42, 16, 7, 181, 0, 18, 42, 16, 50]
abbrev dktX2_init_0 : List UInt8 := dkwX2_init_0 ++ dktX2_init_1
theorem dksX2_init_0 : cX2_init.data.toList.drop 0 = dktX2_init_0 := by decide +kernel
theorem dksX2_init_1 : cX2_init.data.toList.drop 24 = dktX2_init_1 := dk_seg dksX2_init_0 24 rfl rfl
theorem dksX2_init_2 : cX2_init.data.toList.drop 48 = dktX2_init_2 := dk_seg dksX2_init_1 24 rfl rfl
theorem dksX2_init_3 : cX2_init.data.toList.drop 72 = dktX2_init_3 := dk_seg dksX2_init_2 24 rfl rfl
theorem dksX2_init_4 : cX2_init.data.toList.drop 96 = dktX2_init_4 := dk_seg dksX2_init_3 24 rfl rfl
theorem dX2_init_0 : decode cX2_init 0 = .ok (.aload_n 0, 1) := dk_42 (dk_at dksX2_init_0 0 rfl rfl)
theorem dX2_init_1 : decode cX2_init 1 = .ok (.invokespecial 3, 3) := dk_183 0 3 (dk_at dksX2_init_0 1 rfl rfl)
theorem dX2_init_4 : decode cX2_init 4 = .ok (.aload_n 0, 1) := dk_42 (dk_at dksX2_init_0 4 rfl rfl)
theorem dX2_init_5 : decode cX2_init 5 = .ok (.iconst 2, 1) := dk_5 (dk_at dksX2_init_0 5 rfl rfl)
theorem dX2_init_6 : decode cX2_init 6 = .ok (.putfield 9, 3) := dk_181 0 9 (dk_at dksX2_init_0 6 rfl rfl)
theorem dX2_init_9 : decode cX2_init 9 = .ok (.aload_n 0, 1) := dk_42 (dk_at dksX2_init_0 9 rfl rfl)
theorem dX2_init_10 : decode cX2_init 10 = .ok (.bipush 12, 2) := dk_16 12 (dk_at dksX2_init_0 10 rfl rfl)
theorem dX2_init_12 : decode cX2_init 12 = .ok (.putfield 15, 3) := dk_181 0 15 (dk_at dksX2_init_0 12 rfl rfl)
theorem dX2_init_15 : decode cX2_init 15 = .ok (.aload_n 0, 1) := dk_42 (dk_at dksX2_init_0 15 rfl rfl)
theorem dX2_init_16 : decode cX2_init 16 = .ok (.bipush 7, 2) := dk_16 7 (dk_at dksX2_init_0 16 rfl rfl)
theorem dX2_init_18 : decode cX2_init 18 = .ok (.putfield 18, 3) := dk_181 0 18 (dk_at dksX2_init_0 18 rfl rfl)
theorem dX2_init_21 : decode cX2_init 21 = .ok (.aload_n 0, 1) := dk_42 (dk_at dksX2_init_0 21 rfl rfl)
theorem dX2_init_22 : decode cX2_init 22 = .ok (.bipush 50, 2) := dk_16 50 (dk_at dksX2_init_0 22 rfl rfl)
theorem dX2_init_24 : decode cX2_init 24 = .ok (.putfield 21, 3) := dk_181 0 21 (dk_at dksX2_init_1 0 rfl rfl)
theorem dX2_init_27 : decode cX2_init 27 = .ok (.aload_n 0, 1) := dk_42 (dk_at dksX2_init_1 3 rfl rfl)
theorem dX2_init_28 : decode cX2_init 28 = .ok (.iconst 2, 1) := dk_5 (dk_at dksX2_init_1 4 rfl rfl)
theorem dX2_init_29 : decode cX2_init 29 = .ok (.newarray .int, 2) := dk_188_10 (dk_at dksX2_init_1 5 rfl rfl)
theorem dX2_init_31 : decode cX2_init 31 = .ok (.dup, 1) := dk_89 (dk_at dksX2_init_1 7 rfl rfl)
theorem dX2_init_32 : decode cX2_init 32 = .ok (.iconst 0, 1) := dk_3 (dk_at dksX2_init_1 8 rfl rfl)
theorem dX2_init_33 : decode cX2_init 33 = .ok (.bipush 100, 2) := dk_16 100 (dk_at dksX2_init_1 9 rfl rfl)
theorem dX2_init_35 : decode cX2_init 35 = .ok (.iastore, 1) := dk_79 (dk_at dksX2_init_1 11 rfl rfl)
theorem dX2_init_36 : decode cX2_init 36 = .ok (.dup, 1) := dk_89 (dk_at dksX2_init_1 12 rfl rfl)
theorem dX2_init_37 : decode cX2_init 37 = .ok (.iconst 1, 1) := dk_4 (dk_at dksX2_init_1 13 rfl rfl)
theorem dX2_init_38 : decode cX2_init 38 = .ok (.bipush 100, 2) := dk_16 100 (dk_at dksX2_init_1 14 rfl rfl)
theorem dX2_init_40 : decode cX2_init 40 = .ok (.iastore, 1) := dk_79 (dk_at dksX2_init_1 16 rfl rfl)
theorem dX2_init_41 : decode cX2_init 41 = .ok (.putfield 24, 3) := dk_181 0 24 (dk_at dksX2_init_1 17 rfl rfl)
theorem dX2_init_44 : decode cX2_init 44 = .ok (.aload_n 0, 1) := dk_42 (dk_at dksX2_init_1 20 rfl rfl)
theorem dX2_init_45 : decode cX2_init 45 = .ok (.iconst 5, 1) := dk_8 (dk_at dksX2_init_1 21 rfl rfl)
theorem dX2_init_46 : decode cX2_init 46 = .ok (.newarray .int, 2) := dk_188_10 (dk_at dksX2_init_1 22 rfl rfl)
theorem dX2_init_48 : decode cX2_init 48 = .ok (.dup, 1) := dk_89 (dk_at dksX2_init_2 0 rfl rfl)
theorem dX2_init_49 : decode cX2_init 49 = .ok (.iconst 0, 1) := dk_3 (dk_at dksX2_init_2 1 rfl rfl)
theorem dX2_init_50 : decode cX2_init 50 = .ok (.bipush 10, 2) := dk_16 10 (dk_at dksX2_init_2 2 rfl rfl)
theorem dX2_init_52 : decode cX2_init 52 = .ok (.iastore, 1) := dk_79 (dk_at dksX2_init_2 4 rfl rfl)
theorem dX2_init_53 : decode cX2_init 53 = .ok (.dup, 1) := dk_89 (dk_at dksX2_init_2 5 rfl rfl)
theorem dX2_init_54 : decode cX2_init 54 = .ok (.iconst 1, 1) := dk_4 (dk_at dksX2_init_2 6 rfl rfl)
theorem dX2_init_55 : decode cX2_init 55 = .ok (.bipush 10, 2) := dk_16 10 (dk_at dksX2_init_2 7 rfl rfl)
theorem dX2_init_57 : decode cX2_init 57 = .ok (.iastore, 1) := dk_79 (dk_at dksX2_init_2 9 rfl rfl)
theorem dX2_init_58 : decode cX2_init 58 = .ok (.dup, 1) := dk_89 (dk_at dksX2_init_2 10 rfl rfl)
theorem dX2_init_59 : decode cX2_init 59 = .ok (.iconst 2, 1) := dk_5 (dk_at dksX2_init_2 11 rfl rfl)
theorem dX2_init_60 : decode cX2_init 60 = .ok (.bipush 10, 2) := dk_16 10 (dk_at dksX2_init_2 12 rfl rfl)
theorem dX2_init_62 : decode cX2_init 62 = .ok (.iastore, 1) := dk_79 (dk_at dksX2_init_2 14 rfl rfl)
theorem dX2_init_63 : decode cX2_init 63 = .ok (.dup, 1) := dk_89 (dk_at dksX2_init_2 15 rfl rfl)
theorem dX2_init_64 : decode cX2_init 64 = .ok (.iconst 3, 1) := dk_6 (dk_at dksX2_init_2 16 rfl rfl)
theorem dX2_init_65 : decode cX2_init 65 = .ok (.bipush 10, 2) := dk_16 10 (dk_at dksX2_init_2 17 rfl rfl)
theorem dX2_init_67 : decode cX2_init 67 = .ok (.iastore, 1) := dk_79 (dk_at dksX2_init_2 19 rfl rfl)
theorem dX2_init_68 : decode cX2_init 68 = .ok (.dup, 1) := dk_89 (dk_at dksX2_init_2 20 rfl rfl)
theorem dX2_init_69 : decode cX2_init 69 = .ok (.iconst 4, 1) := dk_7 (dk_at dksX2_init_2 21 rfl rfl)
theorem dX2_init_70 : decode cX2_init 70 = .ok (.bipush 10, 2) := dk_16 10 (dk_at dksX2_init_2 22 rfl rfl)
theorem dX2_init_72 : decode cX2_init 72 = .ok (.iastore, 1) := dk_79 (dk_at dksX2_init_3 0 rfl rfl)
theorem dX2_init_73 : decode cX2_init 73 = .ok (.putfield 28, 3) := dk_181 0 28 (dk_at dksX2_init_3 1 rfl rfl)
theorem dX2_init_76 : decode cX2_init 76 = .ok (.aload_n 0, 1) := dk_42 (dk_at dksX2_init_3 4 rfl rfl)
theorem dX2_init_77 : decode cX2_init 77 = .ok (.iconst 5, 1) := dk_8 (dk_at dksX2_init_3 5 rfl rfl)
theorem dX2_init_78 : decode cX2_init 78 = .ok (.newarray .int, 2) := dk_188_10 (dk_at dksX2_init_3 6 rfl rfl)
theorem dX2_init_80 : decode cX2_init 80 = .ok (.dup, 1) := dk_89 (dk_at dksX2_init_3 8 rfl rfl)
theorem dX2_init_81 : decode cX2_init 81 = .ok (.iconst 0, 1) := dk_3 (dk_at dksX2_init_3 9 rfl rfl)
theorem dX2_init_82 : decode cX2_init 82 = .ok (.iconst 0, 1) := dk_3 (dk_at dksX2_init_3 10 rfl rfl)
theorem dX2_init_83 : decode cX2_init 83 = .ok (.iastore, 1) := dk_79 (dk_at dksX2_init_3 11 rfl rfl)
theorem dX2_init_84 : decode cX2_init 84 = .ok (.dup, 1) := dk_89 (dk_at dksX2_init_3 12 rfl rfl)
theorem dX2_init_85 : decode cX2_init 85 = .ok (.iconst 1, 1) := dk_4 (dk_at dksX2_init_3 13 rfl rfl)
theorem dX2_init_86 : decode cX2_init 86 = .ok (.iconst 1, 1) := dk_4 (dk_at dksX2_init_3 14 rfl rfl)
theorem dX2_init_87 : decode cX2_init 87 = .ok (.iastore, 1) := dk_79 (dk_at dksX2_init_3 15 rfl rfl)
theorem dX2_init_88 : decode cX2_init 88 = .ok (.dup, 1) := dk_89 (dk_at dksX2_init_3 16 rfl rfl)
theorem dX2_init_89 : decode cX2_init 89 = .ok (.iconst 2, 1) := dk_5 (dk_at dksX2_init_3 17 rfl rfl)
theorem dX2_init_90 : decode cX2_init 90 = .ok (.iconst 2, 1) := dk_5 (dk_at dksX2_init_3 18 rfl rfl)
theorem dX2_init_91 : decode cX2_init 91 = .ok (.iastore, 1) := dk_79 (dk_at dksX2_init_3 19 rfl rfl)
theorem dX2_init_92 : decode cX2_init 92 = .ok (.dup, 1) := dk_89 (dk_at dksX2_init_3 20 rfl rfl)
theorem dX2_init_93 : decode cX2_init 93 = .ok (.iconst 3, 1) := dk_6 (dk_at dksX2_init_3 21 rfl rfl)
theorem dX2_init_94 : decode cX2_init 94 = .ok (.iconst 3, 1) := dk_6 (dk_at dksX2_init_3 22 rfl rfl)
theorem dX2_init_95 : decode cX2_init 95 = .ok (.iastore, 1) := dk_79 (dk_at dksX2_init_3 23 rfl rfl)
theorem dX2_init_96 : decode cX2_init 96 = .ok (.dup, 1) := dk_89 (dk_at dksX2_init_4 0 rfl rfl)
theorem dX2_init_97 : decode cX2_init 97 = .ok (.iconst 4, 1) := dk_7 (dk_at dksX2_init_4 1 rfl rfl)
theorem dX2_init_98 : decode cX2_init 98 = .ok (.iconst 4, 1) := dk_7 (dk_at dksX2_init_4 2 rfl rfl)
theorem dX2_init_99 : decode cX2_init 99 = .ok (.iastore, 1) := dk_79 (dk_at dksX2_init_4 3 rfl rfl)
theorem dX2_init_100 : decode cX2_init 100 = .ok (.putfield 31, 3) := dk_181 0 31 (dk_at dksX2_init_4 4 rfl rfl)
theorem dX2_init_103 : decode cX2_init 103 = .ok (.return_, 1) := dk_177 (dk_at dksX2_init_4 7 rfl rfl)
abbrev cX2_init_2 : ByteArray := prog_11_method_2_code
def yX2_init_2 : MethodName := ⟨RX2, "<init>", "(LVillageHalls$Hall;)V"⟩
def dkwX2_init_2_7 : List UInt8 := [42, 180, 0, 31, 3, 8, 184, 0, 34, 177]
abbrev dktX2_init_2_7 : List UInt8 := dkwX2_init_2_7 ++ []
def dkwX2_init_2_6 : List UInt8 := [3, 5, 184, 0, 34, 43, 180, 0, 28, 3, 42, 180, 0, 28, 3, 8, 184, 0, 34, 43, 180, 0, 31, 3]
abbrev dktX2_init_2_6 : List UInt8 := dkwX2_init_2_6 ++ dktX2_init_2_7
def dkwX2_init_2_5 : List UInt8 := [43, 180, 0, 18, 181, 0, 18, 42, 43, 180, 0, 21, 181, 0, 21, 43, 180, 0, 24, 3, 42, 180, 0, 24]
abbrev dktX2_init_2_5 : List UInt8 := dkwX2_init_2_5 ++ dktX2_init_2_6
def dkwX2_init_2_4 : List UInt8 := [89, 7, 7, 79, 181, 0, 31, 42, 43, 180, 0, 9, 181, 0, 9, 42, 43, 180, 0, 15, 181, 0, 15, 42]
abbrev dktX2_init_2_4 : List UInt8 := dkwX2_init_2_4 ++ dktX2_init_2_5
def dkwX2_init_2_3 : List UInt8 := [79, 181, 0, 28, 42, 8, 188, 10, 89, 3, 3, 79, 89, 4, 4, 79, 89, 5, 5, 79, 89, 6, 6, 79]
abbrev dktX2_init_2_3 : List UInt8 := dkwX2_init_2_3 ++ dktX2_init_2_4
def dkwX2_init_2_2 : List UInt8 := [89, 3, 16, 10, 79, 89, 4, 16, 10, 79, 89, 5, 16, 10, 79, 89, 6, 16, 10, 79, 89, 7, 16, 10]
abbrev dktX2_init_2_2 : List UInt8 := dkwX2_init_2_2 ++ dktX2_init_2_3
def dkwX2_init_2_1 : List UInt8 := [181, 0, 21, 42, 5, 188, 10, 89, 3, 16, 100, 79, 89, 4, 16, 100, 79, 181, 0, 24, 42, 8, 188, 10]
abbrev dktX2_init_2_1 : List UInt8 := dkwX2_init_2_1 ++ dktX2_init_2_2
def dkwX2_init_2_0 : List UInt8 := [42, 183, 0, 3, 42, 5, 181, 0, 9, 42, 16, 12, 181, 0, 15, 42, 16, 7, 181, 0, 18, 42, 16, 50]
abbrev dktX2_init_2_0 : List UInt8 := dkwX2_init_2_0 ++ dktX2_init_2_1
theorem dksX2_init_2_0 : cX2_init_2.data.toList.drop 0 = dktX2_init_2_0 := by decide +kernel
theorem dksX2_init_2_1 : cX2_init_2.data.toList.drop 24 = dktX2_init_2_1 := dk_seg dksX2_init_2_0 24 rfl rfl
theorem dksX2_init_2_2 : cX2_init_2.data.toList.drop 48 = dktX2_init_2_2 := dk_seg dksX2_init_2_1 24 rfl rfl
theorem dksX2_init_2_3 : cX2_init_2.data.toList.drop 72 = dktX2_init_2_3 := dk_seg dksX2_init_2_2 24 rfl rfl
theorem dksX2_init_2_4 : cX2_init_2.data.toList.drop 96 = dktX2_init_2_4 := dk_seg dksX2_init_2_3 24 rfl rfl
theorem dksX2_init_2_5 : cX2_init_2.data.toList.drop 120 = dktX2_init_2_5 := dk_seg dksX2_init_2_4 24 rfl rfl
theorem dksX2_init_2_6 : cX2_init_2.data.toList.drop 144 = dktX2_init_2_6 := dk_seg dksX2_init_2_5 24 rfl rfl
theorem dksX2_init_2_7 : cX2_init_2.data.toList.drop 168 = dktX2_init_2_7 := dk_seg dksX2_init_2_6 24 rfl rfl
theorem dX2_init_2_0 : decode cX2_init_2 0 = .ok (.aload_n 0, 1) := dk_42 (dk_at dksX2_init_2_0 0 rfl rfl)
theorem dX2_init_2_1 : decode cX2_init_2 1 = .ok (.invokespecial 3, 3) := dk_183 0 3 (dk_at dksX2_init_2_0 1 rfl rfl)
theorem dX2_init_2_4 : decode cX2_init_2 4 = .ok (.aload_n 0, 1) := dk_42 (dk_at dksX2_init_2_0 4 rfl rfl)
theorem dX2_init_2_5 : decode cX2_init_2 5 = .ok (.iconst 2, 1) := dk_5 (dk_at dksX2_init_2_0 5 rfl rfl)
theorem dX2_init_2_6 : decode cX2_init_2 6 = .ok (.putfield 9, 3) := dk_181 0 9 (dk_at dksX2_init_2_0 6 rfl rfl)
theorem dX2_init_2_9 : decode cX2_init_2 9 = .ok (.aload_n 0, 1) := dk_42 (dk_at dksX2_init_2_0 9 rfl rfl)
theorem dX2_init_2_10 : decode cX2_init_2 10 = .ok (.bipush 12, 2) := dk_16 12 (dk_at dksX2_init_2_0 10 rfl rfl)
theorem dX2_init_2_12 : decode cX2_init_2 12 = .ok (.putfield 15, 3) := dk_181 0 15 (dk_at dksX2_init_2_0 12 rfl rfl)
theorem dX2_init_2_15 : decode cX2_init_2 15 = .ok (.aload_n 0, 1) := dk_42 (dk_at dksX2_init_2_0 15 rfl rfl)
theorem dX2_init_2_16 : decode cX2_init_2 16 = .ok (.bipush 7, 2) := dk_16 7 (dk_at dksX2_init_2_0 16 rfl rfl)
theorem dX2_init_2_18 : decode cX2_init_2 18 = .ok (.putfield 18, 3) := dk_181 0 18 (dk_at dksX2_init_2_0 18 rfl rfl)
theorem dX2_init_2_21 : decode cX2_init_2 21 = .ok (.aload_n 0, 1) := dk_42 (dk_at dksX2_init_2_0 21 rfl rfl)
theorem dX2_init_2_22 : decode cX2_init_2 22 = .ok (.bipush 50, 2) := dk_16 50 (dk_at dksX2_init_2_0 22 rfl rfl)
theorem dX2_init_2_24 : decode cX2_init_2 24 = .ok (.putfield 21, 3) := dk_181 0 21 (dk_at dksX2_init_2_1 0 rfl rfl)
theorem dX2_init_2_27 : decode cX2_init_2 27 = .ok (.aload_n 0, 1) := dk_42 (dk_at dksX2_init_2_1 3 rfl rfl)
theorem dX2_init_2_28 : decode cX2_init_2 28 = .ok (.iconst 2, 1) := dk_5 (dk_at dksX2_init_2_1 4 rfl rfl)
theorem dX2_init_2_29 : decode cX2_init_2 29 = .ok (.newarray .int, 2) := dk_188_10 (dk_at dksX2_init_2_1 5 rfl rfl)
theorem dX2_init_2_31 : decode cX2_init_2 31 = .ok (.dup, 1) := dk_89 (dk_at dksX2_init_2_1 7 rfl rfl)
theorem dX2_init_2_32 : decode cX2_init_2 32 = .ok (.iconst 0, 1) := dk_3 (dk_at dksX2_init_2_1 8 rfl rfl)
theorem dX2_init_2_33 : decode cX2_init_2 33 = .ok (.bipush 100, 2) := dk_16 100 (dk_at dksX2_init_2_1 9 rfl rfl)
theorem dX2_init_2_35 : decode cX2_init_2 35 = .ok (.iastore, 1) := dk_79 (dk_at dksX2_init_2_1 11 rfl rfl)
theorem dX2_init_2_36 : decode cX2_init_2 36 = .ok (.dup, 1) := dk_89 (dk_at dksX2_init_2_1 12 rfl rfl)
theorem dX2_init_2_37 : decode cX2_init_2 37 = .ok (.iconst 1, 1) := dk_4 (dk_at dksX2_init_2_1 13 rfl rfl)
theorem dX2_init_2_38 : decode cX2_init_2 38 = .ok (.bipush 100, 2) := dk_16 100 (dk_at dksX2_init_2_1 14 rfl rfl)
theorem dX2_init_2_40 : decode cX2_init_2 40 = .ok (.iastore, 1) := dk_79 (dk_at dksX2_init_2_1 16 rfl rfl)
theorem dX2_init_2_41 : decode cX2_init_2 41 = .ok (.putfield 24, 3) := dk_181 0 24 (dk_at dksX2_init_2_1 17 rfl rfl)
theorem dX2_init_2_44 : decode cX2_init_2 44 = .ok (.aload_n 0, 1) := dk_42 (dk_at dksX2_init_2_1 20 rfl rfl)
theorem dX2_init_2_45 : decode cX2_init_2 45 = .ok (.iconst 5, 1) := dk_8 (dk_at dksX2_init_2_1 21 rfl rfl)
theorem dX2_init_2_46 : decode cX2_init_2 46 = .ok (.newarray .int, 2) := dk_188_10 (dk_at dksX2_init_2_1 22 rfl rfl)
theorem dX2_init_2_48 : decode cX2_init_2 48 = .ok (.dup, 1) := dk_89 (dk_at dksX2_init_2_2 0 rfl rfl)
theorem dX2_init_2_49 : decode cX2_init_2 49 = .ok (.iconst 0, 1) := dk_3 (dk_at dksX2_init_2_2 1 rfl rfl)
theorem dX2_init_2_50 : decode cX2_init_2 50 = .ok (.bipush 10, 2) := dk_16 10 (dk_at dksX2_init_2_2 2 rfl rfl)
theorem dX2_init_2_52 : decode cX2_init_2 52 = .ok (.iastore, 1) := dk_79 (dk_at dksX2_init_2_2 4 rfl rfl)
theorem dX2_init_2_53 : decode cX2_init_2 53 = .ok (.dup, 1) := dk_89 (dk_at dksX2_init_2_2 5 rfl rfl)
theorem dX2_init_2_54 : decode cX2_init_2 54 = .ok (.iconst 1, 1) := dk_4 (dk_at dksX2_init_2_2 6 rfl rfl)
theorem dX2_init_2_55 : decode cX2_init_2 55 = .ok (.bipush 10, 2) := dk_16 10 (dk_at dksX2_init_2_2 7 rfl rfl)
theorem dX2_init_2_57 : decode cX2_init_2 57 = .ok (.iastore, 1) := dk_79 (dk_at dksX2_init_2_2 9 rfl rfl)
theorem dX2_init_2_58 : decode cX2_init_2 58 = .ok (.dup, 1) := dk_89 (dk_at dksX2_init_2_2 10 rfl rfl)
theorem dX2_init_2_59 : decode cX2_init_2 59 = .ok (.iconst 2, 1) := dk_5 (dk_at dksX2_init_2_2 11 rfl rfl)
theorem dX2_init_2_60 : decode cX2_init_2 60 = .ok (.bipush 10, 2) := dk_16 10 (dk_at dksX2_init_2_2 12 rfl rfl)
theorem dX2_init_2_62 : decode cX2_init_2 62 = .ok (.iastore, 1) := dk_79 (dk_at dksX2_init_2_2 14 rfl rfl)
theorem dX2_init_2_63 : decode cX2_init_2 63 = .ok (.dup, 1) := dk_89 (dk_at dksX2_init_2_2 15 rfl rfl)
theorem dX2_init_2_64 : decode cX2_init_2 64 = .ok (.iconst 3, 1) := dk_6 (dk_at dksX2_init_2_2 16 rfl rfl)
theorem dX2_init_2_65 : decode cX2_init_2 65 = .ok (.bipush 10, 2) := dk_16 10 (dk_at dksX2_init_2_2 17 rfl rfl)
theorem dX2_init_2_67 : decode cX2_init_2 67 = .ok (.iastore, 1) := dk_79 (dk_at dksX2_init_2_2 19 rfl rfl)
theorem dX2_init_2_68 : decode cX2_init_2 68 = .ok (.dup, 1) := dk_89 (dk_at dksX2_init_2_2 20 rfl rfl)
theorem dX2_init_2_69 : decode cX2_init_2 69 = .ok (.iconst 4, 1) := dk_7 (dk_at dksX2_init_2_2 21 rfl rfl)
theorem dX2_init_2_70 : decode cX2_init_2 70 = .ok (.bipush 10, 2) := dk_16 10 (dk_at dksX2_init_2_2 22 rfl rfl)
theorem dX2_init_2_72 : decode cX2_init_2 72 = .ok (.iastore, 1) := dk_79 (dk_at dksX2_init_2_3 0 rfl rfl)
theorem dX2_init_2_73 : decode cX2_init_2 73 = .ok (.putfield 28, 3) := dk_181 0 28 (dk_at dksX2_init_2_3 1 rfl rfl)
theorem dX2_init_2_76 : decode cX2_init_2 76 = .ok (.aload_n 0, 1) := dk_42 (dk_at dksX2_init_2_3 4 rfl rfl)
theorem dX2_init_2_77 : decode cX2_init_2 77 = .ok (.iconst 5, 1) := dk_8 (dk_at dksX2_init_2_3 5 rfl rfl)
theorem dX2_init_2_78 : decode cX2_init_2 78 = .ok (.newarray .int, 2) := dk_188_10 (dk_at dksX2_init_2_3 6 rfl rfl)
theorem dX2_init_2_80 : decode cX2_init_2 80 = .ok (.dup, 1) := dk_89 (dk_at dksX2_init_2_3 8 rfl rfl)
theorem dX2_init_2_81 : decode cX2_init_2 81 = .ok (.iconst 0, 1) := dk_3 (dk_at dksX2_init_2_3 9 rfl rfl)
theorem dX2_init_2_82 : decode cX2_init_2 82 = .ok (.iconst 0, 1) := dk_3 (dk_at dksX2_init_2_3 10 rfl rfl)
theorem dX2_init_2_83 : decode cX2_init_2 83 = .ok (.iastore, 1) := dk_79 (dk_at dksX2_init_2_3 11 rfl rfl)
theorem dX2_init_2_84 : decode cX2_init_2 84 = .ok (.dup, 1) := dk_89 (dk_at dksX2_init_2_3 12 rfl rfl)
theorem dX2_init_2_85 : decode cX2_init_2 85 = .ok (.iconst 1, 1) := dk_4 (dk_at dksX2_init_2_3 13 rfl rfl)
theorem dX2_init_2_86 : decode cX2_init_2 86 = .ok (.iconst 1, 1) := dk_4 (dk_at dksX2_init_2_3 14 rfl rfl)
theorem dX2_init_2_87 : decode cX2_init_2 87 = .ok (.iastore, 1) := dk_79 (dk_at dksX2_init_2_3 15 rfl rfl)
theorem dX2_init_2_88 : decode cX2_init_2 88 = .ok (.dup, 1) := dk_89 (dk_at dksX2_init_2_3 16 rfl rfl)
theorem dX2_init_2_89 : decode cX2_init_2 89 = .ok (.iconst 2, 1) := dk_5 (dk_at dksX2_init_2_3 17 rfl rfl)
theorem dX2_init_2_90 : decode cX2_init_2 90 = .ok (.iconst 2, 1) := dk_5 (dk_at dksX2_init_2_3 18 rfl rfl)
theorem dX2_init_2_91 : decode cX2_init_2 91 = .ok (.iastore, 1) := dk_79 (dk_at dksX2_init_2_3 19 rfl rfl)
theorem dX2_init_2_92 : decode cX2_init_2 92 = .ok (.dup, 1) := dk_89 (dk_at dksX2_init_2_3 20 rfl rfl)
theorem dX2_init_2_93 : decode cX2_init_2 93 = .ok (.iconst 3, 1) := dk_6 (dk_at dksX2_init_2_3 21 rfl rfl)
theorem dX2_init_2_94 : decode cX2_init_2 94 = .ok (.iconst 3, 1) := dk_6 (dk_at dksX2_init_2_3 22 rfl rfl)
theorem dX2_init_2_95 : decode cX2_init_2 95 = .ok (.iastore, 1) := dk_79 (dk_at dksX2_init_2_3 23 rfl rfl)
theorem dX2_init_2_96 : decode cX2_init_2 96 = .ok (.dup, 1) := dk_89 (dk_at dksX2_init_2_4 0 rfl rfl)
theorem dX2_init_2_97 : decode cX2_init_2 97 = .ok (.iconst 4, 1) := dk_7 (dk_at dksX2_init_2_4 1 rfl rfl)
theorem dX2_init_2_98 : decode cX2_init_2 98 = .ok (.iconst 4, 1) := dk_7 (dk_at dksX2_init_2_4 2 rfl rfl)
theorem dX2_init_2_99 : decode cX2_init_2 99 = .ok (.iastore, 1) := dk_79 (dk_at dksX2_init_2_4 3 rfl rfl)
theorem dX2_init_2_100 : decode cX2_init_2 100 = .ok (.putfield 31, 3) := dk_181 0 31 (dk_at dksX2_init_2_4 4 rfl rfl)
theorem dX2_init_2_103 : decode cX2_init_2 103 = .ok (.aload_n 0, 1) := dk_42 (dk_at dksX2_init_2_4 7 rfl rfl)
theorem dX2_init_2_104 : decode cX2_init_2 104 = .ok (.aload_n 1, 1) := dk_43 (dk_at dksX2_init_2_4 8 rfl rfl)
theorem dX2_init_2_105 : decode cX2_init_2 105 = .ok (.getfield 9, 3) := dk_180 0 9 (dk_at dksX2_init_2_4 9 rfl rfl)
theorem dX2_init_2_108 : decode cX2_init_2 108 = .ok (.putfield 9, 3) := dk_181 0 9 (dk_at dksX2_init_2_4 12 rfl rfl)
theorem dX2_init_2_111 : decode cX2_init_2 111 = .ok (.aload_n 0, 1) := dk_42 (dk_at dksX2_init_2_4 15 rfl rfl)
theorem dX2_init_2_112 : decode cX2_init_2 112 = .ok (.aload_n 1, 1) := dk_43 (dk_at dksX2_init_2_4 16 rfl rfl)
theorem dX2_init_2_113 : decode cX2_init_2 113 = .ok (.getfield 15, 3) := dk_180 0 15 (dk_at dksX2_init_2_4 17 rfl rfl)
theorem dX2_init_2_116 : decode cX2_init_2 116 = .ok (.putfield 15, 3) := dk_181 0 15 (dk_at dksX2_init_2_4 20 rfl rfl)
theorem dX2_init_2_119 : decode cX2_init_2 119 = .ok (.aload_n 0, 1) := dk_42 (dk_at dksX2_init_2_4 23 rfl rfl)
theorem dX2_init_2_120 : decode cX2_init_2 120 = .ok (.aload_n 1, 1) := dk_43 (dk_at dksX2_init_2_5 0 rfl rfl)
theorem dX2_init_2_121 : decode cX2_init_2 121 = .ok (.getfield 18, 3) := dk_180 0 18 (dk_at dksX2_init_2_5 1 rfl rfl)
theorem dX2_init_2_124 : decode cX2_init_2 124 = .ok (.putfield 18, 3) := dk_181 0 18 (dk_at dksX2_init_2_5 4 rfl rfl)
theorem dX2_init_2_127 : decode cX2_init_2 127 = .ok (.aload_n 0, 1) := dk_42 (dk_at dksX2_init_2_5 7 rfl rfl)
theorem dX2_init_2_128 : decode cX2_init_2 128 = .ok (.aload_n 1, 1) := dk_43 (dk_at dksX2_init_2_5 8 rfl rfl)
theorem dX2_init_2_129 : decode cX2_init_2 129 = .ok (.getfield 21, 3) := dk_180 0 21 (dk_at dksX2_init_2_5 9 rfl rfl)
theorem dX2_init_2_132 : decode cX2_init_2 132 = .ok (.putfield 21, 3) := dk_181 0 21 (dk_at dksX2_init_2_5 12 rfl rfl)
theorem dX2_init_2_135 : decode cX2_init_2 135 = .ok (.aload_n 1, 1) := dk_43 (dk_at dksX2_init_2_5 15 rfl rfl)
theorem dX2_init_2_136 : decode cX2_init_2 136 = .ok (.getfield 24, 3) := dk_180 0 24 (dk_at dksX2_init_2_5 16 rfl rfl)
theorem dX2_init_2_139 : decode cX2_init_2 139 = .ok (.iconst 0, 1) := dk_3 (dk_at dksX2_init_2_5 19 rfl rfl)
theorem dX2_init_2_140 : decode cX2_init_2 140 = .ok (.aload_n 0, 1) := dk_42 (dk_at dksX2_init_2_5 20 rfl rfl)
theorem dX2_init_2_141 : decode cX2_init_2 141 = .ok (.getfield 24, 3) := dk_180 0 24 (dk_at dksX2_init_2_5 21 rfl rfl)
theorem dX2_init_2_144 : decode cX2_init_2 144 = .ok (.iconst 0, 1) := dk_3 (dk_at dksX2_init_2_6 0 rfl rfl)
theorem dX2_init_2_145 : decode cX2_init_2 145 = .ok (.iconst 2, 1) := dk_5 (dk_at dksX2_init_2_6 1 rfl rfl)
theorem dX2_init_2_146 : decode cX2_init_2 146 = .ok (.invokestatic 34, 3) := dk_184 0 34 (dk_at dksX2_init_2_6 2 rfl rfl)
theorem dX2_init_2_149 : decode cX2_init_2 149 = .ok (.aload_n 1, 1) := dk_43 (dk_at dksX2_init_2_6 5 rfl rfl)
theorem dX2_init_2_150 : decode cX2_init_2 150 = .ok (.getfield 28, 3) := dk_180 0 28 (dk_at dksX2_init_2_6 6 rfl rfl)
theorem dX2_init_2_153 : decode cX2_init_2 153 = .ok (.iconst 0, 1) := dk_3 (dk_at dksX2_init_2_6 9 rfl rfl)
theorem dX2_init_2_154 : decode cX2_init_2 154 = .ok (.aload_n 0, 1) := dk_42 (dk_at dksX2_init_2_6 10 rfl rfl)
theorem dX2_init_2_155 : decode cX2_init_2 155 = .ok (.getfield 28, 3) := dk_180 0 28 (dk_at dksX2_init_2_6 11 rfl rfl)
theorem dX2_init_2_158 : decode cX2_init_2 158 = .ok (.iconst 0, 1) := dk_3 (dk_at dksX2_init_2_6 14 rfl rfl)
theorem dX2_init_2_159 : decode cX2_init_2 159 = .ok (.iconst 5, 1) := dk_8 (dk_at dksX2_init_2_6 15 rfl rfl)
theorem dX2_init_2_160 : decode cX2_init_2 160 = .ok (.invokestatic 34, 3) := dk_184 0 34 (dk_at dksX2_init_2_6 16 rfl rfl)
theorem dX2_init_2_163 : decode cX2_init_2 163 = .ok (.aload_n 1, 1) := dk_43 (dk_at dksX2_init_2_6 19 rfl rfl)
theorem dX2_init_2_164 : decode cX2_init_2 164 = .ok (.getfield 31, 3) := dk_180 0 31 (dk_at dksX2_init_2_6 20 rfl rfl)
theorem dX2_init_2_167 : decode cX2_init_2 167 = .ok (.iconst 0, 1) := dk_3 (dk_at dksX2_init_2_6 23 rfl rfl)
theorem dX2_init_2_168 : decode cX2_init_2 168 = .ok (.aload_n 0, 1) := dk_42 (dk_at dksX2_init_2_7 0 rfl rfl)
theorem dX2_init_2_169 : decode cX2_init_2 169 = .ok (.getfield 31, 3) := dk_180 0 31 (dk_at dksX2_init_2_7 1 rfl rfl)
theorem dX2_init_2_172 : decode cX2_init_2 172 = .ok (.iconst 0, 1) := dk_3 (dk_at dksX2_init_2_7 4 rfl rfl)
theorem dX2_init_2_173 : decode cX2_init_2 173 = .ok (.iconst 5, 1) := dk_8 (dk_at dksX2_init_2_7 5 rfl rfl)
theorem dX2_init_2_174 : decode cX2_init_2 174 = .ok (.invokestatic 34, 3) := dk_184 0 34 (dk_at dksX2_init_2_7 6 rfl rfl)
theorem dX2_init_2_177 : decode cX2_init_2 177 = .ok (.return_, 1) := dk_177 (dk_at dksX2_init_2_7 9 rfl rfl)
abbrev cX2_first : ByteArray := prog_11_method_3_code
def yX2_first : MethodName := ⟨RX2, "first", "([II)V"⟩
def dkwX2_first_4 : List UInt8 := [154, 0, 17, 42, 180, 0, 31, 45, 21, 6, 46, 21, 4, 132, 4, 1, 79, 132, 6, 1, 167, 255, 221, 177]
abbrev dktX2_first_4 : List UInt8 := dkwX2_first_4 ++ []
def dkwX2_first_3 : List UInt8 := [132, 6, 1, 167, 255, 222, 3, 54, 6, 21, 6, 8, 162, 0, 35, 21, 5, 45, 21, 6, 46, 122, 4, 126]
abbrev dktX2_first_3 : List UInt8 := dkwX2_first_3 ++ dktX2_first_4
def dkwX2_first_2 : List UInt8 := [180, 0, 31, 43, 21, 6, 46, 21, 4, 132, 4, 1, 79, 21, 5, 4, 43, 21, 6, 46, 120, 128, 54, 5]
abbrev dktX2_first_2 : List UInt8 := dkwX2_first_2 ++ dktX2_first_3
def dkwX2_first_1 : List UInt8 := [132, 4, 1, 167, 255, 236, 3, 54, 4, 3, 54, 5, 3, 54, 6, 21, 6, 28, 162, 0, 34, 42]
abbrev dktX2_first_1 : List UInt8 := dkwX2_first_1 ++ dktX2_first_2
def dkwX2_first_0 : List UInt8 := [8, 188, 10, 78, 3, 54, 4, 21, 4, 8, 162, 0, 20, 45, 42, 180, 0, 31, 21, 4, 46, 21, 4, 79]
abbrev dktX2_first_0 : List UInt8 := dkwX2_first_0 ++ dktX2_first_1
theorem dksX2_first_0 : cX2_first.data.toList.drop 0 = dktX2_first_0 := by decide +kernel
theorem dksX2_first_1 : cX2_first.data.toList.drop 24 = dktX2_first_1 := dk_seg dksX2_first_0 24 rfl rfl
theorem dksX2_first_2 : cX2_first.data.toList.drop 46 = dktX2_first_2 := dk_seg dksX2_first_1 22 rfl rfl
theorem dksX2_first_3 : cX2_first.data.toList.drop 70 = dktX2_first_3 := dk_seg dksX2_first_2 24 rfl rfl
theorem dksX2_first_4 : cX2_first.data.toList.drop 94 = dktX2_first_4 := dk_seg dksX2_first_3 24 rfl rfl
theorem dX2_first_0 : decode cX2_first 0 = .ok (.iconst 5, 1) := dk_8 (dk_at dksX2_first_0 0 rfl rfl)
theorem dX2_first_1 : decode cX2_first 1 = .ok (.newarray .int, 2) := dk_188_10 (dk_at dksX2_first_0 1 rfl rfl)
theorem dX2_first_3 : decode cX2_first 3 = .ok (.astore_n 3, 1) := dk_78 (dk_at dksX2_first_0 3 rfl rfl)
theorem dX2_first_4 : decode cX2_first 4 = .ok (.iconst 0, 1) := dk_3 (dk_at dksX2_first_0 4 rfl rfl)
theorem dX2_first_5 : decode cX2_first 5 = .ok (.istore 4, 2) := dk_54 4 (dk_at dksX2_first_0 5 rfl rfl)
theorem dX2_first_7 : decode cX2_first 7 = .ok (.iload 4, 2) := dk_21 4 (dk_at dksX2_first_0 7 rfl rfl)
theorem dX2_first_9 : decode cX2_first 9 = .ok (.iconst 5, 1) := dk_8 (dk_at dksX2_first_0 9 rfl rfl)
theorem dX2_first_10 : decode cX2_first 10 = .ok (.if_icmp .ge 20, 3) := dk_162 0 20 (dk_at dksX2_first_0 10 rfl rfl)
theorem dX2_first_13 : decode cX2_first 13 = .ok (.aload_n 3, 1) := dk_45 (dk_at dksX2_first_0 13 rfl rfl)
theorem dX2_first_14 : decode cX2_first 14 = .ok (.aload_n 0, 1) := dk_42 (dk_at dksX2_first_0 14 rfl rfl)
theorem dX2_first_15 : decode cX2_first 15 = .ok (.getfield 31, 3) := dk_180 0 31 (dk_at dksX2_first_0 15 rfl rfl)
theorem dX2_first_18 : decode cX2_first 18 = .ok (.iload 4, 2) := dk_21 4 (dk_at dksX2_first_0 18 rfl rfl)
theorem dX2_first_20 : decode cX2_first 20 = .ok (.iaload, 1) := dk_46 (dk_at dksX2_first_0 20 rfl rfl)
theorem dX2_first_21 : decode cX2_first 21 = .ok (.iload 4, 2) := dk_21 4 (dk_at dksX2_first_0 21 rfl rfl)
theorem dX2_first_23 : decode cX2_first 23 = .ok (.iastore, 1) := dk_79 (dk_at dksX2_first_0 23 rfl rfl)
theorem dX2_first_24 : decode cX2_first 24 = .ok (.iinc 4 1, 3) := dk_132 4 1 (dk_at dksX2_first_1 0 rfl rfl)
theorem dX2_first_27 : decode cX2_first 27 = .ok (.goto (-20), 3) := dk_167 255 236 (dk_at dksX2_first_1 3 rfl rfl)
theorem dX2_first_30 : decode cX2_first 30 = .ok (.iconst 0, 1) := dk_3 (dk_at dksX2_first_1 6 rfl rfl)
theorem dX2_first_31 : decode cX2_first 31 = .ok (.istore 4, 2) := dk_54 4 (dk_at dksX2_first_1 7 rfl rfl)
theorem dX2_first_33 : decode cX2_first 33 = .ok (.iconst 0, 1) := dk_3 (dk_at dksX2_first_1 9 rfl rfl)
theorem dX2_first_34 : decode cX2_first 34 = .ok (.istore 5, 2) := dk_54 5 (dk_at dksX2_first_1 10 rfl rfl)
theorem dX2_first_36 : decode cX2_first 36 = .ok (.iconst 0, 1) := dk_3 (dk_at dksX2_first_1 12 rfl rfl)
theorem dX2_first_37 : decode cX2_first 37 = .ok (.istore 6, 2) := dk_54 6 (dk_at dksX2_first_1 13 rfl rfl)
theorem dX2_first_39 : decode cX2_first 39 = .ok (.iload 6, 2) := dk_21 6 (dk_at dksX2_first_1 15 rfl rfl)
theorem dX2_first_41 : decode cX2_first 41 = .ok (.iload_n 2, 1) := dk_28 (dk_at dksX2_first_1 17 rfl rfl)
theorem dX2_first_42 : decode cX2_first 42 = .ok (.if_icmp .ge 34, 3) := dk_162 0 34 (dk_at dksX2_first_1 18 rfl rfl)
theorem dX2_first_45 : decode cX2_first 45 = .ok (.aload_n 0, 1) := dk_42 (dk_at dksX2_first_1 21 rfl rfl)
theorem dX2_first_46 : decode cX2_first 46 = .ok (.getfield 31, 3) := dk_180 0 31 (dk_at dksX2_first_2 0 rfl rfl)
theorem dX2_first_49 : decode cX2_first 49 = .ok (.aload_n 1, 1) := dk_43 (dk_at dksX2_first_2 3 rfl rfl)
theorem dX2_first_50 : decode cX2_first 50 = .ok (.iload 6, 2) := dk_21 6 (dk_at dksX2_first_2 4 rfl rfl)
theorem dX2_first_52 : decode cX2_first 52 = .ok (.iaload, 1) := dk_46 (dk_at dksX2_first_2 6 rfl rfl)
theorem dX2_first_53 : decode cX2_first 53 = .ok (.iload 4, 2) := dk_21 4 (dk_at dksX2_first_2 7 rfl rfl)
theorem dX2_first_55 : decode cX2_first 55 = .ok (.iinc 4 1, 3) := dk_132 4 1 (dk_at dksX2_first_2 9 rfl rfl)
theorem dX2_first_58 : decode cX2_first 58 = .ok (.iastore, 1) := dk_79 (dk_at dksX2_first_2 12 rfl rfl)
theorem dX2_first_59 : decode cX2_first 59 = .ok (.iload 5, 2) := dk_21 5 (dk_at dksX2_first_2 13 rfl rfl)
theorem dX2_first_61 : decode cX2_first 61 = .ok (.iconst 1, 1) := dk_4 (dk_at dksX2_first_2 15 rfl rfl)
theorem dX2_first_62 : decode cX2_first 62 = .ok (.aload_n 1, 1) := dk_43 (dk_at dksX2_first_2 16 rfl rfl)
theorem dX2_first_63 : decode cX2_first 63 = .ok (.iload 6, 2) := dk_21 6 (dk_at dksX2_first_2 17 rfl rfl)
theorem dX2_first_65 : decode cX2_first 65 = .ok (.iaload, 1) := dk_46 (dk_at dksX2_first_2 19 rfl rfl)
theorem dX2_first_66 : decode cX2_first 66 = .ok (.ishl, 1) := dk_120 (dk_at dksX2_first_2 20 rfl rfl)
theorem dX2_first_67 : decode cX2_first 67 = .ok (.ior, 1) := dk_128 (dk_at dksX2_first_2 21 rfl rfl)
theorem dX2_first_68 : decode cX2_first 68 = .ok (.istore 5, 2) := dk_54 5 (dk_at dksX2_first_2 22 rfl rfl)
theorem dX2_first_70 : decode cX2_first 70 = .ok (.iinc 6 1, 3) := dk_132 6 1 (dk_at dksX2_first_3 0 rfl rfl)
theorem dX2_first_73 : decode cX2_first 73 = .ok (.goto (-34), 3) := dk_167 255 222 (dk_at dksX2_first_3 3 rfl rfl)
theorem dX2_first_76 : decode cX2_first 76 = .ok (.iconst 0, 1) := dk_3 (dk_at dksX2_first_3 6 rfl rfl)
theorem dX2_first_77 : decode cX2_first 77 = .ok (.istore 6, 2) := dk_54 6 (dk_at dksX2_first_3 7 rfl rfl)
theorem dX2_first_79 : decode cX2_first 79 = .ok (.iload 6, 2) := dk_21 6 (dk_at dksX2_first_3 9 rfl rfl)
theorem dX2_first_81 : decode cX2_first 81 = .ok (.iconst 5, 1) := dk_8 (dk_at dksX2_first_3 11 rfl rfl)
theorem dX2_first_82 : decode cX2_first 82 = .ok (.if_icmp .ge 35, 3) := dk_162 0 35 (dk_at dksX2_first_3 12 rfl rfl)
theorem dX2_first_85 : decode cX2_first 85 = .ok (.iload 5, 2) := dk_21 5 (dk_at dksX2_first_3 15 rfl rfl)
theorem dX2_first_87 : decode cX2_first 87 = .ok (.aload_n 3, 1) := dk_45 (dk_at dksX2_first_3 17 rfl rfl)
theorem dX2_first_88 : decode cX2_first 88 = .ok (.iload 6, 2) := dk_21 6 (dk_at dksX2_first_3 18 rfl rfl)
theorem dX2_first_90 : decode cX2_first 90 = .ok (.iaload, 1) := dk_46 (dk_at dksX2_first_3 20 rfl rfl)
theorem dX2_first_91 : decode cX2_first 91 = .ok (.ishr, 1) := dk_122 (dk_at dksX2_first_3 21 rfl rfl)
theorem dX2_first_92 : decode cX2_first 92 = .ok (.iconst 1, 1) := dk_4 (dk_at dksX2_first_3 22 rfl rfl)
theorem dX2_first_93 : decode cX2_first 93 = .ok (.iand, 1) := dk_126 (dk_at dksX2_first_3 23 rfl rfl)
theorem dX2_first_94 : decode cX2_first 94 = .ok (.ifCond .ne 17, 3) := dk_154 0 17 (dk_at dksX2_first_4 0 rfl rfl)
theorem dX2_first_97 : decode cX2_first 97 = .ok (.aload_n 0, 1) := dk_42 (dk_at dksX2_first_4 3 rfl rfl)
theorem dX2_first_98 : decode cX2_first 98 = .ok (.getfield 31, 3) := dk_180 0 31 (dk_at dksX2_first_4 4 rfl rfl)
theorem dX2_first_101 : decode cX2_first 101 = .ok (.aload_n 3, 1) := dk_45 (dk_at dksX2_first_4 7 rfl rfl)
theorem dX2_first_102 : decode cX2_first 102 = .ok (.iload 6, 2) := dk_21 6 (dk_at dksX2_first_4 8 rfl rfl)
theorem dX2_first_104 : decode cX2_first 104 = .ok (.iaload, 1) := dk_46 (dk_at dksX2_first_4 10 rfl rfl)
theorem dX2_first_105 : decode cX2_first 105 = .ok (.iload 4, 2) := dk_21 4 (dk_at dksX2_first_4 11 rfl rfl)
theorem dX2_first_107 : decode cX2_first 107 = .ok (.iinc 4 1, 3) := dk_132 4 1 (dk_at dksX2_first_4 13 rfl rfl)
theorem dX2_first_110 : decode cX2_first 110 = .ok (.iastore, 1) := dk_79 (dk_at dksX2_first_4 16 rfl rfl)
theorem dX2_first_111 : decode cX2_first 111 = .ok (.iinc 6 1, 3) := dk_132 6 1 (dk_at dksX2_first_4 17 rfl rfl)
theorem dX2_first_114 : decode cX2_first 114 = .ok (.goto (-35), 3) := dk_167 255 221 (dk_at dksX2_first_4 20 rfl rfl)
theorem dX2_first_117 : decode cX2_first 117 = .ok (.return_, 1) := dk_177 (dk_at dksX2_first_4 23 rfl rfl)
abbrev cX2_told : ByteArray := prog_11_method_4_code
def yX2_told : MethodName := ⟨RX2, "told", "(I)I"⟩
def dkwX2_told_4 : List UInt8 := [180, 0, 31, 27, 16, 20, 100, 46, 172]
abbrev dktX2_told_4 : List UInt8 := dkwX2_told_4 ++ []
def dkwX2_told_3 : List UInt8 := [27, 7, 100, 46, 172, 27, 16, 20, 162, 0, 15, 42, 180, 0, 28, 27, 16, 10, 100, 46, 167, 0, 12, 42]
abbrev dktX2_told_3 : List UInt8 := dkwX2_told_3 ++ dktX2_told_4
def dkwX2_told_2 : List UInt8 := [42, 180, 0, 9, 172, 42, 180, 0, 15, 172, 42, 180, 0, 18, 172, 42, 180, 0, 21, 172, 42, 180, 0, 24]
abbrev dktX2_told_2 : List UInt8 := dkwX2_told_2 ++ dktX2_told_3
def dkwX2_told_1 : List UInt8 := [170, 0, 0, 0, 0, 0, 68, 0, 0, 0, 0, 0, 0, 0, 5, 0, 0, 0, 39, 0, 0, 0, 44, 0, 0, 0, 49, 0, 0, 0, 54, 0, 0, 0, 59, 0, 0, 0, 59]
abbrev dktX2_told_1 : List UInt8 := dkwX2_told_1 ++ dktX2_told_2
def dkwX2_told_0 : List UInt8 := [27]
abbrev dktX2_told_0 : List UInt8 := dkwX2_told_0 ++ dktX2_told_1
theorem dksX2_told_0 : cX2_told.data.toList.drop 0 = dktX2_told_0 := by decide +kernel
theorem dksX2_told_1 : cX2_told.data.toList.drop 1 = dktX2_told_1 := dk_seg dksX2_told_0 1 rfl rfl
theorem dksX2_told_2 : cX2_told.data.toList.drop 40 = dktX2_told_2 := dk_seg dksX2_told_1 39 rfl rfl
theorem dksX2_told_3 : cX2_told.data.toList.drop 64 = dktX2_told_3 := dk_seg dksX2_told_2 24 rfl rfl
theorem dksX2_told_4 : cX2_told.data.toList.drop 88 = dktX2_told_4 := dk_seg dksX2_told_3 24 rfl rfl
theorem dX2_told_0 : decode cX2_told 0 = .ok (.iload_n 1, 1) := dk_27 (dk_at dksX2_told_0 0 rfl rfl)
theorem dX2_told_1 : decode cX2_told 1 = .ok (.tableswitch 68 0 5 #[39, 44, 49, 54, 59, 59], 39) := by decide +kernel
theorem dX2_told_40 : decode cX2_told 40 = .ok (.aload_n 0, 1) := dk_42 (dk_at dksX2_told_2 0 rfl rfl)
theorem dX2_told_41 : decode cX2_told 41 = .ok (.getfield 9, 3) := dk_180 0 9 (dk_at dksX2_told_2 1 rfl rfl)
theorem dX2_told_44 : decode cX2_told 44 = .ok (.ireturn, 1) := dk_172 (dk_at dksX2_told_2 4 rfl rfl)
theorem dX2_told_45 : decode cX2_told 45 = .ok (.aload_n 0, 1) := dk_42 (dk_at dksX2_told_2 5 rfl rfl)
theorem dX2_told_46 : decode cX2_told 46 = .ok (.getfield 15, 3) := dk_180 0 15 (dk_at dksX2_told_2 6 rfl rfl)
theorem dX2_told_49 : decode cX2_told 49 = .ok (.ireturn, 1) := dk_172 (dk_at dksX2_told_2 9 rfl rfl)
theorem dX2_told_50 : decode cX2_told 50 = .ok (.aload_n 0, 1) := dk_42 (dk_at dksX2_told_2 10 rfl rfl)
theorem dX2_told_51 : decode cX2_told 51 = .ok (.getfield 18, 3) := dk_180 0 18 (dk_at dksX2_told_2 11 rfl rfl)
theorem dX2_told_54 : decode cX2_told 54 = .ok (.ireturn, 1) := dk_172 (dk_at dksX2_told_2 14 rfl rfl)
theorem dX2_told_55 : decode cX2_told 55 = .ok (.aload_n 0, 1) := dk_42 (dk_at dksX2_told_2 15 rfl rfl)
theorem dX2_told_56 : decode cX2_told 56 = .ok (.getfield 21, 3) := dk_180 0 21 (dk_at dksX2_told_2 16 rfl rfl)
theorem dX2_told_59 : decode cX2_told 59 = .ok (.ireturn, 1) := dk_172 (dk_at dksX2_told_2 19 rfl rfl)
theorem dX2_told_60 : decode cX2_told 60 = .ok (.aload_n 0, 1) := dk_42 (dk_at dksX2_told_2 20 rfl rfl)
theorem dX2_told_61 : decode cX2_told 61 = .ok (.getfield 24, 3) := dk_180 0 24 (dk_at dksX2_told_2 21 rfl rfl)
theorem dX2_told_64 : decode cX2_told 64 = .ok (.iload_n 1, 1) := dk_27 (dk_at dksX2_told_3 0 rfl rfl)
theorem dX2_told_65 : decode cX2_told 65 = .ok (.iconst 4, 1) := dk_7 (dk_at dksX2_told_3 1 rfl rfl)
theorem dX2_told_66 : decode cX2_told 66 = .ok (.isub, 1) := dk_100 (dk_at dksX2_told_3 2 rfl rfl)
theorem dX2_told_67 : decode cX2_told 67 = .ok (.iaload, 1) := dk_46 (dk_at dksX2_told_3 3 rfl rfl)
theorem dX2_told_68 : decode cX2_told 68 = .ok (.ireturn, 1) := dk_172 (dk_at dksX2_told_3 4 rfl rfl)
theorem dX2_told_69 : decode cX2_told 69 = .ok (.iload_n 1, 1) := dk_27 (dk_at dksX2_told_3 5 rfl rfl)
theorem dX2_told_70 : decode cX2_told 70 = .ok (.bipush 20, 2) := dk_16 20 (dk_at dksX2_told_3 6 rfl rfl)
theorem dX2_told_72 : decode cX2_told 72 = .ok (.if_icmp .ge 15, 3) := dk_162 0 15 (dk_at dksX2_told_3 8 rfl rfl)
theorem dX2_told_75 : decode cX2_told 75 = .ok (.aload_n 0, 1) := dk_42 (dk_at dksX2_told_3 11 rfl rfl)
theorem dX2_told_76 : decode cX2_told 76 = .ok (.getfield 28, 3) := dk_180 0 28 (dk_at dksX2_told_3 12 rfl rfl)
theorem dX2_told_79 : decode cX2_told 79 = .ok (.iload_n 1, 1) := dk_27 (dk_at dksX2_told_3 15 rfl rfl)
theorem dX2_told_80 : decode cX2_told 80 = .ok (.bipush 10, 2) := dk_16 10 (dk_at dksX2_told_3 16 rfl rfl)
theorem dX2_told_82 : decode cX2_told 82 = .ok (.isub, 1) := dk_100 (dk_at dksX2_told_3 18 rfl rfl)
theorem dX2_told_83 : decode cX2_told 83 = .ok (.iaload, 1) := dk_46 (dk_at dksX2_told_3 19 rfl rfl)
theorem dX2_told_84 : decode cX2_told 84 = .ok (.goto 12, 3) := dk_167 0 12 (dk_at dksX2_told_3 20 rfl rfl)
theorem dX2_told_87 : decode cX2_told 87 = .ok (.aload_n 0, 1) := dk_42 (dk_at dksX2_told_3 23 rfl rfl)
theorem dX2_told_88 : decode cX2_told 88 = .ok (.getfield 31, 3) := dk_180 0 31 (dk_at dksX2_told_4 0 rfl rfl)
theorem dX2_told_91 : decode cX2_told 91 = .ok (.iload_n 1, 1) := dk_27 (dk_at dksX2_told_4 3 rfl rfl)
theorem dX2_told_92 : decode cX2_told 92 = .ok (.bipush 20, 2) := dk_16 20 (dk_at dksX2_told_4 4 rfl rfl)
theorem dX2_told_94 : decode cX2_told 94 = .ok (.isub, 1) := dk_100 (dk_at dksX2_told_4 6 rfl rfl)
theorem dX2_told_95 : decode cX2_told 95 = .ok (.iaload, 1) := dk_46 (dk_at dksX2_told_4 7 rfl rfl)
theorem dX2_told_96 : decode cX2_told 96 = .ok (.ireturn, 1) := dk_172 (dk_at dksX2_told_4 8 rfl rfl)
theorem q75 : (Jvm.Cond.initialized "VillageHalls$Hall") ∈ lw_all := lw_g (lw_at lw_m1 6 rfl) rfl
theorem q166 : (Jvm.Cond.instantiable "VillageHalls$Hall" (7 : Nat)) ∈ lw_all := lw_g (lw_at lw_m1 97 rfl) rfl
theorem q168 : (Jvm.Cond.instanceMethod ({ cls := "VillageHalls$Hall", name := "<init>", desc := "()V" } : Jvm.MethodName)) ∈ lw_all := lw_g (lw_at lw_m1 99 rfl) rfl
theorem q169 : (Jvm.Cond.code ({ cls := "VillageHalls$Hall", name := "<init>", desc := "()V" } : Jvm.MethodName) prog_11_method_1_code (1 : Nat) (Option.none : Option Jvm.ClassFile.FieldType)) ∈ lw_all := lw_g (lw_at lw_m1 100 rfl) rfl
theorem q170 : (Jvm.Cond.methodLink "VillageHalls$Hall" (3 : Nat) ({ cls := "java/lang/Object", name := "<init>", desc := "()V" } : Jvm.MethodName)) ∈ lw_all := lw_g (lw_at lw_m1 101 rfl) rfl
theorem q171 : (Jvm.Cond.fieldLink "VillageHalls$Hall" (9 : Nat) "VillageHalls$Hall" "setup" "I") ∈ lw_all := lw_g (lw_at lw_m1 102 rfl) rfl
theorem q175 : (Jvm.Cond.fieldLink "VillageHalls$Hall" (15 : Nat) "VillageHalls$Hall" "licences" "I") ∈ lw_all := lw_g (lw_at lw_m1 106 rfl) rfl
theorem q178 : (Jvm.Cond.fieldLink "VillageHalls$Hall" (18 : Nat) "VillageHalls$Hall" "late" "I") ∈ lw_all := lw_g (lw_at lw_m1 109 rfl) rfl
theorem q181 : (Jvm.Cond.fieldLink "VillageHalls$Hall" (21 : Nat) "VillageHalls$Hall" "forfeit" "I") ∈ lw_all := lw_g (lw_at lw_m1 112 rfl) rfl
theorem q184 : (Jvm.Cond.fieldLink "VillageHalls$Hall" (24 : Nat) "VillageHalls$Hall" "fire" "[I") ∈ lw_all := lw_g (lw_at lw_m1 115 rfl) rfl
theorem q188 : (Jvm.Cond.fieldLink "VillageHalls$Hall" (28 : Nat) "VillageHalls$Hall" "rate" "[I") ∈ lw_all := lw_g (lw_at lw_m1 119 rfl) rfl
theorem q191 : (Jvm.Cond.fieldLink "VillageHalls$Hall" (31 : Nat) "VillageHalls$Hall" "rank" "[I") ∈ lw_all := lw_g (lw_at lw_m1 122 rfl) rfl
theorem q193 : (Jvm.Cond.lays "VillageHalls$Hall" "VillageHalls$Hall" "setup" "I") ∈ lw_all := lw_g (lw_at lw_m1 124 rfl) rfl
theorem q194 : (Jvm.Cond.soleField "VillageHalls$Hall" "setup") ∈ lw_all := lw_g (lw_at lw_m1 125 rfl) rfl
theorem q195 : (Jvm.Cond.lays "VillageHalls$Hall" "VillageHalls$Hall" "licences" "I") ∈ lw_all := lw_g (lw_at lw_m1 126 rfl) rfl
theorem q196 : (Jvm.Cond.soleField "VillageHalls$Hall" "licences") ∈ lw_all := lw_g (lw_at lw_m1 127 rfl) rfl
theorem q197 : (Jvm.Cond.lays "VillageHalls$Hall" "VillageHalls$Hall" "late" "I") ∈ lw_all := lw_g (lw_at lw_m1 128 rfl) rfl
theorem q198 : (Jvm.Cond.soleField "VillageHalls$Hall" "late") ∈ lw_all := lw_g (lw_at lw_m1 129 rfl) rfl
theorem q199 : (Jvm.Cond.lays "VillageHalls$Hall" "VillageHalls$Hall" "forfeit" "I") ∈ lw_all := lw_g (lw_at lw_m1 130 rfl) rfl
theorem q200 : (Jvm.Cond.soleField "VillageHalls$Hall" "forfeit") ∈ lw_all := lw_g (lw_at lw_m1 131 rfl) rfl
theorem q201 : (Jvm.Cond.laysFinal "VillageHalls$Hall" "VillageHalls$Hall" "fire" "[I") ∈ lw_all := lw_g (lw_at lw_m1 132 rfl) rfl
theorem q202 : (Jvm.Cond.soleField "VillageHalls$Hall" "fire") ∈ lw_all := lw_g (lw_at lw_m1 133 rfl) rfl
theorem q203 : (Jvm.Cond.laysFinal "VillageHalls$Hall" "VillageHalls$Hall" "rate" "[I") ∈ lw_all := lw_g (lw_at lw_m1 134 rfl) rfl
theorem q204 : (Jvm.Cond.soleField "VillageHalls$Hall" "rate") ∈ lw_all := lw_g (lw_at lw_m1 135 rfl) rfl
theorem q205 : (Jvm.Cond.laysFinal "VillageHalls$Hall" "VillageHalls$Hall" "rank" "[I") ∈ lw_all := lw_g (lw_at lw_m1 136 rfl) rfl
theorem q206 : (Jvm.Cond.soleField "VillageHalls$Hall" "rank") ∈ lw_all := lw_g (lw_at lw_m1 137 rfl) rfl
theorem q207 : (Jvm.Cond.superclass "VillageHalls$Hall" "java/lang/Object") ∈ lw_all := lw_g (lw_at lw_m1 138 rfl) rfl
theorem q443 : (Jvm.Cond.instanceMethod ({ cls := "VillageHalls$Hall", name := "<init>", desc := "(LVillageHalls$Hall;)V" } : Jvm.MethodName)) ∈ lw_all := lw_g (lw_at lw_m2 134 rfl) rfl
theorem q444 : (Jvm.Cond.code ({ cls := "VillageHalls$Hall", name := "<init>", desc := "(LVillageHalls$Hall;)V" } : Jvm.MethodName) prog_11_method_2_code (2 : Nat) (Option.none : Option Jvm.ClassFile.FieldType)) ∈ lw_all := lw_g (lw_at lw_m2 135 rfl) rfl
theorem q445 : (Jvm.Cond.methodLink "VillageHalls$Hall" (34 : Nat) ({ cls := "java/lang/System", name := "arraycopy", desc := "(Ljava/lang/Object;ILjava/lang/Object;II)V" } : Jvm.MethodName)) ∈ lw_all := lw_g (lw_at lw_m2 136 rfl) rfl
theorem q740 : (Jvm.Cond.instanceMethod ({ cls := "VillageHalls$Hall", name := "first", desc := "([II)V" } : Jvm.MethodName)) ∈ lw_all := lw_g (lw_at lw_m3 191 rfl) rfl
theorem q741 : (Jvm.Cond.selects "VillageHalls$Hall" ({ cls := "VillageHalls$Hall", name := "first", desc := "([II)V" } : Jvm.MethodName) ({ cls := "VillageHalls$Hall", name := "first", desc := "([II)V" } : Jvm.MethodName)) ∈ lw_all := lw_g (lw_at lw_m3 192 rfl) rfl
theorem q742 : (Jvm.Cond.code ({ cls := "VillageHalls$Hall", name := "first", desc := "([II)V" } : Jvm.MethodName) prog_11_method_3_code (7 : Nat) (Option.none : Option Jvm.ClassFile.FieldType)) ∈ lw_all := lw_g (lw_at lw_m3 193 rfl) rfl
theorem q762 : (Jvm.Cond.instanceMethod ({ cls := "VillageHalls$Hall", name := "told", desc := "(I)I" } : Jvm.MethodName)) ∈ lw_all := lw_g (lw_at lw_m3 213 rfl) rfl
theorem q763 : (Jvm.Cond.selects "VillageHalls$Hall" ({ cls := "VillageHalls$Hall", name := "told", desc := "(I)I" } : Jvm.MethodName) ({ cls := "VillageHalls$Hall", name := "told", desc := "(I)I" } : Jvm.MethodName)) ∈ lw_all := lw_g (lw_at lw_m3 214 rfl) rfl
theorem q764 : (Jvm.Cond.code ({ cls := "VillageHalls$Hall", name := "told", desc := "(I)I" } : Jvm.MethodName) prog_11_method_4_code (2 : Nat) (Option.some Jvm.ClassFile.FieldType.int)) ∈ lw_all := lw_g (lw_at lw_m3 215 rfl) rfl
theorem q897 : (Jvm.Cond.selects "VillageHalls$Hall" ({ cls := "java/lang/Object", name := "getClass", desc := "()Ljava/lang/Class;" } : Jvm.MethodName) ({ cls := "java/lang/Object", name := "getClass", desc := "()Ljava/lang/Class;" } : Jvm.MethodName)) ∈ lw_all := lw_g (lw_at lw_m4 108 rfl) rfl
theorem q2006 : (Jvm.Cond.castable "VillageHalls$Hall" "java/lang/Object") ∈ lw_tbl := lw_at lw_m9 17 rfl
theorem in_X2 : ∀ w ∈ wsX20, w ∈ lw_all := lw_in wsX20 [193, 195, 197, 199, 201, 203, 205] (by decide +kernel) (by decide +kernel)

/-! VillageHalls$Finding -/
set_option maxRecDepth 100000
def RX4 : String := "VillageHalls$Finding"
def TX4 : u_T := fun k => match k with
  | 0 => ("java/lang/Throwable", "cause", "Ljava/lang/Throwable;", false)
  | 1 => ("java/lang/Throwable", "stackTrace", "[Ljava/lang/StackTraceElement;", false)
  | 2 => ("java/lang/Throwable", "suppressedExceptions", "Ljava/util/List;", false)
  | 3 => ("java/lang/Throwable", "detailMessage", "Ljava/lang/String;", false)
  | 4 => ("java/lang/Throwable", "backtrace", "Ljava/lang/Object;", false)
  | 5 => ("java/lang/Throwable", "depth", "I", false)
  | _ => ("VillageHalls$Finding", "number", "I", true)
def tyX4 : Nat → FieldType := fun k => match k with
  | 0 => .object "java/lang/Throwable"
  | 1 => .array (.object "java/lang/StackTraceElement")
  | 2 => .object "java/util/List"
  | 3 => .object "java/lang/String"
  | 4 => .object "java/lang/Object"
  | 5 => .int
  | _ => .int
abbrev wsX40 : List Cond := u_ws RX4 TX4 7
theorem nmX4 : ∀ a, a < 7 → ∀ b, b < 7 → a ≠ b → (TX4 a).2.1 ≠ (TX4 b).2.1 := by decide +kernel
theorem tyX4_ok : ∀ k, k < 7 → parseFieldDescriptor (TX4 k).2.2.1 = some (tyX4 k) := by decide +kernel
abbrev cX4_init : ByteArray := prog_9_method_1_code
def yX4_init : MethodName := ⟨RX4, "<init>", "(I)V"⟩
def dkwX4_init_0 : List UInt8 := [42, 1, 1, 3, 3, 183, 0, 1, 42, 27, 181, 0, 7, 177]
abbrev dktX4_init_0 : List UInt8 := dkwX4_init_0 ++ []
theorem dksX4_init_0 : cX4_init.data.toList.drop 0 = dktX4_init_0 := by decide +kernel
theorem dX4_init_0 : decode cX4_init 0 = .ok (.aload_n 0, 1) := dk_42 (dk_at dksX4_init_0 0 rfl rfl)
theorem dX4_init_1 : decode cX4_init 1 = .ok (.aconst_null, 1) := dk_1 (dk_at dksX4_init_0 1 rfl rfl)
theorem dX4_init_2 : decode cX4_init 2 = .ok (.aconst_null, 1) := dk_1 (dk_at dksX4_init_0 2 rfl rfl)
theorem dX4_init_3 : decode cX4_init 3 = .ok (.iconst 0, 1) := dk_3 (dk_at dksX4_init_0 3 rfl rfl)
theorem dX4_init_4 : decode cX4_init 4 = .ok (.iconst 0, 1) := dk_3 (dk_at dksX4_init_0 4 rfl rfl)
theorem dX4_init_5 : decode cX4_init 5 = .ok (.invokespecial 1, 3) := dk_183 0 1 (dk_at dksX4_init_0 5 rfl rfl)
theorem dX4_init_8 : decode cX4_init 8 = .ok (.aload_n 0, 1) := dk_42 (dk_at dksX4_init_0 8 rfl rfl)
theorem dX4_init_9 : decode cX4_init 9 = .ok (.iload_n 1, 1) := dk_27 (dk_at dksX4_init_0 9 rfl rfl)
theorem dX4_init_10 : decode cX4_init 10 = .ok (.putfield 7, 3) := dk_181 0 7 (dk_at dksX4_init_0 10 rfl rfl)
theorem dX4_init_13 : decode cX4_init 13 = .ok (.return_, 1) := dk_177 (dk_at dksX4_init_0 13 rfl rfl)
theorem q79 : (Jvm.Cond.initialized "VillageHalls$Finding") ∈ lw_all := lw_g (lw_at lw_m1 10 rfl) rfl
theorem q277 : (Jvm.Cond.instantiable "VillageHalls$Finding" (7 : Nat)) ∈ lw_all := lw_g (lw_at lw_m1 208 rfl) rfl
theorem q278 : (Jvm.Cond.castable "VillageHalls$Finding" "VillageHalls$Finding") ∈ lw_tbl := lw_at lw_m1 209 rfl
theorem q283 : (Jvm.Cond.selects "VillageHalls$Finding" ({ cls := "java/lang/Throwable", name := "fillInStackTrace", desc := "(I)Ljava/lang/Throwable;" } : Jvm.MethodName) ({ cls := "java/lang/Throwable", name := "fillInStackTrace", desc := "(I)Ljava/lang/Throwable;" } : Jvm.MethodName)) ∈ lw_all := lw_g (lw_at lw_m1 214 rfl) rfl
theorem q284 : (Jvm.Cond.selects "VillageHalls$Finding" ({ cls := "java/lang/Throwable", name := "fillInStackTrace", desc := "()Ljava/lang/Throwable;" } : Jvm.MethodName) ({ cls := "java/lang/Throwable", name := "fillInStackTrace", desc := "()Ljava/lang/Throwable;" } : Jvm.MethodName)) ∈ lw_all := lw_g (lw_at lw_m1 215 rfl) rfl
theorem q285 : (Jvm.Cond.lays "VillageHalls$Finding" "java/lang/Throwable" "cause" "Ljava/lang/Throwable;") ∈ lw_all := lw_g (lw_at lw_m1 216 rfl) rfl
theorem q287 : (Jvm.Cond.lays "VillageHalls$Finding" "java/lang/Throwable" "stackTrace" "[Ljava/lang/StackTraceElement;") ∈ lw_all := lw_g (lw_at lw_m1 218 rfl) rfl
theorem q289 : (Jvm.Cond.lays "VillageHalls$Finding" "java/lang/Throwable" "suppressedExceptions" "Ljava/util/List;") ∈ lw_all := lw_g (lw_at lw_m1 220 rfl) rfl
theorem q291 : (Jvm.Cond.lays "VillageHalls$Finding" "java/lang/Throwable" "detailMessage" "Ljava/lang/String;") ∈ lw_all := lw_g (lw_at lw_m1 222 rfl) rfl
theorem q293 : (Jvm.Cond.lays "VillageHalls$Finding" "java/lang/Throwable" "backtrace" "Ljava/lang/Object;") ∈ lw_all := lw_g (lw_at lw_m1 224 rfl) rfl
theorem q318 : (Jvm.Cond.instanceMethod ({ cls := "VillageHalls$Finding", name := "<init>", desc := "(I)V" } : Jvm.MethodName)) ∈ lw_all := lw_g (lw_at lw_m2 9 rfl) rfl
theorem q319 : (Jvm.Cond.code ({ cls := "VillageHalls$Finding", name := "<init>", desc := "(I)V" } : Jvm.MethodName) prog_9_method_1_code (2 : Nat) (Option.none : Option Jvm.ClassFile.FieldType)) ∈ lw_all := lw_g (lw_at lw_m2 10 rfl) rfl
theorem q320 : (Jvm.Cond.methodLink "VillageHalls$Finding" (1 : Nat) ({ cls := "java/lang/Exception", name := "<init>", desc := "(Ljava/lang/String;Ljava/lang/Throwable;ZZ)V" } : Jvm.MethodName)) ∈ lw_all := lw_g (lw_at lw_m2 11 rfl) rfl
theorem q326 : (Jvm.Cond.fieldLink "VillageHalls$Finding" (7 : Nat) "VillageHalls$Finding" "number" "I") ∈ lw_all := lw_g (lw_at lw_m2 17 rfl) rfl
theorem q333 : (Jvm.Cond.laysFinal "VillageHalls$Finding" "VillageHalls$Finding" "number" "I") ∈ lw_all := lw_g (lw_at lw_m2 24 rfl) rfl
theorem q334 : (Jvm.Cond.soleField "VillageHalls$Finding" "number") ∈ lw_all := lw_g (lw_at lw_m2 25 rfl) rfl
theorem q339 : (Jvm.Cond.lays "VillageHalls$Finding" "java/lang/Throwable" "depth" "I") ∈ lw_all := lw_g (lw_at lw_m2 30 rfl) rfl
theorem q342 : (Jvm.Cond.superclass "VillageHalls$Finding" "java/lang/Exception") ∈ lw_all := lw_g (lw_at lw_m2 33 rfl) rfl
theorem q895 : (Jvm.Cond.selects "VillageHalls$Finding" ({ cls := "java/lang/Object", name := "getClass", desc := "()Ljava/lang/Class;" } : Jvm.MethodName) ({ cls := "java/lang/Object", name := "getClass", desc := "()Ljava/lang/Class;" } : Jvm.MethodName)) ∈ lw_all := lw_g (lw_at lw_m4 106 rfl) rfl
theorem q2013 : (Jvm.Cond.castable "VillageHalls$Finding" "java/lang/Object") ∈ lw_tbl := lw_at lw_m9 24 rfl
theorem in_X4 : ∀ w ∈ wsX40, w ∈ lw_all := lw_in wsX40 [285, 287, 289, 291, 293, 339, 333] (by decide +kernel) (by decide +kernel)

/-! VillageHalls$Sheet -/
set_option maxRecDepth 100000
def RX5 : String := "VillageHalls$Sheet"
def TX5 : u_T := fun k => match k with
  | 0 => ("VillageHalls$Sheet", "lane", "I", true)
  | _ => ("VillageHalls$Sheet", "items", "[I", true)
def tyX5 : Nat → FieldType := fun k => match k with
  | 0 => .int
  | _ => .array .int
abbrev wsX50 : List Cond := u_ws RX5 TX5 2
theorem nmX5 : ∀ a, a < 2 → ∀ b, b < 2 → a ≠ b → (TX5 a).2.1 ≠ (TX5 b).2.1 := by decide +kernel
theorem tyX5_ok : ∀ k, k < 2 → parseFieldDescriptor (TX5 k).2.2.1 = some (tyX5 k) := by decide +kernel
abbrev cX5_init : ByteArray := prog_15_method_1_code
def yX5_init : MethodName := ⟨RX5, "<init>", "(II)V"⟩
def dkwX5_init_0 : List UInt8 := [42, 183, 0, 3, 42, 27, 181, 0, 9, 42, 28, 188, 10, 181, 0, 15, 177]
abbrev dktX5_init_0 : List UInt8 := dkwX5_init_0 ++ []
theorem dksX5_init_0 : cX5_init.data.toList.drop 0 = dktX5_init_0 := by decide +kernel
theorem dX5_init_0 : decode cX5_init 0 = .ok (.aload_n 0, 1) := dk_42 (dk_at dksX5_init_0 0 rfl rfl)
theorem dX5_init_1 : decode cX5_init 1 = .ok (.invokespecial 3, 3) := dk_183 0 3 (dk_at dksX5_init_0 1 rfl rfl)
theorem dX5_init_4 : decode cX5_init 4 = .ok (.aload_n 0, 1) := dk_42 (dk_at dksX5_init_0 4 rfl rfl)
theorem dX5_init_5 : decode cX5_init 5 = .ok (.iload_n 1, 1) := dk_27 (dk_at dksX5_init_0 5 rfl rfl)
theorem dX5_init_6 : decode cX5_init 6 = .ok (.putfield 9, 3) := dk_181 0 9 (dk_at dksX5_init_0 6 rfl rfl)
theorem dX5_init_9 : decode cX5_init 9 = .ok (.aload_n 0, 1) := dk_42 (dk_at dksX5_init_0 9 rfl rfl)
theorem dX5_init_10 : decode cX5_init 10 = .ok (.iload_n 2, 1) := dk_28 (dk_at dksX5_init_0 10 rfl rfl)
theorem dX5_init_11 : decode cX5_init 11 = .ok (.newarray .int, 2) := dk_188_10 (dk_at dksX5_init_0 11 rfl rfl)
theorem dX5_init_13 : decode cX5_init 13 = .ok (.putfield 15, 3) := dk_181 0 15 (dk_at dksX5_init_0 13 rfl rfl)
theorem dX5_init_16 : decode cX5_init 16 = .ok (.return_, 1) := dk_177 (dk_at dksX5_init_0 16 rfl rfl)
abbrev cX5_cut : ByteArray := prog_15_method_2_code
def yX5_cut : MethodName := ⟨RX5, "cut", "(I)I"⟩
def dkwX5_cut_1 : List UInt8 := [167, 0, 4, 27, 172]
abbrev dktX5_cut_1 : List UInt8 := dkwX5_cut_1 ++ []
def dkwX5_cut_0 : List UInt8 := [42, 180, 0, 9, 154, 0, 8, 27, 145, 167, 0, 17, 42, 180, 0, 9, 4, 160, 0, 8, 27, 147]
abbrev dktX5_cut_0 : List UInt8 := dkwX5_cut_0 ++ dktX5_cut_1
theorem dksX5_cut_0 : cX5_cut.data.toList.drop 0 = dktX5_cut_0 := by decide +kernel
theorem dksX5_cut_1 : cX5_cut.data.toList.drop 22 = dktX5_cut_1 := dk_seg dksX5_cut_0 22 rfl rfl
theorem dX5_cut_0 : decode cX5_cut 0 = .ok (.aload_n 0, 1) := dk_42 (dk_at dksX5_cut_0 0 rfl rfl)
theorem dX5_cut_1 : decode cX5_cut 1 = .ok (.getfield 9, 3) := dk_180 0 9 (dk_at dksX5_cut_0 1 rfl rfl)
theorem dX5_cut_4 : decode cX5_cut 4 = .ok (.ifCond .ne 8, 3) := dk_154 0 8 (dk_at dksX5_cut_0 4 rfl rfl)
theorem dX5_cut_7 : decode cX5_cut 7 = .ok (.iload_n 1, 1) := dk_27 (dk_at dksX5_cut_0 7 rfl rfl)
theorem dX5_cut_8 : decode cX5_cut 8 = .ok (.i2b, 1) := dk_145 (dk_at dksX5_cut_0 8 rfl rfl)
theorem dX5_cut_9 : decode cX5_cut 9 = .ok (.goto 17, 3) := dk_167 0 17 (dk_at dksX5_cut_0 9 rfl rfl)
theorem dX5_cut_12 : decode cX5_cut 12 = .ok (.aload_n 0, 1) := dk_42 (dk_at dksX5_cut_0 12 rfl rfl)
theorem dX5_cut_13 : decode cX5_cut 13 = .ok (.getfield 9, 3) := dk_180 0 9 (dk_at dksX5_cut_0 13 rfl rfl)
theorem dX5_cut_16 : decode cX5_cut 16 = .ok (.iconst 1, 1) := dk_4 (dk_at dksX5_cut_0 16 rfl rfl)
theorem dX5_cut_17 : decode cX5_cut 17 = .ok (.if_icmp .ne 8, 3) := dk_160 0 8 (dk_at dksX5_cut_0 17 rfl rfl)
theorem dX5_cut_20 : decode cX5_cut 20 = .ok (.iload_n 1, 1) := dk_27 (dk_at dksX5_cut_0 20 rfl rfl)
theorem dX5_cut_21 : decode cX5_cut 21 = .ok (.i2s, 1) := dk_147 (dk_at dksX5_cut_0 21 rfl rfl)
theorem dX5_cut_22 : decode cX5_cut 22 = .ok (.goto 4, 3) := dk_167 0 4 (dk_at dksX5_cut_1 0 rfl rfl)
theorem dX5_cut_25 : decode cX5_cut 25 = .ok (.iload_n 1, 1) := dk_27 (dk_at dksX5_cut_1 3 rfl rfl)
theorem dX5_cut_26 : decode cX5_cut 26 = .ok (.ireturn, 1) := dk_172 (dk_at dksX5_cut_1 4 rfl rfl)
abbrev cX5_row : ByteArray := prog_15_method_3_code
def yX5_row : MethodName := ⟨RX5, "row", "(II)[I"⟩
def dkwX5_row_1 : List UInt8 := [5, 184, 0, 19, 28, 188, 10, 78, 42, 180, 0, 15, 27, 45, 3, 28, 184, 0, 23, 45, 176]
abbrev dktX5_row_1 : List UInt8 := dkwX5_row_1 ++ []
def dkwX5_row_0 : List UInt8 := [27, 155, 0, 22, 27, 133, 28, 133, 97, 42, 180, 0, 15, 190, 133, 148, 157, 0, 7, 4, 167, 0, 4, 3]
abbrev dktX5_row_0 : List UInt8 := dkwX5_row_0 ++ dktX5_row_1
theorem dksX5_row_0 : cX5_row.data.toList.drop 0 = dktX5_row_0 := by decide +kernel
theorem dksX5_row_1 : cX5_row.data.toList.drop 24 = dktX5_row_1 := dk_seg dksX5_row_0 24 rfl rfl
theorem dX5_row_0 : decode cX5_row 0 = .ok (.iload_n 1, 1) := dk_27 (dk_at dksX5_row_0 0 rfl rfl)
theorem dX5_row_1 : decode cX5_row 1 = .ok (.ifCond .lt 22, 3) := dk_155 0 22 (dk_at dksX5_row_0 1 rfl rfl)
theorem dX5_row_4 : decode cX5_row 4 = .ok (.iload_n 1, 1) := dk_27 (dk_at dksX5_row_0 4 rfl rfl)
theorem dX5_row_5 : decode cX5_row 5 = .ok (.i2l, 1) := dk_133 (dk_at dksX5_row_0 5 rfl rfl)
theorem dX5_row_6 : decode cX5_row 6 = .ok (.iload_n 2, 1) := dk_28 (dk_at dksX5_row_0 6 rfl rfl)
theorem dX5_row_7 : decode cX5_row 7 = .ok (.i2l, 1) := dk_133 (dk_at dksX5_row_0 7 rfl rfl)
theorem dX5_row_8 : decode cX5_row 8 = .ok (.ladd, 1) := dk_97 (dk_at dksX5_row_0 8 rfl rfl)
theorem dX5_row_9 : decode cX5_row 9 = .ok (.aload_n 0, 1) := dk_42 (dk_at dksX5_row_0 9 rfl rfl)
theorem dX5_row_10 : decode cX5_row 10 = .ok (.getfield 15, 3) := dk_180 0 15 (dk_at dksX5_row_0 10 rfl rfl)
theorem dX5_row_13 : decode cX5_row 13 = .ok (.arraylength, 1) := dk_190 (dk_at dksX5_row_0 13 rfl rfl)
theorem dX5_row_14 : decode cX5_row 14 = .ok (.i2l, 1) := dk_133 (dk_at dksX5_row_0 14 rfl rfl)
theorem dX5_row_15 : decode cX5_row 15 = .ok (.lcmp, 1) := dk_148 (dk_at dksX5_row_0 15 rfl rfl)
theorem dX5_row_16 : decode cX5_row 16 = .ok (.ifCond .gt 7, 3) := dk_157 0 7 (dk_at dksX5_row_0 16 rfl rfl)
theorem dX5_row_19 : decode cX5_row 19 = .ok (.iconst 1, 1) := dk_4 (dk_at dksX5_row_0 19 rfl rfl)
theorem dX5_row_20 : decode cX5_row 20 = .ok (.goto 4, 3) := dk_167 0 4 (dk_at dksX5_row_0 20 rfl rfl)
theorem dX5_row_23 : decode cX5_row 23 = .ok (.iconst 0, 1) := dk_3 (dk_at dksX5_row_0 23 rfl rfl)
theorem dX5_row_24 : decode cX5_row 24 = .ok (.iconst 2, 1) := dk_5 (dk_at dksX5_row_1 0 rfl rfl)
theorem dX5_row_25 : decode cX5_row 25 = .ok (.invokestatic 19, 3) := dk_184 0 19 (dk_at dksX5_row_1 1 rfl rfl)
theorem dX5_row_28 : decode cX5_row 28 = .ok (.iload_n 2, 1) := dk_28 (dk_at dksX5_row_1 4 rfl rfl)
theorem dX5_row_29 : decode cX5_row 29 = .ok (.newarray .int, 2) := dk_188_10 (dk_at dksX5_row_1 5 rfl rfl)
theorem dX5_row_31 : decode cX5_row 31 = .ok (.astore_n 3, 1) := dk_78 (dk_at dksX5_row_1 7 rfl rfl)
theorem dX5_row_32 : decode cX5_row 32 = .ok (.aload_n 0, 1) := dk_42 (dk_at dksX5_row_1 8 rfl rfl)
theorem dX5_row_33 : decode cX5_row 33 = .ok (.getfield 15, 3) := dk_180 0 15 (dk_at dksX5_row_1 9 rfl rfl)
theorem dX5_row_36 : decode cX5_row 36 = .ok (.iload_n 1, 1) := dk_27 (dk_at dksX5_row_1 12 rfl rfl)
theorem dX5_row_37 : decode cX5_row 37 = .ok (.aload_n 3, 1) := dk_45 (dk_at dksX5_row_1 13 rfl rfl)
theorem dX5_row_38 : decode cX5_row 38 = .ok (.iconst 0, 1) := dk_3 (dk_at dksX5_row_1 14 rfl rfl)
theorem dX5_row_39 : decode cX5_row 39 = .ok (.iload_n 2, 1) := dk_28 (dk_at dksX5_row_1 15 rfl rfl)
theorem dX5_row_40 : decode cX5_row 40 = .ok (.invokestatic 23, 3) := dk_184 0 23 (dk_at dksX5_row_1 16 rfl rfl)
theorem dX5_row_43 : decode cX5_row 43 = .ok (.aload_n 3, 1) := dk_45 (dk_at dksX5_row_1 19 rfl rfl)
theorem dX5_row_44 : decode cX5_row 44 = .ok (.areturn, 1) := dk_176 (dk_at dksX5_row_1 20 rfl rfl)
theorem q80 : (Jvm.Cond.initialized "VillageHalls$Sheet") ∈ lw_all := lw_g (lw_at lw_m1 11 rfl) rfl
theorem q343 : (Jvm.Cond.instantiable "VillageHalls$Sheet" (2 : Nat)) ∈ lw_all := lw_g (lw_at lw_m2 34 rfl) rfl
theorem q345 : (Jvm.Cond.instanceMethod ({ cls := "VillageHalls$Sheet", name := "<init>", desc := "(II)V" } : Jvm.MethodName)) ∈ lw_all := lw_g (lw_at lw_m2 36 rfl) rfl
theorem q346 : (Jvm.Cond.code ({ cls := "VillageHalls$Sheet", name := "<init>", desc := "(II)V" } : Jvm.MethodName) prog_15_method_1_code (3 : Nat) (Option.none : Option Jvm.ClassFile.FieldType)) ∈ lw_all := lw_g (lw_at lw_m2 37 rfl) rfl
theorem q347 : (Jvm.Cond.methodLink "VillageHalls$Sheet" (3 : Nat) ({ cls := "java/lang/Object", name := "<init>", desc := "()V" } : Jvm.MethodName)) ∈ lw_all := lw_g (lw_at lw_m2 38 rfl) rfl
theorem q348 : (Jvm.Cond.fieldLink "VillageHalls$Sheet" (9 : Nat) "VillageHalls$Sheet" "lane" "I") ∈ lw_all := lw_g (lw_at lw_m2 39 rfl) rfl
theorem q350 : (Jvm.Cond.fieldLink "VillageHalls$Sheet" (15 : Nat) "VillageHalls$Sheet" "items" "[I") ∈ lw_all := lw_g (lw_at lw_m2 41 rfl) rfl
theorem q352 : (Jvm.Cond.laysFinal "VillageHalls$Sheet" "VillageHalls$Sheet" "lane" "I") ∈ lw_all := lw_g (lw_at lw_m2 43 rfl) rfl
theorem q353 : (Jvm.Cond.soleField "VillageHalls$Sheet" "lane") ∈ lw_all := lw_g (lw_at lw_m2 44 rfl) rfl
theorem q354 : (Jvm.Cond.laysFinal "VillageHalls$Sheet" "VillageHalls$Sheet" "items" "[I") ∈ lw_all := lw_g (lw_at lw_m2 45 rfl) rfl
theorem q355 : (Jvm.Cond.soleField "VillageHalls$Sheet" "items") ∈ lw_all := lw_g (lw_at lw_m2 46 rfl) rfl
theorem q356 : (Jvm.Cond.superclass "VillageHalls$Sheet" "java/lang/Object") ∈ lw_all := lw_g (lw_at lw_m2 47 rfl) rfl
theorem q375 : (Jvm.Cond.instanceMethod ({ cls := "VillageHalls$Sheet", name := "cut", desc := "(I)I" } : Jvm.MethodName)) ∈ lw_all := lw_g (lw_at lw_m2 66 rfl) rfl
theorem q376 : (Jvm.Cond.selects "VillageHalls$Sheet" ({ cls := "VillageHalls$Sheet", name := "cut", desc := "(I)I" } : Jvm.MethodName) ({ cls := "VillageHalls$Sheet", name := "cut", desc := "(I)I" } : Jvm.MethodName)) ∈ lw_all := lw_g (lw_at lw_m2 67 rfl) rfl
theorem q377 : (Jvm.Cond.code ({ cls := "VillageHalls$Sheet", name := "cut", desc := "(I)I" } : Jvm.MethodName) prog_15_method_2_code (2 : Nat) (Option.some Jvm.ClassFile.FieldType.int)) ∈ lw_all := lw_g (lw_at lw_m2 68 rfl) rfl
theorem q780 : (Jvm.Cond.instanceMethod ({ cls := "VillageHalls$Sheet", name := "row", desc := "(II)[I" } : Jvm.MethodName)) ∈ lw_all := lw_g (lw_at lw_m3 231 rfl) rfl
theorem q781 : (Jvm.Cond.selects "VillageHalls$Sheet" ({ cls := "VillageHalls$Sheet", name := "row", desc := "(II)[I" } : Jvm.MethodName) ({ cls := "VillageHalls$Sheet", name := "row", desc := "(II)[I" } : Jvm.MethodName)) ∈ lw_all := lw_g (lw_at lw_m3 232 rfl) rfl
theorem q782 : (Jvm.Cond.code ({ cls := "VillageHalls$Sheet", name := "row", desc := "(II)[I" } : Jvm.MethodName) prog_15_method_3_code (4 : Nat) (Option.some (Jvm.ClassFile.FieldType.array Jvm.ClassFile.FieldType.int))) ∈ lw_all := lw_g (lw_at lw_m3 233 rfl) rfl
theorem q783 : (Jvm.Cond.methodLinkNest "VillageHalls$Sheet" (19 : Nat) ({ cls := "VillageHalls", name := "must", desc := "(ZI)V" } : Jvm.MethodName) "VillageHalls") ∈ lw_tbl := lw_at lw_m3 234 rfl
theorem q784 : (Jvm.Cond.methodLink "VillageHalls$Sheet" (23 : Nat) ({ cls := "java/lang/System", name := "arraycopy", desc := "(Ljava/lang/Object;ILjava/lang/Object;II)V" } : Jvm.MethodName)) ∈ lw_all := lw_g (lw_at lw_m3 235 rfl) rfl
theorem q900 : (Jvm.Cond.selects "VillageHalls$Sheet" ({ cls := "java/lang/Object", name := "getClass", desc := "()Ljava/lang/Class;" } : Jvm.MethodName) ({ cls := "java/lang/Object", name := "getClass", desc := "()Ljava/lang/Class;" } : Jvm.MethodName)) ∈ lw_all := lw_g (lw_at lw_m4 111 rfl) rfl
theorem q2005 : (Jvm.Cond.castable "VillageHalls$Sheet" "java/lang/Object") ∈ lw_tbl := lw_at lw_m9 16 rfl
theorem in_X5 : ∀ w ∈ wsX50, w ∈ lw_all := lw_in wsX50 [352, 354] (by decide +kernel) (by decide +kernel)

/-! VillageHalls$Reader -/
set_option maxRecDepth 100000
def RX6 : String := "VillageHalls$Reader"
def TX6 : u_T := fun k => match k with
  | 0 => ("VillageHalls$Reader", "at", "I", false)
  | 1 => ("VillageHalls$Reader", "token", "I", false)
  | 2 => ("VillageHalls$Reader", "from", "I", false)
  | 3 => ("VillageHalls$Reader", "number", "I", false)
  | 4 => ("VillageHalls$Reader", "name", "Ljava/lang/String;", false)
  | 5 => ("VillageHalls$Reader", "told", "[LVillageHalls$Hall;", true)
  | 6 => ("VillageHalls$Reader", "done", "I", false)
  | _ => ("VillageHalls$Reader", "this$0", "LVillageHalls;", true)
def tyX6 : Nat → FieldType := fun k => match k with
  | 0 => .int
  | 1 => .int
  | 2 => .int
  | 3 => .int
  | 4 => .object "java/lang/String"
  | 5 => .array (.object "VillageHalls$Hall")
  | 6 => .int
  | _ => .object "VillageHalls"
abbrev wsX60 : List Cond := u_ws RX6 TX6 8
theorem nmX6 : ∀ a, a < 8 → ∀ b, b < 8 → a ≠ b → (TX6 a).2.1 ≠ (TX6 b).2.1 := by decide +kernel
theorem tyX6_ok : ∀ k, k < 8 → parseFieldDescriptor (TX6 k).2.2.1 = some (tyX6 k) := by decide +kernel
abbrev cX6_init : ByteArray := prog_14_method_1_code
def yX6_init : MethodName := ⟨RX6, "<init>", "(LVillageHalls;)V"⟩
def dkwX6_init_2 : List UInt8 := [83, 132, 2, 1, 167, 255, 229, 177]
abbrev dktX6_init_2 : List UInt8 := dkwX6_init_2 ++ []
def dkwX6_init_1 : List UInt8 := [61, 28, 7, 162, 0, 28, 42, 180, 0, 23, 28, 187, 0, 21, 89, 43, 180, 0, 27, 28, 50, 183, 0, 30]
abbrev dktX6_init_1 : List UInt8 := dkwX6_init_1 ++ dktX6_init_2
def dkwX6_init_0 : List UInt8 := [42, 43, 181, 0, 3, 42, 183, 0, 9, 42, 18, 15, 181, 0, 17, 42, 7, 189, 0, 21, 181, 0, 23, 3]
abbrev dktX6_init_0 : List UInt8 := dkwX6_init_0 ++ dktX6_init_1
theorem dksX6_init_0 : cX6_init.data.toList.drop 0 = dktX6_init_0 := by decide +kernel
theorem dksX6_init_1 : cX6_init.data.toList.drop 24 = dktX6_init_1 := dk_seg dksX6_init_0 24 rfl rfl
theorem dksX6_init_2 : cX6_init.data.toList.drop 48 = dktX6_init_2 := dk_seg dksX6_init_1 24 rfl rfl
theorem dX6_init_0 : decode cX6_init 0 = .ok (.aload_n 0, 1) := dk_42 (dk_at dksX6_init_0 0 rfl rfl)
theorem dX6_init_1 : decode cX6_init 1 = .ok (.aload_n 1, 1) := dk_43 (dk_at dksX6_init_0 1 rfl rfl)
theorem dX6_init_2 : decode cX6_init 2 = .ok (.putfield 3, 3) := dk_181 0 3 (dk_at dksX6_init_0 2 rfl rfl)
theorem dX6_init_5 : decode cX6_init 5 = .ok (.aload_n 0, 1) := dk_42 (dk_at dksX6_init_0 5 rfl rfl)
theorem dX6_init_6 : decode cX6_init 6 = .ok (.invokespecial 9, 3) := dk_183 0 9 (dk_at dksX6_init_0 6 rfl rfl)
theorem dX6_init_9 : decode cX6_init 9 = .ok (.aload_n 0, 1) := dk_42 (dk_at dksX6_init_0 9 rfl rfl)
theorem dX6_init_10 : decode cX6_init 10 = .ok (.ldc 15, 2) := dk_18 15 (dk_at dksX6_init_0 10 rfl rfl)
theorem dX6_init_12 : decode cX6_init 12 = .ok (.putfield 17, 3) := dk_181 0 17 (dk_at dksX6_init_0 12 rfl rfl)
theorem dX6_init_15 : decode cX6_init 15 = .ok (.aload_n 0, 1) := dk_42 (dk_at dksX6_init_0 15 rfl rfl)
theorem dX6_init_16 : decode cX6_init 16 = .ok (.iconst 4, 1) := dk_7 (dk_at dksX6_init_0 16 rfl rfl)
theorem dX6_init_17 : decode cX6_init 17 = .ok (.anewarray 21, 3) := dk_189 0 21 (dk_at dksX6_init_0 17 rfl rfl)
theorem dX6_init_20 : decode cX6_init 20 = .ok (.putfield 23, 3) := dk_181 0 23 (dk_at dksX6_init_0 20 rfl rfl)
theorem dX6_init_23 : decode cX6_init 23 = .ok (.iconst 0, 1) := dk_3 (dk_at dksX6_init_0 23 rfl rfl)
theorem dX6_init_24 : decode cX6_init 24 = .ok (.istore_n 2, 1) := dk_61 (dk_at dksX6_init_1 0 rfl rfl)
theorem dX6_init_25 : decode cX6_init 25 = .ok (.iload_n 2, 1) := dk_28 (dk_at dksX6_init_1 1 rfl rfl)
theorem dX6_init_26 : decode cX6_init 26 = .ok (.iconst 4, 1) := dk_7 (dk_at dksX6_init_1 2 rfl rfl)
theorem dX6_init_27 : decode cX6_init 27 = .ok (.if_icmp .ge 28, 3) := dk_162 0 28 (dk_at dksX6_init_1 3 rfl rfl)
theorem dX6_init_30 : decode cX6_init 30 = .ok (.aload_n 0, 1) := dk_42 (dk_at dksX6_init_1 6 rfl rfl)
theorem dX6_init_31 : decode cX6_init 31 = .ok (.getfield 23, 3) := dk_180 0 23 (dk_at dksX6_init_1 7 rfl rfl)
theorem dX6_init_34 : decode cX6_init 34 = .ok (.iload_n 2, 1) := dk_28 (dk_at dksX6_init_1 10 rfl rfl)
theorem dX6_init_35 : decode cX6_init 35 = .ok (.new 21, 3) := dk_187 0 21 (dk_at dksX6_init_1 11 rfl rfl)
theorem dX6_init_38 : decode cX6_init 38 = .ok (.dup, 1) := dk_89 (dk_at dksX6_init_1 14 rfl rfl)
theorem dX6_init_39 : decode cX6_init 39 = .ok (.aload_n 1, 1) := dk_43 (dk_at dksX6_init_1 15 rfl rfl)
theorem dX6_init_40 : decode cX6_init 40 = .ok (.getfield 27, 3) := dk_180 0 27 (dk_at dksX6_init_1 16 rfl rfl)
theorem dX6_init_43 : decode cX6_init 43 = .ok (.iload_n 2, 1) := dk_28 (dk_at dksX6_init_1 19 rfl rfl)
theorem dX6_init_44 : decode cX6_init 44 = .ok (.aaload, 1) := dk_50 (dk_at dksX6_init_1 20 rfl rfl)
theorem dX6_init_45 : decode cX6_init 45 = .ok (.invokespecial 30, 3) := dk_183 0 30 (dk_at dksX6_init_1 21 rfl rfl)
theorem dX6_init_48 : decode cX6_init 48 = .ok (.aastore, 1) := dk_83 (dk_at dksX6_init_2 0 rfl rfl)
theorem dX6_init_49 : decode cX6_init 49 = .ok (.iinc 2 1, 3) := dk_132 2 1 (dk_at dksX6_init_2 1 rfl rfl)
theorem dX6_init_52 : decode cX6_init 52 = .ok (.goto (-27), 3) := dk_167 255 229 (dk_at dksX6_init_2 4 rfl rfl)
theorem dX6_init_55 : decode cX6_init 55 = .ok (.return_, 1) := dk_177 (dk_at dksX6_init_2 7 rfl rfl)
abbrev cX6_all : ByteArray := prog_14_method_9_code
def yX6_all : MethodName := ⟨RX6, "all", "()V"⟩
def dkwX6_all_3 : List UInt8 := [182, 0, 96, 167, 255, 189, 42, 42, 180, 0, 52, 154, 0, 7, 4, 167, 0, 4, 3, 4, 182, 0, 92, 177]
abbrev dktX6_all_3 : List UInt8 := dkwX6_all_3 ++ []
def dkwX6_all_2 : List UInt8 := [167, 255, 243, 42, 42, 180, 0, 52, 6, 160, 0, 7, 4, 167, 0, 4, 3, 4, 182, 0, 92, 42]
abbrev dktX6_all_2 : List UInt8 := dkwX6_all_2 ++ dktX6_all_3
def dkwX6_all_1 : List UInt8 := [182, 0, 112, 50, 76, 42, 43, 182, 0, 116, 42, 180, 0, 52, 4, 160, 0, 11, 42, 43, 182, 0, 116]
abbrev dktX6_all_1 : List UInt8 := dkwX6_all_1 ++ dktX6_all_2
def dkwX6_all_0 : List UInt8 := [42, 182, 0, 96, 42, 18, 106, 182, 0, 108, 153, 0, 64, 42, 182, 0, 96, 42, 180, 0, 23, 42, 6]
abbrev dktX6_all_0 : List UInt8 := dkwX6_all_0 ++ dktX6_all_1
theorem dksX6_all_0 : cX6_all.data.toList.drop 0 = dktX6_all_0 := by decide +kernel
theorem dksX6_all_1 : cX6_all.data.toList.drop 23 = dktX6_all_1 := dk_seg dksX6_all_0 23 rfl rfl
theorem dksX6_all_2 : cX6_all.data.toList.drop 46 = dktX6_all_2 := dk_seg dksX6_all_1 23 rfl rfl
theorem dksX6_all_3 : cX6_all.data.toList.drop 68 = dktX6_all_3 := dk_seg dksX6_all_2 22 rfl rfl
theorem dX6_all_0 : decode cX6_all 0 = .ok (.aload_n 0, 1) := dk_42 (dk_at dksX6_all_0 0 rfl rfl)
theorem dX6_all_1 : decode cX6_all 1 = .ok (.invokevirtual 96, 3) := dk_182 0 96 (dk_at dksX6_all_0 1 rfl rfl)
theorem dX6_all_4 : decode cX6_all 4 = .ok (.aload_n 0, 1) := dk_42 (dk_at dksX6_all_0 4 rfl rfl)
theorem dX6_all_5 : decode cX6_all 5 = .ok (.ldc 106, 2) := dk_18 106 (dk_at dksX6_all_0 5 rfl rfl)
theorem dX6_all_7 : decode cX6_all 7 = .ok (.invokevirtual 108, 3) := dk_182 0 108 (dk_at dksX6_all_0 7 rfl rfl)
theorem dX6_all_10 : decode cX6_all 10 = .ok (.ifCond .eq 64, 3) := dk_153 0 64 (dk_at dksX6_all_0 10 rfl rfl)
theorem dX6_all_13 : decode cX6_all 13 = .ok (.aload_n 0, 1) := dk_42 (dk_at dksX6_all_0 13 rfl rfl)
theorem dX6_all_14 : decode cX6_all 14 = .ok (.invokevirtual 96, 3) := dk_182 0 96 (dk_at dksX6_all_0 14 rfl rfl)
theorem dX6_all_17 : decode cX6_all 17 = .ok (.aload_n 0, 1) := dk_42 (dk_at dksX6_all_0 17 rfl rfl)
theorem dX6_all_18 : decode cX6_all 18 = .ok (.getfield 23, 3) := dk_180 0 23 (dk_at dksX6_all_0 18 rfl rfl)
theorem dX6_all_21 : decode cX6_all 21 = .ok (.aload_n 0, 1) := dk_42 (dk_at dksX6_all_0 21 rfl rfl)
theorem dX6_all_22 : decode cX6_all 22 = .ok (.iconst 3, 1) := dk_6 (dk_at dksX6_all_0 22 rfl rfl)
theorem dX6_all_23 : decode cX6_all 23 = .ok (.invokevirtual 112, 3) := dk_182 0 112 (dk_at dksX6_all_1 0 rfl rfl)
theorem dX6_all_26 : decode cX6_all 26 = .ok (.aaload, 1) := dk_50 (dk_at dksX6_all_1 3 rfl rfl)
theorem dX6_all_27 : decode cX6_all 27 = .ok (.astore_n 1, 1) := dk_76 (dk_at dksX6_all_1 4 rfl rfl)
theorem dX6_all_28 : decode cX6_all 28 = .ok (.aload_n 0, 1) := dk_42 (dk_at dksX6_all_1 5 rfl rfl)
theorem dX6_all_29 : decode cX6_all 29 = .ok (.aload_n 1, 1) := dk_43 (dk_at dksX6_all_1 6 rfl rfl)
theorem dX6_all_30 : decode cX6_all 30 = .ok (.invokevirtual 116, 3) := dk_182 0 116 (dk_at dksX6_all_1 7 rfl rfl)
theorem dX6_all_33 : decode cX6_all 33 = .ok (.aload_n 0, 1) := dk_42 (dk_at dksX6_all_1 10 rfl rfl)
theorem dX6_all_34 : decode cX6_all 34 = .ok (.getfield 52, 3) := dk_180 0 52 (dk_at dksX6_all_1 11 rfl rfl)
theorem dX6_all_37 : decode cX6_all 37 = .ok (.iconst 1, 1) := dk_4 (dk_at dksX6_all_1 14 rfl rfl)
theorem dX6_all_38 : decode cX6_all 38 = .ok (.if_icmp .ne 11, 3) := dk_160 0 11 (dk_at dksX6_all_1 15 rfl rfl)
theorem dX6_all_41 : decode cX6_all 41 = .ok (.aload_n 0, 1) := dk_42 (dk_at dksX6_all_1 18 rfl rfl)
theorem dX6_all_42 : decode cX6_all 42 = .ok (.aload_n 1, 1) := dk_43 (dk_at dksX6_all_1 19 rfl rfl)
theorem dX6_all_43 : decode cX6_all 43 = .ok (.invokevirtual 116, 3) := dk_182 0 116 (dk_at dksX6_all_1 20 rfl rfl)
theorem dX6_all_46 : decode cX6_all 46 = .ok (.goto (-13), 3) := dk_167 255 243 (dk_at dksX6_all_2 0 rfl rfl)
theorem dX6_all_49 : decode cX6_all 49 = .ok (.aload_n 0, 1) := dk_42 (dk_at dksX6_all_2 3 rfl rfl)
theorem dX6_all_50 : decode cX6_all 50 = .ok (.aload_n 0, 1) := dk_42 (dk_at dksX6_all_2 4 rfl rfl)
theorem dX6_all_51 : decode cX6_all 51 = .ok (.getfield 52, 3) := dk_180 0 52 (dk_at dksX6_all_2 5 rfl rfl)
theorem dX6_all_54 : decode cX6_all 54 = .ok (.iconst 3, 1) := dk_6 (dk_at dksX6_all_2 8 rfl rfl)
theorem dX6_all_55 : decode cX6_all 55 = .ok (.if_icmp .ne 7, 3) := dk_160 0 7 (dk_at dksX6_all_2 9 rfl rfl)
theorem dX6_all_58 : decode cX6_all 58 = .ok (.iconst 1, 1) := dk_4 (dk_at dksX6_all_2 12 rfl rfl)
theorem dX6_all_59 : decode cX6_all 59 = .ok (.goto 4, 3) := dk_167 0 4 (dk_at dksX6_all_2 13 rfl rfl)
theorem dX6_all_62 : decode cX6_all 62 = .ok (.iconst 0, 1) := dk_3 (dk_at dksX6_all_2 16 rfl rfl)
theorem dX6_all_63 : decode cX6_all 63 = .ok (.iconst 1, 1) := dk_4 (dk_at dksX6_all_2 17 rfl rfl)
theorem dX6_all_64 : decode cX6_all 64 = .ok (.invokevirtual 92, 3) := dk_182 0 92 (dk_at dksX6_all_2 18 rfl rfl)
theorem dX6_all_67 : decode cX6_all 67 = .ok (.aload_n 0, 1) := dk_42 (dk_at dksX6_all_2 21 rfl rfl)
theorem dX6_all_68 : decode cX6_all 68 = .ok (.invokevirtual 96, 3) := dk_182 0 96 (dk_at dksX6_all_3 0 rfl rfl)
theorem dX6_all_71 : decode cX6_all 71 = .ok (.goto (-67), 3) := dk_167 255 189 (dk_at dksX6_all_3 3 rfl rfl)
theorem dX6_all_74 : decode cX6_all 74 = .ok (.aload_n 0, 1) := dk_42 (dk_at dksX6_all_3 6 rfl rfl)
theorem dX6_all_75 : decode cX6_all 75 = .ok (.aload_n 0, 1) := dk_42 (dk_at dksX6_all_3 7 rfl rfl)
theorem dX6_all_76 : decode cX6_all 76 = .ok (.getfield 52, 3) := dk_180 0 52 (dk_at dksX6_all_3 8 rfl rfl)
theorem dX6_all_79 : decode cX6_all 79 = .ok (.ifCond .ne 7, 3) := dk_154 0 7 (dk_at dksX6_all_3 11 rfl rfl)
theorem dX6_all_82 : decode cX6_all 82 = .ok (.iconst 1, 1) := dk_4 (dk_at dksX6_all_3 14 rfl rfl)
theorem dX6_all_83 : decode cX6_all 83 = .ok (.goto 4, 3) := dk_167 0 4 (dk_at dksX6_all_3 15 rfl rfl)
theorem dX6_all_86 : decode cX6_all 86 = .ok (.iconst 0, 1) := dk_3 (dk_at dksX6_all_3 18 rfl rfl)
theorem dX6_all_87 : decode cX6_all 87 = .ok (.iconst 1, 1) := dk_4 (dk_at dksX6_all_3 19 rfl rfl)
theorem dX6_all_88 : decode cX6_all 88 = .ok (.invokevirtual 92, 3) := dk_182 0 92 (dk_at dksX6_all_3 20 rfl rfl)
theorem dX6_all_91 : decode cX6_all 91 = .ok (.return_, 1) := dk_177 (dk_at dksX6_all_3 23 rfl rfl)
abbrev cX6_next : ByteArray := prog_14_method_3_code
def yX6_next : MethodName := ⟨RX6, "next", "()V"⟩
def dkwX6_next_12 : List UInt8 := [167, 0, 4, 7, 181, 0, 52, 177]
abbrev dktX6_next_12 : List UInt8 := dkwX6_next_12 ++ []
def dkwX6_next_11 : List UInt8 := [181, 0, 52, 167, 0, 28, 42, 89, 180, 0, 33, 4, 96, 181, 0, 33, 42, 27, 16, 59, 160, 0, 7, 6]
abbrev dktX6_next_11 : List UInt8 := dkwX6_next_11 ++ dktX6_next_12
def dkwX6_next_10 : List UInt8 := [167, 255, 190, 42, 42, 180, 0, 33, 42, 180, 0, 49, 100, 7, 163, 0, 7, 5, 167, 0, 4, 7]
abbrev dktX6_next_10 : List UInt8 := dkwX6_next_10 ++ dktX6_next_11
def dkwX6_next_9 : List UInt8 := [16, 48, 100, 167, 0, 7, 42, 180, 0, 78, 181, 0, 78, 42, 89, 180, 0, 33, 4, 96, 181, 0, 33]
abbrev dktX6_next_9 : List UInt8 := dkwX6_next_9 ++ dktX6_next_10
def dkwX6_next_8 : List UInt8 := [180, 0, 33, 42, 180, 0, 49, 100, 7, 162, 0, 21, 16, 10, 42, 180, 0, 78, 104, 42, 182, 0, 45, 96]
abbrev dktX6_next_8 : List UInt8 := dkwX6_next_8 ++ dktX6_next_9
def dkwX6_next_7 : List UInt8 := [181, 0, 78, 42, 182, 0, 45, 133, 20, 0, 74, 20, 0, 76, 184, 0, 59, 153, 0, 55, 42, 42]
abbrev dktX6_next_7 : List UInt8 := dkwX6_next_7 ++ dktX6_next_8
def dkwX6_next_6 : List UInt8 := [42, 4, 181, 0, 52, 167, 0, 141, 27, 133, 20, 0, 74, 20, 0, 76, 184, 0, 59, 153, 0, 102, 42, 3]
abbrev dktX6_next_6 : List UInt8 := dkwX6_next_6 ++ dktX6_next_7
def dkwX6_next_5 : List UInt8 := [181, 0, 33, 51, 17, 0, 255, 126, 146, 182, 0, 66, 87, 167, 255, 210, 42, 44, 182, 0, 70, 181, 0, 17]
abbrev dktX6_next_5 : List UInt8 := dkwX6_next_5 ++ dktX6_next_6
def dkwX6_next_4 : List UInt8 := [184, 0, 59, 153, 0, 35, 44, 42, 180, 0, 3, 180, 0, 40, 42, 89, 180, 0, 33, 90, 4, 96]
abbrev dktX6_next_4 : List UInt8 := dkwX6_next_4 ++ dktX6_next_5
def dkwX6_next_3 : List UInt8 := [153, 0, 76, 187, 0, 63, 89, 183, 0, 65, 77, 42, 182, 0, 45, 133, 20, 0, 55, 20, 0, 57]
abbrev dktX6_next_3 : List UInt8 := dkwX6_next_3 ++ dktX6_next_4
def dkwX6_next_2 : List UInt8 := [160, 0, 11, 42, 3, 181, 0, 52, 167, 0, 228, 27, 133, 20, 0, 55, 20, 0, 57, 184, 0, 59]
abbrev dktX6_next_2 : List UInt8 := dkwX6_next_2 ++ dktX6_next_3
def dkwX6_next_1 : List UInt8 := [96, 181, 0, 33, 167, 255, 228, 42, 42, 180, 0, 33, 181, 0, 49, 42, 182, 0, 45, 60, 27, 18, 44]
abbrev dktX6_next_1 : List UInt8 := dkwX6_next_1 ++ dktX6_next_2
def dkwX6_next_0 : List UInt8 := [42, 182, 0, 45, 16, 32, 159, 0, 12, 42, 182, 0, 45, 16, 10, 160, 0, 16, 42, 89, 180, 0, 33, 4]
abbrev dktX6_next_0 : List UInt8 := dkwX6_next_0 ++ dktX6_next_1
theorem dksX6_next_0 : cX6_next.data.toList.drop 0 = dktX6_next_0 := by decide +kernel
theorem dksX6_next_1 : cX6_next.data.toList.drop 24 = dktX6_next_1 := dk_seg dksX6_next_0 24 rfl rfl
theorem dksX6_next_2 : cX6_next.data.toList.drop 47 = dktX6_next_2 := dk_seg dksX6_next_1 23 rfl rfl
theorem dksX6_next_3 : cX6_next.data.toList.drop 69 = dktX6_next_3 := dk_seg dksX6_next_2 22 rfl rfl
theorem dksX6_next_4 : cX6_next.data.toList.drop 91 = dktX6_next_4 := dk_seg dksX6_next_3 22 rfl rfl
theorem dksX6_next_5 : cX6_next.data.toList.drop 113 = dktX6_next_5 := dk_seg dksX6_next_4 22 rfl rfl
theorem dksX6_next_6 : cX6_next.data.toList.drop 137 = dktX6_next_6 := dk_seg dksX6_next_5 24 rfl rfl
theorem dksX6_next_7 : cX6_next.data.toList.drop 161 = dktX6_next_7 := dk_seg dksX6_next_6 24 rfl rfl
theorem dksX6_next_8 : cX6_next.data.toList.drop 183 = dktX6_next_8 := dk_seg dksX6_next_7 22 rfl rfl
theorem dksX6_next_9 : cX6_next.data.toList.drop 207 = dktX6_next_9 := dk_seg dksX6_next_8 24 rfl rfl
theorem dksX6_next_10 : cX6_next.data.toList.drop 230 = dktX6_next_10 := dk_seg dksX6_next_9 23 rfl rfl
theorem dksX6_next_11 : cX6_next.data.toList.drop 252 = dktX6_next_11 := dk_seg dksX6_next_10 22 rfl rfl
theorem dksX6_next_12 : cX6_next.data.toList.drop 276 = dktX6_next_12 := dk_seg dksX6_next_11 24 rfl rfl
theorem dX6_next_0 : decode cX6_next 0 = .ok (.aload_n 0, 1) := dk_42 (dk_at dksX6_next_0 0 rfl rfl)
theorem dX6_next_1 : decode cX6_next 1 = .ok (.invokevirtual 45, 3) := dk_182 0 45 (dk_at dksX6_next_0 1 rfl rfl)
theorem dX6_next_4 : decode cX6_next 4 = .ok (.bipush 32, 2) := dk_16 32 (dk_at dksX6_next_0 4 rfl rfl)
theorem dX6_next_6 : decode cX6_next 6 = .ok (.if_icmp .eq 12, 3) := dk_159 0 12 (dk_at dksX6_next_0 6 rfl rfl)
theorem dX6_next_9 : decode cX6_next 9 = .ok (.aload_n 0, 1) := dk_42 (dk_at dksX6_next_0 9 rfl rfl)
theorem dX6_next_10 : decode cX6_next 10 = .ok (.invokevirtual 45, 3) := dk_182 0 45 (dk_at dksX6_next_0 10 rfl rfl)
theorem dX6_next_13 : decode cX6_next 13 = .ok (.bipush 10, 2) := dk_16 10 (dk_at dksX6_next_0 13 rfl rfl)
theorem dX6_next_15 : decode cX6_next 15 = .ok (.if_icmp .ne 16, 3) := dk_160 0 16 (dk_at dksX6_next_0 15 rfl rfl)
theorem dX6_next_18 : decode cX6_next 18 = .ok (.aload_n 0, 1) := dk_42 (dk_at dksX6_next_0 18 rfl rfl)
theorem dX6_next_19 : decode cX6_next 19 = .ok (.dup, 1) := dk_89 (dk_at dksX6_next_0 19 rfl rfl)
theorem dX6_next_20 : decode cX6_next 20 = .ok (.getfield 33, 3) := dk_180 0 33 (dk_at dksX6_next_0 20 rfl rfl)
theorem dX6_next_23 : decode cX6_next 23 = .ok (.iconst 1, 1) := dk_4 (dk_at dksX6_next_0 23 rfl rfl)
theorem dX6_next_24 : decode cX6_next 24 = .ok (.iadd, 1) := dk_96 (dk_at dksX6_next_1 0 rfl rfl)
theorem dX6_next_25 : decode cX6_next 25 = .ok (.putfield 33, 3) := dk_181 0 33 (dk_at dksX6_next_1 1 rfl rfl)
theorem dX6_next_28 : decode cX6_next 28 = .ok (.goto (-28), 3) := dk_167 255 228 (dk_at dksX6_next_1 4 rfl rfl)
theorem dX6_next_31 : decode cX6_next 31 = .ok (.aload_n 0, 1) := dk_42 (dk_at dksX6_next_1 7 rfl rfl)
theorem dX6_next_32 : decode cX6_next 32 = .ok (.aload_n 0, 1) := dk_42 (dk_at dksX6_next_1 8 rfl rfl)
theorem dX6_next_33 : decode cX6_next 33 = .ok (.getfield 33, 3) := dk_180 0 33 (dk_at dksX6_next_1 9 rfl rfl)
theorem dX6_next_36 : decode cX6_next 36 = .ok (.putfield 49, 3) := dk_181 0 49 (dk_at dksX6_next_1 12 rfl rfl)
theorem dX6_next_39 : decode cX6_next 39 = .ok (.aload_n 0, 1) := dk_42 (dk_at dksX6_next_1 15 rfl rfl)
theorem dX6_next_40 : decode cX6_next 40 = .ok (.invokevirtual 45, 3) := dk_182 0 45 (dk_at dksX6_next_1 16 rfl rfl)
theorem dX6_next_43 : decode cX6_next 43 = .ok (.istore_n 1, 1) := dk_60 (dk_at dksX6_next_1 19 rfl rfl)
theorem dX6_next_44 : decode cX6_next 44 = .ok (.iload_n 1, 1) := dk_27 (dk_at dksX6_next_1 20 rfl rfl)
theorem dX6_next_45 : decode cX6_next 45 = .ok (.ldc 44, 2) := dk_18 44 (dk_at dksX6_next_1 21 rfl rfl)
theorem dX6_next_47 : decode cX6_next 47 = .ok (.if_icmp .ne 11, 3) := dk_160 0 11 (dk_at dksX6_next_2 0 rfl rfl)
theorem dX6_next_50 : decode cX6_next 50 = .ok (.aload_n 0, 1) := dk_42 (dk_at dksX6_next_2 3 rfl rfl)
theorem dX6_next_51 : decode cX6_next 51 = .ok (.iconst 0, 1) := dk_3 (dk_at dksX6_next_2 4 rfl rfl)
theorem dX6_next_52 : decode cX6_next 52 = .ok (.putfield 52, 3) := dk_181 0 52 (dk_at dksX6_next_2 5 rfl rfl)
theorem dX6_next_55 : decode cX6_next 55 = .ok (.goto 228, 3) := dk_167 0 228 (dk_at dksX6_next_2 8 rfl rfl)
theorem dX6_next_58 : decode cX6_next 58 = .ok (.iload_n 1, 1) := dk_27 (dk_at dksX6_next_2 11 rfl rfl)
theorem dX6_next_59 : decode cX6_next 59 = .ok (.i2l, 1) := dk_133 (dk_at dksX6_next_2 12 rfl rfl)
theorem dX6_next_60 : decode cX6_next 60 = .ok (.ldc2_w 55, 3) := dk_20 0 55 (dk_at dksX6_next_2 13 rfl rfl)
theorem dX6_next_63 : decode cX6_next 63 = .ok (.ldc2_w 57, 3) := dk_20 0 57 (dk_at dksX6_next_2 16 rfl rfl)
theorem dX6_next_66 : decode cX6_next 66 = .ok (.invokestatic 59, 3) := dk_184 0 59 (dk_at dksX6_next_2 19 rfl rfl)
theorem dX6_next_69 : decode cX6_next 69 = .ok (.ifCond .eq 76, 3) := dk_153 0 76 (dk_at dksX6_next_3 0 rfl rfl)
theorem dX6_next_72 : decode cX6_next 72 = .ok (.new 63, 3) := dk_187 0 63 (dk_at dksX6_next_3 3 rfl rfl)
theorem dX6_next_75 : decode cX6_next 75 = .ok (.dup, 1) := dk_89 (dk_at dksX6_next_3 6 rfl rfl)
theorem dX6_next_76 : decode cX6_next 76 = .ok (.invokespecial 65, 3) := dk_183 0 65 (dk_at dksX6_next_3 7 rfl rfl)
theorem dX6_next_79 : decode cX6_next 79 = .ok (.astore_n 2, 1) := dk_77 (dk_at dksX6_next_3 10 rfl rfl)
theorem dX6_next_80 : decode cX6_next 80 = .ok (.aload_n 0, 1) := dk_42 (dk_at dksX6_next_3 11 rfl rfl)
theorem dX6_next_81 : decode cX6_next 81 = .ok (.invokevirtual 45, 3) := dk_182 0 45 (dk_at dksX6_next_3 12 rfl rfl)
theorem dX6_next_84 : decode cX6_next 84 = .ok (.i2l, 1) := dk_133 (dk_at dksX6_next_3 15 rfl rfl)
theorem dX6_next_85 : decode cX6_next 85 = .ok (.ldc2_w 55, 3) := dk_20 0 55 (dk_at dksX6_next_3 16 rfl rfl)
theorem dX6_next_88 : decode cX6_next 88 = .ok (.ldc2_w 57, 3) := dk_20 0 57 (dk_at dksX6_next_3 19 rfl rfl)
theorem dX6_next_91 : decode cX6_next 91 = .ok (.invokestatic 59, 3) := dk_184 0 59 (dk_at dksX6_next_4 0 rfl rfl)
theorem dX6_next_94 : decode cX6_next 94 = .ok (.ifCond .eq 35, 3) := dk_153 0 35 (dk_at dksX6_next_4 3 rfl rfl)
theorem dX6_next_97 : decode cX6_next 97 = .ok (.aload_n 2, 1) := dk_44 (dk_at dksX6_next_4 6 rfl rfl)
theorem dX6_next_98 : decode cX6_next 98 = .ok (.aload_n 0, 1) := dk_42 (dk_at dksX6_next_4 7 rfl rfl)
theorem dX6_next_99 : decode cX6_next 99 = .ok (.getfield 3, 3) := dk_180 0 3 (dk_at dksX6_next_4 8 rfl rfl)
theorem dX6_next_102 : decode cX6_next 102 = .ok (.getfield 40, 3) := dk_180 0 40 (dk_at dksX6_next_4 11 rfl rfl)
theorem dX6_next_105 : decode cX6_next 105 = .ok (.aload_n 0, 1) := dk_42 (dk_at dksX6_next_4 14 rfl rfl)
theorem dX6_next_106 : decode cX6_next 106 = .ok (.dup, 1) := dk_89 (dk_at dksX6_next_4 15 rfl rfl)
theorem dX6_next_107 : decode cX6_next 107 = .ok (.getfield 33, 3) := dk_180 0 33 (dk_at dksX6_next_4 16 rfl rfl)
theorem dX6_next_110 : decode cX6_next 110 = .ok (.dup_x1, 1) := dk_90 (dk_at dksX6_next_4 19 rfl rfl)
theorem dX6_next_111 : decode cX6_next 111 = .ok (.iconst 1, 1) := dk_4 (dk_at dksX6_next_4 20 rfl rfl)
theorem dX6_next_112 : decode cX6_next 112 = .ok (.iadd, 1) := dk_96 (dk_at dksX6_next_4 21 rfl rfl)
theorem dX6_next_113 : decode cX6_next 113 = .ok (.putfield 33, 3) := dk_181 0 33 (dk_at dksX6_next_5 0 rfl rfl)
theorem dX6_next_116 : decode cX6_next 116 = .ok (.baload, 1) := dk_51 (dk_at dksX6_next_5 3 rfl rfl)
theorem dX6_next_117 : decode cX6_next 117 = .ok (.sipush 255, 3) := dk_17 0 255 (dk_at dksX6_next_5 4 rfl rfl)
theorem dX6_next_120 : decode cX6_next 120 = .ok (.iand, 1) := dk_126 (dk_at dksX6_next_5 7 rfl rfl)
theorem dX6_next_121 : decode cX6_next 121 = .ok (.i2c, 1) := dk_146 (dk_at dksX6_next_5 8 rfl rfl)
theorem dX6_next_122 : decode cX6_next 122 = .ok (.invokevirtual 66, 3) := dk_182 0 66 (dk_at dksX6_next_5 9 rfl rfl)
theorem dX6_next_125 : decode cX6_next 125 = .ok (.pop, 1) := dk_87 (dk_at dksX6_next_5 12 rfl rfl)
theorem dX6_next_126 : decode cX6_next 126 = .ok (.goto (-46), 3) := dk_167 255 210 (dk_at dksX6_next_5 13 rfl rfl)
theorem dX6_next_129 : decode cX6_next 129 = .ok (.aload_n 0, 1) := dk_42 (dk_at dksX6_next_5 16 rfl rfl)
theorem dX6_next_130 : decode cX6_next 130 = .ok (.aload_n 2, 1) := dk_44 (dk_at dksX6_next_5 17 rfl rfl)
theorem dX6_next_131 : decode cX6_next 131 = .ok (.invokevirtual 70, 3) := dk_182 0 70 (dk_at dksX6_next_5 18 rfl rfl)
theorem dX6_next_134 : decode cX6_next 134 = .ok (.putfield 17, 3) := dk_181 0 17 (dk_at dksX6_next_5 21 rfl rfl)
theorem dX6_next_137 : decode cX6_next 137 = .ok (.aload_n 0, 1) := dk_42 (dk_at dksX6_next_6 0 rfl rfl)
theorem dX6_next_138 : decode cX6_next 138 = .ok (.iconst 1, 1) := dk_4 (dk_at dksX6_next_6 1 rfl rfl)
theorem dX6_next_139 : decode cX6_next 139 = .ok (.putfield 52, 3) := dk_181 0 52 (dk_at dksX6_next_6 2 rfl rfl)
theorem dX6_next_142 : decode cX6_next 142 = .ok (.goto 141, 3) := dk_167 0 141 (dk_at dksX6_next_6 5 rfl rfl)
theorem dX6_next_145 : decode cX6_next 145 = .ok (.iload_n 1, 1) := dk_27 (dk_at dksX6_next_6 8 rfl rfl)
theorem dX6_next_146 : decode cX6_next 146 = .ok (.i2l, 1) := dk_133 (dk_at dksX6_next_6 9 rfl rfl)
theorem dX6_next_147 : decode cX6_next 147 = .ok (.ldc2_w 74, 3) := dk_20 0 74 (dk_at dksX6_next_6 10 rfl rfl)
theorem dX6_next_150 : decode cX6_next 150 = .ok (.ldc2_w 76, 3) := dk_20 0 76 (dk_at dksX6_next_6 13 rfl rfl)
theorem dX6_next_153 : decode cX6_next 153 = .ok (.invokestatic 59, 3) := dk_184 0 59 (dk_at dksX6_next_6 16 rfl rfl)
theorem dX6_next_156 : decode cX6_next 156 = .ok (.ifCond .eq 102, 3) := dk_153 0 102 (dk_at dksX6_next_6 19 rfl rfl)
theorem dX6_next_159 : decode cX6_next 159 = .ok (.aload_n 0, 1) := dk_42 (dk_at dksX6_next_6 22 rfl rfl)
theorem dX6_next_160 : decode cX6_next 160 = .ok (.iconst 0, 1) := dk_3 (dk_at dksX6_next_6 23 rfl rfl)
theorem dX6_next_161 : decode cX6_next 161 = .ok (.putfield 78, 3) := dk_181 0 78 (dk_at dksX6_next_7 0 rfl rfl)
theorem dX6_next_164 : decode cX6_next 164 = .ok (.aload_n 0, 1) := dk_42 (dk_at dksX6_next_7 3 rfl rfl)
theorem dX6_next_165 : decode cX6_next 165 = .ok (.invokevirtual 45, 3) := dk_182 0 45 (dk_at dksX6_next_7 4 rfl rfl)
theorem dX6_next_168 : decode cX6_next 168 = .ok (.i2l, 1) := dk_133 (dk_at dksX6_next_7 7 rfl rfl)
theorem dX6_next_169 : decode cX6_next 169 = .ok (.ldc2_w 74, 3) := dk_20 0 74 (dk_at dksX6_next_7 8 rfl rfl)
theorem dX6_next_172 : decode cX6_next 172 = .ok (.ldc2_w 76, 3) := dk_20 0 76 (dk_at dksX6_next_7 11 rfl rfl)
theorem dX6_next_175 : decode cX6_next 175 = .ok (.invokestatic 59, 3) := dk_184 0 59 (dk_at dksX6_next_7 14 rfl rfl)
theorem dX6_next_178 : decode cX6_next 178 = .ok (.ifCond .eq 55, 3) := dk_153 0 55 (dk_at dksX6_next_7 17 rfl rfl)
theorem dX6_next_181 : decode cX6_next 181 = .ok (.aload_n 0, 1) := dk_42 (dk_at dksX6_next_7 20 rfl rfl)
theorem dX6_next_182 : decode cX6_next 182 = .ok (.aload_n 0, 1) := dk_42 (dk_at dksX6_next_7 21 rfl rfl)
theorem dX6_next_183 : decode cX6_next 183 = .ok (.getfield 33, 3) := dk_180 0 33 (dk_at dksX6_next_8 0 rfl rfl)
theorem dX6_next_186 : decode cX6_next 186 = .ok (.aload_n 0, 1) := dk_42 (dk_at dksX6_next_8 3 rfl rfl)
theorem dX6_next_187 : decode cX6_next 187 = .ok (.getfield 49, 3) := dk_180 0 49 (dk_at dksX6_next_8 4 rfl rfl)
theorem dX6_next_190 : decode cX6_next 190 = .ok (.isub, 1) := dk_100 (dk_at dksX6_next_8 7 rfl rfl)
theorem dX6_next_191 : decode cX6_next 191 = .ok (.iconst 4, 1) := dk_7 (dk_at dksX6_next_8 8 rfl rfl)
theorem dX6_next_192 : decode cX6_next 192 = .ok (.if_icmp .ge 21, 3) := dk_162 0 21 (dk_at dksX6_next_8 9 rfl rfl)
theorem dX6_next_195 : decode cX6_next 195 = .ok (.bipush 10, 2) := dk_16 10 (dk_at dksX6_next_8 12 rfl rfl)
theorem dX6_next_197 : decode cX6_next 197 = .ok (.aload_n 0, 1) := dk_42 (dk_at dksX6_next_8 14 rfl rfl)
theorem dX6_next_198 : decode cX6_next 198 = .ok (.getfield 78, 3) := dk_180 0 78 (dk_at dksX6_next_8 15 rfl rfl)
theorem dX6_next_201 : decode cX6_next 201 = .ok (.imul, 1) := dk_104 (dk_at dksX6_next_8 18 rfl rfl)
theorem dX6_next_202 : decode cX6_next 202 = .ok (.aload_n 0, 1) := dk_42 (dk_at dksX6_next_8 19 rfl rfl)
theorem dX6_next_203 : decode cX6_next 203 = .ok (.invokevirtual 45, 3) := dk_182 0 45 (dk_at dksX6_next_8 20 rfl rfl)
theorem dX6_next_206 : decode cX6_next 206 = .ok (.iadd, 1) := dk_96 (dk_at dksX6_next_8 23 rfl rfl)
theorem dX6_next_207 : decode cX6_next 207 = .ok (.bipush 48, 2) := dk_16 48 (dk_at dksX6_next_9 0 rfl rfl)
theorem dX6_next_209 : decode cX6_next 209 = .ok (.isub, 1) := dk_100 (dk_at dksX6_next_9 2 rfl rfl)
theorem dX6_next_210 : decode cX6_next 210 = .ok (.goto 7, 3) := dk_167 0 7 (dk_at dksX6_next_9 3 rfl rfl)
theorem dX6_next_213 : decode cX6_next 213 = .ok (.aload_n 0, 1) := dk_42 (dk_at dksX6_next_9 6 rfl rfl)
theorem dX6_next_214 : decode cX6_next 214 = .ok (.getfield 78, 3) := dk_180 0 78 (dk_at dksX6_next_9 7 rfl rfl)
theorem dX6_next_217 : decode cX6_next 217 = .ok (.putfield 78, 3) := dk_181 0 78 (dk_at dksX6_next_9 10 rfl rfl)
theorem dX6_next_220 : decode cX6_next 220 = .ok (.aload_n 0, 1) := dk_42 (dk_at dksX6_next_9 13 rfl rfl)
theorem dX6_next_221 : decode cX6_next 221 = .ok (.dup, 1) := dk_89 (dk_at dksX6_next_9 14 rfl rfl)
theorem dX6_next_222 : decode cX6_next 222 = .ok (.getfield 33, 3) := dk_180 0 33 (dk_at dksX6_next_9 15 rfl rfl)
theorem dX6_next_225 : decode cX6_next 225 = .ok (.iconst 1, 1) := dk_4 (dk_at dksX6_next_9 18 rfl rfl)
theorem dX6_next_226 : decode cX6_next 226 = .ok (.iadd, 1) := dk_96 (dk_at dksX6_next_9 19 rfl rfl)
theorem dX6_next_227 : decode cX6_next 227 = .ok (.putfield 33, 3) := dk_181 0 33 (dk_at dksX6_next_9 20 rfl rfl)
theorem dX6_next_230 : decode cX6_next 230 = .ok (.goto (-66), 3) := dk_167 255 190 (dk_at dksX6_next_10 0 rfl rfl)
theorem dX6_next_233 : decode cX6_next 233 = .ok (.aload_n 0, 1) := dk_42 (dk_at dksX6_next_10 3 rfl rfl)
theorem dX6_next_234 : decode cX6_next 234 = .ok (.aload_n 0, 1) := dk_42 (dk_at dksX6_next_10 4 rfl rfl)
theorem dX6_next_235 : decode cX6_next 235 = .ok (.getfield 33, 3) := dk_180 0 33 (dk_at dksX6_next_10 5 rfl rfl)
theorem dX6_next_238 : decode cX6_next 238 = .ok (.aload_n 0, 1) := dk_42 (dk_at dksX6_next_10 8 rfl rfl)
theorem dX6_next_239 : decode cX6_next 239 = .ok (.getfield 49, 3) := dk_180 0 49 (dk_at dksX6_next_10 9 rfl rfl)
theorem dX6_next_242 : decode cX6_next 242 = .ok (.isub, 1) := dk_100 (dk_at dksX6_next_10 12 rfl rfl)
theorem dX6_next_243 : decode cX6_next 243 = .ok (.iconst 4, 1) := dk_7 (dk_at dksX6_next_10 13 rfl rfl)
theorem dX6_next_244 : decode cX6_next 244 = .ok (.if_icmp .gt 7, 3) := dk_163 0 7 (dk_at dksX6_next_10 14 rfl rfl)
theorem dX6_next_247 : decode cX6_next 247 = .ok (.iconst 2, 1) := dk_5 (dk_at dksX6_next_10 17 rfl rfl)
theorem dX6_next_248 : decode cX6_next 248 = .ok (.goto 4, 3) := dk_167 0 4 (dk_at dksX6_next_10 18 rfl rfl)
theorem dX6_next_251 : decode cX6_next 251 = .ok (.iconst 4, 1) := dk_7 (dk_at dksX6_next_10 21 rfl rfl)
theorem dX6_next_252 : decode cX6_next 252 = .ok (.putfield 52, 3) := dk_181 0 52 (dk_at dksX6_next_11 0 rfl rfl)
theorem dX6_next_255 : decode cX6_next 255 = .ok (.goto 28, 3) := dk_167 0 28 (dk_at dksX6_next_11 3 rfl rfl)
theorem dX6_next_258 : decode cX6_next 258 = .ok (.aload_n 0, 1) := dk_42 (dk_at dksX6_next_11 6 rfl rfl)
theorem dX6_next_259 : decode cX6_next 259 = .ok (.dup, 1) := dk_89 (dk_at dksX6_next_11 7 rfl rfl)
theorem dX6_next_260 : decode cX6_next 260 = .ok (.getfield 33, 3) := dk_180 0 33 (dk_at dksX6_next_11 8 rfl rfl)
theorem dX6_next_263 : decode cX6_next 263 = .ok (.iconst 1, 1) := dk_4 (dk_at dksX6_next_11 11 rfl rfl)
theorem dX6_next_264 : decode cX6_next 264 = .ok (.iadd, 1) := dk_96 (dk_at dksX6_next_11 12 rfl rfl)
theorem dX6_next_265 : decode cX6_next 265 = .ok (.putfield 33, 3) := dk_181 0 33 (dk_at dksX6_next_11 13 rfl rfl)
theorem dX6_next_268 : decode cX6_next 268 = .ok (.aload_n 0, 1) := dk_42 (dk_at dksX6_next_11 16 rfl rfl)
theorem dX6_next_269 : decode cX6_next 269 = .ok (.iload_n 1, 1) := dk_27 (dk_at dksX6_next_11 17 rfl rfl)
theorem dX6_next_270 : decode cX6_next 270 = .ok (.bipush 59, 2) := dk_16 59 (dk_at dksX6_next_11 18 rfl rfl)
theorem dX6_next_272 : decode cX6_next 272 = .ok (.if_icmp .ne 7, 3) := dk_160 0 7 (dk_at dksX6_next_11 20 rfl rfl)
theorem dX6_next_275 : decode cX6_next 275 = .ok (.iconst 3, 1) := dk_6 (dk_at dksX6_next_11 23 rfl rfl)
theorem dX6_next_276 : decode cX6_next 276 = .ok (.goto 4, 3) := dk_167 0 4 (dk_at dksX6_next_12 0 rfl rfl)
theorem dX6_next_279 : decode cX6_next 279 = .ok (.iconst 4, 1) := dk_7 (dk_at dksX6_next_12 3 rfl rfl)
theorem dX6_next_280 : decode cX6_next 280 = .ok (.putfield 52, 3) := dk_181 0 52 (dk_at dksX6_next_12 4 rfl rfl)
theorem dX6_next_283 : decode cX6_next 283 = .ok (.return_, 1) := dk_177 (dk_at dksX6_next_12 7 rfl rfl)
abbrev cX6_look : ByteArray := prog_14_method_2_code
def yX6_look : MethodName := ⟨RX6, "look", "()I"⟩
def dkwX6_look_1 : List UInt8 := [180, 0, 33, 51, 17, 0, 255, 126, 167, 0, 5, 18, 44, 172]
abbrev dktX6_look_1 : List UInt8 := dkwX6_look_1 ++ []
def dkwX6_look_0 : List UInt8 := [42, 180, 0, 33, 42, 180, 0, 3, 180, 0, 37, 162, 0, 22, 42, 180, 0, 3, 180, 0, 40, 42]
abbrev dktX6_look_0 : List UInt8 := dkwX6_look_0 ++ dktX6_look_1
theorem dksX6_look_0 : cX6_look.data.toList.drop 0 = dktX6_look_0 := by decide +kernel
theorem dksX6_look_1 : cX6_look.data.toList.drop 22 = dktX6_look_1 := dk_seg dksX6_look_0 22 rfl rfl
theorem dX6_look_0 : decode cX6_look 0 = .ok (.aload_n 0, 1) := dk_42 (dk_at dksX6_look_0 0 rfl rfl)
theorem dX6_look_1 : decode cX6_look 1 = .ok (.getfield 33, 3) := dk_180 0 33 (dk_at dksX6_look_0 1 rfl rfl)
theorem dX6_look_4 : decode cX6_look 4 = .ok (.aload_n 0, 1) := dk_42 (dk_at dksX6_look_0 4 rfl rfl)
theorem dX6_look_5 : decode cX6_look 5 = .ok (.getfield 3, 3) := dk_180 0 3 (dk_at dksX6_look_0 5 rfl rfl)
theorem dX6_look_8 : decode cX6_look 8 = .ok (.getfield 37, 3) := dk_180 0 37 (dk_at dksX6_look_0 8 rfl rfl)
theorem dX6_look_11 : decode cX6_look 11 = .ok (.if_icmp .ge 22, 3) := dk_162 0 22 (dk_at dksX6_look_0 11 rfl rfl)
theorem dX6_look_14 : decode cX6_look 14 = .ok (.aload_n 0, 1) := dk_42 (dk_at dksX6_look_0 14 rfl rfl)
theorem dX6_look_15 : decode cX6_look 15 = .ok (.getfield 3, 3) := dk_180 0 3 (dk_at dksX6_look_0 15 rfl rfl)
theorem dX6_look_18 : decode cX6_look 18 = .ok (.getfield 40, 3) := dk_180 0 40 (dk_at dksX6_look_0 18 rfl rfl)
theorem dX6_look_21 : decode cX6_look 21 = .ok (.aload_n 0, 1) := dk_42 (dk_at dksX6_look_0 21 rfl rfl)
theorem dX6_look_22 : decode cX6_look 22 = .ok (.getfield 33, 3) := dk_180 0 33 (dk_at dksX6_look_1 0 rfl rfl)
theorem dX6_look_25 : decode cX6_look 25 = .ok (.baload, 1) := dk_51 (dk_at dksX6_look_1 3 rfl rfl)
theorem dX6_look_26 : decode cX6_look 26 = .ok (.sipush 255, 3) := dk_17 0 255 (dk_at dksX6_look_1 4 rfl rfl)
theorem dX6_look_29 : decode cX6_look 29 = .ok (.iand, 1) := dk_126 (dk_at dksX6_look_1 7 rfl rfl)
theorem dX6_look_30 : decode cX6_look 30 = .ok (.goto 5, 3) := dk_167 0 5 (dk_at dksX6_look_1 8 rfl rfl)
theorem dX6_look_33 : decode cX6_look 33 = .ok (.ldc 44, 2) := dk_18 44 (dk_at dksX6_look_1 11 rfl rfl)
theorem dX6_look_35 : decode cX6_look 35 = .ok (.ireturn, 1) := dk_172 (dk_at dksX6_look_1 13 rfl rfl)
abbrev cX6_isWord : ByteArray := prog_14_method_5_code
def yX6_isWord : MethodName := ⟨RX6, "isWord", "(Ljava/lang/String;)Z"⟩
def dkwX6_isWord_1 : List UInt8 := [172]
abbrev dktX6_isWord_1 : List UInt8 := dkwX6_isWord_1 ++ []
def dkwX6_isWord_0 : List UInt8 := [42, 180, 0, 52, 4, 160, 0, 18, 42, 180, 0, 17, 43, 182, 0, 86, 153, 0, 7, 4, 167, 0, 4, 3]
abbrev dktX6_isWord_0 : List UInt8 := dkwX6_isWord_0 ++ dktX6_isWord_1
theorem dksX6_isWord_0 : cX6_isWord.data.toList.drop 0 = dktX6_isWord_0 := by decide +kernel
theorem dksX6_isWord_1 : cX6_isWord.data.toList.drop 24 = dktX6_isWord_1 := dk_seg dksX6_isWord_0 24 rfl rfl
theorem dX6_isWord_0 : decode cX6_isWord 0 = .ok (.aload_n 0, 1) := dk_42 (dk_at dksX6_isWord_0 0 rfl rfl)
theorem dX6_isWord_1 : decode cX6_isWord 1 = .ok (.getfield 52, 3) := dk_180 0 52 (dk_at dksX6_isWord_0 1 rfl rfl)
theorem dX6_isWord_4 : decode cX6_isWord 4 = .ok (.iconst 1, 1) := dk_4 (dk_at dksX6_isWord_0 4 rfl rfl)
theorem dX6_isWord_5 : decode cX6_isWord 5 = .ok (.if_icmp .ne 18, 3) := dk_160 0 18 (dk_at dksX6_isWord_0 5 rfl rfl)
theorem dX6_isWord_8 : decode cX6_isWord 8 = .ok (.aload_n 0, 1) := dk_42 (dk_at dksX6_isWord_0 8 rfl rfl)
theorem dX6_isWord_9 : decode cX6_isWord 9 = .ok (.getfield 17, 3) := dk_180 0 17 (dk_at dksX6_isWord_0 9 rfl rfl)
theorem dX6_isWord_12 : decode cX6_isWord 12 = .ok (.aload_n 1, 1) := dk_43 (dk_at dksX6_isWord_0 12 rfl rfl)
theorem dX6_isWord_13 : decode cX6_isWord 13 = .ok (.invokevirtual 86, 3) := dk_182 0 86 (dk_at dksX6_isWord_0 13 rfl rfl)
theorem dX6_isWord_16 : decode cX6_isWord 16 = .ok (.ifCond .eq 7, 3) := dk_153 0 7 (dk_at dksX6_isWord_0 16 rfl rfl)
theorem dX6_isWord_19 : decode cX6_isWord 19 = .ok (.iconst 1, 1) := dk_4 (dk_at dksX6_isWord_0 19 rfl rfl)
theorem dX6_isWord_20 : decode cX6_isWord 20 = .ok (.goto 4, 3) := dk_167 0 4 (dk_at dksX6_isWord_0 20 rfl rfl)
theorem dX6_isWord_23 : decode cX6_isWord 23 = .ok (.iconst 0, 1) := dk_3 (dk_at dksX6_isWord_0 23 rfl rfl)
theorem dX6_isWord_24 : decode cX6_isWord 24 = .ok (.ireturn, 1) := dk_172 (dk_at dksX6_isWord_1 0 rfl rfl)
abbrev cX6_figure : ByteArray := prog_14_method_6_code
def yX6_figure : MethodName := ⟨RX6, "figure", "(I)I"⟩
def dkwX6_figure_1 : List UInt8 := [163, 0, 7, 4, 167, 0, 4, 3, 5, 182, 0, 92, 42, 180, 0, 78, 61, 42, 182, 0, 96, 28, 172]
abbrev dktX6_figure_1 : List UInt8 := dkwX6_figure_1 ++ []
def dkwX6_figure_0 : List UInt8 := [42, 42, 180, 0, 52, 5, 160, 0, 7, 4, 167, 0, 4, 3, 4, 182, 0, 92, 42, 42, 180, 0, 78, 27]
abbrev dktX6_figure_0 : List UInt8 := dkwX6_figure_0 ++ dktX6_figure_1
theorem dksX6_figure_0 : cX6_figure.data.toList.drop 0 = dktX6_figure_0 := by decide +kernel
theorem dksX6_figure_1 : cX6_figure.data.toList.drop 24 = dktX6_figure_1 := dk_seg dksX6_figure_0 24 rfl rfl
theorem dX6_figure_0 : decode cX6_figure 0 = .ok (.aload_n 0, 1) := dk_42 (dk_at dksX6_figure_0 0 rfl rfl)
theorem dX6_figure_1 : decode cX6_figure 1 = .ok (.aload_n 0, 1) := dk_42 (dk_at dksX6_figure_0 1 rfl rfl)
theorem dX6_figure_2 : decode cX6_figure 2 = .ok (.getfield 52, 3) := dk_180 0 52 (dk_at dksX6_figure_0 2 rfl rfl)
theorem dX6_figure_5 : decode cX6_figure 5 = .ok (.iconst 2, 1) := dk_5 (dk_at dksX6_figure_0 5 rfl rfl)
theorem dX6_figure_6 : decode cX6_figure 6 = .ok (.if_icmp .ne 7, 3) := dk_160 0 7 (dk_at dksX6_figure_0 6 rfl rfl)
theorem dX6_figure_9 : decode cX6_figure 9 = .ok (.iconst 1, 1) := dk_4 (dk_at dksX6_figure_0 9 rfl rfl)
theorem dX6_figure_10 : decode cX6_figure 10 = .ok (.goto 4, 3) := dk_167 0 4 (dk_at dksX6_figure_0 10 rfl rfl)
theorem dX6_figure_13 : decode cX6_figure 13 = .ok (.iconst 0, 1) := dk_3 (dk_at dksX6_figure_0 13 rfl rfl)
theorem dX6_figure_14 : decode cX6_figure 14 = .ok (.iconst 1, 1) := dk_4 (dk_at dksX6_figure_0 14 rfl rfl)
theorem dX6_figure_15 : decode cX6_figure 15 = .ok (.invokevirtual 92, 3) := dk_182 0 92 (dk_at dksX6_figure_0 15 rfl rfl)
theorem dX6_figure_18 : decode cX6_figure 18 = .ok (.aload_n 0, 1) := dk_42 (dk_at dksX6_figure_0 18 rfl rfl)
theorem dX6_figure_19 : decode cX6_figure 19 = .ok (.aload_n 0, 1) := dk_42 (dk_at dksX6_figure_0 19 rfl rfl)
theorem dX6_figure_20 : decode cX6_figure 20 = .ok (.getfield 78, 3) := dk_180 0 78 (dk_at dksX6_figure_0 20 rfl rfl)
theorem dX6_figure_23 : decode cX6_figure 23 = .ok (.iload_n 1, 1) := dk_27 (dk_at dksX6_figure_0 23 rfl rfl)
theorem dX6_figure_24 : decode cX6_figure 24 = .ok (.if_icmp .gt 7, 3) := dk_163 0 7 (dk_at dksX6_figure_1 0 rfl rfl)
theorem dX6_figure_27 : decode cX6_figure 27 = .ok (.iconst 1, 1) := dk_4 (dk_at dksX6_figure_1 3 rfl rfl)
theorem dX6_figure_28 : decode cX6_figure 28 = .ok (.goto 4, 3) := dk_167 0 4 (dk_at dksX6_figure_1 4 rfl rfl)
theorem dX6_figure_31 : decode cX6_figure 31 = .ok (.iconst 0, 1) := dk_3 (dk_at dksX6_figure_1 7 rfl rfl)
theorem dX6_figure_32 : decode cX6_figure 32 = .ok (.iconst 2, 1) := dk_5 (dk_at dksX6_figure_1 8 rfl rfl)
theorem dX6_figure_33 : decode cX6_figure 33 = .ok (.invokevirtual 92, 3) := dk_182 0 92 (dk_at dksX6_figure_1 9 rfl rfl)
theorem dX6_figure_36 : decode cX6_figure 36 = .ok (.aload_n 0, 1) := dk_42 (dk_at dksX6_figure_1 12 rfl rfl)
theorem dX6_figure_37 : decode cX6_figure 37 = .ok (.getfield 78, 3) := dk_180 0 78 (dk_at dksX6_figure_1 13 rfl rfl)
theorem dX6_figure_40 : decode cX6_figure 40 = .ok (.istore_n 2, 1) := dk_61 (dk_at dksX6_figure_1 16 rfl rfl)
theorem dX6_figure_41 : decode cX6_figure 41 = .ok (.aload_n 0, 1) := dk_42 (dk_at dksX6_figure_1 17 rfl rfl)
theorem dX6_figure_42 : decode cX6_figure 42 = .ok (.invokevirtual 96, 3) := dk_182 0 96 (dk_at dksX6_figure_1 18 rfl rfl)
theorem dX6_figure_45 : decode cX6_figure 45 = .ok (.iload_n 2, 1) := dk_28 (dk_at dksX6_figure_1 21 rfl rfl)
theorem dX6_figure_46 : decode cX6_figure 46 = .ok (.ireturn, 1) := dk_172 (dk_at dksX6_figure_1 22 rfl rfl)
abbrev cX6_must : ByteArray := prog_14_method_4_code
def yX6_must : MethodName := ⟨RX6, "must", "(ZI)V"⟩
def dkwX6_must_0 : List UInt8 := [27, 154, 0, 16, 187, 0, 81, 89, 28, 42, 180, 0, 49, 183, 0, 83, 191, 177]
abbrev dktX6_must_0 : List UInt8 := dkwX6_must_0 ++ []
theorem dksX6_must_0 : cX6_must.data.toList.drop 0 = dktX6_must_0 := by decide +kernel
theorem dX6_must_0 : decode cX6_must 0 = .ok (.iload_n 1, 1) := dk_27 (dk_at dksX6_must_0 0 rfl rfl)
theorem dX6_must_1 : decode cX6_must 1 = .ok (.ifCond .ne 16, 3) := dk_154 0 16 (dk_at dksX6_must_0 1 rfl rfl)
theorem dX6_must_4 : decode cX6_must 4 = .ok (.new 81, 3) := dk_187 0 81 (dk_at dksX6_must_0 4 rfl rfl)
theorem dX6_must_7 : decode cX6_must 7 = .ok (.dup, 1) := dk_89 (dk_at dksX6_must_0 7 rfl rfl)
theorem dX6_must_8 : decode cX6_must 8 = .ok (.iload_n 2, 1) := dk_28 (dk_at dksX6_must_0 8 rfl rfl)
theorem dX6_must_9 : decode cX6_must 9 = .ok (.aload_n 0, 1) := dk_42 (dk_at dksX6_must_0 9 rfl rfl)
theorem dX6_must_10 : decode cX6_must 10 = .ok (.getfield 49, 3) := dk_180 0 49 (dk_at dksX6_must_0 10 rfl rfl)
theorem dX6_must_13 : decode cX6_must 13 = .ok (.invokespecial 83, 3) := dk_183 0 83 (dk_at dksX6_must_0 13 rfl rfl)
theorem dX6_must_16 : decode cX6_must 16 = .ok (.athrow, 1) := dk_191 (dk_at dksX6_must_0 16 rfl rfl)
theorem dX6_must_17 : decode cX6_must 17 = .ok (.return_, 1) := dk_177 (dk_at dksX6_must_0 17 rfl rfl)
abbrev cX6_rule : ByteArray := prog_14_method_10_code
def yX6_rule : MethodName := ⟨RX6, "rule", "(LVillageHalls$Hall;)V"⟩
def dkwX6_rule_10 : List UInt8 := [79, 167, 0, 8, 42, 43, 182, 0, 151, 177]
abbrev dktX6_rule_10 : List UInt8 := dkwX6_rule_10 ++ []
def dkwX6_rule_9 : List UInt8 := [182, 0, 86, 153, 0, 25, 42, 4, 182, 0, 112, 62, 43, 180, 0, 149, 29, 42, 17, 1, 244, 182, 0, 112]
abbrev dktX6_rule_9 : List UInt8 := dkwX6_rule_9 ++ dktX6_rule_10
def dkwX6_rule_8 : List UInt8 := [182, 0, 112, 181, 0, 144, 43, 42, 16, 100, 182, 0, 112, 181, 0, 146, 167, 0, 39, 44, 18, 129]
abbrev dktX6_rule_8 : List UInt8 := dkwX6_rule_8 ++ dktX6_rule_9
def dkwX6_rule_7 : List UInt8 := [17, 3, 232, 182, 0, 112, 79, 167, 0, 71, 44, 18, 127, 182, 0, 86, 153, 0, 26, 43, 42, 16, 60]
abbrev dktX6_rule_7 : List UInt8 := dkwX6_rule_7 ++ dktX6_rule_8
def dkwX6_rule_6 : List UInt8 := [167, 0, 101, 44, 18, 123, 182, 0, 86, 153, 0, 24, 42, 182, 0, 138, 62, 43, 180, 0, 141, 29, 42]
abbrev dktX6_rule_6 : List UInt8 := dkwX6_rule_6 ++ dktX6_rule_7
def dkwX6_rule_5 : List UInt8 := [167, 0, 123, 44, 18, 121, 182, 0, 86, 153, 0, 16, 43, 42, 16, 50, 182, 0, 112, 181, 0, 136]
abbrev dktX6_rule_5 : List UInt8 := dkwX6_rule_5 ++ dktX6_rule_6
def dkwX6_rule_4 : List UInt8 := [181, 0, 131, 44, 18, 119, 182, 0, 86, 153, 0, 16, 43, 42, 16, 8, 182, 0, 112, 181, 0, 134]
abbrev dktX6_rule_4 : List UInt8 := dkwX6_rule_4 ++ dktX6_rule_5
def dkwX6_rule_3 : List UInt8 := [153, 0, 7, 4, 167, 0, 4, 3, 4, 182, 0, 92, 42, 182, 0, 96, 42, 89, 180, 0, 131, 4, 96]
abbrev dktX6_rule_3 : List UInt8 := dkwX6_rule_3 ++ dktX6_rule_4
def dkwX6_rule_2 : List UInt8 := [44, 18, 125, 182, 0, 86, 154, 0, 21, 44, 18, 127, 182, 0, 86, 154, 0, 12, 44, 18, 129, 182, 0, 86]
abbrev dktX6_rule_2 : List UInt8 := dkwX6_rule_2 ++ dktX6_rule_3
def dkwX6_rule_1 : List UInt8 := [182, 0, 86, 154, 0, 48, 44, 18, 121, 182, 0, 86, 154, 0, 39, 44, 18, 123, 182, 0, 86, 154, 0, 30]
abbrev dktX6_rule_1 : List UInt8 := dkwX6_rule_1 ++ dktX6_rule_2
def dkwX6_rule_0 : List UInt8 := [42, 180, 0, 52, 4, 160, 0, 10, 42, 180, 0, 17, 167, 0, 5, 18, 15, 77, 42, 44, 18, 119]
abbrev dktX6_rule_0 : List UInt8 := dkwX6_rule_0 ++ dktX6_rule_1
theorem dksX6_rule_0 : cX6_rule.data.toList.drop 0 = dktX6_rule_0 := by decide +kernel
theorem dksX6_rule_1 : cX6_rule.data.toList.drop 22 = dktX6_rule_1 := dk_seg dksX6_rule_0 22 rfl rfl
theorem dksX6_rule_2 : cX6_rule.data.toList.drop 46 = dktX6_rule_2 := dk_seg dksX6_rule_1 24 rfl rfl
theorem dksX6_rule_3 : cX6_rule.data.toList.drop 70 = dktX6_rule_3 := dk_seg dksX6_rule_2 24 rfl rfl
theorem dksX6_rule_4 : cX6_rule.data.toList.drop 93 = dktX6_rule_4 := dk_seg dksX6_rule_3 23 rfl rfl
theorem dksX6_rule_5 : cX6_rule.data.toList.drop 115 = dktX6_rule_5 := dk_seg dksX6_rule_4 22 rfl rfl
theorem dksX6_rule_6 : cX6_rule.data.toList.drop 137 = dktX6_rule_6 := dk_seg dksX6_rule_5 22 rfl rfl
theorem dksX6_rule_7 : cX6_rule.data.toList.drop 160 = dktX6_rule_7 := dk_seg dksX6_rule_6 23 rfl rfl
theorem dksX6_rule_8 : cX6_rule.data.toList.drop 183 = dktX6_rule_8 := dk_seg dksX6_rule_7 23 rfl rfl
theorem dksX6_rule_9 : cX6_rule.data.toList.drop 205 = dktX6_rule_9 := dk_seg dksX6_rule_8 22 rfl rfl
theorem dksX6_rule_10 : cX6_rule.data.toList.drop 229 = dktX6_rule_10 := dk_seg dksX6_rule_9 24 rfl rfl
theorem dX6_rule_0 : decode cX6_rule 0 = .ok (.aload_n 0, 1) := dk_42 (dk_at dksX6_rule_0 0 rfl rfl)
theorem dX6_rule_1 : decode cX6_rule 1 = .ok (.getfield 52, 3) := dk_180 0 52 (dk_at dksX6_rule_0 1 rfl rfl)
theorem dX6_rule_4 : decode cX6_rule 4 = .ok (.iconst 1, 1) := dk_4 (dk_at dksX6_rule_0 4 rfl rfl)
theorem dX6_rule_5 : decode cX6_rule 5 = .ok (.if_icmp .ne 10, 3) := dk_160 0 10 (dk_at dksX6_rule_0 5 rfl rfl)
theorem dX6_rule_8 : decode cX6_rule 8 = .ok (.aload_n 0, 1) := dk_42 (dk_at dksX6_rule_0 8 rfl rfl)
theorem dX6_rule_9 : decode cX6_rule 9 = .ok (.getfield 17, 3) := dk_180 0 17 (dk_at dksX6_rule_0 9 rfl rfl)
theorem dX6_rule_12 : decode cX6_rule 12 = .ok (.goto 5, 3) := dk_167 0 5 (dk_at dksX6_rule_0 12 rfl rfl)
theorem dX6_rule_15 : decode cX6_rule 15 = .ok (.ldc 15, 2) := dk_18 15 (dk_at dksX6_rule_0 15 rfl rfl)
theorem dX6_rule_17 : decode cX6_rule 17 = .ok (.astore_n 2, 1) := dk_77 (dk_at dksX6_rule_0 17 rfl rfl)
theorem dX6_rule_18 : decode cX6_rule 18 = .ok (.aload_n 0, 1) := dk_42 (dk_at dksX6_rule_0 18 rfl rfl)
theorem dX6_rule_19 : decode cX6_rule 19 = .ok (.aload_n 2, 1) := dk_44 (dk_at dksX6_rule_0 19 rfl rfl)
theorem dX6_rule_20 : decode cX6_rule 20 = .ok (.ldc 119, 2) := dk_18 119 (dk_at dksX6_rule_0 20 rfl rfl)
theorem dX6_rule_22 : decode cX6_rule 22 = .ok (.invokevirtual 86, 3) := dk_182 0 86 (dk_at dksX6_rule_1 0 rfl rfl)
theorem dX6_rule_25 : decode cX6_rule 25 = .ok (.ifCond .ne 48, 3) := dk_154 0 48 (dk_at dksX6_rule_1 3 rfl rfl)
theorem dX6_rule_28 : decode cX6_rule 28 = .ok (.aload_n 2, 1) := dk_44 (dk_at dksX6_rule_1 6 rfl rfl)
theorem dX6_rule_29 : decode cX6_rule 29 = .ok (.ldc 121, 2) := dk_18 121 (dk_at dksX6_rule_1 7 rfl rfl)
theorem dX6_rule_31 : decode cX6_rule 31 = .ok (.invokevirtual 86, 3) := dk_182 0 86 (dk_at dksX6_rule_1 9 rfl rfl)
theorem dX6_rule_34 : decode cX6_rule 34 = .ok (.ifCond .ne 39, 3) := dk_154 0 39 (dk_at dksX6_rule_1 12 rfl rfl)
theorem dX6_rule_37 : decode cX6_rule 37 = .ok (.aload_n 2, 1) := dk_44 (dk_at dksX6_rule_1 15 rfl rfl)
theorem dX6_rule_38 : decode cX6_rule 38 = .ok (.ldc 123, 2) := dk_18 123 (dk_at dksX6_rule_1 16 rfl rfl)
theorem dX6_rule_40 : decode cX6_rule 40 = .ok (.invokevirtual 86, 3) := dk_182 0 86 (dk_at dksX6_rule_1 18 rfl rfl)
theorem dX6_rule_43 : decode cX6_rule 43 = .ok (.ifCond .ne 30, 3) := dk_154 0 30 (dk_at dksX6_rule_1 21 rfl rfl)
theorem dX6_rule_46 : decode cX6_rule 46 = .ok (.aload_n 2, 1) := dk_44 (dk_at dksX6_rule_2 0 rfl rfl)
theorem dX6_rule_47 : decode cX6_rule 47 = .ok (.ldc 125, 2) := dk_18 125 (dk_at dksX6_rule_2 1 rfl rfl)
theorem dX6_rule_49 : decode cX6_rule 49 = .ok (.invokevirtual 86, 3) := dk_182 0 86 (dk_at dksX6_rule_2 3 rfl rfl)
theorem dX6_rule_52 : decode cX6_rule 52 = .ok (.ifCond .ne 21, 3) := dk_154 0 21 (dk_at dksX6_rule_2 6 rfl rfl)
theorem dX6_rule_55 : decode cX6_rule 55 = .ok (.aload_n 2, 1) := dk_44 (dk_at dksX6_rule_2 9 rfl rfl)
theorem dX6_rule_56 : decode cX6_rule 56 = .ok (.ldc 127, 2) := dk_18 127 (dk_at dksX6_rule_2 10 rfl rfl)
theorem dX6_rule_58 : decode cX6_rule 58 = .ok (.invokevirtual 86, 3) := dk_182 0 86 (dk_at dksX6_rule_2 12 rfl rfl)
theorem dX6_rule_61 : decode cX6_rule 61 = .ok (.ifCond .ne 12, 3) := dk_154 0 12 (dk_at dksX6_rule_2 15 rfl rfl)
theorem dX6_rule_64 : decode cX6_rule 64 = .ok (.aload_n 2, 1) := dk_44 (dk_at dksX6_rule_2 18 rfl rfl)
theorem dX6_rule_65 : decode cX6_rule 65 = .ok (.ldc 129, 2) := dk_18 129 (dk_at dksX6_rule_2 19 rfl rfl)
theorem dX6_rule_67 : decode cX6_rule 67 = .ok (.invokevirtual 86, 3) := dk_182 0 86 (dk_at dksX6_rule_2 21 rfl rfl)
theorem dX6_rule_70 : decode cX6_rule 70 = .ok (.ifCond .eq 7, 3) := dk_153 0 7 (dk_at dksX6_rule_3 0 rfl rfl)
theorem dX6_rule_73 : decode cX6_rule 73 = .ok (.iconst 1, 1) := dk_4 (dk_at dksX6_rule_3 3 rfl rfl)
theorem dX6_rule_74 : decode cX6_rule 74 = .ok (.goto 4, 3) := dk_167 0 4 (dk_at dksX6_rule_3 4 rfl rfl)
theorem dX6_rule_77 : decode cX6_rule 77 = .ok (.iconst 0, 1) := dk_3 (dk_at dksX6_rule_3 7 rfl rfl)
theorem dX6_rule_78 : decode cX6_rule 78 = .ok (.iconst 1, 1) := dk_4 (dk_at dksX6_rule_3 8 rfl rfl)
theorem dX6_rule_79 : decode cX6_rule 79 = .ok (.invokevirtual 92, 3) := dk_182 0 92 (dk_at dksX6_rule_3 9 rfl rfl)
theorem dX6_rule_82 : decode cX6_rule 82 = .ok (.aload_n 0, 1) := dk_42 (dk_at dksX6_rule_3 12 rfl rfl)
theorem dX6_rule_83 : decode cX6_rule 83 = .ok (.invokevirtual 96, 3) := dk_182 0 96 (dk_at dksX6_rule_3 13 rfl rfl)
theorem dX6_rule_86 : decode cX6_rule 86 = .ok (.aload_n 0, 1) := dk_42 (dk_at dksX6_rule_3 16 rfl rfl)
theorem dX6_rule_87 : decode cX6_rule 87 = .ok (.dup, 1) := dk_89 (dk_at dksX6_rule_3 17 rfl rfl)
theorem dX6_rule_88 : decode cX6_rule 88 = .ok (.getfield 131, 3) := dk_180 0 131 (dk_at dksX6_rule_3 18 rfl rfl)
theorem dX6_rule_91 : decode cX6_rule 91 = .ok (.iconst 1, 1) := dk_4 (dk_at dksX6_rule_3 21 rfl rfl)
theorem dX6_rule_92 : decode cX6_rule 92 = .ok (.iadd, 1) := dk_96 (dk_at dksX6_rule_3 22 rfl rfl)
theorem dX6_rule_93 : decode cX6_rule 93 = .ok (.putfield 131, 3) := dk_181 0 131 (dk_at dksX6_rule_4 0 rfl rfl)
theorem dX6_rule_96 : decode cX6_rule 96 = .ok (.aload_n 2, 1) := dk_44 (dk_at dksX6_rule_4 3 rfl rfl)
theorem dX6_rule_97 : decode cX6_rule 97 = .ok (.ldc 119, 2) := dk_18 119 (dk_at dksX6_rule_4 4 rfl rfl)
theorem dX6_rule_99 : decode cX6_rule 99 = .ok (.invokevirtual 86, 3) := dk_182 0 86 (dk_at dksX6_rule_4 6 rfl rfl)
theorem dX6_rule_102 : decode cX6_rule 102 = .ok (.ifCond .eq 16, 3) := dk_153 0 16 (dk_at dksX6_rule_4 9 rfl rfl)
theorem dX6_rule_105 : decode cX6_rule 105 = .ok (.aload_n 1, 1) := dk_43 (dk_at dksX6_rule_4 12 rfl rfl)
theorem dX6_rule_106 : decode cX6_rule 106 = .ok (.aload_n 0, 1) := dk_42 (dk_at dksX6_rule_4 13 rfl rfl)
theorem dX6_rule_107 : decode cX6_rule 107 = .ok (.bipush 8, 2) := dk_16 8 (dk_at dksX6_rule_4 14 rfl rfl)
theorem dX6_rule_109 : decode cX6_rule 109 = .ok (.invokevirtual 112, 3) := dk_182 0 112 (dk_at dksX6_rule_4 16 rfl rfl)
theorem dX6_rule_112 : decode cX6_rule 112 = .ok (.putfield 134, 3) := dk_181 0 134 (dk_at dksX6_rule_4 19 rfl rfl)
theorem dX6_rule_115 : decode cX6_rule 115 = .ok (.goto 123, 3) := dk_167 0 123 (dk_at dksX6_rule_5 0 rfl rfl)
theorem dX6_rule_118 : decode cX6_rule 118 = .ok (.aload_n 2, 1) := dk_44 (dk_at dksX6_rule_5 3 rfl rfl)
theorem dX6_rule_119 : decode cX6_rule 119 = .ok (.ldc 121, 2) := dk_18 121 (dk_at dksX6_rule_5 4 rfl rfl)
theorem dX6_rule_121 : decode cX6_rule 121 = .ok (.invokevirtual 86, 3) := dk_182 0 86 (dk_at dksX6_rule_5 6 rfl rfl)
theorem dX6_rule_124 : decode cX6_rule 124 = .ok (.ifCond .eq 16, 3) := dk_153 0 16 (dk_at dksX6_rule_5 9 rfl rfl)
theorem dX6_rule_127 : decode cX6_rule 127 = .ok (.aload_n 1, 1) := dk_43 (dk_at dksX6_rule_5 12 rfl rfl)
theorem dX6_rule_128 : decode cX6_rule 128 = .ok (.aload_n 0, 1) := dk_42 (dk_at dksX6_rule_5 13 rfl rfl)
theorem dX6_rule_129 : decode cX6_rule 129 = .ok (.bipush 50, 2) := dk_16 50 (dk_at dksX6_rule_5 14 rfl rfl)
theorem dX6_rule_131 : decode cX6_rule 131 = .ok (.invokevirtual 112, 3) := dk_182 0 112 (dk_at dksX6_rule_5 16 rfl rfl)
theorem dX6_rule_134 : decode cX6_rule 134 = .ok (.putfield 136, 3) := dk_181 0 136 (dk_at dksX6_rule_5 19 rfl rfl)
theorem dX6_rule_137 : decode cX6_rule 137 = .ok (.goto 101, 3) := dk_167 0 101 (dk_at dksX6_rule_6 0 rfl rfl)
theorem dX6_rule_140 : decode cX6_rule 140 = .ok (.aload_n 2, 1) := dk_44 (dk_at dksX6_rule_6 3 rfl rfl)
theorem dX6_rule_141 : decode cX6_rule 141 = .ok (.ldc 123, 2) := dk_18 123 (dk_at dksX6_rule_6 4 rfl rfl)
theorem dX6_rule_143 : decode cX6_rule 143 = .ok (.invokevirtual 86, 3) := dk_182 0 86 (dk_at dksX6_rule_6 6 rfl rfl)
theorem dX6_rule_146 : decode cX6_rule 146 = .ok (.ifCond .eq 24, 3) := dk_153 0 24 (dk_at dksX6_rule_6 9 rfl rfl)
theorem dX6_rule_149 : decode cX6_rule 149 = .ok (.aload_n 0, 1) := dk_42 (dk_at dksX6_rule_6 12 rfl rfl)
theorem dX6_rule_150 : decode cX6_rule 150 = .ok (.invokevirtual 138, 3) := dk_182 0 138 (dk_at dksX6_rule_6 13 rfl rfl)
theorem dX6_rule_153 : decode cX6_rule 153 = .ok (.istore_n 3, 1) := dk_62 (dk_at dksX6_rule_6 16 rfl rfl)
theorem dX6_rule_154 : decode cX6_rule 154 = .ok (.aload_n 1, 1) := dk_43 (dk_at dksX6_rule_6 17 rfl rfl)
theorem dX6_rule_155 : decode cX6_rule 155 = .ok (.getfield 141, 3) := dk_180 0 141 (dk_at dksX6_rule_6 18 rfl rfl)
theorem dX6_rule_158 : decode cX6_rule 158 = .ok (.iload_n 3, 1) := dk_29 (dk_at dksX6_rule_6 21 rfl rfl)
theorem dX6_rule_159 : decode cX6_rule 159 = .ok (.aload_n 0, 1) := dk_42 (dk_at dksX6_rule_6 22 rfl rfl)
theorem dX6_rule_160 : decode cX6_rule 160 = .ok (.sipush 1000, 3) := dk_17 3 232 (dk_at dksX6_rule_7 0 rfl rfl)
theorem dX6_rule_163 : decode cX6_rule 163 = .ok (.invokevirtual 112, 3) := dk_182 0 112 (dk_at dksX6_rule_7 3 rfl rfl)
theorem dX6_rule_166 : decode cX6_rule 166 = .ok (.iastore, 1) := dk_79 (dk_at dksX6_rule_7 6 rfl rfl)
theorem dX6_rule_167 : decode cX6_rule 167 = .ok (.goto 71, 3) := dk_167 0 71 (dk_at dksX6_rule_7 7 rfl rfl)
theorem dX6_rule_170 : decode cX6_rule 170 = .ok (.aload_n 2, 1) := dk_44 (dk_at dksX6_rule_7 10 rfl rfl)
theorem dX6_rule_171 : decode cX6_rule 171 = .ok (.ldc 127, 2) := dk_18 127 (dk_at dksX6_rule_7 11 rfl rfl)
theorem dX6_rule_173 : decode cX6_rule 173 = .ok (.invokevirtual 86, 3) := dk_182 0 86 (dk_at dksX6_rule_7 13 rfl rfl)
theorem dX6_rule_176 : decode cX6_rule 176 = .ok (.ifCond .eq 26, 3) := dk_153 0 26 (dk_at dksX6_rule_7 16 rfl rfl)
theorem dX6_rule_179 : decode cX6_rule 179 = .ok (.aload_n 1, 1) := dk_43 (dk_at dksX6_rule_7 19 rfl rfl)
theorem dX6_rule_180 : decode cX6_rule 180 = .ok (.aload_n 0, 1) := dk_42 (dk_at dksX6_rule_7 20 rfl rfl)
theorem dX6_rule_181 : decode cX6_rule 181 = .ok (.bipush 60, 2) := dk_16 60 (dk_at dksX6_rule_7 21 rfl rfl)
theorem dX6_rule_183 : decode cX6_rule 183 = .ok (.invokevirtual 112, 3) := dk_182 0 112 (dk_at dksX6_rule_8 0 rfl rfl)
theorem dX6_rule_186 : decode cX6_rule 186 = .ok (.putfield 144, 3) := dk_181 0 144 (dk_at dksX6_rule_8 3 rfl rfl)
theorem dX6_rule_189 : decode cX6_rule 189 = .ok (.aload_n 1, 1) := dk_43 (dk_at dksX6_rule_8 6 rfl rfl)
theorem dX6_rule_190 : decode cX6_rule 190 = .ok (.aload_n 0, 1) := dk_42 (dk_at dksX6_rule_8 7 rfl rfl)
theorem dX6_rule_191 : decode cX6_rule 191 = .ok (.bipush 100, 2) := dk_16 100 (dk_at dksX6_rule_8 8 rfl rfl)
theorem dX6_rule_193 : decode cX6_rule 193 = .ok (.invokevirtual 112, 3) := dk_182 0 112 (dk_at dksX6_rule_8 10 rfl rfl)
theorem dX6_rule_196 : decode cX6_rule 196 = .ok (.putfield 146, 3) := dk_181 0 146 (dk_at dksX6_rule_8 13 rfl rfl)
theorem dX6_rule_199 : decode cX6_rule 199 = .ok (.goto 39, 3) := dk_167 0 39 (dk_at dksX6_rule_8 16 rfl rfl)
theorem dX6_rule_202 : decode cX6_rule 202 = .ok (.aload_n 2, 1) := dk_44 (dk_at dksX6_rule_8 19 rfl rfl)
theorem dX6_rule_203 : decode cX6_rule 203 = .ok (.ldc 129, 2) := dk_18 129 (dk_at dksX6_rule_8 20 rfl rfl)
theorem dX6_rule_205 : decode cX6_rule 205 = .ok (.invokevirtual 86, 3) := dk_182 0 86 (dk_at dksX6_rule_9 0 rfl rfl)
theorem dX6_rule_208 : decode cX6_rule 208 = .ok (.ifCond .eq 25, 3) := dk_153 0 25 (dk_at dksX6_rule_9 3 rfl rfl)
theorem dX6_rule_211 : decode cX6_rule 211 = .ok (.aload_n 0, 1) := dk_42 (dk_at dksX6_rule_9 6 rfl rfl)
theorem dX6_rule_212 : decode cX6_rule 212 = .ok (.iconst 1, 1) := dk_4 (dk_at dksX6_rule_9 7 rfl rfl)
theorem dX6_rule_213 : decode cX6_rule 213 = .ok (.invokevirtual 112, 3) := dk_182 0 112 (dk_at dksX6_rule_9 8 rfl rfl)
theorem dX6_rule_216 : decode cX6_rule 216 = .ok (.istore_n 3, 1) := dk_62 (dk_at dksX6_rule_9 11 rfl rfl)
theorem dX6_rule_217 : decode cX6_rule 217 = .ok (.aload_n 1, 1) := dk_43 (dk_at dksX6_rule_9 12 rfl rfl)
theorem dX6_rule_218 : decode cX6_rule 218 = .ok (.getfield 149, 3) := dk_180 0 149 (dk_at dksX6_rule_9 13 rfl rfl)
theorem dX6_rule_221 : decode cX6_rule 221 = .ok (.iload_n 3, 1) := dk_29 (dk_at dksX6_rule_9 16 rfl rfl)
theorem dX6_rule_222 : decode cX6_rule 222 = .ok (.aload_n 0, 1) := dk_42 (dk_at dksX6_rule_9 17 rfl rfl)
theorem dX6_rule_223 : decode cX6_rule 223 = .ok (.sipush 500, 3) := dk_17 1 244 (dk_at dksX6_rule_9 18 rfl rfl)
theorem dX6_rule_226 : decode cX6_rule 226 = .ok (.invokevirtual 112, 3) := dk_182 0 112 (dk_at dksX6_rule_9 21 rfl rfl)
theorem dX6_rule_229 : decode cX6_rule 229 = .ok (.iastore, 1) := dk_79 (dk_at dksX6_rule_10 0 rfl rfl)
theorem dX6_rule_230 : decode cX6_rule 230 = .ok (.goto 8, 3) := dk_167 0 8 (dk_at dksX6_rule_10 1 rfl rfl)
theorem dX6_rule_233 : decode cX6_rule 233 = .ok (.aload_n 0, 1) := dk_42 (dk_at dksX6_rule_10 4 rfl rfl)
theorem dX6_rule_234 : decode cX6_rule 234 = .ok (.aload_n 1, 1) := dk_43 (dk_at dksX6_rule_10 5 rfl rfl)
theorem dX6_rule_235 : decode cX6_rule 235 = .ok (.invokevirtual 151, 3) := dk_182 0 151 (dk_at dksX6_rule_10 6 rfl rfl)
theorem dX6_rule_238 : decode cX6_rule 238 = .ok (.return_, 1) := dk_177 (dk_at dksX6_rule_10 9 rfl rfl)
abbrev cX6_use : ByteArray := prog_14_method_8_code
def yX6_use : MethodName := ⟨RX6, "use", "()I"⟩
def dkwX6_use_1 : List UInt8 := [182, 0, 96, 27, 172]
abbrev dktX6_use_1 : List UInt8 := dkwX6_use_1 ++ []
def dkwX6_use_0 : List UInt8 := [42, 182, 0, 103, 60, 42, 27, 18, 44, 159, 0, 7, 4, 167, 0, 4, 3, 4, 182, 0, 92, 42]
abbrev dktX6_use_0 : List UInt8 := dkwX6_use_0 ++ dktX6_use_1
theorem dksX6_use_0 : cX6_use.data.toList.drop 0 = dktX6_use_0 := by decide +kernel
theorem dksX6_use_1 : cX6_use.data.toList.drop 22 = dktX6_use_1 := dk_seg dksX6_use_0 22 rfl rfl
theorem dX6_use_0 : decode cX6_use 0 = .ok (.aload_n 0, 1) := dk_42 (dk_at dksX6_use_0 0 rfl rfl)
theorem dX6_use_1 : decode cX6_use 1 = .ok (.invokevirtual 103, 3) := dk_182 0 103 (dk_at dksX6_use_0 1 rfl rfl)
theorem dX6_use_4 : decode cX6_use 4 = .ok (.istore_n 1, 1) := dk_60 (dk_at dksX6_use_0 4 rfl rfl)
theorem dX6_use_5 : decode cX6_use 5 = .ok (.aload_n 0, 1) := dk_42 (dk_at dksX6_use_0 5 rfl rfl)
theorem dX6_use_6 : decode cX6_use 6 = .ok (.iload_n 1, 1) := dk_27 (dk_at dksX6_use_0 6 rfl rfl)
theorem dX6_use_7 : decode cX6_use 7 = .ok (.ldc 44, 2) := dk_18 44 (dk_at dksX6_use_0 7 rfl rfl)
theorem dX6_use_9 : decode cX6_use 9 = .ok (.if_icmp .eq 7, 3) := dk_159 0 7 (dk_at dksX6_use_0 9 rfl rfl)
theorem dX6_use_12 : decode cX6_use 12 = .ok (.iconst 1, 1) := dk_4 (dk_at dksX6_use_0 12 rfl rfl)
theorem dX6_use_13 : decode cX6_use 13 = .ok (.goto 4, 3) := dk_167 0 4 (dk_at dksX6_use_0 13 rfl rfl)
theorem dX6_use_16 : decode cX6_use 16 = .ok (.iconst 0, 1) := dk_3 (dk_at dksX6_use_0 16 rfl rfl)
theorem dX6_use_17 : decode cX6_use 17 = .ok (.iconst 1, 1) := dk_4 (dk_at dksX6_use_0 17 rfl rfl)
theorem dX6_use_18 : decode cX6_use 18 = .ok (.invokevirtual 92, 3) := dk_182 0 92 (dk_at dksX6_use_0 18 rfl rfl)
theorem dX6_use_21 : decode cX6_use 21 = .ok (.aload_n 0, 1) := dk_42 (dk_at dksX6_use_0 21 rfl rfl)
theorem dX6_use_22 : decode cX6_use 22 = .ok (.invokevirtual 96, 3) := dk_182 0 96 (dk_at dksX6_use_1 0 rfl rfl)
theorem dX6_use_25 : decode cX6_use 25 = .ok (.iload_n 1, 1) := dk_27 (dk_at dksX6_use_1 3 rfl rfl)
theorem dX6_use_26 : decode cX6_use 26 = .ok (.ireturn, 1) := dk_172 (dk_at dksX6_use_1 4 rfl rfl)
abbrev cX6_useHere : ByteArray := prog_14_method_7_code
def yX6_useHere : MethodName := ⟨RX6, "useHere", "()I"⟩
def dkwX6_useHere_1 : List UInt8 := [182, 0, 86, 153, 0, 5, 27, 172, 132, 1, 1, 167, 255, 223, 18, 44, 172]
abbrev dktX6_useHere_1 : List UInt8 := dkwX6_useHere_1 ++ []
def dkwX6_useHere_0 : List UInt8 := [3, 60, 42, 180, 0, 52, 4, 160, 0, 31, 27, 8, 162, 0, 26, 42, 180, 0, 17, 178, 0, 99, 27, 50]
abbrev dktX6_useHere_0 : List UInt8 := dkwX6_useHere_0 ++ dktX6_useHere_1
theorem dksX6_useHere_0 : cX6_useHere.data.toList.drop 0 = dktX6_useHere_0 := by decide +kernel
theorem dksX6_useHere_1 : cX6_useHere.data.toList.drop 24 = dktX6_useHere_1 := dk_seg dksX6_useHere_0 24 rfl rfl
theorem dX6_useHere_0 : decode cX6_useHere 0 = .ok (.iconst 0, 1) := dk_3 (dk_at dksX6_useHere_0 0 rfl rfl)
theorem dX6_useHere_1 : decode cX6_useHere 1 = .ok (.istore_n 1, 1) := dk_60 (dk_at dksX6_useHere_0 1 rfl rfl)
theorem dX6_useHere_2 : decode cX6_useHere 2 = .ok (.aload_n 0, 1) := dk_42 (dk_at dksX6_useHere_0 2 rfl rfl)
theorem dX6_useHere_3 : decode cX6_useHere 3 = .ok (.getfield 52, 3) := dk_180 0 52 (dk_at dksX6_useHere_0 3 rfl rfl)
theorem dX6_useHere_6 : decode cX6_useHere 6 = .ok (.iconst 1, 1) := dk_4 (dk_at dksX6_useHere_0 6 rfl rfl)
theorem dX6_useHere_7 : decode cX6_useHere 7 = .ok (.if_icmp .ne 31, 3) := dk_160 0 31 (dk_at dksX6_useHere_0 7 rfl rfl)
theorem dX6_useHere_10 : decode cX6_useHere 10 = .ok (.iload_n 1, 1) := dk_27 (dk_at dksX6_useHere_0 10 rfl rfl)
theorem dX6_useHere_11 : decode cX6_useHere 11 = .ok (.iconst 5, 1) := dk_8 (dk_at dksX6_useHere_0 11 rfl rfl)
theorem dX6_useHere_12 : decode cX6_useHere 12 = .ok (.if_icmp .ge 26, 3) := dk_162 0 26 (dk_at dksX6_useHere_0 12 rfl rfl)
theorem dX6_useHere_15 : decode cX6_useHere 15 = .ok (.aload_n 0, 1) := dk_42 (dk_at dksX6_useHere_0 15 rfl rfl)
theorem dX6_useHere_16 : decode cX6_useHere 16 = .ok (.getfield 17, 3) := dk_180 0 17 (dk_at dksX6_useHere_0 16 rfl rfl)
theorem dX6_useHere_19 : decode cX6_useHere 19 = .ok (.getstatic 99, 3) := dk_178 0 99 (dk_at dksX6_useHere_0 19 rfl rfl)
theorem dX6_useHere_22 : decode cX6_useHere 22 = .ok (.iload_n 1, 1) := dk_27 (dk_at dksX6_useHere_0 22 rfl rfl)
theorem dX6_useHere_23 : decode cX6_useHere 23 = .ok (.aaload, 1) := dk_50 (dk_at dksX6_useHere_0 23 rfl rfl)
theorem dX6_useHere_24 : decode cX6_useHere 24 = .ok (.invokevirtual 86, 3) := dk_182 0 86 (dk_at dksX6_useHere_1 0 rfl rfl)
theorem dX6_useHere_27 : decode cX6_useHere 27 = .ok (.ifCond .eq 5, 3) := dk_153 0 5 (dk_at dksX6_useHere_1 3 rfl rfl)
theorem dX6_useHere_30 : decode cX6_useHere 30 = .ok (.iload_n 1, 1) := dk_27 (dk_at dksX6_useHere_1 6 rfl rfl)
theorem dX6_useHere_31 : decode cX6_useHere 31 = .ok (.ireturn, 1) := dk_172 (dk_at dksX6_useHere_1 7 rfl rfl)
theorem dX6_useHere_32 : decode cX6_useHere 32 = .ok (.iinc 1 1, 3) := dk_132 1 1 (dk_at dksX6_useHere_1 8 rfl rfl)
theorem dX6_useHere_35 : decode cX6_useHere 35 = .ok (.goto (-33), 3) := dk_167 255 223 (dk_at dksX6_useHere_1 11 rfl rfl)
theorem dX6_useHere_38 : decode cX6_useHere 38 = .ok (.ldc 44, 2) := dk_18 44 (dk_at dksX6_useHere_1 14 rfl rfl)
theorem dX6_useHere_40 : decode cX6_useHere 40 = .ok (.ireturn, 1) := dk_172 (dk_at dksX6_useHere_1 16 rfl rfl)
abbrev cX6_first : ByteArray := prog_14_method_11_code
def yX6_first : MethodName := ⟨RX6, "first", "(LVillageHalls$Hall;)V"⟩
def dkwX6_first_3 : List UInt8 := [29, 132, 3, 1, 42, 182, 0, 138, 79, 167, 255, 204, 43, 44, 29, 182, 0, 153, 177]
abbrev dktX6_first_3 : List UInt8 := dkwX6_first_3 ++ []
def dkwX6_first_2 : List UInt8 := [154, 0, 7, 4, 167, 0, 4, 3, 6, 182, 0, 92, 21, 4, 4, 42, 182, 0, 103, 120, 128, 54, 4, 44]
abbrev dktX6_first_2 : List UInt8 := dkwX6_first_2 ++ dktX6_first_3
def dkwX6_first_1 : List UInt8 := [4, 182, 0, 92, 42, 182, 0, 103, 18, 44, 159, 0, 49, 42, 21, 4, 42, 182, 0, 103, 122, 4, 126]
abbrev dktX6_first_1 : List UInt8 := dkwX6_first_1 ++ dktX6_first_2
def dkwX6_first_0 : List UInt8 := [8, 188, 10, 77, 3, 62, 3, 54, 4, 42, 42, 182, 0, 103, 18, 44, 159, 0, 7, 4, 167, 0, 4, 3]
abbrev dktX6_first_0 : List UInt8 := dkwX6_first_0 ++ dktX6_first_1
theorem dksX6_first_0 : cX6_first.data.toList.drop 0 = dktX6_first_0 := by decide +kernel
theorem dksX6_first_1 : cX6_first.data.toList.drop 24 = dktX6_first_1 := dk_seg dksX6_first_0 24 rfl rfl
theorem dksX6_first_2 : cX6_first.data.toList.drop 47 = dktX6_first_2 := dk_seg dksX6_first_1 23 rfl rfl
theorem dksX6_first_3 : cX6_first.data.toList.drop 71 = dktX6_first_3 := dk_seg dksX6_first_2 24 rfl rfl
theorem dX6_first_0 : decode cX6_first 0 = .ok (.iconst 5, 1) := dk_8 (dk_at dksX6_first_0 0 rfl rfl)
theorem dX6_first_1 : decode cX6_first 1 = .ok (.newarray .int, 2) := dk_188_10 (dk_at dksX6_first_0 1 rfl rfl)
theorem dX6_first_3 : decode cX6_first 3 = .ok (.astore_n 2, 1) := dk_77 (dk_at dksX6_first_0 3 rfl rfl)
theorem dX6_first_4 : decode cX6_first 4 = .ok (.iconst 0, 1) := dk_3 (dk_at dksX6_first_0 4 rfl rfl)
theorem dX6_first_5 : decode cX6_first 5 = .ok (.istore_n 3, 1) := dk_62 (dk_at dksX6_first_0 5 rfl rfl)
theorem dX6_first_6 : decode cX6_first 6 = .ok (.iconst 0, 1) := dk_3 (dk_at dksX6_first_0 6 rfl rfl)
theorem dX6_first_7 : decode cX6_first 7 = .ok (.istore 4, 2) := dk_54 4 (dk_at dksX6_first_0 7 rfl rfl)
theorem dX6_first_9 : decode cX6_first 9 = .ok (.aload_n 0, 1) := dk_42 (dk_at dksX6_first_0 9 rfl rfl)
theorem dX6_first_10 : decode cX6_first 10 = .ok (.aload_n 0, 1) := dk_42 (dk_at dksX6_first_0 10 rfl rfl)
theorem dX6_first_11 : decode cX6_first 11 = .ok (.invokevirtual 103, 3) := dk_182 0 103 (dk_at dksX6_first_0 11 rfl rfl)
theorem dX6_first_14 : decode cX6_first 14 = .ok (.ldc 44, 2) := dk_18 44 (dk_at dksX6_first_0 14 rfl rfl)
theorem dX6_first_16 : decode cX6_first 16 = .ok (.if_icmp .eq 7, 3) := dk_159 0 7 (dk_at dksX6_first_0 16 rfl rfl)
theorem dX6_first_19 : decode cX6_first 19 = .ok (.iconst 1, 1) := dk_4 (dk_at dksX6_first_0 19 rfl rfl)
theorem dX6_first_20 : decode cX6_first 20 = .ok (.goto 4, 3) := dk_167 0 4 (dk_at dksX6_first_0 20 rfl rfl)
theorem dX6_first_23 : decode cX6_first 23 = .ok (.iconst 0, 1) := dk_3 (dk_at dksX6_first_0 23 rfl rfl)
theorem dX6_first_24 : decode cX6_first 24 = .ok (.iconst 1, 1) := dk_4 (dk_at dksX6_first_1 0 rfl rfl)
theorem dX6_first_25 : decode cX6_first 25 = .ok (.invokevirtual 92, 3) := dk_182 0 92 (dk_at dksX6_first_1 1 rfl rfl)
theorem dX6_first_28 : decode cX6_first 28 = .ok (.aload_n 0, 1) := dk_42 (dk_at dksX6_first_1 4 rfl rfl)
theorem dX6_first_29 : decode cX6_first 29 = .ok (.invokevirtual 103, 3) := dk_182 0 103 (dk_at dksX6_first_1 5 rfl rfl)
theorem dX6_first_32 : decode cX6_first 32 = .ok (.ldc 44, 2) := dk_18 44 (dk_at dksX6_first_1 8 rfl rfl)
theorem dX6_first_34 : decode cX6_first 34 = .ok (.if_icmp .eq 49, 3) := dk_159 0 49 (dk_at dksX6_first_1 10 rfl rfl)
theorem dX6_first_37 : decode cX6_first 37 = .ok (.aload_n 0, 1) := dk_42 (dk_at dksX6_first_1 13 rfl rfl)
theorem dX6_first_38 : decode cX6_first 38 = .ok (.iload 4, 2) := dk_21 4 (dk_at dksX6_first_1 14 rfl rfl)
theorem dX6_first_40 : decode cX6_first 40 = .ok (.aload_n 0, 1) := dk_42 (dk_at dksX6_first_1 16 rfl rfl)
theorem dX6_first_41 : decode cX6_first 41 = .ok (.invokevirtual 103, 3) := dk_182 0 103 (dk_at dksX6_first_1 17 rfl rfl)
theorem dX6_first_44 : decode cX6_first 44 = .ok (.ishr, 1) := dk_122 (dk_at dksX6_first_1 20 rfl rfl)
theorem dX6_first_45 : decode cX6_first 45 = .ok (.iconst 1, 1) := dk_4 (dk_at dksX6_first_1 21 rfl rfl)
theorem dX6_first_46 : decode cX6_first 46 = .ok (.iand, 1) := dk_126 (dk_at dksX6_first_1 22 rfl rfl)
theorem dX6_first_47 : decode cX6_first 47 = .ok (.ifCond .ne 7, 3) := dk_154 0 7 (dk_at dksX6_first_2 0 rfl rfl)
theorem dX6_first_50 : decode cX6_first 50 = .ok (.iconst 1, 1) := dk_4 (dk_at dksX6_first_2 3 rfl rfl)
theorem dX6_first_51 : decode cX6_first 51 = .ok (.goto 4, 3) := dk_167 0 4 (dk_at dksX6_first_2 4 rfl rfl)
theorem dX6_first_54 : decode cX6_first 54 = .ok (.iconst 0, 1) := dk_3 (dk_at dksX6_first_2 7 rfl rfl)
theorem dX6_first_55 : decode cX6_first 55 = .ok (.iconst 3, 1) := dk_6 (dk_at dksX6_first_2 8 rfl rfl)
theorem dX6_first_56 : decode cX6_first 56 = .ok (.invokevirtual 92, 3) := dk_182 0 92 (dk_at dksX6_first_2 9 rfl rfl)
theorem dX6_first_59 : decode cX6_first 59 = .ok (.iload 4, 2) := dk_21 4 (dk_at dksX6_first_2 12 rfl rfl)
theorem dX6_first_61 : decode cX6_first 61 = .ok (.iconst 1, 1) := dk_4 (dk_at dksX6_first_2 14 rfl rfl)
theorem dX6_first_62 : decode cX6_first 62 = .ok (.aload_n 0, 1) := dk_42 (dk_at dksX6_first_2 15 rfl rfl)
theorem dX6_first_63 : decode cX6_first 63 = .ok (.invokevirtual 103, 3) := dk_182 0 103 (dk_at dksX6_first_2 16 rfl rfl)
theorem dX6_first_66 : decode cX6_first 66 = .ok (.ishl, 1) := dk_120 (dk_at dksX6_first_2 19 rfl rfl)
theorem dX6_first_67 : decode cX6_first 67 = .ok (.ior, 1) := dk_128 (dk_at dksX6_first_2 20 rfl rfl)
theorem dX6_first_68 : decode cX6_first 68 = .ok (.istore 4, 2) := dk_54 4 (dk_at dksX6_first_2 21 rfl rfl)
theorem dX6_first_70 : decode cX6_first 70 = .ok (.aload_n 2, 1) := dk_44 (dk_at dksX6_first_2 23 rfl rfl)
theorem dX6_first_71 : decode cX6_first 71 = .ok (.iload_n 3, 1) := dk_29 (dk_at dksX6_first_3 0 rfl rfl)
theorem dX6_first_72 : decode cX6_first 72 = .ok (.iinc 3 1, 3) := dk_132 3 1 (dk_at dksX6_first_3 1 rfl rfl)
theorem dX6_first_75 : decode cX6_first 75 = .ok (.aload_n 0, 1) := dk_42 (dk_at dksX6_first_3 4 rfl rfl)
theorem dX6_first_76 : decode cX6_first 76 = .ok (.invokevirtual 138, 3) := dk_182 0 138 (dk_at dksX6_first_3 5 rfl rfl)
theorem dX6_first_79 : decode cX6_first 79 = .ok (.iastore, 1) := dk_79 (dk_at dksX6_first_3 8 rfl rfl)
theorem dX6_first_80 : decode cX6_first 80 = .ok (.goto (-52), 3) := dk_167 255 204 (dk_at dksX6_first_3 9 rfl rfl)
theorem dX6_first_83 : decode cX6_first 83 = .ok (.aload_n 1, 1) := dk_43 (dk_at dksX6_first_3 12 rfl rfl)
theorem dX6_first_84 : decode cX6_first 84 = .ok (.aload_n 2, 1) := dk_44 (dk_at dksX6_first_3 13 rfl rfl)
theorem dX6_first_85 : decode cX6_first 85 = .ok (.iload_n 3, 1) := dk_29 (dk_at dksX6_first_3 14 rfl rfl)
theorem dX6_first_86 : decode cX6_first 86 = .ok (.invokevirtual 153, 3) := dk_182 0 153 (dk_at dksX6_first_3 15 rfl rfl)
theorem dX6_first_89 : decode cX6_first 89 = .ok (.return_, 1) := dk_177 (dk_at dksX6_first_3 18 rfl rfl)
theorem q86 : (Jvm.Cond.initialized "VillageHalls$Reader") ∈ lw_all := lw_g (lw_at lw_m1 17 rfl) rfl
theorem q173 : (Jvm.Cond.fieldLinkNest "VillageHalls$Reader" (134 : Nat) "VillageHalls$Hall" "setup" "I" "VillageHalls") ∈ lw_tbl := lw_at lw_m1 104 rfl
theorem q176 : (Jvm.Cond.fieldLinkNest "VillageHalls$Reader" (136 : Nat) "VillageHalls$Hall" "licences" "I" "VillageHalls") ∈ lw_tbl := lw_at lw_m1 107 rfl
theorem q179 : (Jvm.Cond.fieldLinkNest "VillageHalls$Reader" (144 : Nat) "VillageHalls$Hall" "late" "I" "VillageHalls") ∈ lw_tbl := lw_at lw_m1 110 rfl
theorem q182 : (Jvm.Cond.fieldLinkNest "VillageHalls$Reader" (146 : Nat) "VillageHalls$Hall" "forfeit" "I" "VillageHalls") ∈ lw_tbl := lw_at lw_m1 113 rfl
theorem q186 : (Jvm.Cond.fieldLinkNest "VillageHalls$Reader" (149 : Nat) "VillageHalls$Hall" "fire" "[I" "VillageHalls") ∈ lw_tbl := lw_at lw_m1 117 rfl
theorem q189 : (Jvm.Cond.fieldLinkNest "VillageHalls$Reader" (141 : Nat) "VillageHalls$Hall" "rate" "[I" "VillageHalls") ∈ lw_tbl := lw_at lw_m1 120 rfl
theorem q209 : (Jvm.Cond.fieldLinkNest "VillageHalls$Reader" (27 : Nat) "VillageHalls" "halls" "[LVillageHalls$Hall;" "VillageHalls") ∈ lw_tbl := lw_at lw_m1 140 rfl
theorem q218 : (Jvm.Cond.fieldLinkNest "VillageHalls$Reader" (40 : Nat) "VillageHalls" "tape" "[B" "VillageHalls") ∈ lw_tbl := lw_at lw_m1 149 rfl
theorem q220 : (Jvm.Cond.fieldLinkNest "VillageHalls$Reader" (37 : Nat) "VillageHalls" "taped" "I" "VillageHalls") ∈ lw_tbl := lw_at lw_m1 151 rfl
theorem q435 : (Jvm.Cond.instantiable "VillageHalls$Reader" (8 : Nat)) ∈ lw_all := lw_g (lw_at lw_m2 126 rfl) rfl
theorem q437 : (Jvm.Cond.instanceMethod ({ cls := "VillageHalls$Reader", name := "<init>", desc := "(LVillageHalls;)V" } : Jvm.MethodName)) ∈ lw_all := lw_g (lw_at lw_m2 128 rfl) rfl
theorem q438 : (Jvm.Cond.code ({ cls := "VillageHalls$Reader", name := "<init>", desc := "(LVillageHalls;)V" } : Jvm.MethodName) prog_14_method_1_code (3 : Nat) (Option.none : Option Jvm.ClassFile.FieldType)) ∈ lw_all := lw_g (lw_at lw_m2 129 rfl) rfl
theorem q439 : (Jvm.Cond.methodLink "VillageHalls$Reader" (9 : Nat) ({ cls := "java/lang/Object", name := "<init>", desc := "()V" } : Jvm.MethodName)) ∈ lw_all := lw_g (lw_at lw_m2 130 rfl) rfl
theorem q440 : (Jvm.Cond.stringRef "VillageHalls$Reader" (15 : Nat) "") ∈ lw_tbl := lw_at lw_m2 131 rfl
theorem q441 : (Jvm.Cond.classLink "VillageHalls$Reader" (21 : Nat) "VillageHalls$Hall") ∈ lw_all := lw_g (lw_at lw_m2 132 rfl) rfl
theorem q442 : (Jvm.Cond.methodLink "VillageHalls$Reader" (30 : Nat) ({ cls := "VillageHalls$Hall", name := "<init>", desc := "(LVillageHalls$Hall;)V" } : Jvm.MethodName)) ∈ lw_all := lw_g (lw_at lw_m2 133 rfl) rfl
theorem q446 : (Jvm.Cond.fieldLink "VillageHalls$Reader" (33 : Nat) "VillageHalls$Reader" "at" "I") ∈ lw_all := lw_g (lw_at lw_m2 137 rfl) rfl
theorem q447 : (Jvm.Cond.fieldLink "VillageHalls$Reader" (52 : Nat) "VillageHalls$Reader" "token" "I") ∈ lw_all := lw_g (lw_at lw_m2 138 rfl) rfl
theorem q448 : (Jvm.Cond.fieldLink "VillageHalls$Reader" (49 : Nat) "VillageHalls$Reader" "from" "I") ∈ lw_all := lw_g (lw_at lw_m2 139 rfl) rfl
theorem q449 : (Jvm.Cond.fieldLink "VillageHalls$Reader" (78 : Nat) "VillageHalls$Reader" "number" "I") ∈ lw_all := lw_g (lw_at lw_m2 140 rfl) rfl
theorem q450 : (Jvm.Cond.fieldLink "VillageHalls$Reader" (17 : Nat) "VillageHalls$Reader" "name" "Ljava/lang/String;") ∈ lw_all := lw_g (lw_at lw_m2 141 rfl) rfl
theorem q451 : (Jvm.Cond.fieldLink "VillageHalls$Reader" (23 : Nat) "VillageHalls$Reader" "told" "[LVillageHalls$Hall;") ∈ lw_all := lw_g (lw_at lw_m2 142 rfl) rfl
theorem q453 : (Jvm.Cond.fieldLink "VillageHalls$Reader" (131 : Nat) "VillageHalls$Reader" "done" "I") ∈ lw_all := lw_g (lw_at lw_m2 144 rfl) rfl
theorem q455 : (Jvm.Cond.fieldLink "VillageHalls$Reader" (3 : Nat) "VillageHalls$Reader" "this$0" "LVillageHalls;") ∈ lw_all := lw_g (lw_at lw_m2 146 rfl) rfl
theorem q456 : (Jvm.Cond.lays "VillageHalls$Reader" "VillageHalls$Reader" "at" "I") ∈ lw_all := lw_g (lw_at lw_m2 147 rfl) rfl
theorem q457 : (Jvm.Cond.soleField "VillageHalls$Reader" "at") ∈ lw_all := lw_g (lw_at lw_m2 148 rfl) rfl
theorem q458 : (Jvm.Cond.lays "VillageHalls$Reader" "VillageHalls$Reader" "token" "I") ∈ lw_all := lw_g (lw_at lw_m2 149 rfl) rfl
theorem q459 : (Jvm.Cond.soleField "VillageHalls$Reader" "token") ∈ lw_all := lw_g (lw_at lw_m2 150 rfl) rfl
theorem q460 : (Jvm.Cond.lays "VillageHalls$Reader" "VillageHalls$Reader" "from" "I") ∈ lw_all := lw_g (lw_at lw_m2 151 rfl) rfl
theorem q461 : (Jvm.Cond.soleField "VillageHalls$Reader" "from") ∈ lw_all := lw_g (lw_at lw_m2 152 rfl) rfl
theorem q462 : (Jvm.Cond.lays "VillageHalls$Reader" "VillageHalls$Reader" "number" "I") ∈ lw_all := lw_g (lw_at lw_m2 153 rfl) rfl
theorem q463 : (Jvm.Cond.soleField "VillageHalls$Reader" "number") ∈ lw_all := lw_g (lw_at lw_m2 154 rfl) rfl
theorem q464 : (Jvm.Cond.lays "VillageHalls$Reader" "VillageHalls$Reader" "name" "Ljava/lang/String;") ∈ lw_all := lw_g (lw_at lw_m2 155 rfl) rfl
theorem q465 : (Jvm.Cond.soleField "VillageHalls$Reader" "name") ∈ lw_all := lw_g (lw_at lw_m2 156 rfl) rfl
theorem q466 : (Jvm.Cond.laysFinal "VillageHalls$Reader" "VillageHalls$Reader" "told" "[LVillageHalls$Hall;") ∈ lw_all := lw_g (lw_at lw_m2 157 rfl) rfl
theorem q467 : (Jvm.Cond.soleField "VillageHalls$Reader" "told") ∈ lw_all := lw_g (lw_at lw_m2 158 rfl) rfl
theorem q468 : (Jvm.Cond.lays "VillageHalls$Reader" "VillageHalls$Reader" "done" "I") ∈ lw_all := lw_g (lw_at lw_m2 159 rfl) rfl
theorem q469 : (Jvm.Cond.soleField "VillageHalls$Reader" "done") ∈ lw_all := lw_g (lw_at lw_m2 160 rfl) rfl
theorem q470 : (Jvm.Cond.laysFinal "VillageHalls$Reader" "VillageHalls$Reader" "this$0" "LVillageHalls;") ∈ lw_all := lw_g (lw_at lw_m2 161 rfl) rfl
theorem q471 : (Jvm.Cond.soleField "VillageHalls$Reader" "this$0") ∈ lw_all := lw_g (lw_at lw_m2 162 rfl) rfl
theorem q472 : (Jvm.Cond.superclass "VillageHalls$Reader" "java/lang/Object") ∈ lw_all := lw_g (lw_at lw_m2 163 rfl) rfl
theorem q474 : (Jvm.Cond.instanceMethod ({ cls := "VillageHalls$Reader", name := "all", desc := "()V" } : Jvm.MethodName)) ∈ lw_all := lw_g (lw_at lw_m2 165 rfl) rfl
theorem q475 : (Jvm.Cond.selects "VillageHalls$Reader" ({ cls := "VillageHalls$Reader", name := "all", desc := "()V" } : Jvm.MethodName) ({ cls := "VillageHalls$Reader", name := "all", desc := "()V" } : Jvm.MethodName)) ∈ lw_all := lw_g (lw_at lw_m2 166 rfl) rfl
theorem q476 : (Jvm.Cond.code ({ cls := "VillageHalls$Reader", name := "all", desc := "()V" } : Jvm.MethodName) prog_14_method_9_code (2 : Nat) (Option.none : Option Jvm.ClassFile.FieldType)) ∈ lw_all := lw_g (lw_at lw_m2 167 rfl) rfl
theorem q477 : (Jvm.Cond.methodLink "VillageHalls$Reader" (96 : Nat) ({ cls := "VillageHalls$Reader", name := "next", desc := "()V" } : Jvm.MethodName)) ∈ lw_all := lw_g (lw_at lw_m2 168 rfl) rfl
theorem q478 : (Jvm.Cond.privateMethod ({ cls := "VillageHalls$Reader", name := "next", desc := "()V" } : Jvm.MethodName)) ∈ lw_tbl := lw_at lw_m2 169 rfl
theorem q479 : (Jvm.Cond.instanceMethod ({ cls := "VillageHalls$Reader", name := "next", desc := "()V" } : Jvm.MethodName)) ∈ lw_all := lw_g (lw_at lw_m2 170 rfl) rfl
theorem q480 : (Jvm.Cond.code ({ cls := "VillageHalls$Reader", name := "next", desc := "()V" } : Jvm.MethodName) prog_14_method_3_code (3 : Nat) (Option.none : Option Jvm.ClassFile.FieldType)) ∈ lw_all := lw_g (lw_at lw_m2 171 rfl) rfl
theorem q481 : (Jvm.Cond.methodLink "VillageHalls$Reader" (45 : Nat) ({ cls := "VillageHalls$Reader", name := "look", desc := "()I" } : Jvm.MethodName)) ∈ lw_all := lw_g (lw_at lw_m2 172 rfl) rfl
theorem q482 : (Jvm.Cond.privateMethod ({ cls := "VillageHalls$Reader", name := "look", desc := "()I" } : Jvm.MethodName)) ∈ lw_tbl := lw_at lw_m2 173 rfl
theorem q483 : (Jvm.Cond.instanceMethod ({ cls := "VillageHalls$Reader", name := "look", desc := "()I" } : Jvm.MethodName)) ∈ lw_all := lw_g (lw_at lw_m2 174 rfl) rfl
theorem q484 : (Jvm.Cond.code ({ cls := "VillageHalls$Reader", name := "look", desc := "()I" } : Jvm.MethodName) prog_14_method_2_code (1 : Nat) (Option.some Jvm.ClassFile.FieldType.int)) ∈ lw_all := lw_g (lw_at lw_m2 175 rfl) rfl
theorem q485 : (Jvm.Cond.constant "VillageHalls$Reader" (44 : Nat) (-1000000 : Int32)) ∈ lw_all := lw_g (lw_at lw_m2 176 rfl) rfl
theorem q486 : (Jvm.Cond.constantLong "VillageHalls$Reader" (55 : Nat) (97 : Int64)) ∈ lw_all := lw_g (lw_at lw_m2 177 rfl) rfl
theorem q487 : (Jvm.Cond.constantLong "VillageHalls$Reader" (57 : Nat) (122 : Int64)) ∈ lw_all := lw_g (lw_at lw_m2 178 rfl) rfl
theorem q488 : (Jvm.Cond.methodLinkNest "VillageHalls$Reader" (59 : Nat) ({ cls := "VillageHalls", name := "isIn", desc := "(JJJ)Z" } : Jvm.MethodName) "VillageHalls") ∈ lw_tbl := lw_at lw_m2 179 rfl
theorem q489 : (Jvm.Cond.classLink "VillageHalls$Reader" (63 : Nat) "java/lang/StringBuilder") ∈ lw_all := lw_g (lw_at lw_m2 180 rfl) rfl
theorem q491 : (Jvm.Cond.methodLink "VillageHalls$Reader" (65 : Nat) ({ cls := "java/lang/StringBuilder", name := "<init>", desc := "()V" } : Jvm.MethodName)) ∈ lw_all := lw_g (lw_at lw_m2 182 rfl) rfl
theorem q520 : (Jvm.Cond.methodLink "VillageHalls$Reader" (66 : Nat) ({ cls := "java/lang/StringBuilder", name := "append", desc := "(C)Ljava/lang/StringBuilder;" } : Jvm.MethodName)) ∈ lw_all := lw_g (lw_at lw_m2 211 rfl) rfl
theorem q613 : (Jvm.Cond.methodLink "VillageHalls$Reader" (70 : Nat) ({ cls := "java/lang/StringBuilder", name := "toString", desc := "()Ljava/lang/String;" } : Jvm.MethodName)) ∈ lw_all := lw_g (lw_at lw_m3 64 rfl) rfl
theorem q669 : (Jvm.Cond.constantLong "VillageHalls$Reader" (74 : Nat) (48 : Int64)) ∈ lw_all := lw_g (lw_at lw_m3 120 rfl) rfl
theorem q670 : (Jvm.Cond.constantLong "VillageHalls$Reader" (76 : Nat) (57 : Int64)) ∈ lw_all := lw_g (lw_at lw_m3 121 rfl) rfl
theorem q671 : (Jvm.Cond.stringRef "VillageHalls$Reader" (106 : Nat) "hall") ∈ lw_tbl := lw_at lw_m3 122 rfl
theorem q672 : (Jvm.Cond.methodLink "VillageHalls$Reader" (108 : Nat) ({ cls := "VillageHalls$Reader", name := "isWord", desc := "(Ljava/lang/String;)Z" } : Jvm.MethodName)) ∈ lw_all := lw_g (lw_at lw_m3 123 rfl) rfl
theorem q673 : (Jvm.Cond.privateMethod ({ cls := "VillageHalls$Reader", name := "isWord", desc := "(Ljava/lang/String;)Z" } : Jvm.MethodName)) ∈ lw_tbl := lw_at lw_m3 124 rfl
theorem q674 : (Jvm.Cond.instanceMethod ({ cls := "VillageHalls$Reader", name := "isWord", desc := "(Ljava/lang/String;)Z" } : Jvm.MethodName)) ∈ lw_all := lw_g (lw_at lw_m3 125 rfl) rfl
theorem q675 : (Jvm.Cond.code ({ cls := "VillageHalls$Reader", name := "isWord", desc := "(Ljava/lang/String;)Z" } : Jvm.MethodName) prog_14_method_5_code (2 : Nat) (Option.some Jvm.ClassFile.FieldType.boolean)) ∈ lw_all := lw_g (lw_at lw_m3 126 rfl) rfl
theorem q676 : (Jvm.Cond.methodLink "VillageHalls$Reader" (86 : Nat) ({ cls := "java/lang/String", name := "equals", desc := "(Ljava/lang/Object;)Z" } : Jvm.MethodName)) ∈ lw_all := lw_g (lw_at lw_m3 127 rfl) rfl
theorem q684 : (Jvm.Cond.methodLink "VillageHalls$Reader" (112 : Nat) ({ cls := "VillageHalls$Reader", name := "figure", desc := "(I)I" } : Jvm.MethodName)) ∈ lw_all := lw_g (lw_at lw_m3 135 rfl) rfl
theorem q685 : (Jvm.Cond.privateMethod ({ cls := "VillageHalls$Reader", name := "figure", desc := "(I)I" } : Jvm.MethodName)) ∈ lw_tbl := lw_at lw_m3 136 rfl
theorem q686 : (Jvm.Cond.instanceMethod ({ cls := "VillageHalls$Reader", name := "figure", desc := "(I)I" } : Jvm.MethodName)) ∈ lw_all := lw_g (lw_at lw_m3 137 rfl) rfl
theorem q687 : (Jvm.Cond.code ({ cls := "VillageHalls$Reader", name := "figure", desc := "(I)I" } : Jvm.MethodName) prog_14_method_6_code (3 : Nat) (Option.some Jvm.ClassFile.FieldType.int)) ∈ lw_all := lw_g (lw_at lw_m3 138 rfl) rfl
theorem q688 : (Jvm.Cond.methodLink "VillageHalls$Reader" (92 : Nat) ({ cls := "VillageHalls$Reader", name := "must", desc := "(ZI)V" } : Jvm.MethodName)) ∈ lw_all := lw_g (lw_at lw_m3 139 rfl) rfl
theorem q689 : (Jvm.Cond.privateMethod ({ cls := "VillageHalls$Reader", name := "must", desc := "(ZI)V" } : Jvm.MethodName)) ∈ lw_tbl := lw_at lw_m3 140 rfl
theorem q690 : (Jvm.Cond.instanceMethod ({ cls := "VillageHalls$Reader", name := "must", desc := "(ZI)V" } : Jvm.MethodName)) ∈ lw_all := lw_g (lw_at lw_m3 141 rfl) rfl
theorem q691 : (Jvm.Cond.code ({ cls := "VillageHalls$Reader", name := "must", desc := "(ZI)V" } : Jvm.MethodName) prog_14_method_4_code (3 : Nat) (Option.none : Option Jvm.ClassFile.FieldType)) ∈ lw_all := lw_g (lw_at lw_m3 142 rfl) rfl
theorem q692 : (Jvm.Cond.classLink "VillageHalls$Reader" (81 : Nat) "VillageHalls$Fault") ∈ lw_all := lw_g (lw_at lw_m3 143 rfl) rfl
theorem q701 : (Jvm.Cond.methodLink "VillageHalls$Reader" (83 : Nat) ({ cls := "VillageHalls$Fault", name := "<init>", desc := "(II)V" } : Jvm.MethodName)) ∈ lw_all := lw_g (lw_at lw_m3 152 rfl) rfl
theorem q715 : (Jvm.Cond.methodLink "VillageHalls$Reader" (116 : Nat) ({ cls := "VillageHalls$Reader", name := "rule", desc := "(LVillageHalls$Hall;)V" } : Jvm.MethodName)) ∈ lw_all := lw_g (lw_at lw_m3 166 rfl) rfl
theorem q716 : (Jvm.Cond.privateMethod ({ cls := "VillageHalls$Reader", name := "rule", desc := "(LVillageHalls$Hall;)V" } : Jvm.MethodName)) ∈ lw_tbl := lw_at lw_m3 167 rfl
theorem q717 : (Jvm.Cond.instanceMethod ({ cls := "VillageHalls$Reader", name := "rule", desc := "(LVillageHalls$Hall;)V" } : Jvm.MethodName)) ∈ lw_all := lw_g (lw_at lw_m3 168 rfl) rfl
theorem q718 : (Jvm.Cond.code ({ cls := "VillageHalls$Reader", name := "rule", desc := "(LVillageHalls$Hall;)V" } : Jvm.MethodName) prog_14_method_10_code (4 : Nat) (Option.none : Option Jvm.ClassFile.FieldType)) ∈ lw_all := lw_g (lw_at lw_m3 169 rfl) rfl
theorem q719 : (Jvm.Cond.stringRef "VillageHalls$Reader" (119 : Nat) "setup") ∈ lw_tbl := lw_at lw_m3 170 rfl
theorem q720 : (Jvm.Cond.stringRef "VillageHalls$Reader" (121 : Nat) "licences") ∈ lw_tbl := lw_at lw_m3 171 rfl
theorem q721 : (Jvm.Cond.stringRef "VillageHalls$Reader" (123 : Nat) "rate") ∈ lw_tbl := lw_at lw_m3 172 rfl
theorem q722 : (Jvm.Cond.stringRef "VillageHalls$Reader" (125 : Nat) "first") ∈ lw_tbl := lw_at lw_m3 173 rfl
theorem q723 : (Jvm.Cond.stringRef "VillageHalls$Reader" (127 : Nat) "late") ∈ lw_tbl := lw_at lw_m3 174 rfl
theorem q724 : (Jvm.Cond.stringRef "VillageHalls$Reader" (129 : Nat) "fire") ∈ lw_tbl := lw_at lw_m3 175 rfl
theorem q725 : (Jvm.Cond.methodLink "VillageHalls$Reader" (138 : Nat) ({ cls := "VillageHalls$Reader", name := "use", desc := "()I" } : Jvm.MethodName)) ∈ lw_all := lw_g (lw_at lw_m3 176 rfl) rfl
theorem q726 : (Jvm.Cond.privateMethod ({ cls := "VillageHalls$Reader", name := "use", desc := "()I" } : Jvm.MethodName)) ∈ lw_tbl := lw_at lw_m3 177 rfl
theorem q727 : (Jvm.Cond.instanceMethod ({ cls := "VillageHalls$Reader", name := "use", desc := "()I" } : Jvm.MethodName)) ∈ lw_all := lw_g (lw_at lw_m3 178 rfl) rfl
theorem q728 : (Jvm.Cond.code ({ cls := "VillageHalls$Reader", name := "use", desc := "()I" } : Jvm.MethodName) prog_14_method_8_code (2 : Nat) (Option.some Jvm.ClassFile.FieldType.int)) ∈ lw_all := lw_g (lw_at lw_m3 179 rfl) rfl
theorem q729 : (Jvm.Cond.methodLink "VillageHalls$Reader" (103 : Nat) ({ cls := "VillageHalls$Reader", name := "useHere", desc := "()I" } : Jvm.MethodName)) ∈ lw_all := lw_g (lw_at lw_m3 180 rfl) rfl
theorem q730 : (Jvm.Cond.privateMethod ({ cls := "VillageHalls$Reader", name := "useHere", desc := "()I" } : Jvm.MethodName)) ∈ lw_tbl := lw_at lw_m3 181 rfl
theorem q731 : (Jvm.Cond.instanceMethod ({ cls := "VillageHalls$Reader", name := "useHere", desc := "()I" } : Jvm.MethodName)) ∈ lw_all := lw_g (lw_at lw_m3 182 rfl) rfl
theorem q732 : (Jvm.Cond.code ({ cls := "VillageHalls$Reader", name := "useHere", desc := "()I" } : Jvm.MethodName) prog_14_method_7_code (2 : Nat) (Option.some Jvm.ClassFile.FieldType.int)) ∈ lw_all := lw_g (lw_at lw_m3 183 rfl) rfl
theorem q733 : (Jvm.Cond.fieldLinkNest "VillageHalls$Reader" (99 : Nat) "VillageHalls" "NAMES" "[Ljava/lang/String;" "VillageHalls") ∈ lw_tbl := lw_at lw_m3 184 rfl
theorem q735 : (Jvm.Cond.methodLink "VillageHalls$Reader" (151 : Nat) ({ cls := "VillageHalls$Reader", name := "first", desc := "(LVillageHalls$Hall;)V" } : Jvm.MethodName)) ∈ lw_all := lw_g (lw_at lw_m3 186 rfl) rfl
theorem q736 : (Jvm.Cond.privateMethod ({ cls := "VillageHalls$Reader", name := "first", desc := "(LVillageHalls$Hall;)V" } : Jvm.MethodName)) ∈ lw_tbl := lw_at lw_m3 187 rfl
theorem q737 : (Jvm.Cond.instanceMethod ({ cls := "VillageHalls$Reader", name := "first", desc := "(LVillageHalls$Hall;)V" } : Jvm.MethodName)) ∈ lw_all := lw_g (lw_at lw_m3 188 rfl) rfl
theorem q738 : (Jvm.Cond.code ({ cls := "VillageHalls$Reader", name := "first", desc := "(LVillageHalls$Hall;)V" } : Jvm.MethodName) prog_14_method_11_code (5 : Nat) (Option.none : Option Jvm.ClassFile.FieldType)) ∈ lw_all := lw_g (lw_at lw_m3 189 rfl) rfl
theorem q739 : (Jvm.Cond.methodLink "VillageHalls$Reader" (153 : Nat) ({ cls := "VillageHalls$Hall", name := "first", desc := "([II)V" } : Jvm.MethodName)) ∈ lw_all := lw_g (lw_at lw_m3 190 rfl) rfl
theorem q899 : (Jvm.Cond.selects "VillageHalls$Reader" ({ cls := "java/lang/Object", name := "getClass", desc := "()Ljava/lang/Class;" } : Jvm.MethodName) ({ cls := "java/lang/Object", name := "getClass", desc := "()Ljava/lang/Class;" } : Jvm.MethodName)) ∈ lw_all := lw_g (lw_at lw_m4 110 rfl) rfl
theorem q2015 : (Jvm.Cond.castable "VillageHalls$Reader" "java/lang/Object") ∈ lw_tbl := lw_at lw_m9 26 rfl
theorem in_X6 : ∀ w ∈ wsX60, w ∈ lw_all := lw_in wsX60 [456, 458, 460, 462, 464, 466, 468, 470] (by decide +kernel) (by decide +kernel)

/-! VillageHalls$Fault -/
set_option maxRecDepth 100000
def RX7 : String := "VillageHalls$Fault"
def TX7 : u_T := fun k => match k with
  | 0 => ("java/lang/Throwable", "cause", "Ljava/lang/Throwable;", false)
  | 1 => ("java/lang/Throwable", "stackTrace", "[Ljava/lang/StackTraceElement;", false)
  | 2 => ("java/lang/Throwable", "suppressedExceptions", "Ljava/util/List;", false)
  | 3 => ("java/lang/Throwable", "detailMessage", "Ljava/lang/String;", false)
  | 4 => ("java/lang/Throwable", "backtrace", "Ljava/lang/Object;", false)
  | 5 => ("java/lang/Throwable", "depth", "I", false)
  | 6 => ("VillageHalls$Fault", "kind", "I", true)
  | _ => ("VillageHalls$Fault", "place", "I", true)
def tyX7 : Nat → FieldType := fun k => match k with
  | 0 => .object "java/lang/Throwable"
  | 1 => .array (.object "java/lang/StackTraceElement")
  | 2 => .object "java/util/List"
  | 3 => .object "java/lang/String"
  | 4 => .object "java/lang/Object"
  | 5 => .int
  | 6 => .int
  | _ => .int
abbrev wsX70 : List Cond := u_ws RX7 TX7 8
theorem nmX7 : ∀ a, a < 8 → ∀ b, b < 8 → a ≠ b → (TX7 a).2.1 ≠ (TX7 b).2.1 := by decide +kernel
theorem tyX7_ok : ∀ k, k < 8 → parseFieldDescriptor (TX7 k).2.2.1 = some (tyX7 k) := by decide +kernel
abbrev cX7_init : ByteArray := prog_8_method_1_code
def yX7_init : MethodName := ⟨RX7, "<init>", "(II)V"⟩
def dkwX7_init_0 : List UInt8 := [42, 1, 1, 3, 3, 183, 0, 1, 42, 27, 181, 0, 7, 42, 28, 181, 0, 13, 177]
abbrev dktX7_init_0 : List UInt8 := dkwX7_init_0 ++ []
theorem dksX7_init_0 : cX7_init.data.toList.drop 0 = dktX7_init_0 := by decide +kernel
theorem dX7_init_0 : decode cX7_init 0 = .ok (.aload_n 0, 1) := dk_42 (dk_at dksX7_init_0 0 rfl rfl)
theorem dX7_init_1 : decode cX7_init 1 = .ok (.aconst_null, 1) := dk_1 (dk_at dksX7_init_0 1 rfl rfl)
theorem dX7_init_2 : decode cX7_init 2 = .ok (.aconst_null, 1) := dk_1 (dk_at dksX7_init_0 2 rfl rfl)
theorem dX7_init_3 : decode cX7_init 3 = .ok (.iconst 0, 1) := dk_3 (dk_at dksX7_init_0 3 rfl rfl)
theorem dX7_init_4 : decode cX7_init 4 = .ok (.iconst 0, 1) := dk_3 (dk_at dksX7_init_0 4 rfl rfl)
theorem dX7_init_5 : decode cX7_init 5 = .ok (.invokespecial 1, 3) := dk_183 0 1 (dk_at dksX7_init_0 5 rfl rfl)
theorem dX7_init_8 : decode cX7_init 8 = .ok (.aload_n 0, 1) := dk_42 (dk_at dksX7_init_0 8 rfl rfl)
theorem dX7_init_9 : decode cX7_init 9 = .ok (.iload_n 1, 1) := dk_27 (dk_at dksX7_init_0 9 rfl rfl)
theorem dX7_init_10 : decode cX7_init 10 = .ok (.putfield 7, 3) := dk_181 0 7 (dk_at dksX7_init_0 10 rfl rfl)
theorem dX7_init_13 : decode cX7_init 13 = .ok (.aload_n 0, 1) := dk_42 (dk_at dksX7_init_0 13 rfl rfl)
theorem dX7_init_14 : decode cX7_init 14 = .ok (.iload_n 2, 1) := dk_28 (dk_at dksX7_init_0 14 rfl rfl)
theorem dX7_init_15 : decode cX7_init 15 = .ok (.putfield 13, 3) := dk_181 0 13 (dk_at dksX7_init_0 15 rfl rfl)
theorem dX7_init_18 : decode cX7_init 18 = .ok (.return_, 1) := dk_177 (dk_at dksX7_init_0 18 rfl rfl)
theorem q95 : (Jvm.Cond.initialized "VillageHalls$Fault") ∈ lw_all := lw_g (lw_at lw_m1 26 rfl) rfl
theorem q307 : (Jvm.Cond.selects "VillageHalls$Fault" ({ cls := "java/lang/Throwable", name := "fillInStackTrace", desc := "()Ljava/lang/Throwable;" } : Jvm.MethodName) ({ cls := "java/lang/Throwable", name := "fillInStackTrace", desc := "()Ljava/lang/Throwable;" } : Jvm.MethodName)) ∈ lw_all := lw_g (lw_at lw_m1 238 rfl) rfl
theorem q693 : (Jvm.Cond.instantiable "VillageHalls$Fault" (8 : Nat)) ∈ lw_all := lw_g (lw_at lw_m3 144 rfl) rfl
theorem q694 : (Jvm.Cond.castable "VillageHalls$Fault" "VillageHalls$Fault") ∈ lw_tbl := lw_at lw_m3 145 rfl
theorem q695 : (Jvm.Cond.selects "VillageHalls$Fault" ({ cls := "java/lang/Throwable", name := "fillInStackTrace", desc := "(I)Ljava/lang/Throwable;" } : Jvm.MethodName) ({ cls := "java/lang/Throwable", name := "fillInStackTrace", desc := "(I)Ljava/lang/Throwable;" } : Jvm.MethodName)) ∈ lw_all := lw_g (lw_at lw_m3 146 rfl) rfl
theorem q696 : (Jvm.Cond.lays "VillageHalls$Fault" "java/lang/Throwable" "cause" "Ljava/lang/Throwable;") ∈ lw_all := lw_g (lw_at lw_m3 147 rfl) rfl
theorem q697 : (Jvm.Cond.lays "VillageHalls$Fault" "java/lang/Throwable" "stackTrace" "[Ljava/lang/StackTraceElement;") ∈ lw_all := lw_g (lw_at lw_m3 148 rfl) rfl
theorem q698 : (Jvm.Cond.lays "VillageHalls$Fault" "java/lang/Throwable" "suppressedExceptions" "Ljava/util/List;") ∈ lw_all := lw_g (lw_at lw_m3 149 rfl) rfl
theorem q699 : (Jvm.Cond.lays "VillageHalls$Fault" "java/lang/Throwable" "detailMessage" "Ljava/lang/String;") ∈ lw_all := lw_g (lw_at lw_m3 150 rfl) rfl
theorem q700 : (Jvm.Cond.lays "VillageHalls$Fault" "java/lang/Throwable" "backtrace" "Ljava/lang/Object;") ∈ lw_all := lw_g (lw_at lw_m3 151 rfl) rfl
theorem q702 : (Jvm.Cond.instanceMethod ({ cls := "VillageHalls$Fault", name := "<init>", desc := "(II)V" } : Jvm.MethodName)) ∈ lw_all := lw_g (lw_at lw_m3 153 rfl) rfl
theorem q703 : (Jvm.Cond.code ({ cls := "VillageHalls$Fault", name := "<init>", desc := "(II)V" } : Jvm.MethodName) prog_8_method_1_code (3 : Nat) (Option.none : Option Jvm.ClassFile.FieldType)) ∈ lw_all := lw_g (lw_at lw_m3 154 rfl) rfl
theorem q704 : (Jvm.Cond.methodLink "VillageHalls$Fault" (1 : Nat) ({ cls := "java/lang/Exception", name := "<init>", desc := "(Ljava/lang/String;Ljava/lang/Throwable;ZZ)V" } : Jvm.MethodName)) ∈ lw_all := lw_g (lw_at lw_m3 155 rfl) rfl
theorem q705 : (Jvm.Cond.fieldLink "VillageHalls$Fault" (7 : Nat) "VillageHalls$Fault" "kind" "I") ∈ lw_all := lw_g (lw_at lw_m3 156 rfl) rfl
theorem q707 : (Jvm.Cond.fieldLink "VillageHalls$Fault" (13 : Nat) "VillageHalls$Fault" "place" "I") ∈ lw_all := lw_g (lw_at lw_m3 158 rfl) rfl
theorem q709 : (Jvm.Cond.laysFinal "VillageHalls$Fault" "VillageHalls$Fault" "kind" "I") ∈ lw_all := lw_g (lw_at lw_m3 160 rfl) rfl
theorem q710 : (Jvm.Cond.soleField "VillageHalls$Fault" "kind") ∈ lw_all := lw_g (lw_at lw_m3 161 rfl) rfl
theorem q711 : (Jvm.Cond.laysFinal "VillageHalls$Fault" "VillageHalls$Fault" "place" "I") ∈ lw_all := lw_g (lw_at lw_m3 162 rfl) rfl
theorem q712 : (Jvm.Cond.soleField "VillageHalls$Fault" "place") ∈ lw_all := lw_g (lw_at lw_m3 163 rfl) rfl
theorem q713 : (Jvm.Cond.lays "VillageHalls$Fault" "java/lang/Throwable" "depth" "I") ∈ lw_all := lw_g (lw_at lw_m3 164 rfl) rfl
theorem q714 : (Jvm.Cond.superclass "VillageHalls$Fault" "java/lang/Exception") ∈ lw_all := lw_g (lw_at lw_m3 165 rfl) rfl
theorem q894 : (Jvm.Cond.selects "VillageHalls$Fault" ({ cls := "java/lang/Object", name := "getClass", desc := "()Ljava/lang/Class;" } : Jvm.MethodName) ({ cls := "java/lang/Object", name := "getClass", desc := "()Ljava/lang/Class;" } : Jvm.MethodName)) ∈ lw_all := lw_g (lw_at lw_m4 105 rfl) rfl
theorem q2017 : (Jvm.Cond.castable "VillageHalls$Fault" "java/lang/Object") ∈ lw_tbl := lw_at lw_m9 28 rfl
theorem in_X7 : ∀ w ∈ wsX70, w ∈ lw_all := lw_in wsX70 [696, 697, 698, 699, 700, 713, 709, 711] (by decide +kernel) (by decide +kernel)

/-! VillageHalls$Booking -/
set_option maxRecDepth 100000
def RX8 : String := "VillageHalls$Booking"
def TX8 : u_T := fun k => match k with
  | 0 => ("VillageHalls$Booking", "number", "I", true)
  | 1 => ("VillageHalls$Booking", "hall", "I", true)
  | 2 => ("VillageHalls$Booking", "floor", "I", true)
  | 3 => ("VillageHalls$Booking", "day", "I", true)
  | 4 => ("VillageHalls$Booking", "from", "I", true)
  | 5 => ("VillageHalls$Booking", "to", "I", true)
  | 6 => ("VillageHalls$Booking", "people", "I", true)
  | 7 => ("VillageHalls$Booking", "use", "I", true)
  | 8 => ("VillageHalls$Booking", "isLicensed", "Z", true)
  | 9 => ("VillageHalls$Booking", "came", "I", true)
  | _ => ("VillageHalls$Booking", "cancelled", "I", false)
def tyX8 : Nat → FieldType := fun k => match k with
  | 0 => .int
  | 1 => .int
  | 2 => .int
  | 3 => .int
  | 4 => .int
  | 5 => .int
  | 6 => .int
  | 7 => .int
  | 8 => .boolean
  | 9 => .int
  | _ => .int
abbrev wsX80 : List Cond := u_ws RX8 TX8 11
theorem nmX8 : ∀ a, a < 11 → ∀ b, b < 11 → a ≠ b → (TX8 a).2.1 ≠ (TX8 b).2.1 := by decide +kernel
theorem tyX8_ok : ∀ k, k < 11 → parseFieldDescriptor (TX8 k).2.2.1 = some (tyX8 k) := by decide +kernel
abbrev cX8_init : ByteArray := prog_7_method_1_code
def yX8_init : MethodName := ⟨RX8, "<init>", "(I[I)V"⟩
def dkwX8_init_3 : List UInt8 := [160, 0, 7, 4, 167, 0, 4, 3, 181, 0, 40, 42, 44, 16, 8, 46, 181, 0, 44, 177]
abbrev dktX8_init_3 : List UInt8 := dkwX8_init_3 ++ []
def dkwX8_init_2 : List UInt8 := [181, 0, 31, 42, 44, 8, 46, 181, 0, 34, 42, 44, 16, 6, 46, 181, 0, 37, 42, 44, 16, 7, 46, 4]
abbrev dktX8_init_2 : List UInt8 := dkwX8_init_2 ++ dktX8_init_3
def dkwX8_init_1 : List UInt8 := [4, 46, 181, 0, 22, 42, 44, 5, 46, 181, 0, 25, 42, 44, 6, 46, 181, 0, 28, 42, 44, 7, 46]
abbrev dktX8_init_1 : List UInt8 := dkwX8_init_1 ++ dktX8_init_2
def dkwX8_init_0 : List UInt8 := [42, 183, 0, 3, 42, 18, 9, 181, 0, 10, 42, 27, 181, 0, 16, 42, 44, 3, 46, 181, 0, 19, 42, 44]
abbrev dktX8_init_0 : List UInt8 := dkwX8_init_0 ++ dktX8_init_1
theorem dksX8_init_0 : cX8_init.data.toList.drop 0 = dktX8_init_0 := by decide +kernel
theorem dksX8_init_1 : cX8_init.data.toList.drop 24 = dktX8_init_1 := dk_seg dksX8_init_0 24 rfl rfl
theorem dksX8_init_2 : cX8_init.data.toList.drop 47 = dktX8_init_2 := dk_seg dksX8_init_1 23 rfl rfl
theorem dksX8_init_3 : cX8_init.data.toList.drop 71 = dktX8_init_3 := dk_seg dksX8_init_2 24 rfl rfl
theorem dX8_init_0 : decode cX8_init 0 = .ok (.aload_n 0, 1) := dk_42 (dk_at dksX8_init_0 0 rfl rfl)
theorem dX8_init_1 : decode cX8_init 1 = .ok (.invokespecial 3, 3) := dk_183 0 3 (dk_at dksX8_init_0 1 rfl rfl)
theorem dX8_init_4 : decode cX8_init 4 = .ok (.aload_n 0, 1) := dk_42 (dk_at dksX8_init_0 4 rfl rfl)
theorem dX8_init_5 : decode cX8_init 5 = .ok (.ldc 9, 2) := dk_18 9 (dk_at dksX8_init_0 5 rfl rfl)
theorem dX8_init_7 : decode cX8_init 7 = .ok (.putfield 10, 3) := dk_181 0 10 (dk_at dksX8_init_0 7 rfl rfl)
theorem dX8_init_10 : decode cX8_init 10 = .ok (.aload_n 0, 1) := dk_42 (dk_at dksX8_init_0 10 rfl rfl)
theorem dX8_init_11 : decode cX8_init 11 = .ok (.iload_n 1, 1) := dk_27 (dk_at dksX8_init_0 11 rfl rfl)
theorem dX8_init_12 : decode cX8_init 12 = .ok (.putfield 16, 3) := dk_181 0 16 (dk_at dksX8_init_0 12 rfl rfl)
theorem dX8_init_15 : decode cX8_init 15 = .ok (.aload_n 0, 1) := dk_42 (dk_at dksX8_init_0 15 rfl rfl)
theorem dX8_init_16 : decode cX8_init 16 = .ok (.aload_n 2, 1) := dk_44 (dk_at dksX8_init_0 16 rfl rfl)
theorem dX8_init_17 : decode cX8_init 17 = .ok (.iconst 0, 1) := dk_3 (dk_at dksX8_init_0 17 rfl rfl)
theorem dX8_init_18 : decode cX8_init 18 = .ok (.iaload, 1) := dk_46 (dk_at dksX8_init_0 18 rfl rfl)
theorem dX8_init_19 : decode cX8_init 19 = .ok (.putfield 19, 3) := dk_181 0 19 (dk_at dksX8_init_0 19 rfl rfl)
theorem dX8_init_22 : decode cX8_init 22 = .ok (.aload_n 0, 1) := dk_42 (dk_at dksX8_init_0 22 rfl rfl)
theorem dX8_init_23 : decode cX8_init 23 = .ok (.aload_n 2, 1) := dk_44 (dk_at dksX8_init_0 23 rfl rfl)
theorem dX8_init_24 : decode cX8_init 24 = .ok (.iconst 1, 1) := dk_4 (dk_at dksX8_init_1 0 rfl rfl)
theorem dX8_init_25 : decode cX8_init 25 = .ok (.iaload, 1) := dk_46 (dk_at dksX8_init_1 1 rfl rfl)
theorem dX8_init_26 : decode cX8_init 26 = .ok (.putfield 22, 3) := dk_181 0 22 (dk_at dksX8_init_1 2 rfl rfl)
theorem dX8_init_29 : decode cX8_init 29 = .ok (.aload_n 0, 1) := dk_42 (dk_at dksX8_init_1 5 rfl rfl)
theorem dX8_init_30 : decode cX8_init 30 = .ok (.aload_n 2, 1) := dk_44 (dk_at dksX8_init_1 6 rfl rfl)
theorem dX8_init_31 : decode cX8_init 31 = .ok (.iconst 2, 1) := dk_5 (dk_at dksX8_init_1 7 rfl rfl)
theorem dX8_init_32 : decode cX8_init 32 = .ok (.iaload, 1) := dk_46 (dk_at dksX8_init_1 8 rfl rfl)
theorem dX8_init_33 : decode cX8_init 33 = .ok (.putfield 25, 3) := dk_181 0 25 (dk_at dksX8_init_1 9 rfl rfl)
theorem dX8_init_36 : decode cX8_init 36 = .ok (.aload_n 0, 1) := dk_42 (dk_at dksX8_init_1 12 rfl rfl)
theorem dX8_init_37 : decode cX8_init 37 = .ok (.aload_n 2, 1) := dk_44 (dk_at dksX8_init_1 13 rfl rfl)
theorem dX8_init_38 : decode cX8_init 38 = .ok (.iconst 3, 1) := dk_6 (dk_at dksX8_init_1 14 rfl rfl)
theorem dX8_init_39 : decode cX8_init 39 = .ok (.iaload, 1) := dk_46 (dk_at dksX8_init_1 15 rfl rfl)
theorem dX8_init_40 : decode cX8_init 40 = .ok (.putfield 28, 3) := dk_181 0 28 (dk_at dksX8_init_1 16 rfl rfl)
theorem dX8_init_43 : decode cX8_init 43 = .ok (.aload_n 0, 1) := dk_42 (dk_at dksX8_init_1 19 rfl rfl)
theorem dX8_init_44 : decode cX8_init 44 = .ok (.aload_n 2, 1) := dk_44 (dk_at dksX8_init_1 20 rfl rfl)
theorem dX8_init_45 : decode cX8_init 45 = .ok (.iconst 4, 1) := dk_7 (dk_at dksX8_init_1 21 rfl rfl)
theorem dX8_init_46 : decode cX8_init 46 = .ok (.iaload, 1) := dk_46 (dk_at dksX8_init_1 22 rfl rfl)
theorem dX8_init_47 : decode cX8_init 47 = .ok (.putfield 31, 3) := dk_181 0 31 (dk_at dksX8_init_2 0 rfl rfl)
theorem dX8_init_50 : decode cX8_init 50 = .ok (.aload_n 0, 1) := dk_42 (dk_at dksX8_init_2 3 rfl rfl)
theorem dX8_init_51 : decode cX8_init 51 = .ok (.aload_n 2, 1) := dk_44 (dk_at dksX8_init_2 4 rfl rfl)
theorem dX8_init_52 : decode cX8_init 52 = .ok (.iconst 5, 1) := dk_8 (dk_at dksX8_init_2 5 rfl rfl)
theorem dX8_init_53 : decode cX8_init 53 = .ok (.iaload, 1) := dk_46 (dk_at dksX8_init_2 6 rfl rfl)
theorem dX8_init_54 : decode cX8_init 54 = .ok (.putfield 34, 3) := dk_181 0 34 (dk_at dksX8_init_2 7 rfl rfl)
theorem dX8_init_57 : decode cX8_init 57 = .ok (.aload_n 0, 1) := dk_42 (dk_at dksX8_init_2 10 rfl rfl)
theorem dX8_init_58 : decode cX8_init 58 = .ok (.aload_n 2, 1) := dk_44 (dk_at dksX8_init_2 11 rfl rfl)
theorem dX8_init_59 : decode cX8_init 59 = .ok (.bipush 6, 2) := dk_16 6 (dk_at dksX8_init_2 12 rfl rfl)
theorem dX8_init_61 : decode cX8_init 61 = .ok (.iaload, 1) := dk_46 (dk_at dksX8_init_2 14 rfl rfl)
theorem dX8_init_62 : decode cX8_init 62 = .ok (.putfield 37, 3) := dk_181 0 37 (dk_at dksX8_init_2 15 rfl rfl)
theorem dX8_init_65 : decode cX8_init 65 = .ok (.aload_n 0, 1) := dk_42 (dk_at dksX8_init_2 18 rfl rfl)
theorem dX8_init_66 : decode cX8_init 66 = .ok (.aload_n 2, 1) := dk_44 (dk_at dksX8_init_2 19 rfl rfl)
theorem dX8_init_67 : decode cX8_init 67 = .ok (.bipush 7, 2) := dk_16 7 (dk_at dksX8_init_2 20 rfl rfl)
theorem dX8_init_69 : decode cX8_init 69 = .ok (.iaload, 1) := dk_46 (dk_at dksX8_init_2 22 rfl rfl)
theorem dX8_init_70 : decode cX8_init 70 = .ok (.iconst 1, 1) := dk_4 (dk_at dksX8_init_2 23 rfl rfl)
theorem dX8_init_71 : decode cX8_init 71 = .ok (.if_icmp .ne 7, 3) := dk_160 0 7 (dk_at dksX8_init_3 0 rfl rfl)
theorem dX8_init_74 : decode cX8_init 74 = .ok (.iconst 1, 1) := dk_4 (dk_at dksX8_init_3 3 rfl rfl)
theorem dX8_init_75 : decode cX8_init 75 = .ok (.goto 4, 3) := dk_167 0 4 (dk_at dksX8_init_3 4 rfl rfl)
theorem dX8_init_78 : decode cX8_init 78 = .ok (.iconst 0, 1) := dk_3 (dk_at dksX8_init_3 7 rfl rfl)
theorem dX8_init_79 : decode cX8_init 79 = .ok (.putfield 40, 3) := dk_181 0 40 (dk_at dksX8_init_3 8 rfl rfl)
theorem dX8_init_82 : decode cX8_init 82 = .ok (.aload_n 0, 1) := dk_42 (dk_at dksX8_init_3 11 rfl rfl)
theorem dX8_init_83 : decode cX8_init 83 = .ok (.aload_n 2, 1) := dk_44 (dk_at dksX8_init_3 12 rfl rfl)
theorem dX8_init_84 : decode cX8_init 84 = .ok (.bipush 8, 2) := dk_16 8 (dk_at dksX8_init_3 13 rfl rfl)
theorem dX8_init_86 : decode cX8_init 86 = .ok (.iaload, 1) := dk_46 (dk_at dksX8_init_3 15 rfl rfl)
theorem dX8_init_87 : decode cX8_init 87 = .ok (.putfield 44, 3) := dk_181 0 44 (dk_at dksX8_init_3 16 rfl rfl)
theorem dX8_init_90 : decode cX8_init 90 = .ok (.return_, 1) := dk_177 (dk_at dksX8_init_3 19 rfl rfl)
abbrev cX8_isAgainst : ByteArray := prog_7_method_3_code
def yX8_isAgainst : MethodName := ⟨RX8, "isAgainst", "(IIII)Z"⟩
def dkwX8_isAgainst_1 : List UInt8 := [162, 0, 18, 27, 42, 180, 0, 31, 21, 5, 96, 162, 0, 7, 4, 167, 0, 4, 3, 172]
abbrev dktX8_isAgainst_1 : List UInt8 := dkwX8_isAgainst_1 ++ []
def dkwX8_isAgainst_0 : List UInt8 := [42, 180, 0, 37, 29, 160, 0, 7, 3, 167, 0, 5, 21, 4, 54, 5, 42, 180, 0, 28, 28, 21, 5, 96]
abbrev dktX8_isAgainst_0 : List UInt8 := dkwX8_isAgainst_0 ++ dktX8_isAgainst_1
theorem dksX8_isAgainst_0 : cX8_isAgainst.data.toList.drop 0 = dktX8_isAgainst_0 := by decide +kernel
theorem dksX8_isAgainst_1 : cX8_isAgainst.data.toList.drop 24 = dktX8_isAgainst_1 := dk_seg dksX8_isAgainst_0 24 rfl rfl
theorem dX8_isAgainst_0 : decode cX8_isAgainst 0 = .ok (.aload_n 0, 1) := dk_42 (dk_at dksX8_isAgainst_0 0 rfl rfl)
theorem dX8_isAgainst_1 : decode cX8_isAgainst 1 = .ok (.getfield 37, 3) := dk_180 0 37 (dk_at dksX8_isAgainst_0 1 rfl rfl)
theorem dX8_isAgainst_4 : decode cX8_isAgainst 4 = .ok (.iload_n 3, 1) := dk_29 (dk_at dksX8_isAgainst_0 4 rfl rfl)
theorem dX8_isAgainst_5 : decode cX8_isAgainst 5 = .ok (.if_icmp .ne 7, 3) := dk_160 0 7 (dk_at dksX8_isAgainst_0 5 rfl rfl)
theorem dX8_isAgainst_8 : decode cX8_isAgainst 8 = .ok (.iconst 0, 1) := dk_3 (dk_at dksX8_isAgainst_0 8 rfl rfl)
theorem dX8_isAgainst_9 : decode cX8_isAgainst 9 = .ok (.goto 5, 3) := dk_167 0 5 (dk_at dksX8_isAgainst_0 9 rfl rfl)
theorem dX8_isAgainst_12 : decode cX8_isAgainst 12 = .ok (.iload 4, 2) := dk_21 4 (dk_at dksX8_isAgainst_0 12 rfl rfl)
theorem dX8_isAgainst_14 : decode cX8_isAgainst 14 = .ok (.istore 5, 2) := dk_54 5 (dk_at dksX8_isAgainst_0 14 rfl rfl)
theorem dX8_isAgainst_16 : decode cX8_isAgainst 16 = .ok (.aload_n 0, 1) := dk_42 (dk_at dksX8_isAgainst_0 16 rfl rfl)
theorem dX8_isAgainst_17 : decode cX8_isAgainst 17 = .ok (.getfield 28, 3) := dk_180 0 28 (dk_at dksX8_isAgainst_0 17 rfl rfl)
theorem dX8_isAgainst_20 : decode cX8_isAgainst 20 = .ok (.iload_n 2, 1) := dk_28 (dk_at dksX8_isAgainst_0 20 rfl rfl)
theorem dX8_isAgainst_21 : decode cX8_isAgainst 21 = .ok (.iload 5, 2) := dk_21 5 (dk_at dksX8_isAgainst_0 21 rfl rfl)
theorem dX8_isAgainst_23 : decode cX8_isAgainst 23 = .ok (.iadd, 1) := dk_96 (dk_at dksX8_isAgainst_0 23 rfl rfl)
theorem dX8_isAgainst_24 : decode cX8_isAgainst 24 = .ok (.if_icmp .ge 18, 3) := dk_162 0 18 (dk_at dksX8_isAgainst_1 0 rfl rfl)
theorem dX8_isAgainst_27 : decode cX8_isAgainst 27 = .ok (.iload_n 1, 1) := dk_27 (dk_at dksX8_isAgainst_1 3 rfl rfl)
theorem dX8_isAgainst_28 : decode cX8_isAgainst 28 = .ok (.aload_n 0, 1) := dk_42 (dk_at dksX8_isAgainst_1 4 rfl rfl)
theorem dX8_isAgainst_29 : decode cX8_isAgainst 29 = .ok (.getfield 31, 3) := dk_180 0 31 (dk_at dksX8_isAgainst_1 5 rfl rfl)
theorem dX8_isAgainst_32 : decode cX8_isAgainst 32 = .ok (.iload 5, 2) := dk_21 5 (dk_at dksX8_isAgainst_1 8 rfl rfl)
theorem dX8_isAgainst_34 : decode cX8_isAgainst 34 = .ok (.iadd, 1) := dk_96 (dk_at dksX8_isAgainst_1 10 rfl rfl)
theorem dX8_isAgainst_35 : decode cX8_isAgainst 35 = .ok (.if_icmp .ge 7, 3) := dk_162 0 7 (dk_at dksX8_isAgainst_1 11 rfl rfl)
theorem dX8_isAgainst_38 : decode cX8_isAgainst 38 = .ok (.iconst 1, 1) := dk_4 (dk_at dksX8_isAgainst_1 14 rfl rfl)
theorem dX8_isAgainst_39 : decode cX8_isAgainst 39 = .ok (.goto 4, 3) := dk_167 0 4 (dk_at dksX8_isAgainst_1 15 rfl rfl)
theorem dX8_isAgainst_42 : decode cX8_isAgainst 42 = .ok (.iconst 0, 1) := dk_3 (dk_at dksX8_isAgainst_1 18 rfl rfl)
theorem dX8_isAgainst_43 : decode cX8_isAgainst 43 = .ok (.ireturn, 1) := dk_172 (dk_at dksX8_isAgainst_1 19 rfl rfl)
abbrev cX8_isThere : ByteArray := prog_7_method_2_code
def yX8_isThere : MethodName := ⟨RX8, "isThere", "(I)Z"⟩
def dkwX8_isThere_1 : List UInt8 := [164, 0, 7, 4, 167, 0, 4, 3, 172]
abbrev dktX8_isThere_1 : List UInt8 := dkwX8_isThere_1 ++ []
def dkwX8_isThere_0 : List UInt8 := [42, 180, 0, 44, 27, 163, 0, 24, 42, 180, 0, 10, 18, 9, 159, 0, 11, 42, 180, 0, 10, 27]
abbrev dktX8_isThere_0 : List UInt8 := dkwX8_isThere_0 ++ dktX8_isThere_1
theorem dksX8_isThere_0 : cX8_isThere.data.toList.drop 0 = dktX8_isThere_0 := by decide +kernel
theorem dksX8_isThere_1 : cX8_isThere.data.toList.drop 22 = dktX8_isThere_1 := dk_seg dksX8_isThere_0 22 rfl rfl
theorem dX8_isThere_0 : decode cX8_isThere 0 = .ok (.aload_n 0, 1) := dk_42 (dk_at dksX8_isThere_0 0 rfl rfl)
theorem dX8_isThere_1 : decode cX8_isThere 1 = .ok (.getfield 44, 3) := dk_180 0 44 (dk_at dksX8_isThere_0 1 rfl rfl)
theorem dX8_isThere_4 : decode cX8_isThere 4 = .ok (.iload_n 1, 1) := dk_27 (dk_at dksX8_isThere_0 4 rfl rfl)
theorem dX8_isThere_5 : decode cX8_isThere 5 = .ok (.if_icmp .gt 24, 3) := dk_163 0 24 (dk_at dksX8_isThere_0 5 rfl rfl)
theorem dX8_isThere_8 : decode cX8_isThere 8 = .ok (.aload_n 0, 1) := dk_42 (dk_at dksX8_isThere_0 8 rfl rfl)
theorem dX8_isThere_9 : decode cX8_isThere 9 = .ok (.getfield 10, 3) := dk_180 0 10 (dk_at dksX8_isThere_0 9 rfl rfl)
theorem dX8_isThere_12 : decode cX8_isThere 12 = .ok (.ldc 9, 2) := dk_18 9 (dk_at dksX8_isThere_0 12 rfl rfl)
theorem dX8_isThere_14 : decode cX8_isThere 14 = .ok (.if_icmp .eq 11, 3) := dk_159 0 11 (dk_at dksX8_isThere_0 14 rfl rfl)
theorem dX8_isThere_17 : decode cX8_isThere 17 = .ok (.aload_n 0, 1) := dk_42 (dk_at dksX8_isThere_0 17 rfl rfl)
theorem dX8_isThere_18 : decode cX8_isThere 18 = .ok (.getfield 10, 3) := dk_180 0 10 (dk_at dksX8_isThere_0 18 rfl rfl)
theorem dX8_isThere_21 : decode cX8_isThere 21 = .ok (.iload_n 1, 1) := dk_27 (dk_at dksX8_isThere_0 21 rfl rfl)
theorem dX8_isThere_22 : decode cX8_isThere 22 = .ok (.if_icmp .le 7, 3) := dk_164 0 7 (dk_at dksX8_isThere_1 0 rfl rfl)
theorem dX8_isThere_25 : decode cX8_isThere 25 = .ok (.iconst 1, 1) := dk_4 (dk_at dksX8_isThere_1 3 rfl rfl)
theorem dX8_isThere_26 : decode cX8_isThere 26 = .ok (.goto 4, 3) := dk_167 0 4 (dk_at dksX8_isThere_1 4 rfl rfl)
theorem dX8_isThere_29 : decode cX8_isThere 29 = .ok (.iconst 0, 1) := dk_3 (dk_at dksX8_isThere_1 7 rfl rfl)
theorem dX8_isThere_30 : decode cX8_isThere 30 = .ok (.ireturn, 1) := dk_172 (dk_at dksX8_isThere_1 8 rfl rfl)
theorem q96 : (Jvm.Cond.initialized "VillageHalls$Booking") ∈ lw_all := lw_g (lw_at lw_m1 27 rfl) rfl
theorem q799 : (Jvm.Cond.instantiable "VillageHalls$Booking" (11 : Nat)) ∈ lw_all := lw_g (lw_at lw_m4 10 rfl) rfl
theorem q801 : (Jvm.Cond.instanceMethod ({ cls := "VillageHalls$Booking", name := "<init>", desc := "(I[I)V" } : Jvm.MethodName)) ∈ lw_all := lw_g (lw_at lw_m4 12 rfl) rfl
theorem q802 : (Jvm.Cond.code ({ cls := "VillageHalls$Booking", name := "<init>", desc := "(I[I)V" } : Jvm.MethodName) prog_7_method_1_code (3 : Nat) (Option.none : Option Jvm.ClassFile.FieldType)) ∈ lw_all := lw_g (lw_at lw_m4 13 rfl) rfl
theorem q803 : (Jvm.Cond.methodLink "VillageHalls$Booking" (3 : Nat) ({ cls := "java/lang/Object", name := "<init>", desc := "()V" } : Jvm.MethodName)) ∈ lw_all := lw_g (lw_at lw_m4 14 rfl) rfl
theorem q804 : (Jvm.Cond.constant "VillageHalls$Booking" (9 : Nat) (-1000000 : Int32)) ∈ lw_all := lw_g (lw_at lw_m4 15 rfl) rfl
theorem q805 : (Jvm.Cond.fieldLink "VillageHalls$Booking" (16 : Nat) "VillageHalls$Booking" "number" "I") ∈ lw_all := lw_g (lw_at lw_m4 16 rfl) rfl
theorem q807 : (Jvm.Cond.fieldLink "VillageHalls$Booking" (19 : Nat) "VillageHalls$Booking" "hall" "I") ∈ lw_all := lw_g (lw_at lw_m4 18 rfl) rfl
theorem q810 : (Jvm.Cond.fieldLink "VillageHalls$Booking" (22 : Nat) "VillageHalls$Booking" "floor" "I") ∈ lw_all := lw_g (lw_at lw_m4 21 rfl) rfl
theorem q812 : (Jvm.Cond.fieldLink "VillageHalls$Booking" (25 : Nat) "VillageHalls$Booking" "day" "I") ∈ lw_all := lw_g (lw_at lw_m4 23 rfl) rfl
theorem q816 : (Jvm.Cond.fieldLink "VillageHalls$Booking" (28 : Nat) "VillageHalls$Booking" "from" "I") ∈ lw_all := lw_g (lw_at lw_m4 27 rfl) rfl
theorem q819 : (Jvm.Cond.fieldLink "VillageHalls$Booking" (31 : Nat) "VillageHalls$Booking" "to" "I") ∈ lw_all := lw_g (lw_at lw_m4 30 rfl) rfl
theorem q822 : (Jvm.Cond.fieldLink "VillageHalls$Booking" (34 : Nat) "VillageHalls$Booking" "people" "I") ∈ lw_all := lw_g (lw_at lw_m4 33 rfl) rfl
theorem q826 : (Jvm.Cond.fieldLink "VillageHalls$Booking" (37 : Nat) "VillageHalls$Booking" "use" "I") ∈ lw_all := lw_g (lw_at lw_m4 37 rfl) rfl
theorem q830 : (Jvm.Cond.fieldLink "VillageHalls$Booking" (40 : Nat) "VillageHalls$Booking" "isLicensed" "Z") ∈ lw_all := lw_g (lw_at lw_m4 41 rfl) rfl
theorem q832 : (Jvm.Cond.fieldLink "VillageHalls$Booking" (44 : Nat) "VillageHalls$Booking" "came" "I") ∈ lw_all := lw_g (lw_at lw_m4 43 rfl) rfl
theorem q834 : (Jvm.Cond.fieldLink "VillageHalls$Booking" (10 : Nat) "VillageHalls$Booking" "cancelled" "I") ∈ lw_all := lw_g (lw_at lw_m4 45 rfl) rfl
theorem q836 : (Jvm.Cond.laysFinal "VillageHalls$Booking" "VillageHalls$Booking" "number" "I") ∈ lw_all := lw_g (lw_at lw_m4 47 rfl) rfl
theorem q837 : (Jvm.Cond.soleField "VillageHalls$Booking" "number") ∈ lw_all := lw_g (lw_at lw_m4 48 rfl) rfl
theorem q838 : (Jvm.Cond.laysFinal "VillageHalls$Booking" "VillageHalls$Booking" "hall" "I") ∈ lw_all := lw_g (lw_at lw_m4 49 rfl) rfl
theorem q839 : (Jvm.Cond.soleField "VillageHalls$Booking" "hall") ∈ lw_all := lw_g (lw_at lw_m4 50 rfl) rfl
theorem q840 : (Jvm.Cond.laysFinal "VillageHalls$Booking" "VillageHalls$Booking" "floor" "I") ∈ lw_all := lw_g (lw_at lw_m4 51 rfl) rfl
theorem q841 : (Jvm.Cond.soleField "VillageHalls$Booking" "floor") ∈ lw_all := lw_g (lw_at lw_m4 52 rfl) rfl
theorem q842 : (Jvm.Cond.laysFinal "VillageHalls$Booking" "VillageHalls$Booking" "day" "I") ∈ lw_all := lw_g (lw_at lw_m4 53 rfl) rfl
theorem q843 : (Jvm.Cond.soleField "VillageHalls$Booking" "day") ∈ lw_all := lw_g (lw_at lw_m4 54 rfl) rfl
theorem q844 : (Jvm.Cond.laysFinal "VillageHalls$Booking" "VillageHalls$Booking" "from" "I") ∈ lw_all := lw_g (lw_at lw_m4 55 rfl) rfl
theorem q845 : (Jvm.Cond.soleField "VillageHalls$Booking" "from") ∈ lw_all := lw_g (lw_at lw_m4 56 rfl) rfl
theorem q846 : (Jvm.Cond.laysFinal "VillageHalls$Booking" "VillageHalls$Booking" "to" "I") ∈ lw_all := lw_g (lw_at lw_m4 57 rfl) rfl
theorem q847 : (Jvm.Cond.soleField "VillageHalls$Booking" "to") ∈ lw_all := lw_g (lw_at lw_m4 58 rfl) rfl
theorem q848 : (Jvm.Cond.laysFinal "VillageHalls$Booking" "VillageHalls$Booking" "people" "I") ∈ lw_all := lw_g (lw_at lw_m4 59 rfl) rfl
theorem q849 : (Jvm.Cond.soleField "VillageHalls$Booking" "people") ∈ lw_all := lw_g (lw_at lw_m4 60 rfl) rfl
theorem q850 : (Jvm.Cond.laysFinal "VillageHalls$Booking" "VillageHalls$Booking" "use" "I") ∈ lw_all := lw_g (lw_at lw_m4 61 rfl) rfl
theorem q851 : (Jvm.Cond.soleField "VillageHalls$Booking" "use") ∈ lw_all := lw_g (lw_at lw_m4 62 rfl) rfl
theorem q852 : (Jvm.Cond.laysFinal "VillageHalls$Booking" "VillageHalls$Booking" "isLicensed" "Z") ∈ lw_all := lw_g (lw_at lw_m4 63 rfl) rfl
theorem q853 : (Jvm.Cond.soleField "VillageHalls$Booking" "isLicensed") ∈ lw_all := lw_g (lw_at lw_m4 64 rfl) rfl
theorem q854 : (Jvm.Cond.laysFinal "VillageHalls$Booking" "VillageHalls$Booking" "came" "I") ∈ lw_all := lw_g (lw_at lw_m4 65 rfl) rfl
theorem q855 : (Jvm.Cond.soleField "VillageHalls$Booking" "came") ∈ lw_all := lw_g (lw_at lw_m4 66 rfl) rfl
theorem q856 : (Jvm.Cond.lays "VillageHalls$Booking" "VillageHalls$Booking" "cancelled" "I") ∈ lw_all := lw_g (lw_at lw_m4 67 rfl) rfl
theorem q857 : (Jvm.Cond.soleField "VillageHalls$Booking" "cancelled") ∈ lw_all := lw_g (lw_at lw_m4 68 rfl) rfl
theorem q858 : (Jvm.Cond.superclass "VillageHalls$Booking" "java/lang/Object") ∈ lw_all := lw_g (lw_at lw_m4 69 rfl) rfl
theorem q893 : (Jvm.Cond.selects "VillageHalls$Booking" ({ cls := "java/lang/Object", name := "getClass", desc := "()Ljava/lang/Class;" } : Jvm.MethodName) ({ cls := "java/lang/Object", name := "getClass", desc := "()Ljava/lang/Class;" } : Jvm.MethodName)) ∈ lw_all := lw_g (lw_at lw_m4 104 rfl) rfl
theorem q967 : (Jvm.Cond.instanceMethod ({ cls := "VillageHalls$Booking", name := "isAgainst", desc := "(IIII)Z" } : Jvm.MethodName)) ∈ lw_all := lw_g (lw_at lw_m4 178 rfl) rfl
theorem q968 : (Jvm.Cond.selects "VillageHalls$Booking" ({ cls := "VillageHalls$Booking", name := "isAgainst", desc := "(IIII)Z" } : Jvm.MethodName) ({ cls := "VillageHalls$Booking", name := "isAgainst", desc := "(IIII)Z" } : Jvm.MethodName)) ∈ lw_all := lw_g (lw_at lw_m4 179 rfl) rfl
theorem q969 : (Jvm.Cond.code ({ cls := "VillageHalls$Booking", name := "isAgainst", desc := "(IIII)Z" } : Jvm.MethodName) prog_7_method_3_code (6 : Nat) (Option.some Jvm.ClassFile.FieldType.boolean)) ∈ lw_all := lw_g (lw_at lw_m4 180 rfl) rfl
theorem q979 : (Jvm.Cond.instanceMethod ({ cls := "VillageHalls$Booking", name := "isThere", desc := "(I)Z" } : Jvm.MethodName)) ∈ lw_all := lw_g (lw_at lw_m4 190 rfl) rfl
theorem q980 : (Jvm.Cond.selects "VillageHalls$Booking" ({ cls := "VillageHalls$Booking", name := "isThere", desc := "(I)Z" } : Jvm.MethodName) ({ cls := "VillageHalls$Booking", name := "isThere", desc := "(I)Z" } : Jvm.MethodName)) ∈ lw_all := lw_g (lw_at lw_m4 191 rfl) rfl
theorem q981 : (Jvm.Cond.code ({ cls := "VillageHalls$Booking", name := "isThere", desc := "(I)Z" } : Jvm.MethodName) prog_7_method_2_code (2 : Nat) (Option.some Jvm.ClassFile.FieldType.boolean)) ∈ lw_all := lw_g (lw_at lw_m4 192 rfl) rfl
theorem q2007 : (Jvm.Cond.castable "VillageHalls$Booking" "java/lang/Object") ∈ lw_tbl := lw_at lw_m9 18 rfl
theorem in_X8 : ∀ w ∈ wsX80, w ∈ lw_all := lw_in wsX80 [836, 838, 840, 842, 844, 846, 848, 850, 852, 854, 856] (by decide +kernel) (by decide +kernel)

/-! VillageHalls$Funeral -/
set_option maxRecDepth 100000
def RX9 : String := "VillageHalls$Funeral"
def TX9 : u_T := fun k => match k with
  | 0 => ("VillageHalls$Funeral", "hall", "I", true)
  | 1 => ("VillageHalls$Funeral", "day", "I", true)
  | 2 => ("VillageHalls$Funeral", "from", "I", true)
  | 3 => ("VillageHalls$Funeral", "to", "I", true)
  | 4 => ("VillageHalls$Funeral", "holds", "I", true)
  | 5 => ("VillageHalls$Funeral", "floor", "I", false)
  | 6 => ("VillageHalls$Funeral", "moved", "I", false)
  | 7 => ("VillageHalls$Funeral", "place", "[I", true)
  | _ => ("VillageHalls$Funeral", "this$0", "LVillageHalls;", true)
def tyX9 : Nat → FieldType := fun k => match k with
  | 0 => .int
  | 1 => .int
  | 2 => .int
  | 3 => .int
  | 4 => .int
  | 5 => .int
  | 6 => .int
  | 7 => .array .int
  | _ => .object "VillageHalls"
abbrev wsX90 : List Cond := u_ws RX9 TX9 9
theorem nmX9 : ∀ a, a < 9 → ∀ b, b < 9 → a ≠ b → (TX9 a).2.1 ≠ (TX9 b).2.1 := by decide +kernel
theorem tyX9_ok : ∀ k, k < 9 → parseFieldDescriptor (TX9 k).2.2.1 = some (tyX9 k) := by decide +kernel
abbrev cX9_init : ByteArray := prog_10_method_1_code
def yX9_init : MethodName := ⟨RX9, "<init>", "(LVillageHalls;IIIII)V"⟩
def dkwX9_init_10 : List UInt8 := [132, 7, 1, 167, 255, 201, 177]
abbrev dktX9_init_10 : List UInt8 := dkwX9_init_10 ++ []
def dkwX9_init_9 : List UInt8 := [180, 0, 20, 21, 7, 42, 43, 180, 0, 66, 21, 7, 185, 0, 76, 2, 0, 192, 0, 80, 182, 0, 82, 79]
abbrev dktX9_init_9 : List UInt8 := dkwX9_init_9 ++ dktX9_init_10
def dkwX9_init_8 : List UInt8 := [185, 0, 70, 1, 0, 162, 0, 47, 42, 180, 0, 63, 21, 7, 122, 4, 126, 4, 160, 0, 28, 42]
abbrev dktX9_init_8 : List UInt8 := dkwX9_init_8 ++ dktX9_init_9
def dkwX9_init_7 : List UInt8 := [167, 0, 11, 42, 42, 180, 0, 16, 182, 0, 55, 181, 0, 63, 3, 54, 7, 21, 7, 43, 180, 0, 66]
abbrev dktX9_init_7 : List UInt8 := dkwX9_init_7 ++ dktX9_init_8
def dkwX9_init_6 : List UInt8 := [21, 7, 181, 0, 16, 132, 7, 1, 167, 255, 192, 42, 42, 180, 0, 16, 18, 15, 160, 0, 7, 3]
abbrev dktX9_init_6 : List UInt8 := dkwX9_init_6 ++ dktX9_init_7
def dkwX9_init_5 : List UInt8 := [21, 7, 182, 0, 55, 184, 0, 58, 42, 42, 180, 0, 16, 182, 0, 55, 184, 0, 58, 162, 0, 9, 42]
abbrev dktX9_init_5 : List UInt8 := dkwX9_init_5 ++ dktX9_init_6
def dkwX9_init_4 : List UInt8 := [28, 50, 180, 0, 50, 21, 7, 46, 21, 6, 161, 0, 41, 42, 180, 0, 16, 18, 15, 159, 0, 26, 42]
abbrev dktX9_init_4 : List UInt8 := dkwX9_init_4 ++ dktX9_init_5
def dkwX9_init_3 : List UInt8 := [21, 7, 18, 15, 79, 132, 7, 1, 167, 255, 237, 3, 54, 7, 21, 7, 5, 162, 0, 64, 43, 180, 0, 46]
abbrev dktX9_init_3 : List UInt8 := dkwX9_init_3 ++ dktX9_init_4
def dkwX9_init_2 : List UInt8 := [180, 0, 36, 182, 0, 39, 181, 0, 43, 3, 54, 7, 21, 7, 16, 16, 162, 0, 18, 42, 180, 0, 20]
abbrev dktX9_init_2 : List UInt8 := dkwX9_init_2 ++ dktX9_init_3
def dkwX9_init_1 : List UInt8 := [28, 181, 0, 24, 42, 29, 181, 0, 27, 42, 21, 4, 181, 0, 30, 42, 21, 5, 181, 0, 33, 42, 43, 43]
abbrev dktX9_init_1 : List UInt8 := dkwX9_init_1 ++ dktX9_init_2
def dkwX9_init_0 : List UInt8 := [42, 43, 181, 0, 3, 42, 183, 0, 9, 42, 18, 15, 181, 0, 16, 42, 16, 16, 188, 10, 181, 0, 20, 42]
abbrev dktX9_init_0 : List UInt8 := dkwX9_init_0 ++ dktX9_init_1
theorem dksX9_init_0 : cX9_init.data.toList.drop 0 = dktX9_init_0 := by decide +kernel
theorem dksX9_init_1 : cX9_init.data.toList.drop 24 = dktX9_init_1 := dk_seg dksX9_init_0 24 rfl rfl
theorem dksX9_init_2 : cX9_init.data.toList.drop 48 = dktX9_init_2 := dk_seg dksX9_init_1 24 rfl rfl
theorem dksX9_init_3 : cX9_init.data.toList.drop 71 = dktX9_init_3 := dk_seg dksX9_init_2 23 rfl rfl
theorem dksX9_init_4 : cX9_init.data.toList.drop 95 = dktX9_init_4 := dk_seg dksX9_init_3 24 rfl rfl
theorem dksX9_init_5 : cX9_init.data.toList.drop 118 = dktX9_init_5 := dk_seg dksX9_init_4 23 rfl rfl
theorem dksX9_init_6 : cX9_init.data.toList.drop 141 = dktX9_init_6 := dk_seg dksX9_init_5 23 rfl rfl
theorem dksX9_init_7 : cX9_init.data.toList.drop 163 = dktX9_init_7 := dk_seg dksX9_init_6 22 rfl rfl
theorem dksX9_init_8 : cX9_init.data.toList.drop 186 = dktX9_init_8 := dk_seg dksX9_init_7 23 rfl rfl
theorem dksX9_init_9 : cX9_init.data.toList.drop 208 = dktX9_init_9 := dk_seg dksX9_init_8 22 rfl rfl
theorem dksX9_init_10 : cX9_init.data.toList.drop 232 = dktX9_init_10 := dk_seg dksX9_init_9 24 rfl rfl
theorem dX9_init_0 : decode cX9_init 0 = .ok (.aload_n 0, 1) := dk_42 (dk_at dksX9_init_0 0 rfl rfl)
theorem dX9_init_1 : decode cX9_init 1 = .ok (.aload_n 1, 1) := dk_43 (dk_at dksX9_init_0 1 rfl rfl)
theorem dX9_init_2 : decode cX9_init 2 = .ok (.putfield 3, 3) := dk_181 0 3 (dk_at dksX9_init_0 2 rfl rfl)
theorem dX9_init_5 : decode cX9_init 5 = .ok (.aload_n 0, 1) := dk_42 (dk_at dksX9_init_0 5 rfl rfl)
theorem dX9_init_6 : decode cX9_init 6 = .ok (.invokespecial 9, 3) := dk_183 0 9 (dk_at dksX9_init_0 6 rfl rfl)
theorem dX9_init_9 : decode cX9_init 9 = .ok (.aload_n 0, 1) := dk_42 (dk_at dksX9_init_0 9 rfl rfl)
theorem dX9_init_10 : decode cX9_init 10 = .ok (.ldc 15, 2) := dk_18 15 (dk_at dksX9_init_0 10 rfl rfl)
theorem dX9_init_12 : decode cX9_init 12 = .ok (.putfield 16, 3) := dk_181 0 16 (dk_at dksX9_init_0 12 rfl rfl)
theorem dX9_init_15 : decode cX9_init 15 = .ok (.aload_n 0, 1) := dk_42 (dk_at dksX9_init_0 15 rfl rfl)
theorem dX9_init_16 : decode cX9_init 16 = .ok (.bipush 16, 2) := dk_16 16 (dk_at dksX9_init_0 16 rfl rfl)
theorem dX9_init_18 : decode cX9_init 18 = .ok (.newarray .int, 2) := dk_188_10 (dk_at dksX9_init_0 18 rfl rfl)
theorem dX9_init_20 : decode cX9_init 20 = .ok (.putfield 20, 3) := dk_181 0 20 (dk_at dksX9_init_0 20 rfl rfl)
theorem dX9_init_23 : decode cX9_init 23 = .ok (.aload_n 0, 1) := dk_42 (dk_at dksX9_init_0 23 rfl rfl)
theorem dX9_init_24 : decode cX9_init 24 = .ok (.iload_n 2, 1) := dk_28 (dk_at dksX9_init_1 0 rfl rfl)
theorem dX9_init_25 : decode cX9_init 25 = .ok (.putfield 24, 3) := dk_181 0 24 (dk_at dksX9_init_1 1 rfl rfl)
theorem dX9_init_28 : decode cX9_init 28 = .ok (.aload_n 0, 1) := dk_42 (dk_at dksX9_init_1 4 rfl rfl)
theorem dX9_init_29 : decode cX9_init 29 = .ok (.iload_n 3, 1) := dk_29 (dk_at dksX9_init_1 5 rfl rfl)
theorem dX9_init_30 : decode cX9_init 30 = .ok (.putfield 27, 3) := dk_181 0 27 (dk_at dksX9_init_1 6 rfl rfl)
theorem dX9_init_33 : decode cX9_init 33 = .ok (.aload_n 0, 1) := dk_42 (dk_at dksX9_init_1 9 rfl rfl)
theorem dX9_init_34 : decode cX9_init 34 = .ok (.iload 4, 2) := dk_21 4 (dk_at dksX9_init_1 10 rfl rfl)
theorem dX9_init_36 : decode cX9_init 36 = .ok (.putfield 30, 3) := dk_181 0 30 (dk_at dksX9_init_1 12 rfl rfl)
theorem dX9_init_39 : decode cX9_init 39 = .ok (.aload_n 0, 1) := dk_42 (dk_at dksX9_init_1 15 rfl rfl)
theorem dX9_init_40 : decode cX9_init 40 = .ok (.iload 5, 2) := dk_21 5 (dk_at dksX9_init_1 16 rfl rfl)
theorem dX9_init_42 : decode cX9_init 42 = .ok (.putfield 33, 3) := dk_181 0 33 (dk_at dksX9_init_1 18 rfl rfl)
theorem dX9_init_45 : decode cX9_init 45 = .ok (.aload_n 0, 1) := dk_42 (dk_at dksX9_init_1 21 rfl rfl)
theorem dX9_init_46 : decode cX9_init 46 = .ok (.aload_n 1, 1) := dk_43 (dk_at dksX9_init_1 22 rfl rfl)
theorem dX9_init_47 : decode cX9_init 47 = .ok (.aload_n 1, 1) := dk_43 (dk_at dksX9_init_1 23 rfl rfl)
theorem dX9_init_48 : decode cX9_init 48 = .ok (.getfield 36, 3) := dk_180 0 36 (dk_at dksX9_init_2 0 rfl rfl)
theorem dX9_init_51 : decode cX9_init 51 = .ok (.invokevirtual 39, 3) := dk_182 0 39 (dk_at dksX9_init_2 3 rfl rfl)
theorem dX9_init_54 : decode cX9_init 54 = .ok (.putfield 43, 3) := dk_181 0 43 (dk_at dksX9_init_2 6 rfl rfl)
theorem dX9_init_57 : decode cX9_init 57 = .ok (.iconst 0, 1) := dk_3 (dk_at dksX9_init_2 9 rfl rfl)
theorem dX9_init_58 : decode cX9_init 58 = .ok (.istore 7, 2) := dk_54 7 (dk_at dksX9_init_2 10 rfl rfl)
theorem dX9_init_60 : decode cX9_init 60 = .ok (.iload 7, 2) := dk_21 7 (dk_at dksX9_init_2 12 rfl rfl)
theorem dX9_init_62 : decode cX9_init 62 = .ok (.bipush 16, 2) := dk_16 16 (dk_at dksX9_init_2 14 rfl rfl)
theorem dX9_init_64 : decode cX9_init 64 = .ok (.if_icmp .ge 18, 3) := dk_162 0 18 (dk_at dksX9_init_2 16 rfl rfl)
theorem dX9_init_67 : decode cX9_init 67 = .ok (.aload_n 0, 1) := dk_42 (dk_at dksX9_init_2 19 rfl rfl)
theorem dX9_init_68 : decode cX9_init 68 = .ok (.getfield 20, 3) := dk_180 0 20 (dk_at dksX9_init_2 20 rfl rfl)
theorem dX9_init_71 : decode cX9_init 71 = .ok (.iload 7, 2) := dk_21 7 (dk_at dksX9_init_3 0 rfl rfl)
theorem dX9_init_73 : decode cX9_init 73 = .ok (.ldc 15, 2) := dk_18 15 (dk_at dksX9_init_3 2 rfl rfl)
theorem dX9_init_75 : decode cX9_init 75 = .ok (.iastore, 1) := dk_79 (dk_at dksX9_init_3 4 rfl rfl)
theorem dX9_init_76 : decode cX9_init 76 = .ok (.iinc 7 1, 3) := dk_132 7 1 (dk_at dksX9_init_3 5 rfl rfl)
theorem dX9_init_79 : decode cX9_init 79 = .ok (.goto (-19), 3) := dk_167 255 237 (dk_at dksX9_init_3 8 rfl rfl)
theorem dX9_init_82 : decode cX9_init 82 = .ok (.iconst 0, 1) := dk_3 (dk_at dksX9_init_3 11 rfl rfl)
theorem dX9_init_83 : decode cX9_init 83 = .ok (.istore 7, 2) := dk_54 7 (dk_at dksX9_init_3 12 rfl rfl)
theorem dX9_init_85 : decode cX9_init 85 = .ok (.iload 7, 2) := dk_21 7 (dk_at dksX9_init_3 14 rfl rfl)
theorem dX9_init_87 : decode cX9_init 87 = .ok (.iconst 2, 1) := dk_5 (dk_at dksX9_init_3 16 rfl rfl)
theorem dX9_init_88 : decode cX9_init 88 = .ok (.if_icmp .ge 64, 3) := dk_162 0 64 (dk_at dksX9_init_3 17 rfl rfl)
theorem dX9_init_91 : decode cX9_init 91 = .ok (.aload_n 1, 1) := dk_43 (dk_at dksX9_init_3 20 rfl rfl)
theorem dX9_init_92 : decode cX9_init 92 = .ok (.getfield 46, 3) := dk_180 0 46 (dk_at dksX9_init_3 21 rfl rfl)
theorem dX9_init_95 : decode cX9_init 95 = .ok (.iload_n 2, 1) := dk_28 (dk_at dksX9_init_4 0 rfl rfl)
theorem dX9_init_96 : decode cX9_init 96 = .ok (.aaload, 1) := dk_50 (dk_at dksX9_init_4 1 rfl rfl)
theorem dX9_init_97 : decode cX9_init 97 = .ok (.getfield 50, 3) := dk_180 0 50 (dk_at dksX9_init_4 2 rfl rfl)
theorem dX9_init_100 : decode cX9_init 100 = .ok (.iload 7, 2) := dk_21 7 (dk_at dksX9_init_4 5 rfl rfl)
theorem dX9_init_102 : decode cX9_init 102 = .ok (.iaload, 1) := dk_46 (dk_at dksX9_init_4 7 rfl rfl)
theorem dX9_init_103 : decode cX9_init 103 = .ok (.iload 6, 2) := dk_21 6 (dk_at dksX9_init_4 8 rfl rfl)
theorem dX9_init_105 : decode cX9_init 105 = .ok (.if_icmp .lt 41, 3) := dk_161 0 41 (dk_at dksX9_init_4 10 rfl rfl)
theorem dX9_init_108 : decode cX9_init 108 = .ok (.aload_n 0, 1) := dk_42 (dk_at dksX9_init_4 13 rfl rfl)
theorem dX9_init_109 : decode cX9_init 109 = .ok (.getfield 16, 3) := dk_180 0 16 (dk_at dksX9_init_4 14 rfl rfl)
theorem dX9_init_112 : decode cX9_init 112 = .ok (.ldc 15, 2) := dk_18 15 (dk_at dksX9_init_4 17 rfl rfl)
theorem dX9_init_114 : decode cX9_init 114 = .ok (.if_icmp .eq 26, 3) := dk_159 0 26 (dk_at dksX9_init_4 19 rfl rfl)
theorem dX9_init_117 : decode cX9_init 117 = .ok (.aload_n 0, 1) := dk_42 (dk_at dksX9_init_4 22 rfl rfl)
theorem dX9_init_118 : decode cX9_init 118 = .ok (.iload 7, 2) := dk_21 7 (dk_at dksX9_init_5 0 rfl rfl)
theorem dX9_init_120 : decode cX9_init 120 = .ok (.invokevirtual 55, 3) := dk_182 0 55 (dk_at dksX9_init_5 2 rfl rfl)
theorem dX9_init_123 : decode cX9_init 123 = .ok (.invokestatic 58, 3) := dk_184 0 58 (dk_at dksX9_init_5 5 rfl rfl)
theorem dX9_init_126 : decode cX9_init 126 = .ok (.aload_n 0, 1) := dk_42 (dk_at dksX9_init_5 8 rfl rfl)
theorem dX9_init_127 : decode cX9_init 127 = .ok (.aload_n 0, 1) := dk_42 (dk_at dksX9_init_5 9 rfl rfl)
theorem dX9_init_128 : decode cX9_init 128 = .ok (.getfield 16, 3) := dk_180 0 16 (dk_at dksX9_init_5 10 rfl rfl)
theorem dX9_init_131 : decode cX9_init 131 = .ok (.invokevirtual 55, 3) := dk_182 0 55 (dk_at dksX9_init_5 13 rfl rfl)
theorem dX9_init_134 : decode cX9_init 134 = .ok (.invokestatic 58, 3) := dk_184 0 58 (dk_at dksX9_init_5 16 rfl rfl)
theorem dX9_init_137 : decode cX9_init 137 = .ok (.if_icmp .ge 9, 3) := dk_162 0 9 (dk_at dksX9_init_5 19 rfl rfl)
theorem dX9_init_140 : decode cX9_init 140 = .ok (.aload_n 0, 1) := dk_42 (dk_at dksX9_init_5 22 rfl rfl)
theorem dX9_init_141 : decode cX9_init 141 = .ok (.iload 7, 2) := dk_21 7 (dk_at dksX9_init_6 0 rfl rfl)
theorem dX9_init_143 : decode cX9_init 143 = .ok (.putfield 16, 3) := dk_181 0 16 (dk_at dksX9_init_6 2 rfl rfl)
theorem dX9_init_146 : decode cX9_init 146 = .ok (.iinc 7 1, 3) := dk_132 7 1 (dk_at dksX9_init_6 5 rfl rfl)
theorem dX9_init_149 : decode cX9_init 149 = .ok (.goto (-64), 3) := dk_167 255 192 (dk_at dksX9_init_6 8 rfl rfl)
theorem dX9_init_152 : decode cX9_init 152 = .ok (.aload_n 0, 1) := dk_42 (dk_at dksX9_init_6 11 rfl rfl)
theorem dX9_init_153 : decode cX9_init 153 = .ok (.aload_n 0, 1) := dk_42 (dk_at dksX9_init_6 12 rfl rfl)
theorem dX9_init_154 : decode cX9_init 154 = .ok (.getfield 16, 3) := dk_180 0 16 (dk_at dksX9_init_6 13 rfl rfl)
theorem dX9_init_157 : decode cX9_init 157 = .ok (.ldc 15, 2) := dk_18 15 (dk_at dksX9_init_6 16 rfl rfl)
theorem dX9_init_159 : decode cX9_init 159 = .ok (.if_icmp .ne 7, 3) := dk_160 0 7 (dk_at dksX9_init_6 18 rfl rfl)
theorem dX9_init_162 : decode cX9_init 162 = .ok (.iconst 0, 1) := dk_3 (dk_at dksX9_init_6 21 rfl rfl)
theorem dX9_init_163 : decode cX9_init 163 = .ok (.goto 11, 3) := dk_167 0 11 (dk_at dksX9_init_7 0 rfl rfl)
theorem dX9_init_166 : decode cX9_init 166 = .ok (.aload_n 0, 1) := dk_42 (dk_at dksX9_init_7 3 rfl rfl)
theorem dX9_init_167 : decode cX9_init 167 = .ok (.aload_n 0, 1) := dk_42 (dk_at dksX9_init_7 4 rfl rfl)
theorem dX9_init_168 : decode cX9_init 168 = .ok (.getfield 16, 3) := dk_180 0 16 (dk_at dksX9_init_7 5 rfl rfl)
theorem dX9_init_171 : decode cX9_init 171 = .ok (.invokevirtual 55, 3) := dk_182 0 55 (dk_at dksX9_init_7 8 rfl rfl)
theorem dX9_init_174 : decode cX9_init 174 = .ok (.putfield 63, 3) := dk_181 0 63 (dk_at dksX9_init_7 11 rfl rfl)
theorem dX9_init_177 : decode cX9_init 177 = .ok (.iconst 0, 1) := dk_3 (dk_at dksX9_init_7 14 rfl rfl)
theorem dX9_init_178 : decode cX9_init 178 = .ok (.istore 7, 2) := dk_54 7 (dk_at dksX9_init_7 15 rfl rfl)
theorem dX9_init_180 : decode cX9_init 180 = .ok (.iload 7, 2) := dk_21 7 (dk_at dksX9_init_7 17 rfl rfl)
theorem dX9_init_182 : decode cX9_init 182 = .ok (.aload_n 1, 1) := dk_43 (dk_at dksX9_init_7 19 rfl rfl)
theorem dX9_init_183 : decode cX9_init 183 = .ok (.getfield 66, 3) := dk_180 0 66 (dk_at dksX9_init_7 20 rfl rfl)
theorem dX9_init_186 : decode cX9_init 186 = .ok (.invokeinterface 70 1, 5) := by decide +kernel
theorem dX9_init_191 : decode cX9_init 191 = .ok (.if_icmp .ge 47, 3) := dk_162 0 47 (dk_at dksX9_init_8 5 rfl rfl)
theorem dX9_init_194 : decode cX9_init 194 = .ok (.aload_n 0, 1) := dk_42 (dk_at dksX9_init_8 8 rfl rfl)
theorem dX9_init_195 : decode cX9_init 195 = .ok (.getfield 63, 3) := dk_180 0 63 (dk_at dksX9_init_8 9 rfl rfl)
theorem dX9_init_198 : decode cX9_init 198 = .ok (.iload 7, 2) := dk_21 7 (dk_at dksX9_init_8 12 rfl rfl)
theorem dX9_init_200 : decode cX9_init 200 = .ok (.ishr, 1) := dk_122 (dk_at dksX9_init_8 14 rfl rfl)
theorem dX9_init_201 : decode cX9_init 201 = .ok (.iconst 1, 1) := dk_4 (dk_at dksX9_init_8 15 rfl rfl)
theorem dX9_init_202 : decode cX9_init 202 = .ok (.iand, 1) := dk_126 (dk_at dksX9_init_8 16 rfl rfl)
theorem dX9_init_203 : decode cX9_init 203 = .ok (.iconst 1, 1) := dk_4 (dk_at dksX9_init_8 17 rfl rfl)
theorem dX9_init_204 : decode cX9_init 204 = .ok (.if_icmp .ne 28, 3) := dk_160 0 28 (dk_at dksX9_init_8 18 rfl rfl)
theorem dX9_init_207 : decode cX9_init 207 = .ok (.aload_n 0, 1) := dk_42 (dk_at dksX9_init_8 21 rfl rfl)
theorem dX9_init_208 : decode cX9_init 208 = .ok (.getfield 20, 3) := dk_180 0 20 (dk_at dksX9_init_9 0 rfl rfl)
theorem dX9_init_211 : decode cX9_init 211 = .ok (.iload 7, 2) := dk_21 7 (dk_at dksX9_init_9 3 rfl rfl)
theorem dX9_init_213 : decode cX9_init 213 = .ok (.aload_n 0, 1) := dk_42 (dk_at dksX9_init_9 5 rfl rfl)
theorem dX9_init_214 : decode cX9_init 214 = .ok (.aload_n 1, 1) := dk_43 (dk_at dksX9_init_9 6 rfl rfl)
theorem dX9_init_215 : decode cX9_init 215 = .ok (.getfield 66, 3) := dk_180 0 66 (dk_at dksX9_init_9 7 rfl rfl)
theorem dX9_init_218 : decode cX9_init 218 = .ok (.iload 7, 2) := dk_21 7 (dk_at dksX9_init_9 10 rfl rfl)
theorem dX9_init_220 : decode cX9_init 220 = .ok (.invokeinterface 76 2, 5) := by decide +kernel
theorem dX9_init_225 : decode cX9_init 225 = .ok (.checkcast 80, 3) := dk_192 0 80 (dk_at dksX9_init_9 17 rfl rfl)
theorem dX9_init_228 : decode cX9_init 228 = .ok (.invokevirtual 82, 3) := dk_182 0 82 (dk_at dksX9_init_9 20 rfl rfl)
theorem dX9_init_231 : decode cX9_init 231 = .ok (.iastore, 1) := dk_79 (dk_at dksX9_init_9 23 rfl rfl)
theorem dX9_init_232 : decode cX9_init 232 = .ok (.iinc 7 1, 3) := dk_132 7 1 (dk_at dksX9_init_10 0 rfl rfl)
theorem dX9_init_235 : decode cX9_init 235 = .ok (.goto (-55), 3) := dk_167 255 201 (dk_at dksX9_init_10 3 rfl rfl)
theorem dX9_init_238 : decode cX9_init 238 = .ok (.return_, 1) := dk_177 (dk_at dksX9_init_10 6 rfl rfl)
abbrev cX9_inWay : ByteArray := prog_10_method_2_code
def yX9_inWay : MethodName := ⟨RX9, "inWay", "(I)I"⟩
def dkwX9_inWay_5 : List UInt8 := [167, 0, 4, 3, 128, 61, 132, 3, 1, 167, 255, 134, 28, 172]
abbrev dktX9_inWay_5 : List UInt8 := dkwX9_inWay_5 ++ []
def dkwX9_inWay_4 : List UInt8 := [42, 180, 0, 3, 180, 0, 46, 42, 180, 0, 24, 50, 180, 0, 90, 182, 0, 93, 153, 0, 9, 4, 29, 120]
abbrev dktX9_inWay_4 : List UInt8 := dkwX9_inWay_4 ++ dktX9_inWay_5
def dkwX9_inWay_3 : List UInt8 := [180, 0, 3, 180, 0, 66, 29, 185, 0, 76, 2, 0, 192, 0, 80, 42, 180, 0, 30, 42, 180, 0, 33, 6]
abbrev dktX9_inWay_3 : List UInt8 := dkwX9_inWay_3 ++ dktX9_inWay_4
def dkwX9_inWay_2 : List UInt8 := [185, 0, 76, 2, 0, 192, 0, 80, 42, 180, 0, 24, 27, 42, 180, 0, 27, 182, 0, 86, 153, 0, 55, 42]
abbrev dktX9_inWay_2 : List UInt8 := dkwX9_inWay_2 ++ dktX9_inWay_3
def dkwX9_inWay_1 : List UInt8 := [180, 0, 43, 29, 122, 4, 126, 4, 160, 0, 90, 42, 180, 0, 3, 42, 180, 0, 3, 180, 0, 66, 29]
abbrev dktX9_inWay_1 : List UInt8 := dkwX9_inWay_1 ++ dktX9_inWay_2
def dkwX9_inWay_0 : List UInt8 := [3, 61, 3, 62, 29, 42, 180, 0, 3, 180, 0, 66, 185, 0, 70, 1, 0, 162, 0, 112, 28, 42]
abbrev dktX9_inWay_0 : List UInt8 := dkwX9_inWay_0 ++ dktX9_inWay_1
theorem dksX9_inWay_0 : cX9_inWay.data.toList.drop 0 = dktX9_inWay_0 := by decide +kernel
theorem dksX9_inWay_1 : cX9_inWay.data.toList.drop 22 = dktX9_inWay_1 := dk_seg dksX9_inWay_0 22 rfl rfl
theorem dksX9_inWay_2 : cX9_inWay.data.toList.drop 45 = dktX9_inWay_2 := dk_seg dksX9_inWay_1 23 rfl rfl
theorem dksX9_inWay_3 : cX9_inWay.data.toList.drop 69 = dktX9_inWay_3 := dk_seg dksX9_inWay_2 24 rfl rfl
theorem dksX9_inWay_4 : cX9_inWay.data.toList.drop 93 = dktX9_inWay_4 := dk_seg dksX9_inWay_3 24 rfl rfl
theorem dksX9_inWay_5 : cX9_inWay.data.toList.drop 117 = dktX9_inWay_5 := dk_seg dksX9_inWay_4 24 rfl rfl
theorem dX9_inWay_0 : decode cX9_inWay 0 = .ok (.iconst 0, 1) := dk_3 (dk_at dksX9_inWay_0 0 rfl rfl)
theorem dX9_inWay_1 : decode cX9_inWay 1 = .ok (.istore_n 2, 1) := dk_61 (dk_at dksX9_inWay_0 1 rfl rfl)
theorem dX9_inWay_2 : decode cX9_inWay 2 = .ok (.iconst 0, 1) := dk_3 (dk_at dksX9_inWay_0 2 rfl rfl)
theorem dX9_inWay_3 : decode cX9_inWay 3 = .ok (.istore_n 3, 1) := dk_62 (dk_at dksX9_inWay_0 3 rfl rfl)
theorem dX9_inWay_4 : decode cX9_inWay 4 = .ok (.iload_n 3, 1) := dk_29 (dk_at dksX9_inWay_0 4 rfl rfl)
theorem dX9_inWay_5 : decode cX9_inWay 5 = .ok (.aload_n 0, 1) := dk_42 (dk_at dksX9_inWay_0 5 rfl rfl)
theorem dX9_inWay_6 : decode cX9_inWay 6 = .ok (.getfield 3, 3) := dk_180 0 3 (dk_at dksX9_inWay_0 6 rfl rfl)
theorem dX9_inWay_9 : decode cX9_inWay 9 = .ok (.getfield 66, 3) := dk_180 0 66 (dk_at dksX9_inWay_0 9 rfl rfl)
theorem dX9_inWay_12 : decode cX9_inWay 12 = .ok (.invokeinterface 70 1, 5) := by decide +kernel
theorem dX9_inWay_17 : decode cX9_inWay 17 = .ok (.if_icmp .ge 112, 3) := dk_162 0 112 (dk_at dksX9_inWay_0 17 rfl rfl)
theorem dX9_inWay_20 : decode cX9_inWay 20 = .ok (.iload_n 2, 1) := dk_28 (dk_at dksX9_inWay_0 20 rfl rfl)
theorem dX9_inWay_21 : decode cX9_inWay 21 = .ok (.aload_n 0, 1) := dk_42 (dk_at dksX9_inWay_0 21 rfl rfl)
theorem dX9_inWay_22 : decode cX9_inWay 22 = .ok (.getfield 43, 3) := dk_180 0 43 (dk_at dksX9_inWay_1 0 rfl rfl)
theorem dX9_inWay_25 : decode cX9_inWay 25 = .ok (.iload_n 3, 1) := dk_29 (dk_at dksX9_inWay_1 3 rfl rfl)
theorem dX9_inWay_26 : decode cX9_inWay 26 = .ok (.ishr, 1) := dk_122 (dk_at dksX9_inWay_1 4 rfl rfl)
theorem dX9_inWay_27 : decode cX9_inWay 27 = .ok (.iconst 1, 1) := dk_4 (dk_at dksX9_inWay_1 5 rfl rfl)
theorem dX9_inWay_28 : decode cX9_inWay 28 = .ok (.iand, 1) := dk_126 (dk_at dksX9_inWay_1 6 rfl rfl)
theorem dX9_inWay_29 : decode cX9_inWay 29 = .ok (.iconst 1, 1) := dk_4 (dk_at dksX9_inWay_1 7 rfl rfl)
theorem dX9_inWay_30 : decode cX9_inWay 30 = .ok (.if_icmp .ne 90, 3) := dk_160 0 90 (dk_at dksX9_inWay_1 8 rfl rfl)
theorem dX9_inWay_33 : decode cX9_inWay 33 = .ok (.aload_n 0, 1) := dk_42 (dk_at dksX9_inWay_1 11 rfl rfl)
theorem dX9_inWay_34 : decode cX9_inWay 34 = .ok (.getfield 3, 3) := dk_180 0 3 (dk_at dksX9_inWay_1 12 rfl rfl)
theorem dX9_inWay_37 : decode cX9_inWay 37 = .ok (.aload_n 0, 1) := dk_42 (dk_at dksX9_inWay_1 15 rfl rfl)
theorem dX9_inWay_38 : decode cX9_inWay 38 = .ok (.getfield 3, 3) := dk_180 0 3 (dk_at dksX9_inWay_1 16 rfl rfl)
theorem dX9_inWay_41 : decode cX9_inWay 41 = .ok (.getfield 66, 3) := dk_180 0 66 (dk_at dksX9_inWay_1 19 rfl rfl)
theorem dX9_inWay_44 : decode cX9_inWay 44 = .ok (.iload_n 3, 1) := dk_29 (dk_at dksX9_inWay_1 22 rfl rfl)
theorem dX9_inWay_45 : decode cX9_inWay 45 = .ok (.invokeinterface 76 2, 5) := by decide +kernel
theorem dX9_inWay_50 : decode cX9_inWay 50 = .ok (.checkcast 80, 3) := dk_192 0 80 (dk_at dksX9_inWay_2 5 rfl rfl)
theorem dX9_inWay_53 : decode cX9_inWay 53 = .ok (.aload_n 0, 1) := dk_42 (dk_at dksX9_inWay_2 8 rfl rfl)
theorem dX9_inWay_54 : decode cX9_inWay 54 = .ok (.getfield 24, 3) := dk_180 0 24 (dk_at dksX9_inWay_2 9 rfl rfl)
theorem dX9_inWay_57 : decode cX9_inWay 57 = .ok (.iload_n 1, 1) := dk_27 (dk_at dksX9_inWay_2 12 rfl rfl)
theorem dX9_inWay_58 : decode cX9_inWay 58 = .ok (.aload_n 0, 1) := dk_42 (dk_at dksX9_inWay_2 13 rfl rfl)
theorem dX9_inWay_59 : decode cX9_inWay 59 = .ok (.getfield 27, 3) := dk_180 0 27 (dk_at dksX9_inWay_2 14 rfl rfl)
theorem dX9_inWay_62 : decode cX9_inWay 62 = .ok (.invokevirtual 86, 3) := dk_182 0 86 (dk_at dksX9_inWay_2 17 rfl rfl)
theorem dX9_inWay_65 : decode cX9_inWay 65 = .ok (.ifCond .eq 55, 3) := dk_153 0 55 (dk_at dksX9_inWay_2 20 rfl rfl)
theorem dX9_inWay_68 : decode cX9_inWay 68 = .ok (.aload_n 0, 1) := dk_42 (dk_at dksX9_inWay_2 23 rfl rfl)
theorem dX9_inWay_69 : decode cX9_inWay 69 = .ok (.getfield 3, 3) := dk_180 0 3 (dk_at dksX9_inWay_3 0 rfl rfl)
theorem dX9_inWay_72 : decode cX9_inWay 72 = .ok (.getfield 66, 3) := dk_180 0 66 (dk_at dksX9_inWay_3 3 rfl rfl)
theorem dX9_inWay_75 : decode cX9_inWay 75 = .ok (.iload_n 3, 1) := dk_29 (dk_at dksX9_inWay_3 6 rfl rfl)
theorem dX9_inWay_76 : decode cX9_inWay 76 = .ok (.invokeinterface 76 2, 5) := by decide +kernel
theorem dX9_inWay_81 : decode cX9_inWay 81 = .ok (.checkcast 80, 3) := dk_192 0 80 (dk_at dksX9_inWay_3 12 rfl rfl)
theorem dX9_inWay_84 : decode cX9_inWay 84 = .ok (.aload_n 0, 1) := dk_42 (dk_at dksX9_inWay_3 15 rfl rfl)
theorem dX9_inWay_85 : decode cX9_inWay 85 = .ok (.getfield 30, 3) := dk_180 0 30 (dk_at dksX9_inWay_3 16 rfl rfl)
theorem dX9_inWay_88 : decode cX9_inWay 88 = .ok (.aload_n 0, 1) := dk_42 (dk_at dksX9_inWay_3 19 rfl rfl)
theorem dX9_inWay_89 : decode cX9_inWay 89 = .ok (.getfield 33, 3) := dk_180 0 33 (dk_at dksX9_inWay_3 20 rfl rfl)
theorem dX9_inWay_92 : decode cX9_inWay 92 = .ok (.iconst 3, 1) := dk_6 (dk_at dksX9_inWay_3 23 rfl rfl)
theorem dX9_inWay_93 : decode cX9_inWay 93 = .ok (.aload_n 0, 1) := dk_42 (dk_at dksX9_inWay_4 0 rfl rfl)
theorem dX9_inWay_94 : decode cX9_inWay 94 = .ok (.getfield 3, 3) := dk_180 0 3 (dk_at dksX9_inWay_4 1 rfl rfl)
theorem dX9_inWay_97 : decode cX9_inWay 97 = .ok (.getfield 46, 3) := dk_180 0 46 (dk_at dksX9_inWay_4 4 rfl rfl)
theorem dX9_inWay_100 : decode cX9_inWay 100 = .ok (.aload_n 0, 1) := dk_42 (dk_at dksX9_inWay_4 7 rfl rfl)
theorem dX9_inWay_101 : decode cX9_inWay 101 = .ok (.getfield 24, 3) := dk_180 0 24 (dk_at dksX9_inWay_4 8 rfl rfl)
theorem dX9_inWay_104 : decode cX9_inWay 104 = .ok (.aaload, 1) := dk_50 (dk_at dksX9_inWay_4 11 rfl rfl)
theorem dX9_inWay_105 : decode cX9_inWay 105 = .ok (.getfield 90, 3) := dk_180 0 90 (dk_at dksX9_inWay_4 12 rfl rfl)
theorem dX9_inWay_108 : decode cX9_inWay 108 = .ok (.invokevirtual 93, 3) := dk_182 0 93 (dk_at dksX9_inWay_4 15 rfl rfl)
theorem dX9_inWay_111 : decode cX9_inWay 111 = .ok (.ifCond .eq 9, 3) := dk_153 0 9 (dk_at dksX9_inWay_4 18 rfl rfl)
theorem dX9_inWay_114 : decode cX9_inWay 114 = .ok (.iconst 1, 1) := dk_4 (dk_at dksX9_inWay_4 21 rfl rfl)
theorem dX9_inWay_115 : decode cX9_inWay 115 = .ok (.iload_n 3, 1) := dk_29 (dk_at dksX9_inWay_4 22 rfl rfl)
theorem dX9_inWay_116 : decode cX9_inWay 116 = .ok (.ishl, 1) := dk_120 (dk_at dksX9_inWay_4 23 rfl rfl)
theorem dX9_inWay_117 : decode cX9_inWay 117 = .ok (.goto 4, 3) := dk_167 0 4 (dk_at dksX9_inWay_5 0 rfl rfl)
theorem dX9_inWay_120 : decode cX9_inWay 120 = .ok (.iconst 0, 1) := dk_3 (dk_at dksX9_inWay_5 3 rfl rfl)
theorem dX9_inWay_121 : decode cX9_inWay 121 = .ok (.ior, 1) := dk_128 (dk_at dksX9_inWay_5 4 rfl rfl)
theorem dX9_inWay_122 : decode cX9_inWay 122 = .ok (.istore_n 2, 1) := dk_61 (dk_at dksX9_inWay_5 5 rfl rfl)
theorem dX9_inWay_123 : decode cX9_inWay 123 = .ok (.iinc 3 1, 3) := dk_132 3 1 (dk_at dksX9_inWay_5 6 rfl rfl)
theorem dX9_inWay_126 : decode cX9_inWay 126 = .ok (.goto (-122), 3) := dk_167 255 134 (dk_at dksX9_inWay_5 9 rfl rfl)
theorem dX9_inWay_129 : decode cX9_inWay 129 = .ok (.iload_n 2, 1) := dk_28 (dk_at dksX9_inWay_5 12 rfl rfl)
theorem dX9_inWay_130 : decode cX9_inWay 130 = .ok (.ireturn, 1) := dk_172 (dk_at dksX9_inWay_5 13 rfl rfl)
abbrev cX9_placeFor : ByteArray := prog_10_method_3_code
def yX9_placeFor : MethodName := ⟨RX9, "placeFor", "(LVillageHalls$Booking;)I"⟩
def dkwX9_placeFor_1 : List UInt8 := [112, 182, 0, 98, 153, 0, 11, 5, 29, 104, 28, 5, 112, 96, 172, 132, 2, 1, 167, 255, 216, 18, 15, 172]
abbrev dktX9_placeFor_1 : List UInt8 := dkwX9_placeFor_1 ++ []
def dkwX9_placeFor_0 : List UInt8 := [3, 61, 28, 16, 8, 162, 0, 40, 43, 180, 0, 97, 28, 5, 108, 96, 7, 112, 62, 42, 43, 29, 28, 5]
abbrev dktX9_placeFor_0 : List UInt8 := dkwX9_placeFor_0 ++ dktX9_placeFor_1
theorem dksX9_placeFor_0 : cX9_placeFor.data.toList.drop 0 = dktX9_placeFor_0 := by decide +kernel
theorem dksX9_placeFor_1 : cX9_placeFor.data.toList.drop 24 = dktX9_placeFor_1 := dk_seg dksX9_placeFor_0 24 rfl rfl
theorem dX9_placeFor_0 : decode cX9_placeFor 0 = .ok (.iconst 0, 1) := dk_3 (dk_at dksX9_placeFor_0 0 rfl rfl)
theorem dX9_placeFor_1 : decode cX9_placeFor 1 = .ok (.istore_n 2, 1) := dk_61 (dk_at dksX9_placeFor_0 1 rfl rfl)
theorem dX9_placeFor_2 : decode cX9_placeFor 2 = .ok (.iload_n 2, 1) := dk_28 (dk_at dksX9_placeFor_0 2 rfl rfl)
theorem dX9_placeFor_3 : decode cX9_placeFor 3 = .ok (.bipush 8, 2) := dk_16 8 (dk_at dksX9_placeFor_0 3 rfl rfl)
theorem dX9_placeFor_5 : decode cX9_placeFor 5 = .ok (.if_icmp .ge 40, 3) := dk_162 0 40 (dk_at dksX9_placeFor_0 5 rfl rfl)
theorem dX9_placeFor_8 : decode cX9_placeFor 8 = .ok (.aload_n 1, 1) := dk_43 (dk_at dksX9_placeFor_0 8 rfl rfl)
theorem dX9_placeFor_9 : decode cX9_placeFor 9 = .ok (.getfield 97, 3) := dk_180 0 97 (dk_at dksX9_placeFor_0 9 rfl rfl)
theorem dX9_placeFor_12 : decode cX9_placeFor 12 = .ok (.iload_n 2, 1) := dk_28 (dk_at dksX9_placeFor_0 12 rfl rfl)
theorem dX9_placeFor_13 : decode cX9_placeFor 13 = .ok (.iconst 2, 1) := dk_5 (dk_at dksX9_placeFor_0 13 rfl rfl)
theorem dX9_placeFor_14 : decode cX9_placeFor 14 = .ok (.idiv, 1) := dk_108 (dk_at dksX9_placeFor_0 14 rfl rfl)
theorem dX9_placeFor_15 : decode cX9_placeFor 15 = .ok (.iadd, 1) := dk_96 (dk_at dksX9_placeFor_0 15 rfl rfl)
theorem dX9_placeFor_16 : decode cX9_placeFor 16 = .ok (.iconst 4, 1) := dk_7 (dk_at dksX9_placeFor_0 16 rfl rfl)
theorem dX9_placeFor_17 : decode cX9_placeFor 17 = .ok (.irem, 1) := dk_112 (dk_at dksX9_placeFor_0 17 rfl rfl)
theorem dX9_placeFor_18 : decode cX9_placeFor 18 = .ok (.istore_n 3, 1) := dk_62 (dk_at dksX9_placeFor_0 18 rfl rfl)
theorem dX9_placeFor_19 : decode cX9_placeFor 19 = .ok (.aload_n 0, 1) := dk_42 (dk_at dksX9_placeFor_0 19 rfl rfl)
theorem dX9_placeFor_20 : decode cX9_placeFor 20 = .ok (.aload_n 1, 1) := dk_43 (dk_at dksX9_placeFor_0 20 rfl rfl)
theorem dX9_placeFor_21 : decode cX9_placeFor 21 = .ok (.iload_n 3, 1) := dk_29 (dk_at dksX9_placeFor_0 21 rfl rfl)
theorem dX9_placeFor_22 : decode cX9_placeFor 22 = .ok (.iload_n 2, 1) := dk_28 (dk_at dksX9_placeFor_0 22 rfl rfl)
theorem dX9_placeFor_23 : decode cX9_placeFor 23 = .ok (.iconst 2, 1) := dk_5 (dk_at dksX9_placeFor_0 23 rfl rfl)
theorem dX9_placeFor_24 : decode cX9_placeFor 24 = .ok (.irem, 1) := dk_112 (dk_at dksX9_placeFor_1 0 rfl rfl)
theorem dX9_placeFor_25 : decode cX9_placeFor 25 = .ok (.invokevirtual 98, 3) := dk_182 0 98 (dk_at dksX9_placeFor_1 1 rfl rfl)
theorem dX9_placeFor_28 : decode cX9_placeFor 28 = .ok (.ifCond .eq 11, 3) := dk_153 0 11 (dk_at dksX9_placeFor_1 4 rfl rfl)
theorem dX9_placeFor_31 : decode cX9_placeFor 31 = .ok (.iconst 2, 1) := dk_5 (dk_at dksX9_placeFor_1 7 rfl rfl)
theorem dX9_placeFor_32 : decode cX9_placeFor 32 = .ok (.iload_n 3, 1) := dk_29 (dk_at dksX9_placeFor_1 8 rfl rfl)
theorem dX9_placeFor_33 : decode cX9_placeFor 33 = .ok (.imul, 1) := dk_104 (dk_at dksX9_placeFor_1 9 rfl rfl)
theorem dX9_placeFor_34 : decode cX9_placeFor 34 = .ok (.iload_n 2, 1) := dk_28 (dk_at dksX9_placeFor_1 10 rfl rfl)
theorem dX9_placeFor_35 : decode cX9_placeFor 35 = .ok (.iconst 2, 1) := dk_5 (dk_at dksX9_placeFor_1 11 rfl rfl)
theorem dX9_placeFor_36 : decode cX9_placeFor 36 = .ok (.irem, 1) := dk_112 (dk_at dksX9_placeFor_1 12 rfl rfl)
theorem dX9_placeFor_37 : decode cX9_placeFor 37 = .ok (.iadd, 1) := dk_96 (dk_at dksX9_placeFor_1 13 rfl rfl)
theorem dX9_placeFor_38 : decode cX9_placeFor 38 = .ok (.ireturn, 1) := dk_172 (dk_at dksX9_placeFor_1 14 rfl rfl)
theorem dX9_placeFor_39 : decode cX9_placeFor 39 = .ok (.iinc 2 1, 3) := dk_132 2 1 (dk_at dksX9_placeFor_1 15 rfl rfl)
theorem dX9_placeFor_42 : decode cX9_placeFor 42 = .ok (.goto (-40), 3) := dk_167 255 216 (dk_at dksX9_placeFor_1 18 rfl rfl)
theorem dX9_placeFor_45 : decode cX9_placeFor 45 = .ok (.ldc 15, 2) := dk_18 15 (dk_at dksX9_placeFor_1 21 rfl rfl)
theorem dX9_placeFor_47 : decode cX9_placeFor 47 = .ok (.ireturn, 1) := dk_172 (dk_at dksX9_placeFor_1 23 rfl rfl)
abbrev cX9_isFreeFor : ByteArray := prog_10_method_4_code
def yX9_isFreeFor : MethodName := ⟨RX9, "isFreeFor", "(LVillageHalls$Booking;II)Z"⟩
def dkwX9_isFreeFor_10 : List UInt8 := [180, 0, 108, 21, 4, 182, 0, 93, 153, 0, 5, 3, 172, 132, 5, 1, 167, 255, 97, 4, 172]
abbrev dktX9_isFreeFor_10 : List UInt8 := dkwX9_isFreeFor_10 ++ []
def dkwX9_isFreeFor_9 : List UInt8 := [21, 7, 154, 0, 8, 21, 8, 153, 0, 29, 43, 25, 6, 180, 0, 106, 25, 6, 180, 0, 107, 25, 6]
abbrev dktX9_isFreeFor_9 : List UInt8 := dkwX9_isFreeFor_9 ++ dktX9_isFreeFor_10
def dkwX9_isFreeFor_8 : List UInt8 := [96, 160, 0, 19, 25, 6, 180, 0, 105, 43, 180, 0, 105, 160, 0, 7, 4, 167, 0, 4, 3, 54, 8]
abbrev dktX9_isFreeFor_8 : List UInt8 := dkwX9_isFreeFor_8 ++ dktX9_isFreeFor_9
def dkwX9_isFreeFor_7 : List UInt8 := [182, 0, 86, 153, 0, 7, 4, 167, 0, 4, 3, 54, 7, 42, 180, 0, 20, 21, 5, 46, 5, 28, 104, 29]
abbrev dktX9_isFreeFor_7 : List UInt8 := dkwX9_isFreeFor_7 ++ dktX9_isFreeFor_8
def dkwX9_isFreeFor_6 : List UInt8 := [180, 0, 63, 21, 5, 122, 4, 126, 154, 0, 25, 42, 180, 0, 3, 25, 6, 28, 29, 43, 180, 0, 105]
abbrev dktX9_isFreeFor_6 : List UInt8 := dkwX9_isFreeFor_6 ++ dktX9_isFreeFor_7
def dkwX9_isFreeFor_5 : List UInt8 := [185, 0, 76, 2, 0, 192, 0, 80, 58, 6, 42, 180, 0, 43, 21, 5, 122, 4, 126, 4, 160, 0, 37, 42]
abbrev dktX9_isFreeFor_5 : List UInt8 := dkwX9_isFreeFor_5 ++ dktX9_isFreeFor_6
def dkwX9_isFreeFor_4 : List UInt8 := [180, 0, 66, 185, 0, 70, 1, 0, 162, 0, 148, 42, 180, 0, 3, 180, 0, 66, 21, 5]
abbrev dktX9_isFreeFor_4 : List UInt8 := dkwX9_isFreeFor_4 ++ dktX9_isFreeFor_5
def dkwX9_isFreeFor_3 : List UInt8 := [180, 0, 33, 6, 21, 4, 182, 0, 93, 153, 0, 5, 3, 172, 3, 54, 5, 21, 5, 42, 180, 0, 3]
abbrev dktX9_isFreeFor_3 : List UInt8 := dkwX9_isFreeFor_3 ++ dktX9_isFreeFor_4
def dkwX9_isFreeFor_2 : List UInt8 := [42, 180, 0, 16, 160, 0, 34, 43, 180, 0, 105, 42, 180, 0, 27, 160, 0, 23, 43, 42, 180, 0, 30, 42]
abbrev dktX9_isFreeFor_2 : List UInt8 := dkwX9_isFreeFor_2 ++ dktX9_isFreeFor_3
def dkwX9_isFreeFor_1 : List UInt8 := [180, 0, 46, 28, 50, 180, 0, 50, 29, 46, 164, 0, 5, 3, 172, 28, 42, 180, 0, 24, 160, 0, 42, 29]
abbrev dktX9_isFreeFor_1 : List UInt8 := dkwX9_isFreeFor_1 ++ dktX9_isFreeFor_2
def dkwX9_isFreeFor_0 : List UInt8 := [42, 180, 0, 3, 180, 0, 46, 28, 50, 180, 0, 90, 54, 4, 43, 180, 0, 102, 42, 180, 0, 3]
abbrev dktX9_isFreeFor_0 : List UInt8 := dkwX9_isFreeFor_0 ++ dktX9_isFreeFor_1
theorem dksX9_isFreeFor_0 : cX9_isFreeFor.data.toList.drop 0 = dktX9_isFreeFor_0 := by decide +kernel
theorem dksX9_isFreeFor_1 : cX9_isFreeFor.data.toList.drop 22 = dktX9_isFreeFor_1 := dk_seg dksX9_isFreeFor_0 22 rfl rfl
theorem dksX9_isFreeFor_2 : cX9_isFreeFor.data.toList.drop 46 = dktX9_isFreeFor_2 := dk_seg dksX9_isFreeFor_1 24 rfl rfl
theorem dksX9_isFreeFor_3 : cX9_isFreeFor.data.toList.drop 70 = dktX9_isFreeFor_3 := dk_seg dksX9_isFreeFor_2 24 rfl rfl
theorem dksX9_isFreeFor_4 : cX9_isFreeFor.data.toList.drop 93 = dktX9_isFreeFor_4 := dk_seg dksX9_isFreeFor_3 23 rfl rfl
theorem dksX9_isFreeFor_5 : cX9_isFreeFor.data.toList.drop 113 = dktX9_isFreeFor_5 := dk_seg dksX9_isFreeFor_4 20 rfl rfl
theorem dksX9_isFreeFor_6 : cX9_isFreeFor.data.toList.drop 137 = dktX9_isFreeFor_6 := dk_seg dksX9_isFreeFor_5 24 rfl rfl
theorem dksX9_isFreeFor_7 : cX9_isFreeFor.data.toList.drop 160 = dktX9_isFreeFor_7 := dk_seg dksX9_isFreeFor_6 23 rfl rfl
theorem dksX9_isFreeFor_8 : cX9_isFreeFor.data.toList.drop 184 = dktX9_isFreeFor_8 := dk_seg dksX9_isFreeFor_7 24 rfl rfl
theorem dksX9_isFreeFor_9 : cX9_isFreeFor.data.toList.drop 207 = dktX9_isFreeFor_9 := dk_seg dksX9_isFreeFor_8 23 rfl rfl
theorem dksX9_isFreeFor_10 : cX9_isFreeFor.data.toList.drop 230 = dktX9_isFreeFor_10 := dk_seg dksX9_isFreeFor_9 23 rfl rfl
theorem dX9_isFreeFor_0 : decode cX9_isFreeFor 0 = .ok (.aload_n 0, 1) := dk_42 (dk_at dksX9_isFreeFor_0 0 rfl rfl)
theorem dX9_isFreeFor_1 : decode cX9_isFreeFor 1 = .ok (.getfield 3, 3) := dk_180 0 3 (dk_at dksX9_isFreeFor_0 1 rfl rfl)
theorem dX9_isFreeFor_4 : decode cX9_isFreeFor 4 = .ok (.getfield 46, 3) := dk_180 0 46 (dk_at dksX9_isFreeFor_0 4 rfl rfl)
theorem dX9_isFreeFor_7 : decode cX9_isFreeFor 7 = .ok (.iload_n 2, 1) := dk_28 (dk_at dksX9_isFreeFor_0 7 rfl rfl)
theorem dX9_isFreeFor_8 : decode cX9_isFreeFor 8 = .ok (.aaload, 1) := dk_50 (dk_at dksX9_isFreeFor_0 8 rfl rfl)
theorem dX9_isFreeFor_9 : decode cX9_isFreeFor 9 = .ok (.getfield 90, 3) := dk_180 0 90 (dk_at dksX9_isFreeFor_0 9 rfl rfl)
theorem dX9_isFreeFor_12 : decode cX9_isFreeFor 12 = .ok (.istore 4, 2) := dk_54 4 (dk_at dksX9_isFreeFor_0 12 rfl rfl)
theorem dX9_isFreeFor_14 : decode cX9_isFreeFor 14 = .ok (.aload_n 1, 1) := dk_43 (dk_at dksX9_isFreeFor_0 14 rfl rfl)
theorem dX9_isFreeFor_15 : decode cX9_isFreeFor 15 = .ok (.getfield 102, 3) := dk_180 0 102 (dk_at dksX9_isFreeFor_0 15 rfl rfl)
theorem dX9_isFreeFor_18 : decode cX9_isFreeFor 18 = .ok (.aload_n 0, 1) := dk_42 (dk_at dksX9_isFreeFor_0 18 rfl rfl)
theorem dX9_isFreeFor_19 : decode cX9_isFreeFor 19 = .ok (.getfield 3, 3) := dk_180 0 3 (dk_at dksX9_isFreeFor_0 19 rfl rfl)
theorem dX9_isFreeFor_22 : decode cX9_isFreeFor 22 = .ok (.getfield 46, 3) := dk_180 0 46 (dk_at dksX9_isFreeFor_1 0 rfl rfl)
theorem dX9_isFreeFor_25 : decode cX9_isFreeFor 25 = .ok (.iload_n 2, 1) := dk_28 (dk_at dksX9_isFreeFor_1 3 rfl rfl)
theorem dX9_isFreeFor_26 : decode cX9_isFreeFor 26 = .ok (.aaload, 1) := dk_50 (dk_at dksX9_isFreeFor_1 4 rfl rfl)
theorem dX9_isFreeFor_27 : decode cX9_isFreeFor 27 = .ok (.getfield 50, 3) := dk_180 0 50 (dk_at dksX9_isFreeFor_1 5 rfl rfl)
theorem dX9_isFreeFor_30 : decode cX9_isFreeFor 30 = .ok (.iload_n 3, 1) := dk_29 (dk_at dksX9_isFreeFor_1 8 rfl rfl)
theorem dX9_isFreeFor_31 : decode cX9_isFreeFor 31 = .ok (.iaload, 1) := dk_46 (dk_at dksX9_isFreeFor_1 9 rfl rfl)
theorem dX9_isFreeFor_32 : decode cX9_isFreeFor 32 = .ok (.if_icmp .le 5, 3) := dk_164 0 5 (dk_at dksX9_isFreeFor_1 10 rfl rfl)
theorem dX9_isFreeFor_35 : decode cX9_isFreeFor 35 = .ok (.iconst 0, 1) := dk_3 (dk_at dksX9_isFreeFor_1 13 rfl rfl)
theorem dX9_isFreeFor_36 : decode cX9_isFreeFor 36 = .ok (.ireturn, 1) := dk_172 (dk_at dksX9_isFreeFor_1 14 rfl rfl)
theorem dX9_isFreeFor_37 : decode cX9_isFreeFor 37 = .ok (.iload_n 2, 1) := dk_28 (dk_at dksX9_isFreeFor_1 15 rfl rfl)
theorem dX9_isFreeFor_38 : decode cX9_isFreeFor 38 = .ok (.aload_n 0, 1) := dk_42 (dk_at dksX9_isFreeFor_1 16 rfl rfl)
theorem dX9_isFreeFor_39 : decode cX9_isFreeFor 39 = .ok (.getfield 24, 3) := dk_180 0 24 (dk_at dksX9_isFreeFor_1 17 rfl rfl)
theorem dX9_isFreeFor_42 : decode cX9_isFreeFor 42 = .ok (.if_icmp .ne 42, 3) := dk_160 0 42 (dk_at dksX9_isFreeFor_1 20 rfl rfl)
theorem dX9_isFreeFor_45 : decode cX9_isFreeFor 45 = .ok (.iload_n 3, 1) := dk_29 (dk_at dksX9_isFreeFor_1 23 rfl rfl)
theorem dX9_isFreeFor_46 : decode cX9_isFreeFor 46 = .ok (.aload_n 0, 1) := dk_42 (dk_at dksX9_isFreeFor_2 0 rfl rfl)
theorem dX9_isFreeFor_47 : decode cX9_isFreeFor 47 = .ok (.getfield 16, 3) := dk_180 0 16 (dk_at dksX9_isFreeFor_2 1 rfl rfl)
theorem dX9_isFreeFor_50 : decode cX9_isFreeFor 50 = .ok (.if_icmp .ne 34, 3) := dk_160 0 34 (dk_at dksX9_isFreeFor_2 4 rfl rfl)
theorem dX9_isFreeFor_53 : decode cX9_isFreeFor 53 = .ok (.aload_n 1, 1) := dk_43 (dk_at dksX9_isFreeFor_2 7 rfl rfl)
theorem dX9_isFreeFor_54 : decode cX9_isFreeFor 54 = .ok (.getfield 105, 3) := dk_180 0 105 (dk_at dksX9_isFreeFor_2 8 rfl rfl)
theorem dX9_isFreeFor_57 : decode cX9_isFreeFor 57 = .ok (.aload_n 0, 1) := dk_42 (dk_at dksX9_isFreeFor_2 11 rfl rfl)
theorem dX9_isFreeFor_58 : decode cX9_isFreeFor 58 = .ok (.getfield 27, 3) := dk_180 0 27 (dk_at dksX9_isFreeFor_2 12 rfl rfl)
theorem dX9_isFreeFor_61 : decode cX9_isFreeFor 61 = .ok (.if_icmp .ne 23, 3) := dk_160 0 23 (dk_at dksX9_isFreeFor_2 15 rfl rfl)
theorem dX9_isFreeFor_64 : decode cX9_isFreeFor 64 = .ok (.aload_n 1, 1) := dk_43 (dk_at dksX9_isFreeFor_2 18 rfl rfl)
theorem dX9_isFreeFor_65 : decode cX9_isFreeFor 65 = .ok (.aload_n 0, 1) := dk_42 (dk_at dksX9_isFreeFor_2 19 rfl rfl)
theorem dX9_isFreeFor_66 : decode cX9_isFreeFor 66 = .ok (.getfield 30, 3) := dk_180 0 30 (dk_at dksX9_isFreeFor_2 20 rfl rfl)
theorem dX9_isFreeFor_69 : decode cX9_isFreeFor 69 = .ok (.aload_n 0, 1) := dk_42 (dk_at dksX9_isFreeFor_2 23 rfl rfl)
theorem dX9_isFreeFor_70 : decode cX9_isFreeFor 70 = .ok (.getfield 33, 3) := dk_180 0 33 (dk_at dksX9_isFreeFor_3 0 rfl rfl)
theorem dX9_isFreeFor_73 : decode cX9_isFreeFor 73 = .ok (.iconst 3, 1) := dk_6 (dk_at dksX9_isFreeFor_3 3 rfl rfl)
theorem dX9_isFreeFor_74 : decode cX9_isFreeFor 74 = .ok (.iload 4, 2) := dk_21 4 (dk_at dksX9_isFreeFor_3 4 rfl rfl)
theorem dX9_isFreeFor_76 : decode cX9_isFreeFor 76 = .ok (.invokevirtual 93, 3) := dk_182 0 93 (dk_at dksX9_isFreeFor_3 6 rfl rfl)
theorem dX9_isFreeFor_79 : decode cX9_isFreeFor 79 = .ok (.ifCond .eq 5, 3) := dk_153 0 5 (dk_at dksX9_isFreeFor_3 9 rfl rfl)
theorem dX9_isFreeFor_82 : decode cX9_isFreeFor 82 = .ok (.iconst 0, 1) := dk_3 (dk_at dksX9_isFreeFor_3 12 rfl rfl)
theorem dX9_isFreeFor_83 : decode cX9_isFreeFor 83 = .ok (.ireturn, 1) := dk_172 (dk_at dksX9_isFreeFor_3 13 rfl rfl)
theorem dX9_isFreeFor_84 : decode cX9_isFreeFor 84 = .ok (.iconst 0, 1) := dk_3 (dk_at dksX9_isFreeFor_3 14 rfl rfl)
theorem dX9_isFreeFor_85 : decode cX9_isFreeFor 85 = .ok (.istore 5, 2) := dk_54 5 (dk_at dksX9_isFreeFor_3 15 rfl rfl)
theorem dX9_isFreeFor_87 : decode cX9_isFreeFor 87 = .ok (.iload 5, 2) := dk_21 5 (dk_at dksX9_isFreeFor_3 17 rfl rfl)
theorem dX9_isFreeFor_89 : decode cX9_isFreeFor 89 = .ok (.aload_n 0, 1) := dk_42 (dk_at dksX9_isFreeFor_3 19 rfl rfl)
theorem dX9_isFreeFor_90 : decode cX9_isFreeFor 90 = .ok (.getfield 3, 3) := dk_180 0 3 (dk_at dksX9_isFreeFor_3 20 rfl rfl)
theorem dX9_isFreeFor_93 : decode cX9_isFreeFor 93 = .ok (.getfield 66, 3) := dk_180 0 66 (dk_at dksX9_isFreeFor_4 0 rfl rfl)
theorem dX9_isFreeFor_96 : decode cX9_isFreeFor 96 = .ok (.invokeinterface 70 1, 5) := by decide +kernel
theorem dX9_isFreeFor_101 : decode cX9_isFreeFor 101 = .ok (.if_icmp .ge 148, 3) := dk_162 0 148 (dk_at dksX9_isFreeFor_4 8 rfl rfl)
theorem dX9_isFreeFor_104 : decode cX9_isFreeFor 104 = .ok (.aload_n 0, 1) := dk_42 (dk_at dksX9_isFreeFor_4 11 rfl rfl)
theorem dX9_isFreeFor_105 : decode cX9_isFreeFor 105 = .ok (.getfield 3, 3) := dk_180 0 3 (dk_at dksX9_isFreeFor_4 12 rfl rfl)
theorem dX9_isFreeFor_108 : decode cX9_isFreeFor 108 = .ok (.getfield 66, 3) := dk_180 0 66 (dk_at dksX9_isFreeFor_4 15 rfl rfl)
theorem dX9_isFreeFor_111 : decode cX9_isFreeFor 111 = .ok (.iload 5, 2) := dk_21 5 (dk_at dksX9_isFreeFor_4 18 rfl rfl)
theorem dX9_isFreeFor_113 : decode cX9_isFreeFor 113 = .ok (.invokeinterface 76 2, 5) := by decide +kernel
theorem dX9_isFreeFor_118 : decode cX9_isFreeFor 118 = .ok (.checkcast 80, 3) := dk_192 0 80 (dk_at dksX9_isFreeFor_5 5 rfl rfl)
theorem dX9_isFreeFor_121 : decode cX9_isFreeFor 121 = .ok (.astore 6, 2) := dk_58 6 (dk_at dksX9_isFreeFor_5 8 rfl rfl)
theorem dX9_isFreeFor_123 : decode cX9_isFreeFor 123 = .ok (.aload_n 0, 1) := dk_42 (dk_at dksX9_isFreeFor_5 10 rfl rfl)
theorem dX9_isFreeFor_124 : decode cX9_isFreeFor 124 = .ok (.getfield 43, 3) := dk_180 0 43 (dk_at dksX9_isFreeFor_5 11 rfl rfl)
theorem dX9_isFreeFor_127 : decode cX9_isFreeFor 127 = .ok (.iload 5, 2) := dk_21 5 (dk_at dksX9_isFreeFor_5 14 rfl rfl)
theorem dX9_isFreeFor_129 : decode cX9_isFreeFor 129 = .ok (.ishr, 1) := dk_122 (dk_at dksX9_isFreeFor_5 16 rfl rfl)
theorem dX9_isFreeFor_130 : decode cX9_isFreeFor 130 = .ok (.iconst 1, 1) := dk_4 (dk_at dksX9_isFreeFor_5 17 rfl rfl)
theorem dX9_isFreeFor_131 : decode cX9_isFreeFor 131 = .ok (.iand, 1) := dk_126 (dk_at dksX9_isFreeFor_5 18 rfl rfl)
theorem dX9_isFreeFor_132 : decode cX9_isFreeFor 132 = .ok (.iconst 1, 1) := dk_4 (dk_at dksX9_isFreeFor_5 19 rfl rfl)
theorem dX9_isFreeFor_133 : decode cX9_isFreeFor 133 = .ok (.if_icmp .ne 37, 3) := dk_160 0 37 (dk_at dksX9_isFreeFor_5 20 rfl rfl)
theorem dX9_isFreeFor_136 : decode cX9_isFreeFor 136 = .ok (.aload_n 0, 1) := dk_42 (dk_at dksX9_isFreeFor_5 23 rfl rfl)
theorem dX9_isFreeFor_137 : decode cX9_isFreeFor 137 = .ok (.getfield 63, 3) := dk_180 0 63 (dk_at dksX9_isFreeFor_6 0 rfl rfl)
theorem dX9_isFreeFor_140 : decode cX9_isFreeFor 140 = .ok (.iload 5, 2) := dk_21 5 (dk_at dksX9_isFreeFor_6 3 rfl rfl)
theorem dX9_isFreeFor_142 : decode cX9_isFreeFor 142 = .ok (.ishr, 1) := dk_122 (dk_at dksX9_isFreeFor_6 5 rfl rfl)
theorem dX9_isFreeFor_143 : decode cX9_isFreeFor 143 = .ok (.iconst 1, 1) := dk_4 (dk_at dksX9_isFreeFor_6 6 rfl rfl)
theorem dX9_isFreeFor_144 : decode cX9_isFreeFor 144 = .ok (.iand, 1) := dk_126 (dk_at dksX9_isFreeFor_6 7 rfl rfl)
theorem dX9_isFreeFor_145 : decode cX9_isFreeFor 145 = .ok (.ifCond .ne 25, 3) := dk_154 0 25 (dk_at dksX9_isFreeFor_6 8 rfl rfl)
theorem dX9_isFreeFor_148 : decode cX9_isFreeFor 148 = .ok (.aload_n 0, 1) := dk_42 (dk_at dksX9_isFreeFor_6 11 rfl rfl)
theorem dX9_isFreeFor_149 : decode cX9_isFreeFor 149 = .ok (.getfield 3, 3) := dk_180 0 3 (dk_at dksX9_isFreeFor_6 12 rfl rfl)
theorem dX9_isFreeFor_152 : decode cX9_isFreeFor 152 = .ok (.aload 6, 2) := dk_25 6 (dk_at dksX9_isFreeFor_6 15 rfl rfl)
theorem dX9_isFreeFor_154 : decode cX9_isFreeFor 154 = .ok (.iload_n 2, 1) := dk_28 (dk_at dksX9_isFreeFor_6 17 rfl rfl)
theorem dX9_isFreeFor_155 : decode cX9_isFreeFor 155 = .ok (.iload_n 3, 1) := dk_29 (dk_at dksX9_isFreeFor_6 18 rfl rfl)
theorem dX9_isFreeFor_156 : decode cX9_isFreeFor 156 = .ok (.aload_n 1, 1) := dk_43 (dk_at dksX9_isFreeFor_6 19 rfl rfl)
theorem dX9_isFreeFor_157 : decode cX9_isFreeFor 157 = .ok (.getfield 105, 3) := dk_180 0 105 (dk_at dksX9_isFreeFor_6 20 rfl rfl)
theorem dX9_isFreeFor_160 : decode cX9_isFreeFor 160 = .ok (.invokevirtual 86, 3) := dk_182 0 86 (dk_at dksX9_isFreeFor_7 0 rfl rfl)
theorem dX9_isFreeFor_163 : decode cX9_isFreeFor 163 = .ok (.ifCond .eq 7, 3) := dk_153 0 7 (dk_at dksX9_isFreeFor_7 3 rfl rfl)
theorem dX9_isFreeFor_166 : decode cX9_isFreeFor 166 = .ok (.iconst 1, 1) := dk_4 (dk_at dksX9_isFreeFor_7 6 rfl rfl)
theorem dX9_isFreeFor_167 : decode cX9_isFreeFor 167 = .ok (.goto 4, 3) := dk_167 0 4 (dk_at dksX9_isFreeFor_7 7 rfl rfl)
theorem dX9_isFreeFor_170 : decode cX9_isFreeFor 170 = .ok (.iconst 0, 1) := dk_3 (dk_at dksX9_isFreeFor_7 10 rfl rfl)
theorem dX9_isFreeFor_171 : decode cX9_isFreeFor 171 = .ok (.istore 7, 2) := dk_54 7 (dk_at dksX9_isFreeFor_7 11 rfl rfl)
theorem dX9_isFreeFor_173 : decode cX9_isFreeFor 173 = .ok (.aload_n 0, 1) := dk_42 (dk_at dksX9_isFreeFor_7 13 rfl rfl)
theorem dX9_isFreeFor_174 : decode cX9_isFreeFor 174 = .ok (.getfield 20, 3) := dk_180 0 20 (dk_at dksX9_isFreeFor_7 14 rfl rfl)
theorem dX9_isFreeFor_177 : decode cX9_isFreeFor 177 = .ok (.iload 5, 2) := dk_21 5 (dk_at dksX9_isFreeFor_7 17 rfl rfl)
theorem dX9_isFreeFor_179 : decode cX9_isFreeFor 179 = .ok (.iaload, 1) := dk_46 (dk_at dksX9_isFreeFor_7 19 rfl rfl)
theorem dX9_isFreeFor_180 : decode cX9_isFreeFor 180 = .ok (.iconst 2, 1) := dk_5 (dk_at dksX9_isFreeFor_7 20 rfl rfl)
theorem dX9_isFreeFor_181 : decode cX9_isFreeFor 181 = .ok (.iload_n 2, 1) := dk_28 (dk_at dksX9_isFreeFor_7 21 rfl rfl)
theorem dX9_isFreeFor_182 : decode cX9_isFreeFor 182 = .ok (.imul, 1) := dk_104 (dk_at dksX9_isFreeFor_7 22 rfl rfl)
theorem dX9_isFreeFor_183 : decode cX9_isFreeFor 183 = .ok (.iload_n 3, 1) := dk_29 (dk_at dksX9_isFreeFor_7 23 rfl rfl)
theorem dX9_isFreeFor_184 : decode cX9_isFreeFor 184 = .ok (.iadd, 1) := dk_96 (dk_at dksX9_isFreeFor_8 0 rfl rfl)
theorem dX9_isFreeFor_185 : decode cX9_isFreeFor 185 = .ok (.if_icmp .ne 19, 3) := dk_160 0 19 (dk_at dksX9_isFreeFor_8 1 rfl rfl)
theorem dX9_isFreeFor_188 : decode cX9_isFreeFor 188 = .ok (.aload 6, 2) := dk_25 6 (dk_at dksX9_isFreeFor_8 4 rfl rfl)
theorem dX9_isFreeFor_190 : decode cX9_isFreeFor 190 = .ok (.getfield 105, 3) := dk_180 0 105 (dk_at dksX9_isFreeFor_8 6 rfl rfl)
theorem dX9_isFreeFor_193 : decode cX9_isFreeFor 193 = .ok (.aload_n 1, 1) := dk_43 (dk_at dksX9_isFreeFor_8 9 rfl rfl)
theorem dX9_isFreeFor_194 : decode cX9_isFreeFor 194 = .ok (.getfield 105, 3) := dk_180 0 105 (dk_at dksX9_isFreeFor_8 10 rfl rfl)
theorem dX9_isFreeFor_197 : decode cX9_isFreeFor 197 = .ok (.if_icmp .ne 7, 3) := dk_160 0 7 (dk_at dksX9_isFreeFor_8 13 rfl rfl)
theorem dX9_isFreeFor_200 : decode cX9_isFreeFor 200 = .ok (.iconst 1, 1) := dk_4 (dk_at dksX9_isFreeFor_8 16 rfl rfl)
theorem dX9_isFreeFor_201 : decode cX9_isFreeFor 201 = .ok (.goto 4, 3) := dk_167 0 4 (dk_at dksX9_isFreeFor_8 17 rfl rfl)
theorem dX9_isFreeFor_204 : decode cX9_isFreeFor 204 = .ok (.iconst 0, 1) := dk_3 (dk_at dksX9_isFreeFor_8 20 rfl rfl)
theorem dX9_isFreeFor_205 : decode cX9_isFreeFor 205 = .ok (.istore 8, 2) := dk_54 8 (dk_at dksX9_isFreeFor_8 21 rfl rfl)
theorem dX9_isFreeFor_207 : decode cX9_isFreeFor 207 = .ok (.iload 7, 2) := dk_21 7 (dk_at dksX9_isFreeFor_9 0 rfl rfl)
theorem dX9_isFreeFor_209 : decode cX9_isFreeFor 209 = .ok (.ifCond .ne 8, 3) := dk_154 0 8 (dk_at dksX9_isFreeFor_9 2 rfl rfl)
theorem dX9_isFreeFor_212 : decode cX9_isFreeFor 212 = .ok (.iload 8, 2) := dk_21 8 (dk_at dksX9_isFreeFor_9 5 rfl rfl)
theorem dX9_isFreeFor_214 : decode cX9_isFreeFor 214 = .ok (.ifCond .eq 29, 3) := dk_153 0 29 (dk_at dksX9_isFreeFor_9 7 rfl rfl)
theorem dX9_isFreeFor_217 : decode cX9_isFreeFor 217 = .ok (.aload_n 1, 1) := dk_43 (dk_at dksX9_isFreeFor_9 10 rfl rfl)
theorem dX9_isFreeFor_218 : decode cX9_isFreeFor 218 = .ok (.aload 6, 2) := dk_25 6 (dk_at dksX9_isFreeFor_9 11 rfl rfl)
theorem dX9_isFreeFor_220 : decode cX9_isFreeFor 220 = .ok (.getfield 106, 3) := dk_180 0 106 (dk_at dksX9_isFreeFor_9 13 rfl rfl)
theorem dX9_isFreeFor_223 : decode cX9_isFreeFor 223 = .ok (.aload 6, 2) := dk_25 6 (dk_at dksX9_isFreeFor_9 16 rfl rfl)
theorem dX9_isFreeFor_225 : decode cX9_isFreeFor 225 = .ok (.getfield 107, 3) := dk_180 0 107 (dk_at dksX9_isFreeFor_9 18 rfl rfl)
theorem dX9_isFreeFor_228 : decode cX9_isFreeFor 228 = .ok (.aload 6, 2) := dk_25 6 (dk_at dksX9_isFreeFor_9 21 rfl rfl)
theorem dX9_isFreeFor_230 : decode cX9_isFreeFor 230 = .ok (.getfield 108, 3) := dk_180 0 108 (dk_at dksX9_isFreeFor_10 0 rfl rfl)
theorem dX9_isFreeFor_233 : decode cX9_isFreeFor 233 = .ok (.iload 4, 2) := dk_21 4 (dk_at dksX9_isFreeFor_10 3 rfl rfl)
theorem dX9_isFreeFor_235 : decode cX9_isFreeFor 235 = .ok (.invokevirtual 93, 3) := dk_182 0 93 (dk_at dksX9_isFreeFor_10 5 rfl rfl)
theorem dX9_isFreeFor_238 : decode cX9_isFreeFor 238 = .ok (.ifCond .eq 5, 3) := dk_153 0 5 (dk_at dksX9_isFreeFor_10 8 rfl rfl)
theorem dX9_isFreeFor_241 : decode cX9_isFreeFor 241 = .ok (.iconst 0, 1) := dk_3 (dk_at dksX9_isFreeFor_10 11 rfl rfl)
theorem dX9_isFreeFor_242 : decode cX9_isFreeFor 242 = .ok (.ireturn, 1) := dk_172 (dk_at dksX9_isFreeFor_10 12 rfl rfl)
theorem dX9_isFreeFor_243 : decode cX9_isFreeFor 243 = .ok (.iinc 5 1, 3) := dk_132 5 1 (dk_at dksX9_isFreeFor_10 13 rfl rfl)
theorem dX9_isFreeFor_246 : decode cX9_isFreeFor 246 = .ok (.goto (-159), 3) := dk_167 255 97 (dk_at dksX9_isFreeFor_10 16 rfl rfl)
theorem dX9_isFreeFor_249 : decode cX9_isFreeFor 249 = .ok (.iconst 1, 1) := dk_4 (dk_at dksX9_isFreeFor_10 19 rfl rfl)
theorem dX9_isFreeFor_250 : decode cX9_isFreeFor 250 = .ok (.ireturn, 1) := dk_172 (dk_at dksX9_isFreeFor_10 20 rfl rfl)
abbrev cX9_lost : ByteArray := prog_10_method_5_code
def yX9_lost : MethodName := ⟨RX9, "lost", "()I"⟩
def dkwX9_lost_2 : List UInt8 := [172]
abbrev dktX9_lost_2 : List UInt8 := dkwX9_lost_2 ++ []
def dkwX9_lost_1 : List UInt8 := [180, 0, 20, 28, 46, 18, 15, 160, 0, 7, 4, 167, 0, 4, 3, 96, 60, 132, 2, 1, 167, 255, 216, 27]
abbrev dktX9_lost_1 : List UInt8 := dkwX9_lost_1 ++ dktX9_lost_2
def dkwX9_lost_0 : List UInt8 := [3, 60, 3, 61, 28, 16, 16, 162, 0, 40, 27, 42, 180, 0, 63, 28, 122, 4, 126, 4, 160, 0, 18, 42]
abbrev dktX9_lost_0 : List UInt8 := dkwX9_lost_0 ++ dktX9_lost_1
theorem dksX9_lost_0 : cX9_lost.data.toList.drop 0 = dktX9_lost_0 := by decide +kernel
theorem dksX9_lost_1 : cX9_lost.data.toList.drop 24 = dktX9_lost_1 := dk_seg dksX9_lost_0 24 rfl rfl
theorem dksX9_lost_2 : cX9_lost.data.toList.drop 48 = dktX9_lost_2 := dk_seg dksX9_lost_1 24 rfl rfl
theorem dX9_lost_0 : decode cX9_lost 0 = .ok (.iconst 0, 1) := dk_3 (dk_at dksX9_lost_0 0 rfl rfl)
theorem dX9_lost_1 : decode cX9_lost 1 = .ok (.istore_n 1, 1) := dk_60 (dk_at dksX9_lost_0 1 rfl rfl)
theorem dX9_lost_2 : decode cX9_lost 2 = .ok (.iconst 0, 1) := dk_3 (dk_at dksX9_lost_0 2 rfl rfl)
theorem dX9_lost_3 : decode cX9_lost 3 = .ok (.istore_n 2, 1) := dk_61 (dk_at dksX9_lost_0 3 rfl rfl)
theorem dX9_lost_4 : decode cX9_lost 4 = .ok (.iload_n 2, 1) := dk_28 (dk_at dksX9_lost_0 4 rfl rfl)
theorem dX9_lost_5 : decode cX9_lost 5 = .ok (.bipush 16, 2) := dk_16 16 (dk_at dksX9_lost_0 5 rfl rfl)
theorem dX9_lost_7 : decode cX9_lost 7 = .ok (.if_icmp .ge 40, 3) := dk_162 0 40 (dk_at dksX9_lost_0 7 rfl rfl)
theorem dX9_lost_10 : decode cX9_lost 10 = .ok (.iload_n 1, 1) := dk_27 (dk_at dksX9_lost_0 10 rfl rfl)
theorem dX9_lost_11 : decode cX9_lost 11 = .ok (.aload_n 0, 1) := dk_42 (dk_at dksX9_lost_0 11 rfl rfl)
theorem dX9_lost_12 : decode cX9_lost 12 = .ok (.getfield 63, 3) := dk_180 0 63 (dk_at dksX9_lost_0 12 rfl rfl)
theorem dX9_lost_15 : decode cX9_lost 15 = .ok (.iload_n 2, 1) := dk_28 (dk_at dksX9_lost_0 15 rfl rfl)
theorem dX9_lost_16 : decode cX9_lost 16 = .ok (.ishr, 1) := dk_122 (dk_at dksX9_lost_0 16 rfl rfl)
theorem dX9_lost_17 : decode cX9_lost 17 = .ok (.iconst 1, 1) := dk_4 (dk_at dksX9_lost_0 17 rfl rfl)
theorem dX9_lost_18 : decode cX9_lost 18 = .ok (.iand, 1) := dk_126 (dk_at dksX9_lost_0 18 rfl rfl)
theorem dX9_lost_19 : decode cX9_lost 19 = .ok (.iconst 1, 1) := dk_4 (dk_at dksX9_lost_0 19 rfl rfl)
theorem dX9_lost_20 : decode cX9_lost 20 = .ok (.if_icmp .ne 18, 3) := dk_160 0 18 (dk_at dksX9_lost_0 20 rfl rfl)
theorem dX9_lost_23 : decode cX9_lost 23 = .ok (.aload_n 0, 1) := dk_42 (dk_at dksX9_lost_0 23 rfl rfl)
theorem dX9_lost_24 : decode cX9_lost 24 = .ok (.getfield 20, 3) := dk_180 0 20 (dk_at dksX9_lost_1 0 rfl rfl)
theorem dX9_lost_27 : decode cX9_lost 27 = .ok (.iload_n 2, 1) := dk_28 (dk_at dksX9_lost_1 3 rfl rfl)
theorem dX9_lost_28 : decode cX9_lost 28 = .ok (.iaload, 1) := dk_46 (dk_at dksX9_lost_1 4 rfl rfl)
theorem dX9_lost_29 : decode cX9_lost 29 = .ok (.ldc 15, 2) := dk_18 15 (dk_at dksX9_lost_1 5 rfl rfl)
theorem dX9_lost_31 : decode cX9_lost 31 = .ok (.if_icmp .ne 7, 3) := dk_160 0 7 (dk_at dksX9_lost_1 7 rfl rfl)
theorem dX9_lost_34 : decode cX9_lost 34 = .ok (.iconst 1, 1) := dk_4 (dk_at dksX9_lost_1 10 rfl rfl)
theorem dX9_lost_35 : decode cX9_lost 35 = .ok (.goto 4, 3) := dk_167 0 4 (dk_at dksX9_lost_1 11 rfl rfl)
theorem dX9_lost_38 : decode cX9_lost 38 = .ok (.iconst 0, 1) := dk_3 (dk_at dksX9_lost_1 14 rfl rfl)
theorem dX9_lost_39 : decode cX9_lost 39 = .ok (.iadd, 1) := dk_96 (dk_at dksX9_lost_1 15 rfl rfl)
theorem dX9_lost_40 : decode cX9_lost 40 = .ok (.istore_n 1, 1) := dk_60 (dk_at dksX9_lost_1 16 rfl rfl)
theorem dX9_lost_41 : decode cX9_lost 41 = .ok (.iinc 2 1, 3) := dk_132 2 1 (dk_at dksX9_lost_1 17 rfl rfl)
theorem dX9_lost_44 : decode cX9_lost 44 = .ok (.goto (-40), 3) := dk_167 255 216 (dk_at dksX9_lost_1 20 rfl rfl)
theorem dX9_lost_47 : decode cX9_lost 47 = .ok (.iload_n 1, 1) := dk_27 (dk_at dksX9_lost_1 23 rfl rfl)
theorem dX9_lost_48 : decode cX9_lost 48 = .ok (.ireturn, 1) := dk_172 (dk_at dksX9_lost_2 0 rfl rfl)
theorem q98 : (Jvm.Cond.initialized "VillageHalls$Funeral") ∈ lw_all := lw_g (lw_at lw_m1 29 rfl) rfl
theorem q172 : (Jvm.Cond.fieldLinkNest "VillageHalls$Funeral" (90 : Nat) "VillageHalls$Hall" "setup" "I" "VillageHalls") ∈ lw_tbl := lw_at lw_m1 103 rfl
theorem q185 : (Jvm.Cond.fieldLinkNest "VillageHalls$Funeral" (50 : Nat) "VillageHalls$Hall" "fire" "[I" "VillageHalls") ∈ lw_tbl := lw_at lw_m1 116 rfl
theorem q210 : (Jvm.Cond.fieldLinkNest "VillageHalls$Funeral" (46 : Nat) "VillageHalls" "halls" "[LVillageHalls$Hall;" "VillageHalls") ∈ lw_tbl := lw_at lw_m1 141 rfl
theorem q212 : (Jvm.Cond.fieldLinkNest "VillageHalls$Funeral" (66 : Nat) "VillageHalls" "bookings" "Ljava/util/List;" "VillageHalls") ∈ lw_tbl := lw_at lw_m1 143 rfl
theorem q223 : (Jvm.Cond.fieldLinkNest "VillageHalls$Funeral" (36 : Nat) "VillageHalls" "today" "I" "VillageHalls") ∈ lw_tbl := lw_at lw_m1 154 rfl
theorem q809 : (Jvm.Cond.fieldLink "VillageHalls$Funeral" (97 : Nat) "VillageHalls$Booking" "hall" "I") ∈ lw_all := lw_g (lw_at lw_m4 20 rfl) rfl
theorem q814 : (Jvm.Cond.fieldLink "VillageHalls$Funeral" (105 : Nat) "VillageHalls$Booking" "day" "I") ∈ lw_all := lw_g (lw_at lw_m4 25 rfl) rfl
theorem q817 : (Jvm.Cond.fieldLink "VillageHalls$Funeral" (106 : Nat) "VillageHalls$Booking" "from" "I") ∈ lw_all := lw_g (lw_at lw_m4 28 rfl) rfl
theorem q820 : (Jvm.Cond.fieldLink "VillageHalls$Funeral" (107 : Nat) "VillageHalls$Booking" "to" "I") ∈ lw_all := lw_g (lw_at lw_m4 31 rfl) rfl
theorem q824 : (Jvm.Cond.fieldLink "VillageHalls$Funeral" (102 : Nat) "VillageHalls$Booking" "people" "I") ∈ lw_all := lw_g (lw_at lw_m4 35 rfl) rfl
theorem q829 : (Jvm.Cond.fieldLink "VillageHalls$Funeral" (108 : Nat) "VillageHalls$Booking" "use" "I") ∈ lw_all := lw_g (lw_at lw_m4 40 rfl) rfl
theorem q896 : (Jvm.Cond.selects "VillageHalls$Funeral" ({ cls := "java/lang/Object", name := "getClass", desc := "()Ljava/lang/Class;" } : Jvm.MethodName) ({ cls := "java/lang/Object", name := "getClass", desc := "()Ljava/lang/Class;" } : Jvm.MethodName)) ∈ lw_all := lw_g (lw_at lw_m4 107 rfl) rfl
theorem q1013 : (Jvm.Cond.instantiable "VillageHalls$Funeral" (9 : Nat)) ∈ lw_all := lw_g (lw_at lw_m4 224 rfl) rfl
theorem q1015 : (Jvm.Cond.instanceMethod ({ cls := "VillageHalls$Funeral", name := "<init>", desc := "(LVillageHalls;IIIII)V" } : Jvm.MethodName)) ∈ lw_all := lw_g (lw_at lw_m4 226 rfl) rfl
theorem q1016 : (Jvm.Cond.code ({ cls := "VillageHalls$Funeral", name := "<init>", desc := "(LVillageHalls;IIIII)V" } : Jvm.MethodName) prog_10_method_1_code (8 : Nat) (Option.none : Option Jvm.ClassFile.FieldType)) ∈ lw_all := lw_g (lw_at lw_m4 227 rfl) rfl
theorem q1017 : (Jvm.Cond.methodLink "VillageHalls$Funeral" (9 : Nat) ({ cls := "java/lang/Object", name := "<init>", desc := "()V" } : Jvm.MethodName)) ∈ lw_all := lw_g (lw_at lw_m4 228 rfl) rfl
theorem q1018 : (Jvm.Cond.constant "VillageHalls$Funeral" (15 : Nat) (-1000000 : Int32)) ∈ lw_all := lw_g (lw_at lw_m4 229 rfl) rfl
theorem q1019 : (Jvm.Cond.methodLinkNest "VillageHalls$Funeral" (39 : Nat) ({ cls := "VillageHalls", name := "held", desc := "(I)I" } : Jvm.MethodName) "VillageHalls") ∈ lw_tbl := lw_at lw_m4 230 rfl
theorem q1020 : (Jvm.Cond.methodLink "VillageHalls$Funeral" (55 : Nat) ({ cls := "VillageHalls$Funeral", name := "inWay", desc := "(I)I" } : Jvm.MethodName)) ∈ lw_all := lw_g (lw_at lw_m4 231 rfl) rfl
theorem q1021 : (Jvm.Cond.privateMethod ({ cls := "VillageHalls$Funeral", name := "inWay", desc := "(I)I" } : Jvm.MethodName)) ∈ lw_tbl := lw_at lw_m4 232 rfl
theorem q1022 : (Jvm.Cond.instanceMethod ({ cls := "VillageHalls$Funeral", name := "inWay", desc := "(I)I" } : Jvm.MethodName)) ∈ lw_all := lw_g (lw_at lw_m4 233 rfl) rfl
theorem q1023 : (Jvm.Cond.code ({ cls := "VillageHalls$Funeral", name := "inWay", desc := "(I)I" } : Jvm.MethodName) prog_10_method_2_code (4 : Nat) (Option.some Jvm.ClassFile.FieldType.int)) ∈ lw_all := lw_g (lw_at lw_m4 234 rfl) rfl
theorem q1024 : (Jvm.Cond.interfaceEntry "VillageHalls$Funeral" (70 : Nat)) ∈ lw_tbl := lw_at lw_m4 235 rfl
theorem q1025 : (Jvm.Cond.methodLink "VillageHalls$Funeral" (70 : Nat) ({ cls := "java/util/List", name := "size", desc := "()I" } : Jvm.MethodName)) ∈ lw_all := lw_g (lw_at lw_m4 236 rfl) rfl
theorem q1026 : (Jvm.Cond.interfaceEntry "VillageHalls$Funeral" (76 : Nat)) ∈ lw_tbl := lw_at lw_m4 237 rfl
theorem q1027 : (Jvm.Cond.methodLink "VillageHalls$Funeral" (76 : Nat) ({ cls := "java/util/List", name := "get", desc := "(I)Ljava/lang/Object;" } : Jvm.MethodName)) ∈ lw_all := lw_g (lw_at lw_m4 238 rfl) rfl
theorem q1028 : (Jvm.Cond.classLink "VillageHalls$Funeral" (80 : Nat) "VillageHalls$Booking") ∈ lw_all := lw_g (lw_at lw_m4 239 rfl) rfl
theorem q1029 : (Jvm.Cond.methodLinkNest "VillageHalls$Funeral" (86 : Nat) ({ cls := "VillageHalls", name := "isAt", desc := "(LVillageHalls$Booking;III)Z" } : Jvm.MethodName) "VillageHalls") ∈ lw_tbl := lw_at lw_m5 0 rfl
theorem q1030 : (Jvm.Cond.methodLink "VillageHalls$Funeral" (93 : Nat) ({ cls := "VillageHalls$Booking", name := "isAgainst", desc := "(IIII)Z" } : Jvm.MethodName)) ∈ lw_all := lw_g (lw_at lw_m5 1 rfl) rfl
theorem q1031 : (Jvm.Cond.methodLink "VillageHalls$Funeral" (58 : Nat) ({ cls := "java/lang/Integer", name := "bitCount", desc := "(I)I" } : Jvm.MethodName)) ∈ lw_all := lw_g (lw_at lw_m5 2 rfl) rfl
theorem q1037 : (Jvm.Cond.methodLink "VillageHalls$Funeral" (82 : Nat) ({ cls := "VillageHalls$Funeral", name := "placeFor", desc := "(LVillageHalls$Booking;)I" } : Jvm.MethodName)) ∈ lw_all := lw_g (lw_at lw_m5 8 rfl) rfl
theorem q1038 : (Jvm.Cond.privateMethod ({ cls := "VillageHalls$Funeral", name := "placeFor", desc := "(LVillageHalls$Booking;)I" } : Jvm.MethodName)) ∈ lw_tbl := lw_at lw_m5 9 rfl
theorem q1039 : (Jvm.Cond.instanceMethod ({ cls := "VillageHalls$Funeral", name := "placeFor", desc := "(LVillageHalls$Booking;)I" } : Jvm.MethodName)) ∈ lw_all := lw_g (lw_at lw_m5 10 rfl) rfl
theorem q1040 : (Jvm.Cond.code ({ cls := "VillageHalls$Funeral", name := "placeFor", desc := "(LVillageHalls$Booking;)I" } : Jvm.MethodName) prog_10_method_3_code (4 : Nat) (Option.some Jvm.ClassFile.FieldType.int)) ∈ lw_all := lw_g (lw_at lw_m5 11 rfl) rfl
theorem q1041 : (Jvm.Cond.methodLink "VillageHalls$Funeral" (98 : Nat) ({ cls := "VillageHalls$Funeral", name := "isFreeFor", desc := "(LVillageHalls$Booking;II)Z" } : Jvm.MethodName)) ∈ lw_all := lw_g (lw_at lw_m5 12 rfl) rfl
theorem q1042 : (Jvm.Cond.privateMethod ({ cls := "VillageHalls$Funeral", name := "isFreeFor", desc := "(LVillageHalls$Booking;II)Z" } : Jvm.MethodName)) ∈ lw_tbl := lw_at lw_m5 13 rfl
theorem q1043 : (Jvm.Cond.instanceMethod ({ cls := "VillageHalls$Funeral", name := "isFreeFor", desc := "(LVillageHalls$Booking;II)Z" } : Jvm.MethodName)) ∈ lw_all := lw_g (lw_at lw_m5 14 rfl) rfl
theorem q1044 : (Jvm.Cond.code ({ cls := "VillageHalls$Funeral", name := "isFreeFor", desc := "(LVillageHalls$Booking;II)Z" } : Jvm.MethodName) prog_10_method_4_code (9 : Nat) (Option.some Jvm.ClassFile.FieldType.boolean)) ∈ lw_all := lw_g (lw_at lw_m5 15 rfl) rfl
theorem q1045 : (Jvm.Cond.fieldLink "VillageHalls$Funeral" (24 : Nat) "VillageHalls$Funeral" "hall" "I") ∈ lw_all := lw_g (lw_at lw_m5 16 rfl) rfl
theorem q1046 : (Jvm.Cond.fieldLink "VillageHalls$Funeral" (27 : Nat) "VillageHalls$Funeral" "day" "I") ∈ lw_all := lw_g (lw_at lw_m5 17 rfl) rfl
theorem q1047 : (Jvm.Cond.fieldLink "VillageHalls$Funeral" (30 : Nat) "VillageHalls$Funeral" "from" "I") ∈ lw_all := lw_g (lw_at lw_m5 18 rfl) rfl
theorem q1048 : (Jvm.Cond.fieldLink "VillageHalls$Funeral" (33 : Nat) "VillageHalls$Funeral" "to" "I") ∈ lw_all := lw_g (lw_at lw_m5 19 rfl) rfl
theorem q1049 : (Jvm.Cond.fieldLink "VillageHalls$Funeral" (43 : Nat) "VillageHalls$Funeral" "holds" "I") ∈ lw_all := lw_g (lw_at lw_m5 20 rfl) rfl
theorem q1050 : (Jvm.Cond.fieldLink "VillageHalls$Funeral" (16 : Nat) "VillageHalls$Funeral" "floor" "I") ∈ lw_all := lw_g (lw_at lw_m5 21 rfl) rfl
theorem q1052 : (Jvm.Cond.fieldLink "VillageHalls$Funeral" (63 : Nat) "VillageHalls$Funeral" "moved" "I") ∈ lw_all := lw_g (lw_at lw_m5 23 rfl) rfl
theorem q1054 : (Jvm.Cond.fieldLink "VillageHalls$Funeral" (20 : Nat) "VillageHalls$Funeral" "place" "[I") ∈ lw_all := lw_g (lw_at lw_m5 25 rfl) rfl
theorem q1056 : (Jvm.Cond.fieldLink "VillageHalls$Funeral" (3 : Nat) "VillageHalls$Funeral" "this$0" "LVillageHalls;") ∈ lw_all := lw_g (lw_at lw_m5 27 rfl) rfl
theorem q1057 : (Jvm.Cond.laysFinal "VillageHalls$Funeral" "VillageHalls$Funeral" "hall" "I") ∈ lw_all := lw_g (lw_at lw_m5 28 rfl) rfl
theorem q1058 : (Jvm.Cond.soleField "VillageHalls$Funeral" "hall") ∈ lw_all := lw_g (lw_at lw_m5 29 rfl) rfl
theorem q1059 : (Jvm.Cond.laysFinal "VillageHalls$Funeral" "VillageHalls$Funeral" "day" "I") ∈ lw_all := lw_g (lw_at lw_m5 30 rfl) rfl
theorem q1060 : (Jvm.Cond.soleField "VillageHalls$Funeral" "day") ∈ lw_all := lw_g (lw_at lw_m5 31 rfl) rfl
theorem q1061 : (Jvm.Cond.laysFinal "VillageHalls$Funeral" "VillageHalls$Funeral" "from" "I") ∈ lw_all := lw_g (lw_at lw_m5 32 rfl) rfl
theorem q1062 : (Jvm.Cond.soleField "VillageHalls$Funeral" "from") ∈ lw_all := lw_g (lw_at lw_m5 33 rfl) rfl
theorem q1063 : (Jvm.Cond.laysFinal "VillageHalls$Funeral" "VillageHalls$Funeral" "to" "I") ∈ lw_all := lw_g (lw_at lw_m5 34 rfl) rfl
theorem q1064 : (Jvm.Cond.soleField "VillageHalls$Funeral" "to") ∈ lw_all := lw_g (lw_at lw_m5 35 rfl) rfl
theorem q1065 : (Jvm.Cond.laysFinal "VillageHalls$Funeral" "VillageHalls$Funeral" "holds" "I") ∈ lw_all := lw_g (lw_at lw_m5 36 rfl) rfl
theorem q1066 : (Jvm.Cond.soleField "VillageHalls$Funeral" "holds") ∈ lw_all := lw_g (lw_at lw_m5 37 rfl) rfl
theorem q1067 : (Jvm.Cond.lays "VillageHalls$Funeral" "VillageHalls$Funeral" "floor" "I") ∈ lw_all := lw_g (lw_at lw_m5 38 rfl) rfl
theorem q1068 : (Jvm.Cond.soleField "VillageHalls$Funeral" "floor") ∈ lw_all := lw_g (lw_at lw_m5 39 rfl) rfl
theorem q1069 : (Jvm.Cond.lays "VillageHalls$Funeral" "VillageHalls$Funeral" "moved" "I") ∈ lw_all := lw_g (lw_at lw_m5 40 rfl) rfl
theorem q1070 : (Jvm.Cond.soleField "VillageHalls$Funeral" "moved") ∈ lw_all := lw_g (lw_at lw_m5 41 rfl) rfl
theorem q1071 : (Jvm.Cond.laysFinal "VillageHalls$Funeral" "VillageHalls$Funeral" "place" "[I") ∈ lw_all := lw_g (lw_at lw_m5 42 rfl) rfl
theorem q1072 : (Jvm.Cond.soleField "VillageHalls$Funeral" "place") ∈ lw_all := lw_g (lw_at lw_m5 43 rfl) rfl
theorem q1073 : (Jvm.Cond.laysFinal "VillageHalls$Funeral" "VillageHalls$Funeral" "this$0" "LVillageHalls;") ∈ lw_all := lw_g (lw_at lw_m5 44 rfl) rfl
theorem q1074 : (Jvm.Cond.soleField "VillageHalls$Funeral" "this$0") ∈ lw_all := lw_g (lw_at lw_m5 45 rfl) rfl
theorem q1075 : (Jvm.Cond.superclass "VillageHalls$Funeral" "java/lang/Object") ∈ lw_all := lw_g (lw_at lw_m5 46 rfl) rfl
theorem q1078 : (Jvm.Cond.instanceMethod ({ cls := "VillageHalls$Funeral", name := "lost", desc := "()I" } : Jvm.MethodName)) ∈ lw_all := lw_g (lw_at lw_m5 49 rfl) rfl
theorem q1079 : (Jvm.Cond.selects "VillageHalls$Funeral" ({ cls := "VillageHalls$Funeral", name := "lost", desc := "()I" } : Jvm.MethodName) ({ cls := "VillageHalls$Funeral", name := "lost", desc := "()I" } : Jvm.MethodName)) ∈ lw_all := lw_g (lw_at lw_m5 50 rfl) rfl
theorem q1080 : (Jvm.Cond.code ({ cls := "VillageHalls$Funeral", name := "lost", desc := "()I" } : Jvm.MethodName) prog_10_method_5_code (3 : Nat) (Option.some Jvm.ClassFile.FieldType.int)) ∈ lw_all := lw_g (lw_at lw_m5 51 rfl) rfl
theorem q2018 : (Jvm.Cond.castable "VillageHalls$Funeral" "java/lang/Object") ∈ lw_tbl := lw_at lw_m9 29 rfl
theorem in_X9 : ∀ w ∈ wsX90, w ∈ lw_all := lw_in wsX90 [1057, 1059, 1061, 1063, 1065, 1067, 1069, 1071, 1073] (by decide +kernel) (by decide +kernel)

/-! VillageHalls$Told -/
set_option maxRecDepth 100000
def RX10 : String := "VillageHalls$Told"
def TX10 : u_T := fun k => match k with
  | 0 => ("VillageHalls$Told", "of", "I", true)
  | 1 => ("VillageHalls$Told", "time", "I", true)
  | 2 => ("VillageHalls$Told", "a", "I", true)
  | _ => ("VillageHalls$Told", "b", "I", true)
def tyX10 : Nat → FieldType := fun k => match k with
  | 0 => .int
  | 1 => .int
  | 2 => .int
  | _ => .int
abbrev wsX100 : List Cond := u_ws RX10 TX10 4
theorem nmX10 : ∀ a, a < 4 → ∀ b, b < 4 → a ≠ b → (TX10 a).2.1 ≠ (TX10 b).2.1 := by decide +kernel
theorem tyX10_ok : ∀ k, k < 4 → parseFieldDescriptor (TX10 k).2.2.1 = some (tyX10 k) := by decide +kernel
abbrev cX10_init : ByteArray := prog_16_method_1_code
def yX10_init : MethodName := ⟨RX10, "<init>", "(IIII)V"⟩
def dkwX10_init_1 : List UInt8 := [181, 0, 19, 177]
abbrev dktX10_init_1 : List UInt8 := dkwX10_init_1 ++ []
def dkwX10_init_0 : List UInt8 := [42, 183, 0, 1, 42, 27, 181, 0, 7, 42, 28, 181, 0, 13, 42, 29, 181, 0, 16, 42, 21, 4]
abbrev dktX10_init_0 : List UInt8 := dkwX10_init_0 ++ dktX10_init_1
theorem dksX10_init_0 : cX10_init.data.toList.drop 0 = dktX10_init_0 := by decide +kernel
theorem dksX10_init_1 : cX10_init.data.toList.drop 22 = dktX10_init_1 := dk_seg dksX10_init_0 22 rfl rfl
theorem dX10_init_0 : decode cX10_init 0 = .ok (.aload_n 0, 1) := dk_42 (dk_at dksX10_init_0 0 rfl rfl)
theorem dX10_init_1 : decode cX10_init 1 = .ok (.invokespecial 1, 3) := dk_183 0 1 (dk_at dksX10_init_0 1 rfl rfl)
theorem dX10_init_4 : decode cX10_init 4 = .ok (.aload_n 0, 1) := dk_42 (dk_at dksX10_init_0 4 rfl rfl)
theorem dX10_init_5 : decode cX10_init 5 = .ok (.iload_n 1, 1) := dk_27 (dk_at dksX10_init_0 5 rfl rfl)
theorem dX10_init_6 : decode cX10_init 6 = .ok (.putfield 7, 3) := dk_181 0 7 (dk_at dksX10_init_0 6 rfl rfl)
theorem dX10_init_9 : decode cX10_init 9 = .ok (.aload_n 0, 1) := dk_42 (dk_at dksX10_init_0 9 rfl rfl)
theorem dX10_init_10 : decode cX10_init 10 = .ok (.iload_n 2, 1) := dk_28 (dk_at dksX10_init_0 10 rfl rfl)
theorem dX10_init_11 : decode cX10_init 11 = .ok (.putfield 13, 3) := dk_181 0 13 (dk_at dksX10_init_0 11 rfl rfl)
theorem dX10_init_14 : decode cX10_init 14 = .ok (.aload_n 0, 1) := dk_42 (dk_at dksX10_init_0 14 rfl rfl)
theorem dX10_init_15 : decode cX10_init 15 = .ok (.iload_n 3, 1) := dk_29 (dk_at dksX10_init_0 15 rfl rfl)
theorem dX10_init_16 : decode cX10_init 16 = .ok (.putfield 16, 3) := dk_181 0 16 (dk_at dksX10_init_0 16 rfl rfl)
theorem dX10_init_19 : decode cX10_init 19 = .ok (.aload_n 0, 1) := dk_42 (dk_at dksX10_init_0 19 rfl rfl)
theorem dX10_init_20 : decode cX10_init 20 = .ok (.iload 4, 2) := dk_21 4 (dk_at dksX10_init_0 20 rfl rfl)
theorem dX10_init_22 : decode cX10_init 22 = .ok (.putfield 19, 3) := dk_181 0 19 (dk_at dksX10_init_1 0 rfl rfl)
theorem dX10_init_25 : decode cX10_init 25 = .ok (.return_, 1) := dk_177 (dk_at dksX10_init_1 3 rfl rfl)
theorem q101 : (Jvm.Cond.initialized "VillageHalls$Told") ∈ lw_all := lw_g (lw_at lw_m1 32 rfl) rfl
theorem q901 : (Jvm.Cond.selects "VillageHalls$Told" ({ cls := "java/lang/Object", name := "getClass", desc := "()Ljava/lang/Class;" } : Jvm.MethodName) ({ cls := "java/lang/Object", name := "getClass", desc := "()Ljava/lang/Class;" } : Jvm.MethodName)) ∈ lw_all := lw_g (lw_at lw_m4 112 rfl) rfl
theorem q1090 : (Jvm.Cond.instantiable "VillageHalls$Told" (4 : Nat)) ∈ lw_all := lw_g (lw_at lw_m5 61 rfl) rfl
theorem q1092 : (Jvm.Cond.instanceMethod ({ cls := "VillageHalls$Told", name := "<init>", desc := "(IIII)V" } : Jvm.MethodName)) ∈ lw_all := lw_g (lw_at lw_m5 63 rfl) rfl
theorem q1093 : (Jvm.Cond.code ({ cls := "VillageHalls$Told", name := "<init>", desc := "(IIII)V" } : Jvm.MethodName) prog_16_method_1_code (5 : Nat) (Option.none : Option Jvm.ClassFile.FieldType)) ∈ lw_all := lw_g (lw_at lw_m5 64 rfl) rfl
theorem q1094 : (Jvm.Cond.methodLink "VillageHalls$Told" (1 : Nat) ({ cls := "java/lang/Object", name := "<init>", desc := "()V" } : Jvm.MethodName)) ∈ lw_all := lw_g (lw_at lw_m5 65 rfl) rfl
theorem q1095 : (Jvm.Cond.fieldLink "VillageHalls$Told" (7 : Nat) "VillageHalls$Told" "of" "I") ∈ lw_all := lw_g (lw_at lw_m5 66 rfl) rfl
theorem q1097 : (Jvm.Cond.fieldLink "VillageHalls$Told" (13 : Nat) "VillageHalls$Told" "time" "I") ∈ lw_all := lw_g (lw_at lw_m5 68 rfl) rfl
theorem q1099 : (Jvm.Cond.fieldLink "VillageHalls$Told" (16 : Nat) "VillageHalls$Told" "a" "I") ∈ lw_all := lw_g (lw_at lw_m5 70 rfl) rfl
theorem q1101 : (Jvm.Cond.fieldLink "VillageHalls$Told" (19 : Nat) "VillageHalls$Told" "b" "I") ∈ lw_all := lw_g (lw_at lw_m5 72 rfl) rfl
theorem q1103 : (Jvm.Cond.laysFinal "VillageHalls$Told" "VillageHalls$Told" "of" "I") ∈ lw_all := lw_g (lw_at lw_m5 74 rfl) rfl
theorem q1104 : (Jvm.Cond.soleField "VillageHalls$Told" "of") ∈ lw_all := lw_g (lw_at lw_m5 75 rfl) rfl
theorem q1105 : (Jvm.Cond.laysFinal "VillageHalls$Told" "VillageHalls$Told" "time" "I") ∈ lw_all := lw_g (lw_at lw_m5 76 rfl) rfl
theorem q1106 : (Jvm.Cond.soleField "VillageHalls$Told" "time") ∈ lw_all := lw_g (lw_at lw_m5 77 rfl) rfl
theorem q1107 : (Jvm.Cond.laysFinal "VillageHalls$Told" "VillageHalls$Told" "a" "I") ∈ lw_all := lw_g (lw_at lw_m5 78 rfl) rfl
theorem q1108 : (Jvm.Cond.soleField "VillageHalls$Told" "a") ∈ lw_all := lw_g (lw_at lw_m5 79 rfl) rfl
theorem q1109 : (Jvm.Cond.laysFinal "VillageHalls$Told" "VillageHalls$Told" "b" "I") ∈ lw_all := lw_g (lw_at lw_m5 80 rfl) rfl
theorem q1110 : (Jvm.Cond.soleField "VillageHalls$Told" "b") ∈ lw_all := lw_g (lw_at lw_m5 81 rfl) rfl
theorem q1111 : (Jvm.Cond.superclass "VillageHalls$Told" "java/lang/Object") ∈ lw_all := lw_g (lw_at lw_m5 82 rfl) rfl
theorem q2019 : (Jvm.Cond.castable "VillageHalls$Told" "java/lang/Object") ∈ lw_tbl := lw_at lw_m9 30 rfl
theorem in_X10 : ∀ w ∈ wsX100, w ∈ lw_all := lw_in wsX100 [1103, 1105, 1107, 1109] (by decide +kernel) (by decide +kernel)

/-! VillageHalls$Meeting -/
set_option maxRecDepth 100000
def RX11 : String := "VillageHalls$Meeting"
def TX11 : u_T := fun k => match k with
  | 0 => ("VillageHalls$Meeting", "members", "I", true)
  | 1 => ("VillageHalls$Meeting", "yes", "I", true)
  | 2 => ("VillageHalls$Meeting", "no", "I", true)
  | 3 => ("VillageHalls$Meeting", "quorum", "I", true)
  | _ => ("VillageHalls$Meeting", "hangs", "I", true)
def tyX11 : Nat → FieldType := fun k => match k with
  | 0 => .int
  | 1 => .int
  | 2 => .int
  | 3 => .int
  | _ => .int
abbrev wsX110 : List Cond := u_ws RX11 TX11 5
theorem nmX11 : ∀ a, a < 5 → ∀ b, b < 5 → a ≠ b → (TX11 a).2.1 ≠ (TX11 b).2.1 := by decide +kernel
theorem tyX11_ok : ∀ k, k < 5 → parseFieldDescriptor (TX11 k).2.2.1 = some (tyX11 k) := by decide +kernel
abbrev cX11_init : ByteArray := prog_13_method_1_code
def yX11_init : MethodName := ⟨RX11, "<init>", "(IIIII)V"⟩
def dkwX11_init_1 : List UInt8 := [181, 0, 19, 42, 21, 5, 181, 0, 22, 177]
abbrev dktX11_init_1 : List UInt8 := dkwX11_init_1 ++ []
def dkwX11_init_0 : List UInt8 := [42, 183, 0, 1, 42, 27, 181, 0, 7, 42, 28, 181, 0, 13, 42, 29, 181, 0, 16, 42, 21, 4]
abbrev dktX11_init_0 : List UInt8 := dkwX11_init_0 ++ dktX11_init_1
theorem dksX11_init_0 : cX11_init.data.toList.drop 0 = dktX11_init_0 := by decide +kernel
theorem dksX11_init_1 : cX11_init.data.toList.drop 22 = dktX11_init_1 := dk_seg dksX11_init_0 22 rfl rfl
theorem dX11_init_0 : decode cX11_init 0 = .ok (.aload_n 0, 1) := dk_42 (dk_at dksX11_init_0 0 rfl rfl)
theorem dX11_init_1 : decode cX11_init 1 = .ok (.invokespecial 1, 3) := dk_183 0 1 (dk_at dksX11_init_0 1 rfl rfl)
theorem dX11_init_4 : decode cX11_init 4 = .ok (.aload_n 0, 1) := dk_42 (dk_at dksX11_init_0 4 rfl rfl)
theorem dX11_init_5 : decode cX11_init 5 = .ok (.iload_n 1, 1) := dk_27 (dk_at dksX11_init_0 5 rfl rfl)
theorem dX11_init_6 : decode cX11_init 6 = .ok (.putfield 7, 3) := dk_181 0 7 (dk_at dksX11_init_0 6 rfl rfl)
theorem dX11_init_9 : decode cX11_init 9 = .ok (.aload_n 0, 1) := dk_42 (dk_at dksX11_init_0 9 rfl rfl)
theorem dX11_init_10 : decode cX11_init 10 = .ok (.iload_n 2, 1) := dk_28 (dk_at dksX11_init_0 10 rfl rfl)
theorem dX11_init_11 : decode cX11_init 11 = .ok (.putfield 13, 3) := dk_181 0 13 (dk_at dksX11_init_0 11 rfl rfl)
theorem dX11_init_14 : decode cX11_init 14 = .ok (.aload_n 0, 1) := dk_42 (dk_at dksX11_init_0 14 rfl rfl)
theorem dX11_init_15 : decode cX11_init 15 = .ok (.iload_n 3, 1) := dk_29 (dk_at dksX11_init_0 15 rfl rfl)
theorem dX11_init_16 : decode cX11_init 16 = .ok (.putfield 16, 3) := dk_181 0 16 (dk_at dksX11_init_0 16 rfl rfl)
theorem dX11_init_19 : decode cX11_init 19 = .ok (.aload_n 0, 1) := dk_42 (dk_at dksX11_init_0 19 rfl rfl)
theorem dX11_init_20 : decode cX11_init 20 = .ok (.iload 4, 2) := dk_21 4 (dk_at dksX11_init_0 20 rfl rfl)
theorem dX11_init_22 : decode cX11_init 22 = .ok (.putfield 19, 3) := dk_181 0 19 (dk_at dksX11_init_1 0 rfl rfl)
theorem dX11_init_25 : decode cX11_init 25 = .ok (.aload_n 0, 1) := dk_42 (dk_at dksX11_init_1 3 rfl rfl)
theorem dX11_init_26 : decode cX11_init 26 = .ok (.iload 5, 2) := dk_21 5 (dk_at dksX11_init_1 4 rfl rfl)
theorem dX11_init_28 : decode cX11_init 28 = .ok (.putfield 22, 3) := dk_181 0 22 (dk_at dksX11_init_1 6 rfl rfl)
theorem dX11_init_31 : decode cX11_init 31 = .ok (.return_, 1) := dk_177 (dk_at dksX11_init_1 9 rfl rfl)
theorem q102 : (Jvm.Cond.initialized "VillageHalls$Meeting") ∈ lw_all := lw_g (lw_at lw_m1 33 rfl) rfl
theorem q898 : (Jvm.Cond.selects "VillageHalls$Meeting" ({ cls := "java/lang/Object", name := "getClass", desc := "()Ljava/lang/Class;" } : Jvm.MethodName) ({ cls := "java/lang/Object", name := "getClass", desc := "()Ljava/lang/Class;" } : Jvm.MethodName)) ∈ lw_all := lw_g (lw_at lw_m4 109 rfl) rfl
theorem q1273 : (Jvm.Cond.instantiable "VillageHalls$Meeting" (5 : Nat)) ∈ lw_all := lw_g (lw_at lw_m6 4 rfl) rfl
theorem q1275 : (Jvm.Cond.instanceMethod ({ cls := "VillageHalls$Meeting", name := "<init>", desc := "(IIIII)V" } : Jvm.MethodName)) ∈ lw_all := lw_g (lw_at lw_m6 6 rfl) rfl
theorem q1276 : (Jvm.Cond.code ({ cls := "VillageHalls$Meeting", name := "<init>", desc := "(IIIII)V" } : Jvm.MethodName) prog_13_method_1_code (6 : Nat) (Option.none : Option Jvm.ClassFile.FieldType)) ∈ lw_all := lw_g (lw_at lw_m6 7 rfl) rfl
theorem q1277 : (Jvm.Cond.methodLink "VillageHalls$Meeting" (1 : Nat) ({ cls := "java/lang/Object", name := "<init>", desc := "()V" } : Jvm.MethodName)) ∈ lw_all := lw_g (lw_at lw_m6 8 rfl) rfl
theorem q1278 : (Jvm.Cond.fieldLink "VillageHalls$Meeting" (7 : Nat) "VillageHalls$Meeting" "members" "I") ∈ lw_all := lw_g (lw_at lw_m6 9 rfl) rfl
theorem q1279 : (Jvm.Cond.fieldLink "VillageHalls$Meeting" (13 : Nat) "VillageHalls$Meeting" "yes" "I") ∈ lw_all := lw_g (lw_at lw_m6 10 rfl) rfl
theorem q1281 : (Jvm.Cond.fieldLink "VillageHalls$Meeting" (16 : Nat) "VillageHalls$Meeting" "no" "I") ∈ lw_all := lw_g (lw_at lw_m6 12 rfl) rfl
theorem q1283 : (Jvm.Cond.fieldLink "VillageHalls$Meeting" (19 : Nat) "VillageHalls$Meeting" "quorum" "I") ∈ lw_all := lw_g (lw_at lw_m6 14 rfl) rfl
theorem q1285 : (Jvm.Cond.fieldLink "VillageHalls$Meeting" (22 : Nat) "VillageHalls$Meeting" "hangs" "I") ∈ lw_all := lw_g (lw_at lw_m6 16 rfl) rfl
theorem q1287 : (Jvm.Cond.laysFinal "VillageHalls$Meeting" "VillageHalls$Meeting" "members" "I") ∈ lw_all := lw_g (lw_at lw_m6 18 rfl) rfl
theorem q1288 : (Jvm.Cond.soleField "VillageHalls$Meeting" "members") ∈ lw_all := lw_g (lw_at lw_m6 19 rfl) rfl
theorem q1289 : (Jvm.Cond.laysFinal "VillageHalls$Meeting" "VillageHalls$Meeting" "yes" "I") ∈ lw_all := lw_g (lw_at lw_m6 20 rfl) rfl
theorem q1290 : (Jvm.Cond.soleField "VillageHalls$Meeting" "yes") ∈ lw_all := lw_g (lw_at lw_m6 21 rfl) rfl
theorem q1291 : (Jvm.Cond.laysFinal "VillageHalls$Meeting" "VillageHalls$Meeting" "no" "I") ∈ lw_all := lw_g (lw_at lw_m6 22 rfl) rfl
theorem q1292 : (Jvm.Cond.soleField "VillageHalls$Meeting" "no") ∈ lw_all := lw_g (lw_at lw_m6 23 rfl) rfl
theorem q1293 : (Jvm.Cond.laysFinal "VillageHalls$Meeting" "VillageHalls$Meeting" "quorum" "I") ∈ lw_all := lw_g (lw_at lw_m6 24 rfl) rfl
theorem q1294 : (Jvm.Cond.soleField "VillageHalls$Meeting" "quorum") ∈ lw_all := lw_g (lw_at lw_m6 25 rfl) rfl
theorem q1295 : (Jvm.Cond.laysFinal "VillageHalls$Meeting" "VillageHalls$Meeting" "hangs" "I") ∈ lw_all := lw_g (lw_at lw_m6 26 rfl) rfl
theorem q1296 : (Jvm.Cond.soleField "VillageHalls$Meeting" "hangs") ∈ lw_all := lw_g (lw_at lw_m6 27 rfl) rfl
theorem q1297 : (Jvm.Cond.superclass "VillageHalls$Meeting" "java/lang/Object") ∈ lw_all := lw_g (lw_at lw_m6 28 rfl) rfl
theorem q2021 : (Jvm.Cond.castable "VillageHalls$Meeting" "java/lang/Object") ∈ lw_tbl := lw_at lw_m9 32 rfl
theorem in_X11 : ∀ w ∈ wsX110, w ∈ lw_all := lw_in wsX110 [1287, 1289, 1291, 1293, 1295] (by decide +kernel) (by decide +kernel)

/-! VillageHalls$AsBooking -/
set_option maxRecDepth 100000
def RX12 : String := "VillageHalls$AsBooking"
def TX12 : u_T := fun k => match k with
  | _ => ("VillageHalls$AsBooking", "it", "LVillageHalls$Booking;", true)
def tyX12 : Nat → FieldType := fun k => match k with
  | _ => .object "VillageHalls$Booking"
abbrev wsX120 : List Cond := u_ws RX12 TX12 1
theorem nmX12 : ∀ a, a < 1 → ∀ b, b < 1 → a ≠ b → (TX12 a).2.1 ≠ (TX12 b).2.1 := by decide +kernel
theorem tyX12_ok : ∀ k, k < 1 → parseFieldDescriptor (TX12 k).2.2.1 = some (tyX12 k) := by decide +kernel
abbrev cX12_init : ByteArray := prog_2_method_1_code
def yX12_init : MethodName := ⟨RX12, "<init>", "(LVillageHalls$Booking;)V"⟩
def dkwX12_init_0 : List UInt8 := [42, 183, 0, 3, 42, 43, 181, 0, 9, 177]
abbrev dktX12_init_0 : List UInt8 := dkwX12_init_0 ++ []
theorem dksX12_init_0 : cX12_init.data.toList.drop 0 = dktX12_init_0 := by decide +kernel
theorem dX12_init_0 : decode cX12_init 0 = .ok (.aload_n 0, 1) := dk_42 (dk_at dksX12_init_0 0 rfl rfl)
theorem dX12_init_1 : decode cX12_init 1 = .ok (.invokespecial 3, 3) := dk_183 0 3 (dk_at dksX12_init_0 1 rfl rfl)
theorem dX12_init_4 : decode cX12_init 4 = .ok (.aload_n 0, 1) := dk_42 (dk_at dksX12_init_0 4 rfl rfl)
theorem dX12_init_5 : decode cX12_init 5 = .ok (.aload_n 1, 1) := dk_43 (dk_at dksX12_init_0 5 rfl rfl)
theorem dX12_init_6 : decode cX12_init 6 = .ok (.putfield 9, 3) := dk_181 0 9 (dk_at dksX12_init_0 6 rfl rfl)
theorem dX12_init_9 : decode cX12_init 9 = .ok (.return_, 1) := dk_177 (dk_at dksX12_init_0 9 rfl rfl)
abbrev cX12_kind : ByteArray := prog_2_method_2_code
def yX12_kind : MethodName := ⟨RX12, "kind", "()I"⟩
theorem dX12_kind_0 : decode cX12_kind 0 = .ok (.iconst 0, 1) := by decide +kernel
theorem dX12_kind_1 : decode cX12_kind 1 = .ok (.ireturn, 1) := by decide +kernel
abbrev cX12_size : ByteArray := prog_2_method_4_code
def yX12_size : MethodName := ⟨RX12, "size", "(LVillageHalls$Trail;)I"⟩
def dkwX12_size_0 : List UInt8 := [43, 16, 10, 182, 0, 21, 42, 180, 0, 9, 180, 0, 27, 172]
abbrev dktX12_size_0 : List UInt8 := dkwX12_size_0 ++ []
theorem dksX12_size_0 : cX12_size.data.toList.drop 0 = dktX12_size_0 := by decide +kernel
theorem dX12_size_0 : decode cX12_size 0 = .ok (.aload_n 1, 1) := dk_43 (dk_at dksX12_size_0 0 rfl rfl)
theorem dX12_size_1 : decode cX12_size 1 = .ok (.bipush 10, 2) := dk_16 10 (dk_at dksX12_size_0 1 rfl rfl)
theorem dX12_size_3 : decode cX12_size 3 = .ok (.invokevirtual 21, 3) := dk_182 0 21 (dk_at dksX12_size_0 3 rfl rfl)
theorem dX12_size_6 : decode cX12_size 6 = .ok (.aload_n 0, 1) := dk_42 (dk_at dksX12_size_0 6 rfl rfl)
theorem dX12_size_7 : decode cX12_size 7 = .ok (.getfield 9, 3) := dk_180 0 9 (dk_at dksX12_size_0 7 rfl rfl)
theorem dX12_size_10 : decode cX12_size 10 = .ok (.getfield 27, 3) := dk_180 0 27 (dk_at dksX12_size_0 10 rfl rfl)
theorem dX12_size_13 : decode cX12_size 13 = .ok (.ireturn, 1) := dk_172 (dk_at dksX12_size_0 13 rfl rfl)
abbrev cX12_use : ByteArray := prog_2_method_3_code
def yX12_use : MethodName := ⟨RX12, "use", "()I"⟩
def dkwX12_use_0 : List UInt8 := [42, 180, 0, 9, 180, 0, 15, 172]
abbrev dktX12_use_0 : List UInt8 := dkwX12_use_0 ++ []
theorem dksX12_use_0 : cX12_use.data.toList.drop 0 = dktX12_use_0 := by decide +kernel
theorem dX12_use_0 : decode cX12_use 0 = .ok (.aload_n 0, 1) := dk_42 (dk_at dksX12_use_0 0 rfl rfl)
theorem dX12_use_1 : decode cX12_use 1 = .ok (.getfield 9, 3) := dk_180 0 9 (dk_at dksX12_use_0 1 rfl rfl)
theorem dX12_use_4 : decode cX12_use 4 = .ok (.getfield 15, 3) := dk_180 0 15 (dk_at dksX12_use_0 4 rfl rfl)
theorem dX12_use_7 : decode cX12_use 7 = .ok (.ireturn, 1) := dk_172 (dk_at dksX12_use_0 7 rfl rfl)
theorem q103 : (Jvm.Cond.initialized "VillageHalls$AsBooking") ∈ lw_all := lw_g (lw_at lw_m1 34 rfl) rfl
theorem q823 : (Jvm.Cond.fieldLink "VillageHalls$AsBooking" (27 : Nat) "VillageHalls$Booking" "people" "I") ∈ lw_all := lw_g (lw_at lw_m4 34 rfl) rfl
theorem q828 : (Jvm.Cond.fieldLink "VillageHalls$AsBooking" (15 : Nat) "VillageHalls$Booking" "use" "I") ∈ lw_all := lw_g (lw_at lw_m4 39 rfl) rfl
theorem q888 : (Jvm.Cond.selects "VillageHalls$AsBooking" ({ cls := "java/lang/Object", name := "getClass", desc := "()Ljava/lang/Class;" } : Jvm.MethodName) ({ cls := "java/lang/Object", name := "getClass", desc := "()Ljava/lang/Class;" } : Jvm.MethodName)) ∈ lw_all := lw_g (lw_at lw_m4 99 rfl) rfl
theorem q1328 : (Jvm.Cond.instanceMethod ({ cls := "VillageHalls$AsBooking", name := "<init>", desc := "(LVillageHalls$Booking;)V" } : Jvm.MethodName)) ∈ lw_all := lw_g (lw_at lw_m6 59 rfl) rfl
theorem q1329 : (Jvm.Cond.code ({ cls := "VillageHalls$AsBooking", name := "<init>", desc := "(LVillageHalls$Booking;)V" } : Jvm.MethodName) prog_2_method_1_code (2 : Nat) (Option.none : Option Jvm.ClassFile.FieldType)) ∈ lw_all := lw_g (lw_at lw_m6 60 rfl) rfl
theorem q1330 : (Jvm.Cond.methodLink "VillageHalls$AsBooking" (3 : Nat) ({ cls := "java/lang/Object", name := "<init>", desc := "()V" } : Jvm.MethodName)) ∈ lw_all := lw_g (lw_at lw_m6 61 rfl) rfl
theorem q1331 : (Jvm.Cond.fieldLink "VillageHalls$AsBooking" (9 : Nat) "VillageHalls$AsBooking" "it" "LVillageHalls$Booking;") ∈ lw_all := lw_g (lw_at lw_m6 62 rfl) rfl
theorem q1336 : (Jvm.Cond.soleField "VillageHalls$AsBooking" "it") ∈ lw_all := lw_g (lw_at lw_m6 67 rfl) rfl
theorem q1367 : (Jvm.Cond.instantiable "VillageHalls$AsBooking" (1 : Nat)) ∈ lw_all := lw_g (lw_at lw_m6 98 rfl) rfl
theorem q1369 : (Jvm.Cond.laysFinal "VillageHalls$AsBooking" "VillageHalls$AsBooking" "it" "LVillageHalls$Booking;") ∈ lw_all := lw_g (lw_at lw_m6 100 rfl) rfl
theorem q1370 : (Jvm.Cond.superclass "VillageHalls$AsBooking" "java/lang/Object") ∈ lw_all := lw_g (lw_at lw_m6 101 rfl) rfl
theorem q1372 : (Jvm.Cond.instanceMethod ({ cls := "VillageHalls$AsBooking", name := "kind", desc := "()I" } : Jvm.MethodName)) ∈ lw_all := lw_g (lw_at lw_m6 103 rfl) rfl
theorem q1373 : (Jvm.Cond.selects "VillageHalls$AsBooking" ({ cls := "VillageHalls$AsBooking", name := "kind", desc := "()I" } : Jvm.MethodName) ({ cls := "VillageHalls$AsBooking", name := "kind", desc := "()I" } : Jvm.MethodName)) ∈ lw_all := lw_g (lw_at lw_m6 104 rfl) rfl
theorem q1374 : (Jvm.Cond.sameMethod "VillageHalls$AsBooking" "VillageHalls$AsBooking" "kind" "()I") ∈ lw_all := lw_g (lw_at lw_m6 105 rfl) rfl
theorem q1387 : (Jvm.Cond.code ({ cls := "VillageHalls$AsBooking", name := "kind", desc := "()I" } : Jvm.MethodName) prog_2_method_2_code (1 : Nat) (Option.some Jvm.ClassFile.FieldType.int)) ∈ lw_all := lw_g (lw_at lw_m6 118 rfl) rfl
theorem q1411 : (Jvm.Cond.instanceMethod ({ cls := "VillageHalls$AsBooking", name := "size", desc := "(LVillageHalls$Trail;)I" } : Jvm.MethodName)) ∈ lw_all := lw_g (lw_at lw_m6 142 rfl) rfl
theorem q1412 : (Jvm.Cond.selects "VillageHalls$AsBooking" ({ cls := "VillageHalls$AsBooking", name := "size", desc := "(LVillageHalls$Trail;)I" } : Jvm.MethodName) ({ cls := "VillageHalls$AsBooking", name := "size", desc := "(LVillageHalls$Trail;)I" } : Jvm.MethodName)) ∈ lw_all := lw_g (lw_at lw_m6 143 rfl) rfl
theorem q1413 : (Jvm.Cond.sameMethod "VillageHalls$AsBooking" "VillageHalls$AsBooking" "size" "(LVillageHalls$Trail;)I") ∈ lw_all := lw_g (lw_at lw_m6 144 rfl) rfl
theorem q1426 : (Jvm.Cond.code ({ cls := "VillageHalls$AsBooking", name := "size", desc := "(LVillageHalls$Trail;)I" } : Jvm.MethodName) prog_2_method_4_code (2 : Nat) (Option.some Jvm.ClassFile.FieldType.int)) ∈ lw_all := lw_g (lw_at lw_m6 157 rfl) rfl
theorem q1427 : (Jvm.Cond.methodLink "VillageHalls$AsBooking" (21 : Nat) ({ cls := "VillageHalls$Trail", name := "begins", desc := "(I)V" } : Jvm.MethodName)) ∈ lw_all := lw_g (lw_at lw_m6 158 rfl) rfl
theorem q1443 : (Jvm.Cond.castable "VillageHalls$AsBooking" "VillageHalls$Marked") ∈ lw_tbl := lw_at lw_m6 174 rfl
theorem q1444 : (Jvm.Cond.selects "VillageHalls$AsBooking" ({ cls := "VillageHalls$Marked", name := "use", desc := "()I" } : Jvm.MethodName) ({ cls := "VillageHalls$AsBooking", name := "use", desc := "()I" } : Jvm.MethodName)) ∈ lw_all := lw_g (lw_at lw_m6 175 rfl) rfl
theorem q1445 : (Jvm.Cond.unhidden "VillageHalls$AsBooking" "use" "()I") ∈ lw_tbl := lw_at lw_m6 176 rfl
theorem q1446 : (Jvm.Cond.instanceMethod ({ cls := "VillageHalls$AsBooking", name := "use", desc := "()I" } : Jvm.MethodName)) ∈ lw_all := lw_g (lw_at lw_m6 177 rfl) rfl
theorem q1447 : (Jvm.Cond.publicMethod ({ cls := "VillageHalls$AsBooking", name := "use", desc := "()I" } : Jvm.MethodName)) ∈ lw_tbl := lw_at lw_m6 178 rfl
theorem q1448 : (Jvm.Cond.code ({ cls := "VillageHalls$AsBooking", name := "use", desc := "()I" } : Jvm.MethodName) prog_2_method_3_code (1 : Nat) (Option.some Jvm.ClassFile.FieldType.int)) ∈ lw_all := lw_g (lw_at lw_m6 179 rfl) rfl
theorem q1463 : (Jvm.Cond.unhidden "VillageHalls$AsBooking" "mark" "(LVillageHalls$Trail;)I") ∈ lw_tbl := lw_at lw_m6 194 rfl
theorem q1478 : (Jvm.Cond.declares ({ cls := "VillageHalls$AsBooking", name := "size", desc := "(LVillageHalls$Trail;)I" } : Jvm.MethodName)) ∈ lw_tbl := lw_at lw_m6 209 rfl
theorem q2026 : (Jvm.Cond.castable "VillageHalls$AsBooking" "java/lang/Object") ∈ lw_tbl := lw_at lw_m9 37 rfl
theorem in_X12 : ∀ w ∈ wsX120, w ∈ lw_all := lw_in wsX120 [1369] (by decide +kernel) (by decide +kernel)

/-! VillageHalls$AsGone -/
set_option maxRecDepth 100000
def RX13 : String := "VillageHalls$AsGone"
def TX13 : u_T := fun k => match k with
  | _ => ("VillageHalls$AsBooking", "it", "LVillageHalls$Booking;", true)
def tyX13 : Nat → FieldType := fun k => match k with
  | _ => .object "VillageHalls$Booking"
abbrev wsX130 : List Cond := u_ws RX13 TX13 1
theorem nmX13 : ∀ a, a < 1 → ∀ b, b < 1 → a ≠ b → (TX13 a).2.1 ≠ (TX13 b).2.1 := by decide +kernel
theorem tyX13_ok : ∀ k, k < 1 → parseFieldDescriptor (TX13 k).2.2.1 = some (tyX13 k) := by decide +kernel
abbrev cX13_init : ByteArray := prog_4_method_1_code
def yX13_init : MethodName := ⟨RX13, "<init>", "(LVillageHalls$Booking;)V"⟩
def dkwX13_init_0 : List UInt8 := [42, 43, 183, 0, 3, 177]
abbrev dktX13_init_0 : List UInt8 := dkwX13_init_0 ++ []
theorem dksX13_init_0 : cX13_init.data.toList.drop 0 = dktX13_init_0 := by decide +kernel
theorem dX13_init_0 : decode cX13_init 0 = .ok (.aload_n 0, 1) := dk_42 (dk_at dksX13_init_0 0 rfl rfl)
theorem dX13_init_1 : decode cX13_init 1 = .ok (.aload_n 1, 1) := dk_43 (dk_at dksX13_init_0 1 rfl rfl)
theorem dX13_init_2 : decode cX13_init 2 = .ok (.invokespecial 3, 3) := dk_183 0 3 (dk_at dksX13_init_0 2 rfl rfl)
theorem dX13_init_5 : decode cX13_init 5 = .ok (.return_, 1) := dk_177 (dk_at dksX13_init_0 5 rfl rfl)
abbrev cX13_kind : ByteArray := prog_4_method_2_code
def yX13_kind : MethodName := ⟨RX13, "kind", "()I"⟩
theorem dX13_kind_0 : decode cX13_kind 0 = .ok (.iconst 3, 1) := by decide +kernel
theorem dX13_kind_1 : decode cX13_kind 1 = .ok (.ireturn, 1) := by decide +kernel
abbrev cX13_size : ByteArray := prog_4_method_3_code
def yX13_size : MethodName := ⟨RX13, "size", "(LVillageHalls$Trail;)I"⟩
def dkwX13_size_0 : List UInt8 := [43, 16, 13, 182, 0, 9, 42, 43, 183, 0, 15, 42, 43, 182, 0, 19, 100, 172]
abbrev dktX13_size_0 : List UInt8 := dkwX13_size_0 ++ []
theorem dksX13_size_0 : cX13_size.data.toList.drop 0 = dktX13_size_0 := by decide +kernel
theorem dX13_size_0 : decode cX13_size 0 = .ok (.aload_n 1, 1) := dk_43 (dk_at dksX13_size_0 0 rfl rfl)
theorem dX13_size_1 : decode cX13_size 1 = .ok (.bipush 13, 2) := dk_16 13 (dk_at dksX13_size_0 1 rfl rfl)
theorem dX13_size_3 : decode cX13_size 3 = .ok (.invokevirtual 9, 3) := dk_182 0 9 (dk_at dksX13_size_0 3 rfl rfl)
theorem dX13_size_6 : decode cX13_size 6 = .ok (.aload_n 0, 1) := dk_42 (dk_at dksX13_size_0 6 rfl rfl)
theorem dX13_size_7 : decode cX13_size 7 = .ok (.aload_n 1, 1) := dk_43 (dk_at dksX13_size_0 7 rfl rfl)
theorem dX13_size_8 : decode cX13_size 8 = .ok (.invokespecial 15, 3) := dk_183 0 15 (dk_at dksX13_size_0 8 rfl rfl)
theorem dX13_size_11 : decode cX13_size 11 = .ok (.aload_n 0, 1) := dk_42 (dk_at dksX13_size_0 11 rfl rfl)
theorem dX13_size_12 : decode cX13_size 12 = .ok (.aload_n 1, 1) := dk_43 (dk_at dksX13_size_0 12 rfl rfl)
theorem dX13_size_13 : decode cX13_size 13 = .ok (.invokevirtual 19, 3) := dk_182 0 19 (dk_at dksX13_size_0 13 rfl rfl)
theorem dX13_size_16 : decode cX13_size 16 = .ok (.isub, 1) := dk_100 (dk_at dksX13_size_0 16 rfl rfl)
theorem dX13_size_17 : decode cX13_size 17 = .ok (.ireturn, 1) := dk_172 (dk_at dksX13_size_0 17 rfl rfl)
theorem q104 : (Jvm.Cond.initialized "VillageHalls$AsGone") ∈ lw_all := lw_g (lw_at lw_m1 35 rfl) rfl
theorem q890 : (Jvm.Cond.selects "VillageHalls$AsGone" ({ cls := "java/lang/Object", name := "getClass", desc := "()Ljava/lang/Class;" } : Jvm.MethodName) ({ cls := "java/lang/Object", name := "getClass", desc := "()Ljava/lang/Class;" } : Jvm.MethodName)) ∈ lw_all := lw_g (lw_at lw_m4 101 rfl) rfl
theorem q1323 : (Jvm.Cond.instantiable "VillageHalls$AsGone" (1 : Nat)) ∈ lw_all := lw_g (lw_at lw_m6 54 rfl) rfl
theorem q1325 : (Jvm.Cond.instanceMethod ({ cls := "VillageHalls$AsGone", name := "<init>", desc := "(LVillageHalls$Booking;)V" } : Jvm.MethodName)) ∈ lw_all := lw_g (lw_at lw_m6 56 rfl) rfl
theorem q1326 : (Jvm.Cond.code ({ cls := "VillageHalls$AsGone", name := "<init>", desc := "(LVillageHalls$Booking;)V" } : Jvm.MethodName) prog_4_method_1_code (2 : Nat) (Option.none : Option Jvm.ClassFile.FieldType)) ∈ lw_all := lw_g (lw_at lw_m6 57 rfl) rfl
theorem q1327 : (Jvm.Cond.methodLink "VillageHalls$AsGone" (3 : Nat) ({ cls := "VillageHalls$AsBooking", name := "<init>", desc := "(LVillageHalls$Booking;)V" } : Jvm.MethodName)) ∈ lw_all := lw_g (lw_at lw_m6 58 rfl) rfl
theorem q1335 : (Jvm.Cond.laysFinal "VillageHalls$AsGone" "VillageHalls$AsBooking" "it" "LVillageHalls$Booking;") ∈ lw_all := lw_g (lw_at lw_m6 66 rfl) rfl
theorem q1337 : (Jvm.Cond.superclass "VillageHalls$AsGone" "VillageHalls$AsBooking") ∈ lw_all := lw_g (lw_at lw_m6 68 rfl) rfl
theorem q1378 : (Jvm.Cond.selects "VillageHalls$AsGone" ({ cls := "VillageHalls$AsBooking", name := "kind", desc := "()I" } : Jvm.MethodName) ({ cls := "VillageHalls$AsGone", name := "kind", desc := "()I" } : Jvm.MethodName)) ∈ lw_all := lw_g (lw_at lw_m6 109 rfl) rfl
theorem q1379 : (Jvm.Cond.instanceMethod ({ cls := "VillageHalls$AsGone", name := "kind", desc := "()I" } : Jvm.MethodName)) ∈ lw_all := lw_g (lw_at lw_m6 110 rfl) rfl
theorem q1380 : (Jvm.Cond.code ({ cls := "VillageHalls$AsGone", name := "kind", desc := "()I" } : Jvm.MethodName) prog_4_method_2_code (1 : Nat) (Option.some Jvm.ClassFile.FieldType.int)) ∈ lw_all := lw_g (lw_at lw_m6 111 rfl) rfl
theorem q1428 : (Jvm.Cond.selects "VillageHalls$AsGone" ({ cls := "VillageHalls$AsBooking", name := "size", desc := "(LVillageHalls$Trail;)I" } : Jvm.MethodName) ({ cls := "VillageHalls$AsGone", name := "size", desc := "(LVillageHalls$Trail;)I" } : Jvm.MethodName)) ∈ lw_all := lw_g (lw_at lw_m6 159 rfl) rfl
theorem q1429 : (Jvm.Cond.instanceMethod ({ cls := "VillageHalls$AsGone", name := "size", desc := "(LVillageHalls$Trail;)I" } : Jvm.MethodName)) ∈ lw_all := lw_g (lw_at lw_m6 160 rfl) rfl
theorem q1430 : (Jvm.Cond.code ({ cls := "VillageHalls$AsGone", name := "size", desc := "(LVillageHalls$Trail;)I" } : Jvm.MethodName) prog_4_method_3_code (2 : Nat) (Option.some Jvm.ClassFile.FieldType.int)) ∈ lw_all := lw_g (lw_at lw_m6 161 rfl) rfl
theorem q1431 : (Jvm.Cond.methodLink "VillageHalls$AsGone" (9 : Nat) ({ cls := "VillageHalls$Trail", name := "begins", desc := "(I)V" } : Jvm.MethodName)) ∈ lw_all := lw_g (lw_at lw_m6 162 rfl) rfl
theorem q1432 : (Jvm.Cond.methodLink "VillageHalls$AsGone" (15 : Nat) ({ cls := "VillageHalls$AsBooking", name := "size", desc := "(LVillageHalls$Trail;)I" } : Jvm.MethodName)) ∈ lw_all := lw_g (lw_at lw_m6 163 rfl) rfl
theorem q1434 : (Jvm.Cond.unhidden "VillageHalls$AsGone" "mark" "(LVillageHalls$Trail;)I") ∈ lw_tbl := lw_at lw_m6 165 rfl
theorem q1452 : (Jvm.Cond.castable "VillageHalls$AsGone" "VillageHalls$Marked") ∈ lw_tbl := lw_at lw_m6 183 rfl
theorem q1453 : (Jvm.Cond.selects "VillageHalls$AsGone" ({ cls := "VillageHalls$Marked", name := "use", desc := "()I" } : Jvm.MethodName) ({ cls := "VillageHalls$AsBooking", name := "use", desc := "()I" } : Jvm.MethodName)) ∈ lw_all := lw_g (lw_at lw_m6 184 rfl) rfl
theorem q1454 : (Jvm.Cond.unhidden "VillageHalls$AsGone" "use" "()I") ∈ lw_tbl := lw_at lw_m6 185 rfl
theorem q2022 : (Jvm.Cond.castable "VillageHalls$AsGone" "java/lang/Object") ∈ lw_tbl := lw_at lw_m9 33 rfl
theorem in_X13 : ∀ w ∈ wsX130, w ∈ lw_all := lw_in wsX130 [1335] (by decide +kernel) (by decide +kernel)

/-! VillageHalls$AsHeld -/
set_option maxRecDepth 100000
def RX14 : String := "VillageHalls$AsHeld"
def TX14 : u_T := fun k => match k with
  | 0 => ("VillageHalls$AsBooking", "it", "LVillageHalls$Booking;", true)
  | _ => ("VillageHalls$AsHeld", "price", "I", true)
def tyX14 : Nat → FieldType := fun k => match k with
  | 0 => .object "VillageHalls$Booking"
  | _ => .int
abbrev wsX140 : List Cond := u_ws RX14 TX14 2
theorem nmX14 : ∀ a, a < 2 → ∀ b, b < 2 → a ≠ b → (TX14 a).2.1 ≠ (TX14 b).2.1 := by decide +kernel
theorem tyX14_ok : ∀ k, k < 2 → parseFieldDescriptor (TX14 k).2.2.1 = some (tyX14 k) := by decide +kernel
abbrev cX14_init : ByteArray := prog_5_method_1_code
def yX14_init : MethodName := ⟨RX14, "<init>", "(LVillageHalls$Booking;I)V"⟩
def dkwX14_init_0 : List UInt8 := [42, 43, 183, 0, 3, 42, 28, 181, 0, 9, 177]
abbrev dktX14_init_0 : List UInt8 := dkwX14_init_0 ++ []
theorem dksX14_init_0 : cX14_init.data.toList.drop 0 = dktX14_init_0 := by decide +kernel
theorem dX14_init_0 : decode cX14_init 0 = .ok (.aload_n 0, 1) := dk_42 (dk_at dksX14_init_0 0 rfl rfl)
theorem dX14_init_1 : decode cX14_init 1 = .ok (.aload_n 1, 1) := dk_43 (dk_at dksX14_init_0 1 rfl rfl)
theorem dX14_init_2 : decode cX14_init 2 = .ok (.invokespecial 3, 3) := dk_183 0 3 (dk_at dksX14_init_0 2 rfl rfl)
theorem dX14_init_5 : decode cX14_init 5 = .ok (.aload_n 0, 1) := dk_42 (dk_at dksX14_init_0 5 rfl rfl)
theorem dX14_init_6 : decode cX14_init 6 = .ok (.iload_n 2, 1) := dk_28 (dk_at dksX14_init_0 6 rfl rfl)
theorem dX14_init_7 : decode cX14_init 7 = .ok (.putfield 9, 3) := dk_181 0 9 (dk_at dksX14_init_0 7 rfl rfl)
theorem dX14_init_10 : decode cX14_init 10 = .ok (.return_, 1) := dk_177 (dk_at dksX14_init_0 10 rfl rfl)
abbrev cX14_kind : ByteArray := prog_5_method_2_code
def yX14_kind : MethodName := ⟨RX14, "kind", "()I"⟩
theorem dX14_kind_0 : decode cX14_kind 0 = .ok (.iconst 1, 1) := by decide +kernel
theorem dX14_kind_1 : decode cX14_kind 1 = .ok (.ireturn, 1) := by decide +kernel
abbrev cX14_size : ByteArray := prog_5_method_3_code
def yX14_size : MethodName := ⟨RX14, "size", "(LVillageHalls$Trail;)I"⟩
def dkwX14_size_0 : List UInt8 := [43, 16, 11, 182, 0, 15, 42, 43, 183, 0, 21, 42, 180, 0, 9, 96, 172]
abbrev dktX14_size_0 : List UInt8 := dkwX14_size_0 ++ []
theorem dksX14_size_0 : cX14_size.data.toList.drop 0 = dktX14_size_0 := by decide +kernel
theorem dX14_size_0 : decode cX14_size 0 = .ok (.aload_n 1, 1) := dk_43 (dk_at dksX14_size_0 0 rfl rfl)
theorem dX14_size_1 : decode cX14_size 1 = .ok (.bipush 11, 2) := dk_16 11 (dk_at dksX14_size_0 1 rfl rfl)
theorem dX14_size_3 : decode cX14_size 3 = .ok (.invokevirtual 15, 3) := dk_182 0 15 (dk_at dksX14_size_0 3 rfl rfl)
theorem dX14_size_6 : decode cX14_size 6 = .ok (.aload_n 0, 1) := dk_42 (dk_at dksX14_size_0 6 rfl rfl)
theorem dX14_size_7 : decode cX14_size 7 = .ok (.aload_n 1, 1) := dk_43 (dk_at dksX14_size_0 7 rfl rfl)
theorem dX14_size_8 : decode cX14_size 8 = .ok (.invokespecial 21, 3) := dk_183 0 21 (dk_at dksX14_size_0 8 rfl rfl)
theorem dX14_size_11 : decode cX14_size 11 = .ok (.aload_n 0, 1) := dk_42 (dk_at dksX14_size_0 11 rfl rfl)
theorem dX14_size_12 : decode cX14_size 12 = .ok (.getfield 9, 3) := dk_180 0 9 (dk_at dksX14_size_0 12 rfl rfl)
theorem dX14_size_15 : decode cX14_size 15 = .ok (.iadd, 1) := dk_96 (dk_at dksX14_size_0 15 rfl rfl)
theorem dX14_size_16 : decode cX14_size 16 = .ok (.ireturn, 1) := dk_172 (dk_at dksX14_size_0 16 rfl rfl)
abbrev cX14_mark : ByteArray := prog_5_method_4_code
def yX14_mark : MethodName := ⟨RX14, "mark", "(LVillageHalls$Trail;)I"⟩
def dkwX14_mark_0 : List UInt8 := [43, 16, 21, 182, 0, 15, 42, 43, 183, 0, 25, 42, 180, 0, 28, 180, 0, 32, 96, 172]
abbrev dktX14_mark_0 : List UInt8 := dkwX14_mark_0 ++ []
theorem dksX14_mark_0 : cX14_mark.data.toList.drop 0 = dktX14_mark_0 := by decide +kernel
theorem dX14_mark_0 : decode cX14_mark 0 = .ok (.aload_n 1, 1) := dk_43 (dk_at dksX14_mark_0 0 rfl rfl)
theorem dX14_mark_1 : decode cX14_mark 1 = .ok (.bipush 21, 2) := dk_16 21 (dk_at dksX14_mark_0 1 rfl rfl)
theorem dX14_mark_3 : decode cX14_mark 3 = .ok (.invokevirtual 15, 3) := dk_182 0 15 (dk_at dksX14_mark_0 3 rfl rfl)
theorem dX14_mark_6 : decode cX14_mark 6 = .ok (.aload_n 0, 1) := dk_42 (dk_at dksX14_mark_0 6 rfl rfl)
theorem dX14_mark_7 : decode cX14_mark 7 = .ok (.aload_n 1, 1) := dk_43 (dk_at dksX14_mark_0 7 rfl rfl)
theorem dX14_mark_8 : decode cX14_mark 8 = .ok (.invokespecial 25, 3) := dk_183 0 25 (dk_at dksX14_mark_0 8 rfl rfl)
theorem dX14_mark_11 : decode cX14_mark 11 = .ok (.aload_n 0, 1) := dk_42 (dk_at dksX14_mark_0 11 rfl rfl)
theorem dX14_mark_12 : decode cX14_mark 12 = .ok (.getfield 28, 3) := dk_180 0 28 (dk_at dksX14_mark_0 12 rfl rfl)
theorem dX14_mark_15 : decode cX14_mark 15 = .ok (.getfield 32, 3) := dk_180 0 32 (dk_at dksX14_mark_0 15 rfl rfl)
theorem dX14_mark_18 : decode cX14_mark 18 = .ok (.iadd, 1) := dk_96 (dk_at dksX14_mark_0 18 rfl rfl)
theorem dX14_mark_19 : decode cX14_mark 19 = .ok (.ireturn, 1) := dk_172 (dk_at dksX14_mark_0 19 rfl rfl)
theorem q105 : (Jvm.Cond.initialized "VillageHalls$AsHeld") ∈ lw_all := lw_g (lw_at lw_m1 36 rfl) rfl
theorem q813 : (Jvm.Cond.fieldLink "VillageHalls$AsHeld" (32 : Nat) "VillageHalls$Booking" "day" "I") ∈ lw_all := lw_g (lw_at lw_m4 24 rfl) rfl
theorem q891 : (Jvm.Cond.selects "VillageHalls$AsHeld" ({ cls := "java/lang/Object", name := "getClass", desc := "()Ljava/lang/Class;" } : Jvm.MethodName) ({ cls := "java/lang/Object", name := "getClass", desc := "()Ljava/lang/Class;" } : Jvm.MethodName)) ∈ lw_all := lw_g (lw_at lw_m4 102 rfl) rfl
theorem q1332 : (Jvm.Cond.fieldLink "VillageHalls$AsHeld" (28 : Nat) "VillageHalls$AsHeld" "it" "LVillageHalls$Booking;") ∈ lw_all := lw_g (lw_at lw_m6 63 rfl) rfl
theorem q1333 : (Jvm.Cond.sameField "VillageHalls$AsHeld" "VillageHalls$AsBooking" "it" "LVillageHalls$Booking;") ∈ lw_all := lw_g (lw_at lw_m6 64 rfl) rfl
theorem q1344 : (Jvm.Cond.instanceMethod ({ cls := "VillageHalls$AsHeld", name := "<init>", desc := "(LVillageHalls$Booking;I)V" } : Jvm.MethodName)) ∈ lw_all := lw_g (lw_at lw_m6 75 rfl) rfl
theorem q1345 : (Jvm.Cond.code ({ cls := "VillageHalls$AsHeld", name := "<init>", desc := "(LVillageHalls$Booking;I)V" } : Jvm.MethodName) prog_5_method_1_code (3 : Nat) (Option.none : Option Jvm.ClassFile.FieldType)) ∈ lw_all := lw_g (lw_at lw_m6 76 rfl) rfl
theorem q1346 : (Jvm.Cond.methodLink "VillageHalls$AsHeld" (3 : Nat) ({ cls := "VillageHalls$AsBooking", name := "<init>", desc := "(LVillageHalls$Booking;)V" } : Jvm.MethodName)) ∈ lw_all := lw_g (lw_at lw_m6 77 rfl) rfl
theorem q1347 : (Jvm.Cond.fieldLink "VillageHalls$AsHeld" (9 : Nat) "VillageHalls$AsHeld" "price" "I") ∈ lw_all := lw_g (lw_at lw_m6 78 rfl) rfl
theorem q1349 : (Jvm.Cond.soleField "VillageHalls$AsHeld" "price") ∈ lw_all := lw_g (lw_at lw_m6 80 rfl) rfl
theorem q1353 : (Jvm.Cond.instantiable "VillageHalls$AsHeld" (2 : Nat)) ∈ lw_all := lw_g (lw_at lw_m6 84 rfl) rfl
theorem q1355 : (Jvm.Cond.laysFinal "VillageHalls$AsHeld" "VillageHalls$AsHeld" "price" "I") ∈ lw_all := lw_g (lw_at lw_m6 86 rfl) rfl
theorem q1356 : (Jvm.Cond.laysFinal "VillageHalls$AsHeld" "VillageHalls$AsBooking" "it" "LVillageHalls$Booking;") ∈ lw_all := lw_g (lw_at lw_m6 87 rfl) rfl
theorem q1357 : (Jvm.Cond.superclass "VillageHalls$AsHeld" "VillageHalls$AsBooking") ∈ lw_all := lw_g (lw_at lw_m6 88 rfl) rfl
theorem q1381 : (Jvm.Cond.selects "VillageHalls$AsHeld" ({ cls := "VillageHalls$AsBooking", name := "kind", desc := "()I" } : Jvm.MethodName) ({ cls := "VillageHalls$AsHeld", name := "kind", desc := "()I" } : Jvm.MethodName)) ∈ lw_all := lw_g (lw_at lw_m6 112 rfl) rfl
theorem q1382 : (Jvm.Cond.instanceMethod ({ cls := "VillageHalls$AsHeld", name := "kind", desc := "()I" } : Jvm.MethodName)) ∈ lw_all := lw_g (lw_at lw_m6 113 rfl) rfl
theorem q1383 : (Jvm.Cond.code ({ cls := "VillageHalls$AsHeld", name := "kind", desc := "()I" } : Jvm.MethodName) prog_5_method_2_code (1 : Nat) (Option.some Jvm.ClassFile.FieldType.int)) ∈ lw_all := lw_g (lw_at lw_m6 114 rfl) rfl
theorem q1422 : (Jvm.Cond.instanceMethod ({ cls := "VillageHalls$AsHeld", name := "size", desc := "(LVillageHalls$Trail;)I" } : Jvm.MethodName)) ∈ lw_all := lw_g (lw_at lw_m6 153 rfl) rfl
theorem q1423 : (Jvm.Cond.code ({ cls := "VillageHalls$AsHeld", name := "size", desc := "(LVillageHalls$Trail;)I" } : Jvm.MethodName) prog_5_method_3_code (2 : Nat) (Option.some Jvm.ClassFile.FieldType.int)) ∈ lw_all := lw_g (lw_at lw_m6 154 rfl) rfl
theorem q1424 : (Jvm.Cond.methodLink "VillageHalls$AsHeld" (15 : Nat) ({ cls := "VillageHalls$Trail", name := "begins", desc := "(I)V" } : Jvm.MethodName)) ∈ lw_all := lw_g (lw_at lw_m6 155 rfl) rfl
theorem q1425 : (Jvm.Cond.methodLink "VillageHalls$AsHeld" (21 : Nat) ({ cls := "VillageHalls$AsBooking", name := "size", desc := "(LVillageHalls$Trail;)I" } : Jvm.MethodName)) ∈ lw_all := lw_g (lw_at lw_m6 156 rfl) rfl
theorem q1455 : (Jvm.Cond.castable "VillageHalls$AsHeld" "VillageHalls$Marked") ∈ lw_tbl := lw_at lw_m6 186 rfl
theorem q1456 : (Jvm.Cond.selects "VillageHalls$AsHeld" ({ cls := "VillageHalls$Marked", name := "use", desc := "()I" } : Jvm.MethodName) ({ cls := "VillageHalls$AsBooking", name := "use", desc := "()I" } : Jvm.MethodName)) ∈ lw_all := lw_g (lw_at lw_m6 187 rfl) rfl
theorem q1457 : (Jvm.Cond.unhidden "VillageHalls$AsHeld" "use" "()I") ∈ lw_tbl := lw_at lw_m6 188 rfl
theorem q1461 : (Jvm.Cond.selects "VillageHalls$AsHeld" ({ cls := "VillageHalls$AsBooking", name := "size", desc := "(LVillageHalls$Trail;)I" } : Jvm.MethodName) ({ cls := "VillageHalls$AsHeld", name := "size", desc := "(LVillageHalls$Trail;)I" } : Jvm.MethodName)) ∈ lw_all := lw_g (lw_at lw_m6 192 rfl) rfl
theorem q1468 : (Jvm.Cond.instanceMethod ({ cls := "VillageHalls$AsHeld", name := "mark", desc := "(LVillageHalls$Trail;)I" } : Jvm.MethodName)) ∈ lw_all := lw_g (lw_at lw_m6 199 rfl) rfl
theorem q1469 : (Jvm.Cond.code ({ cls := "VillageHalls$AsHeld", name := "mark", desc := "(LVillageHalls$Trail;)I" } : Jvm.MethodName) prog_5_method_4_code (2 : Nat) (Option.some Jvm.ClassFile.FieldType.int)) ∈ lw_all := lw_g (lw_at lw_m6 200 rfl) rfl
theorem q1471 : (Jvm.Cond.selects "VillageHalls$AsHeld" ({ cls := "VillageHalls$Marked", name := "mark", desc := "(LVillageHalls$Trail;)I" } : Jvm.MethodName) ({ cls := "VillageHalls$AsHeld", name := "mark", desc := "(LVillageHalls$Trail;)I" } : Jvm.MethodName)) ∈ lw_all := lw_g (lw_at lw_m6 202 rfl) rfl
theorem q1998 : (Jvm.Cond.sameMethod "VillageHalls$AsHeld" "VillageHalls$AsHeld" "size" "(LVillageHalls$Trail;)I") ∈ lw_all := lw_g (lw_at lw_m9 9 rfl) rfl
theorem q1999 : (Jvm.Cond.sameMethod "VillageHalls$AsHeld" "VillageHalls$AsHeld" "mark" "(LVillageHalls$Trail;)I") ∈ lw_all := lw_g (lw_at lw_m9 10 rfl) rfl
theorem q2024 : (Jvm.Cond.castable "VillageHalls$AsHeld" "java/lang/Object") ∈ lw_tbl := lw_at lw_m9 35 rfl
theorem in_X14 : ∀ w ∈ wsX140, w ∈ lw_all := lw_in wsX140 [1356, 1355] (by decide +kernel) (by decide +kernel)

/-! VillageHalls$AsFirm -/
set_option maxRecDepth 100000
def RX15 : String := "VillageHalls$AsFirm"
def TX15 : u_T := fun k => match k with
  | 0 => ("VillageHalls$AsBooking", "it", "LVillageHalls$Booking;", true)
  | _ => ("VillageHalls$AsHeld", "price", "I", true)
def tyX15 : Nat → FieldType := fun k => match k with
  | 0 => .object "VillageHalls$Booking"
  | _ => .int
abbrev wsX150 : List Cond := u_ws RX15 TX15 2
theorem nmX15 : ∀ a, a < 2 → ∀ b, b < 2 → a ≠ b → (TX15 a).2.1 ≠ (TX15 b).2.1 := by decide +kernel
theorem tyX15_ok : ∀ k, k < 2 → parseFieldDescriptor (TX15 k).2.2.1 = some (tyX15 k) := by decide +kernel
abbrev cX15_init : ByteArray := prog_3_method_1_code
def yX15_init : MethodName := ⟨RX15, "<init>", "(LVillageHalls$Booking;I)V"⟩
def dkwX15_init_0 : List UInt8 := [42, 43, 28, 183, 0, 3, 177]
abbrev dktX15_init_0 : List UInt8 := dkwX15_init_0 ++ []
theorem dksX15_init_0 : cX15_init.data.toList.drop 0 = dktX15_init_0 := by decide +kernel
theorem dX15_init_0 : decode cX15_init 0 = .ok (.aload_n 0, 1) := dk_42 (dk_at dksX15_init_0 0 rfl rfl)
theorem dX15_init_1 : decode cX15_init 1 = .ok (.aload_n 1, 1) := dk_43 (dk_at dksX15_init_0 1 rfl rfl)
theorem dX15_init_2 : decode cX15_init 2 = .ok (.iload_n 2, 1) := dk_28 (dk_at dksX15_init_0 2 rfl rfl)
theorem dX15_init_3 : decode cX15_init 3 = .ok (.invokespecial 3, 3) := dk_183 0 3 (dk_at dksX15_init_0 3 rfl rfl)
theorem dX15_init_6 : decode cX15_init 6 = .ok (.return_, 1) := dk_177 (dk_at dksX15_init_0 6 rfl rfl)
abbrev cX15_kind : ByteArray := prog_3_method_2_code
def yX15_kind : MethodName := ⟨RX15, "kind", "()I"⟩
theorem dX15_kind_0 : decode cX15_kind 0 = .ok (.iconst 2, 1) := by decide +kernel
theorem dX15_kind_1 : decode cX15_kind 1 = .ok (.ireturn, 1) := by decide +kernel
abbrev cX15_size : ByteArray := prog_3_method_3_code
def yX15_size : MethodName := ⟨RX15, "size", "(LVillageHalls$Trail;)I"⟩
def dkwX15_size_0 : List UInt8 := [43, 16, 12, 182, 0, 9, 5, 42, 43, 183, 0, 15, 104, 172]
abbrev dktX15_size_0 : List UInt8 := dkwX15_size_0 ++ []
theorem dksX15_size_0 : cX15_size.data.toList.drop 0 = dktX15_size_0 := by decide +kernel
theorem dX15_size_0 : decode cX15_size 0 = .ok (.aload_n 1, 1) := dk_43 (dk_at dksX15_size_0 0 rfl rfl)
theorem dX15_size_1 : decode cX15_size 1 = .ok (.bipush 12, 2) := dk_16 12 (dk_at dksX15_size_0 1 rfl rfl)
theorem dX15_size_3 : decode cX15_size 3 = .ok (.invokevirtual 9, 3) := dk_182 0 9 (dk_at dksX15_size_0 3 rfl rfl)
theorem dX15_size_6 : decode cX15_size 6 = .ok (.iconst 2, 1) := dk_5 (dk_at dksX15_size_0 6 rfl rfl)
theorem dX15_size_7 : decode cX15_size 7 = .ok (.aload_n 0, 1) := dk_42 (dk_at dksX15_size_0 7 rfl rfl)
theorem dX15_size_8 : decode cX15_size 8 = .ok (.aload_n 1, 1) := dk_43 (dk_at dksX15_size_0 8 rfl rfl)
theorem dX15_size_9 : decode cX15_size 9 = .ok (.invokespecial 15, 3) := dk_183 0 15 (dk_at dksX15_size_0 9 rfl rfl)
theorem dX15_size_12 : decode cX15_size 12 = .ok (.imul, 1) := dk_104 (dk_at dksX15_size_0 12 rfl rfl)
theorem dX15_size_13 : decode cX15_size 13 = .ok (.ireturn, 1) := dk_172 (dk_at dksX15_size_0 13 rfl rfl)
abbrev cX15_mark : ByteArray := prog_3_method_4_code
def yX15_mark : MethodName := ⟨RX15, "mark", "(LVillageHalls$Trail;)I"⟩
def dkwX15_mark_0 : List UInt8 := [43, 16, 22, 182, 0, 9, 42, 43, 183, 0, 19, 42, 43, 182, 0, 22, 96, 172]
abbrev dktX15_mark_0 : List UInt8 := dkwX15_mark_0 ++ []
theorem dksX15_mark_0 : cX15_mark.data.toList.drop 0 = dktX15_mark_0 := by decide +kernel
theorem dX15_mark_0 : decode cX15_mark 0 = .ok (.aload_n 1, 1) := dk_43 (dk_at dksX15_mark_0 0 rfl rfl)
theorem dX15_mark_1 : decode cX15_mark 1 = .ok (.bipush 22, 2) := dk_16 22 (dk_at dksX15_mark_0 1 rfl rfl)
theorem dX15_mark_3 : decode cX15_mark 3 = .ok (.invokevirtual 9, 3) := dk_182 0 9 (dk_at dksX15_mark_0 3 rfl rfl)
theorem dX15_mark_6 : decode cX15_mark 6 = .ok (.aload_n 0, 1) := dk_42 (dk_at dksX15_mark_0 6 rfl rfl)
theorem dX15_mark_7 : decode cX15_mark 7 = .ok (.aload_n 1, 1) := dk_43 (dk_at dksX15_mark_0 7 rfl rfl)
theorem dX15_mark_8 : decode cX15_mark 8 = .ok (.invokespecial 19, 3) := dk_183 0 19 (dk_at dksX15_mark_0 8 rfl rfl)
theorem dX15_mark_11 : decode cX15_mark 11 = .ok (.aload_n 0, 1) := dk_42 (dk_at dksX15_mark_0 11 rfl rfl)
theorem dX15_mark_12 : decode cX15_mark 12 = .ok (.aload_n 1, 1) := dk_43 (dk_at dksX15_mark_0 12 rfl rfl)
theorem dX15_mark_13 : decode cX15_mark 13 = .ok (.invokevirtual 22, 3) := dk_182 0 22 (dk_at dksX15_mark_0 13 rfl rfl)
theorem dX15_mark_16 : decode cX15_mark 16 = .ok (.iadd, 1) := dk_96 (dk_at dksX15_mark_0 16 rfl rfl)
theorem dX15_mark_17 : decode cX15_mark 17 = .ok (.ireturn, 1) := dk_172 (dk_at dksX15_mark_0 17 rfl rfl)
theorem q106 : (Jvm.Cond.initialized "VillageHalls$AsFirm") ∈ lw_all := lw_g (lw_at lw_m1 37 rfl) rfl
theorem q889 : (Jvm.Cond.selects "VillageHalls$AsFirm" ({ cls := "java/lang/Object", name := "getClass", desc := "()Ljava/lang/Class;" } : Jvm.MethodName) ({ cls := "java/lang/Object", name := "getClass", desc := "()Ljava/lang/Class;" } : Jvm.MethodName)) ∈ lw_all := lw_g (lw_at lw_m4 100 rfl) rfl
theorem q1339 : (Jvm.Cond.instantiable "VillageHalls$AsFirm" (2 : Nat)) ∈ lw_all := lw_g (lw_at lw_m6 70 rfl) rfl
theorem q1341 : (Jvm.Cond.instanceMethod ({ cls := "VillageHalls$AsFirm", name := "<init>", desc := "(LVillageHalls$Booking;I)V" } : Jvm.MethodName)) ∈ lw_all := lw_g (lw_at lw_m6 72 rfl) rfl
theorem q1342 : (Jvm.Cond.code ({ cls := "VillageHalls$AsFirm", name := "<init>", desc := "(LVillageHalls$Booking;I)V" } : Jvm.MethodName) prog_3_method_1_code (3 : Nat) (Option.none : Option Jvm.ClassFile.FieldType)) ∈ lw_all := lw_g (lw_at lw_m6 73 rfl) rfl
theorem q1343 : (Jvm.Cond.methodLink "VillageHalls$AsFirm" (3 : Nat) ({ cls := "VillageHalls$AsHeld", name := "<init>", desc := "(LVillageHalls$Booking;I)V" } : Jvm.MethodName)) ∈ lw_all := lw_g (lw_at lw_m6 74 rfl) rfl
theorem q1348 : (Jvm.Cond.laysFinal "VillageHalls$AsFirm" "VillageHalls$AsHeld" "price" "I") ∈ lw_all := lw_g (lw_at lw_m6 79 rfl) rfl
theorem q1350 : (Jvm.Cond.laysFinal "VillageHalls$AsFirm" "VillageHalls$AsBooking" "it" "LVillageHalls$Booking;") ∈ lw_all := lw_g (lw_at lw_m6 81 rfl) rfl
theorem q1351 : (Jvm.Cond.superclass "VillageHalls$AsFirm" "VillageHalls$AsHeld") ∈ lw_all := lw_g (lw_at lw_m6 82 rfl) rfl
theorem q1375 : (Jvm.Cond.selects "VillageHalls$AsFirm" ({ cls := "VillageHalls$AsBooking", name := "kind", desc := "()I" } : Jvm.MethodName) ({ cls := "VillageHalls$AsFirm", name := "kind", desc := "()I" } : Jvm.MethodName)) ∈ lw_all := lw_g (lw_at lw_m6 106 rfl) rfl
theorem q1376 : (Jvm.Cond.instanceMethod ({ cls := "VillageHalls$AsFirm", name := "kind", desc := "()I" } : Jvm.MethodName)) ∈ lw_all := lw_g (lw_at lw_m6 107 rfl) rfl
theorem q1377 : (Jvm.Cond.code ({ cls := "VillageHalls$AsFirm", name := "kind", desc := "()I" } : Jvm.MethodName) prog_3_method_2_code (1 : Nat) (Option.some Jvm.ClassFile.FieldType.int)) ∈ lw_all := lw_g (lw_at lw_m6 108 rfl) rfl
theorem q1414 : (Jvm.Cond.selects "VillageHalls$AsFirm" ({ cls := "VillageHalls$AsBooking", name := "size", desc := "(LVillageHalls$Trail;)I" } : Jvm.MethodName) ({ cls := "VillageHalls$AsFirm", name := "size", desc := "(LVillageHalls$Trail;)I" } : Jvm.MethodName)) ∈ lw_all := lw_g (lw_at lw_m6 145 rfl) rfl
theorem q1415 : (Jvm.Cond.instanceMethod ({ cls := "VillageHalls$AsFirm", name := "size", desc := "(LVillageHalls$Trail;)I" } : Jvm.MethodName)) ∈ lw_all := lw_g (lw_at lw_m6 146 rfl) rfl
theorem q1416 : (Jvm.Cond.code ({ cls := "VillageHalls$AsFirm", name := "size", desc := "(LVillageHalls$Trail;)I" } : Jvm.MethodName) prog_3_method_3_code (2 : Nat) (Option.some Jvm.ClassFile.FieldType.int)) ∈ lw_all := lw_g (lw_at lw_m6 147 rfl) rfl
theorem q1417 : (Jvm.Cond.methodLink "VillageHalls$AsFirm" (9 : Nat) ({ cls := "VillageHalls$Trail", name := "begins", desc := "(I)V" } : Jvm.MethodName)) ∈ lw_all := lw_g (lw_at lw_m6 148 rfl) rfl
theorem q1421 : (Jvm.Cond.methodLink "VillageHalls$AsFirm" (15 : Nat) ({ cls := "VillageHalls$AsHeld", name := "size", desc := "(LVillageHalls$Trail;)I" } : Jvm.MethodName)) ∈ lw_all := lw_g (lw_at lw_m6 152 rfl) rfl
theorem q1449 : (Jvm.Cond.castable "VillageHalls$AsFirm" "VillageHalls$Marked") ∈ lw_tbl := lw_at lw_m6 180 rfl
theorem q1450 : (Jvm.Cond.selects "VillageHalls$AsFirm" ({ cls := "VillageHalls$Marked", name := "use", desc := "()I" } : Jvm.MethodName) ({ cls := "VillageHalls$AsBooking", name := "use", desc := "()I" } : Jvm.MethodName)) ∈ lw_all := lw_g (lw_at lw_m6 181 rfl) rfl
theorem q1451 : (Jvm.Cond.unhidden "VillageHalls$AsFirm" "use" "()I") ∈ lw_tbl := lw_at lw_m6 182 rfl
theorem q1464 : (Jvm.Cond.selects "VillageHalls$AsFirm" ({ cls := "VillageHalls$Marked", name := "mark", desc := "(LVillageHalls$Trail;)I" } : Jvm.MethodName) ({ cls := "VillageHalls$AsFirm", name := "mark", desc := "(LVillageHalls$Trail;)I" } : Jvm.MethodName)) ∈ lw_all := lw_g (lw_at lw_m6 195 rfl) rfl
theorem q1465 : (Jvm.Cond.instanceMethod ({ cls := "VillageHalls$AsFirm", name := "mark", desc := "(LVillageHalls$Trail;)I" } : Jvm.MethodName)) ∈ lw_all := lw_g (lw_at lw_m6 196 rfl) rfl
theorem q1466 : (Jvm.Cond.code ({ cls := "VillageHalls$AsFirm", name := "mark", desc := "(LVillageHalls$Trail;)I" } : Jvm.MethodName) prog_3_method_4_code (2 : Nat) (Option.some Jvm.ClassFile.FieldType.int)) ∈ lw_all := lw_g (lw_at lw_m6 197 rfl) rfl
theorem q1467 : (Jvm.Cond.methodLink "VillageHalls$AsFirm" (19 : Nat) ({ cls := "VillageHalls$AsHeld", name := "mark", desc := "(LVillageHalls$Trail;)I" } : Jvm.MethodName)) ∈ lw_all := lw_g (lw_at lw_m6 198 rfl) rfl
theorem q1470 : (Jvm.Cond.methodLink "VillageHalls$AsFirm" (22 : Nat) ({ cls := "VillageHalls$AsFirm", name := "size", desc := "(LVillageHalls$Trail;)I" } : Jvm.MethodName)) ∈ lw_all := lw_g (lw_at lw_m6 201 rfl) rfl
theorem q2000 : (Jvm.Cond.selects "VillageHalls$AsFirm" ({ cls := "VillageHalls$AsFirm", name := "size", desc := "(LVillageHalls$Trail;)I" } : Jvm.MethodName) ({ cls := "VillageHalls$AsFirm", name := "size", desc := "(LVillageHalls$Trail;)I" } : Jvm.MethodName)) ∈ lw_all := lw_g (lw_at lw_m9 11 rfl) rfl
theorem q2004 : (Jvm.Cond.castable "VillageHalls$AsFirm" "VillageHalls$AsHeld") ∈ lw_tbl := lw_at lw_m9 15 rfl
theorem q2023 : (Jvm.Cond.castable "VillageHalls$AsFirm" "java/lang/Object") ∈ lw_tbl := lw_at lw_m9 34 rfl
theorem in_X15 : ∀ w ∈ wsX150, w ∈ lw_all := lw_in wsX150 [1350, 1348] (by decide +kernel) (by decide +kernel)

/-! VillageHalls$AsOut -/
set_option maxRecDepth 100000
def RX16 : String := "VillageHalls$AsOut"
def TX16 : u_T := fun k => match k with
  | _ => ("VillageHalls$AsBooking", "it", "LVillageHalls$Booking;", true)
def tyX16 : Nat → FieldType := fun k => match k with
  | _ => .object "VillageHalls$Booking"
abbrev wsX160 : List Cond := u_ws RX16 TX16 1
theorem nmX16 : ∀ a, a < 1 → ∀ b, b < 1 → a ≠ b → (TX16 a).2.1 ≠ (TX16 b).2.1 := by decide +kernel
theorem tyX16_ok : ∀ k, k < 1 → parseFieldDescriptor (TX16 k).2.2.1 = some (tyX16 k) := by decide +kernel
abbrev cX16_init : ByteArray := prog_6_method_1_code
def yX16_init : MethodName := ⟨RX16, "<init>", "(LVillageHalls$Booking;)V"⟩
def dkwX16_init_0 : List UInt8 := [42, 43, 183, 0, 3, 177]
abbrev dktX16_init_0 : List UInt8 := dkwX16_init_0 ++ []
theorem dksX16_init_0 : cX16_init.data.toList.drop 0 = dktX16_init_0 := by decide +kernel
theorem dX16_init_0 : decode cX16_init 0 = .ok (.aload_n 0, 1) := dk_42 (dk_at dksX16_init_0 0 rfl rfl)
theorem dX16_init_1 : decode cX16_init 1 = .ok (.aload_n 1, 1) := dk_43 (dk_at dksX16_init_0 1 rfl rfl)
theorem dX16_init_2 : decode cX16_init 2 = .ok (.invokespecial 3, 3) := dk_183 0 3 (dk_at dksX16_init_0 2 rfl rfl)
theorem dX16_init_5 : decode cX16_init 5 = .ok (.return_, 1) := dk_177 (dk_at dksX16_init_0 5 rfl rfl)
abbrev cX16_kind : ByteArray := prog_6_method_2_code
def yX16_kind : MethodName := ⟨RX16, "kind", "()I"⟩
theorem dX16_kind_0 : decode cX16_kind 0 = .ok (.iconst 4, 1) := by decide +kernel
theorem dX16_kind_1 : decode cX16_kind 1 = .ok (.ireturn, 1) := by decide +kernel
abbrev cX16_mark : ByteArray := prog_6_method_3_code
def yX16_mark : MethodName := ⟨RX16, "mark", "(LVillageHalls$Trail;)I"⟩
def dkwX16_mark_0 : List UInt8 := [43, 16, 23, 182, 0, 9, 42, 43, 183, 0, 15, 42, 43, 182, 0, 19, 96, 172]
abbrev dktX16_mark_0 : List UInt8 := dkwX16_mark_0 ++ []
theorem dksX16_mark_0 : cX16_mark.data.toList.drop 0 = dktX16_mark_0 := by decide +kernel
theorem dX16_mark_0 : decode cX16_mark 0 = .ok (.aload_n 1, 1) := dk_43 (dk_at dksX16_mark_0 0 rfl rfl)
theorem dX16_mark_1 : decode cX16_mark 1 = .ok (.bipush 23, 2) := dk_16 23 (dk_at dksX16_mark_0 1 rfl rfl)
theorem dX16_mark_3 : decode cX16_mark 3 = .ok (.invokevirtual 9, 3) := dk_182 0 9 (dk_at dksX16_mark_0 3 rfl rfl)
theorem dX16_mark_6 : decode cX16_mark 6 = .ok (.aload_n 0, 1) := dk_42 (dk_at dksX16_mark_0 6 rfl rfl)
theorem dX16_mark_7 : decode cX16_mark 7 = .ok (.aload_n 1, 1) := dk_43 (dk_at dksX16_mark_0 7 rfl rfl)
theorem dX16_mark_8 : decode cX16_mark 8 = .ok (.invokespecial 15, 3) := dk_183 0 15 (dk_at dksX16_mark_0 8 rfl rfl)
theorem dX16_mark_11 : decode cX16_mark 11 = .ok (.aload_n 0, 1) := dk_42 (dk_at dksX16_mark_0 11 rfl rfl)
theorem dX16_mark_12 : decode cX16_mark 12 = .ok (.aload_n 1, 1) := dk_43 (dk_at dksX16_mark_0 12 rfl rfl)
theorem dX16_mark_13 : decode cX16_mark 13 = .ok (.invokevirtual 19, 3) := dk_182 0 19 (dk_at dksX16_mark_0 13 rfl rfl)
theorem dX16_mark_16 : decode cX16_mark 16 = .ok (.iadd, 1) := dk_96 (dk_at dksX16_mark_0 16 rfl rfl)
theorem dX16_mark_17 : decode cX16_mark 17 = .ok (.ireturn, 1) := dk_172 (dk_at dksX16_mark_0 17 rfl rfl)
theorem q107 : (Jvm.Cond.initialized "VillageHalls$AsOut") ∈ lw_all := lw_g (lw_at lw_m1 38 rfl) rfl
theorem q892 : (Jvm.Cond.selects "VillageHalls$AsOut" ({ cls := "java/lang/Object", name := "getClass", desc := "()Ljava/lang/Class;" } : Jvm.MethodName) ({ cls := "java/lang/Object", name := "getClass", desc := "()Ljava/lang/Class;" } : Jvm.MethodName)) ∈ lw_all := lw_g (lw_at lw_m4 103 rfl) rfl
theorem q1359 : (Jvm.Cond.instantiable "VillageHalls$AsOut" (1 : Nat)) ∈ lw_all := lw_g (lw_at lw_m6 90 rfl) rfl
theorem q1361 : (Jvm.Cond.instanceMethod ({ cls := "VillageHalls$AsOut", name := "<init>", desc := "(LVillageHalls$Booking;)V" } : Jvm.MethodName)) ∈ lw_all := lw_g (lw_at lw_m6 92 rfl) rfl
theorem q1362 : (Jvm.Cond.code ({ cls := "VillageHalls$AsOut", name := "<init>", desc := "(LVillageHalls$Booking;)V" } : Jvm.MethodName) prog_6_method_1_code (2 : Nat) (Option.none : Option Jvm.ClassFile.FieldType)) ∈ lw_all := lw_g (lw_at lw_m6 93 rfl) rfl
theorem q1363 : (Jvm.Cond.methodLink "VillageHalls$AsOut" (3 : Nat) ({ cls := "VillageHalls$AsBooking", name := "<init>", desc := "(LVillageHalls$Booking;)V" } : Jvm.MethodName)) ∈ lw_all := lw_g (lw_at lw_m6 94 rfl) rfl
theorem q1364 : (Jvm.Cond.laysFinal "VillageHalls$AsOut" "VillageHalls$AsBooking" "it" "LVillageHalls$Booking;") ∈ lw_all := lw_g (lw_at lw_m6 95 rfl) rfl
theorem q1365 : (Jvm.Cond.superclass "VillageHalls$AsOut" "VillageHalls$AsBooking") ∈ lw_all := lw_g (lw_at lw_m6 96 rfl) rfl
theorem q1384 : (Jvm.Cond.selects "VillageHalls$AsOut" ({ cls := "VillageHalls$AsBooking", name := "kind", desc := "()I" } : Jvm.MethodName) ({ cls := "VillageHalls$AsOut", name := "kind", desc := "()I" } : Jvm.MethodName)) ∈ lw_all := lw_g (lw_at lw_m6 115 rfl) rfl
theorem q1385 : (Jvm.Cond.instanceMethod ({ cls := "VillageHalls$AsOut", name := "kind", desc := "()I" } : Jvm.MethodName)) ∈ lw_all := lw_g (lw_at lw_m6 116 rfl) rfl
theorem q1386 : (Jvm.Cond.code ({ cls := "VillageHalls$AsOut", name := "kind", desc := "()I" } : Jvm.MethodName) prog_6_method_2_code (1 : Nat) (Option.some Jvm.ClassFile.FieldType.int)) ∈ lw_all := lw_g (lw_at lw_m6 117 rfl) rfl
theorem q1458 : (Jvm.Cond.castable "VillageHalls$AsOut" "VillageHalls$Marked") ∈ lw_tbl := lw_at lw_m6 189 rfl
theorem q1459 : (Jvm.Cond.selects "VillageHalls$AsOut" ({ cls := "VillageHalls$Marked", name := "use", desc := "()I" } : Jvm.MethodName) ({ cls := "VillageHalls$AsBooking", name := "use", desc := "()I" } : Jvm.MethodName)) ∈ lw_all := lw_g (lw_at lw_m6 190 rfl) rfl
theorem q1460 : (Jvm.Cond.unhidden "VillageHalls$AsOut" "use" "()I") ∈ lw_tbl := lw_at lw_m6 191 rfl
theorem q1462 : (Jvm.Cond.selects "VillageHalls$AsOut" ({ cls := "VillageHalls$AsBooking", name := "size", desc := "(LVillageHalls$Trail;)I" } : Jvm.MethodName) ({ cls := "VillageHalls$AsBooking", name := "size", desc := "(LVillageHalls$Trail;)I" } : Jvm.MethodName)) ∈ lw_all := lw_g (lw_at lw_m6 193 rfl) rfl
theorem q1472 : (Jvm.Cond.selects "VillageHalls$AsOut" ({ cls := "VillageHalls$Marked", name := "mark", desc := "(LVillageHalls$Trail;)I" } : Jvm.MethodName) ({ cls := "VillageHalls$AsOut", name := "mark", desc := "(LVillageHalls$Trail;)I" } : Jvm.MethodName)) ∈ lw_all := lw_g (lw_at lw_m6 203 rfl) rfl
theorem q1473 : (Jvm.Cond.instanceMethod ({ cls := "VillageHalls$AsOut", name := "mark", desc := "(LVillageHalls$Trail;)I" } : Jvm.MethodName)) ∈ lw_all := lw_g (lw_at lw_m6 204 rfl) rfl
theorem q1474 : (Jvm.Cond.code ({ cls := "VillageHalls$AsOut", name := "mark", desc := "(LVillageHalls$Trail;)I" } : Jvm.MethodName) prog_6_method_3_code (2 : Nat) (Option.some Jvm.ClassFile.FieldType.int)) ∈ lw_all := lw_g (lw_at lw_m6 205 rfl) rfl
theorem q1475 : (Jvm.Cond.methodLink "VillageHalls$AsOut" (9 : Nat) ({ cls := "VillageHalls$Trail", name := "begins", desc := "(I)V" } : Jvm.MethodName)) ∈ lw_all := lw_g (lw_at lw_m6 206 rfl) rfl
theorem q1476 : (Jvm.Cond.methodLink "VillageHalls$AsOut" (19 : Nat) ({ cls := "VillageHalls$AsOut", name := "size", desc := "(LVillageHalls$Trail;)I" } : Jvm.MethodName)) ∈ lw_all := lw_g (lw_at lw_m6 207 rfl) rfl
theorem q1477 : (Jvm.Cond.sameMethod "VillageHalls$AsOut" "VillageHalls$AsBooking" "size" "(LVillageHalls$Trail;)I") ∈ lw_all := lw_g (lw_at lw_m6 208 rfl) rfl
theorem q1479 : (Jvm.Cond.selects "VillageHalls$AsOut" ({ cls := "VillageHalls$AsOut", name := "size", desc := "(LVillageHalls$Trail;)I" } : Jvm.MethodName) ({ cls := "VillageHalls$AsBooking", name := "size", desc := "(LVillageHalls$Trail;)I" } : Jvm.MethodName)) ∈ lw_all := lw_g (lw_at lw_m6 210 rfl) rfl
theorem q2025 : (Jvm.Cond.castable "VillageHalls$AsOut" "java/lang/Object") ∈ lw_tbl := lw_at lw_m9 36 rfl
theorem in_X16 : ∀ w ∈ wsX160, w ∈ lw_all := lw_in wsX160 [1364] (by decide +kernel) (by decide +kernel)

/-! VillageHalls$Marked -/
set_option maxRecDepth 100000
def RX17 : String := "VillageHalls$Marked"
abbrev cX17_mark : ByteArray := prog_12_method_3_code
def yX17_mark : MethodName := ⟨RX17, "mark", "(LVillageHalls$Trail;)I"⟩
def dkwX17_mark_0 : List UInt8 := [43, 16, 20, 182, 0, 1, 42, 185, 0, 7, 1, 0, 172]
abbrev dktX17_mark_0 : List UInt8 := dkwX17_mark_0 ++ []
theorem dksX17_mark_0 : cX17_mark.data.toList.drop 0 = dktX17_mark_0 := by decide +kernel
theorem dX17_mark_0 : decode cX17_mark 0 = .ok (.aload_n 1, 1) := dk_43 (dk_at dksX17_mark_0 0 rfl rfl)
theorem dX17_mark_1 : decode cX17_mark 1 = .ok (.bipush 20, 2) := dk_16 20 (dk_at dksX17_mark_0 1 rfl rfl)
theorem dX17_mark_3 : decode cX17_mark 3 = .ok (.invokevirtual 1, 3) := dk_182 0 1 (dk_at dksX17_mark_0 3 rfl rfl)
theorem dX17_mark_6 : decode cX17_mark 6 = .ok (.aload_n 0, 1) := dk_42 (dk_at dksX17_mark_0 6 rfl rfl)
theorem dX17_mark_7 : decode cX17_mark 7 = .ok (.invokeinterface 7 1, 5) := by decide +kernel
theorem dX17_mark_12 : decode cX17_mark 12 = .ok (.ireturn, 1) := dk_172 (dk_at dksX17_mark_0 12 rfl rfl)
theorem q1433 : (Jvm.Cond.declares ({ cls := "VillageHalls$Marked", name := "mark", desc := "(LVillageHalls$Trail;)I" } : Jvm.MethodName)) ∈ lw_tbl := lw_at lw_m6 164 rfl
theorem q1435 : (Jvm.Cond.instanceMethod ({ cls := "VillageHalls$Marked", name := "mark", desc := "(LVillageHalls$Trail;)I" } : Jvm.MethodName)) ∈ lw_all := lw_g (lw_at lw_m6 166 rfl) rfl
theorem q1436 : (Jvm.Cond.publicMethod ({ cls := "VillageHalls$Marked", name := "mark", desc := "(LVillageHalls$Trail;)I" } : Jvm.MethodName)) ∈ lw_tbl := lw_at lw_m6 167 rfl
theorem q1437 : (Jvm.Cond.code ({ cls := "VillageHalls$Marked", name := "mark", desc := "(LVillageHalls$Trail;)I" } : Jvm.MethodName) prog_12_method_3_code (2 : Nat) (Option.some Jvm.ClassFile.FieldType.int)) ∈ lw_all := lw_g (lw_at lw_m6 168 rfl) rfl
theorem q1438 : (Jvm.Cond.methodLink "VillageHalls$Marked" (1 : Nat) ({ cls := "VillageHalls$Trail", name := "begins", desc := "(I)V" } : Jvm.MethodName)) ∈ lw_all := lw_g (lw_at lw_m6 169 rfl) rfl
theorem q1439 : (Jvm.Cond.interfaceEntry "VillageHalls$Marked" (7 : Nat)) ∈ lw_tbl := lw_at lw_m6 170 rfl
theorem q1440 : (Jvm.Cond.methodLink "VillageHalls$Marked" (7 : Nat) ({ cls := "VillageHalls$Marked", name := "use", desc := "()I" } : Jvm.MethodName)) ∈ lw_all := lw_g (lw_at lw_m6 171 rfl) rfl
theorem q1441 : (Jvm.Cond.interfaceMethod "VillageHalls$Marked" "VillageHalls$Marked" "use" "()I") ∈ lw_tbl := lw_at lw_m6 172 rfl
theorem q1442 : (Jvm.Cond.declares ({ cls := "VillageHalls$Marked", name := "use", desc := "()I" } : Jvm.MethodName)) ∈ lw_tbl := lw_at lw_m6 173 rfl
theorem q2002 : (Jvm.Cond.initialized "VillageHalls$Marked") ∈ lw_all := lw_g (lw_at lw_m9 13 rfl) rfl
