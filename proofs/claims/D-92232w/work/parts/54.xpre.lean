/-! what the generated walks of the class side lean on -/
theorem dv_X0 : ∀ j, j < 15 → defaultValue (tyX0 j) = vp_V ((xTab.getD 0 []).map (fun q => if q.2 = true then .null else .int 0)) j := by
  intro j hj
  have h : j = 0 ∨ j = 1 ∨ j = 2 ∨ j = 3 ∨ j = 4 ∨ j = 5 ∨ j = 6 ∨ j = 7 ∨ j = 8 ∨ j = 9 ∨ j = 10 ∨ j = 11 ∨ j = 12 ∨ j = 13 ∨ j = 14 := by omega
  rcases h with rfl | rfl | rfl | rfl | rfl | rfl | rfl | rfl | rfl | rfl | rfl | rfl | rfl | rfl | rfl <;> rfl
theorem dv_X1 : ∀ j, j < 2 → defaultValue (tyX1 j) = vp_V ((xTab.getD 1 []).map (fun q => if q.2 = true then .null else .int 0)) j := by
  intro j hj
  have h : j = 0 ∨ j = 1 := by omega
  rcases h with rfl | rfl <;> rfl
theorem dv_X2 : ∀ j, j < 7 → defaultValue (tyX2 j) = vp_V ((xTab.getD 2 []).map (fun q => if q.2 = true then .null else .int 0)) j := by
  intro j hj
  have h : j = 0 ∨ j = 1 ∨ j = 2 ∨ j = 3 ∨ j = 4 ∨ j = 5 ∨ j = 6 := by omega
  rcases h with rfl | rfl | rfl | rfl | rfl | rfl | rfl <;> rfl
theorem dv_X4 : ∀ j, j < 7 → defaultValue (tyX4 j) = vp_V ((xTab.getD 3 []).map (fun q => if q.2 = true then .null else .int 0)) j := by
  intro j hj
  have h : j = 0 ∨ j = 1 ∨ j = 2 ∨ j = 3 ∨ j = 4 ∨ j = 5 ∨ j = 6 := by omega
  rcases h with rfl | rfl | rfl | rfl | rfl | rfl | rfl <;> rfl
theorem dv_X5 : ∀ j, j < 2 → defaultValue (tyX5 j) = vp_V ((xTab.getD 4 []).map (fun q => if q.2 = true then .null else .int 0)) j := by
  intro j hj
  have h : j = 0 ∨ j = 1 := by omega
  rcases h with rfl | rfl <;> rfl
theorem dv_X6 : ∀ j, j < 8 → defaultValue (tyX6 j) = vp_V ((xTab.getD 5 []).map (fun q => if q.2 = true then .null else .int 0)) j := by
  intro j hj
  have h : j = 0 ∨ j = 1 ∨ j = 2 ∨ j = 3 ∨ j = 4 ∨ j = 5 ∨ j = 6 ∨ j = 7 := by omega
  rcases h with rfl | rfl | rfl | rfl | rfl | rfl | rfl | rfl <;> rfl
theorem dv_X7 : ∀ j, j < 8 → defaultValue (tyX7 j) = vp_V ((xTab.getD 6 []).map (fun q => if q.2 = true then .null else .int 0)) j := by
  intro j hj
  have h : j = 0 ∨ j = 1 ∨ j = 2 ∨ j = 3 ∨ j = 4 ∨ j = 5 ∨ j = 6 ∨ j = 7 := by omega
  rcases h with rfl | rfl | rfl | rfl | rfl | rfl | rfl | rfl <;> rfl
theorem dv_X8 : ∀ j, j < 11 → defaultValue (tyX8 j) = vp_V ((xTab.getD 7 []).map (fun q => if q.2 = true then .null else .int 0)) j := by
  intro j hj
  have h : j = 0 ∨ j = 1 ∨ j = 2 ∨ j = 3 ∨ j = 4 ∨ j = 5 ∨ j = 6 ∨ j = 7 ∨ j = 8 ∨ j = 9 ∨ j = 10 := by omega
  rcases h with rfl | rfl | rfl | rfl | rfl | rfl | rfl | rfl | rfl | rfl | rfl <;> rfl
theorem dv_X9 : ∀ j, j < 9 → defaultValue (tyX9 j) = vp_V ((xTab.getD 8 []).map (fun q => if q.2 = true then .null else .int 0)) j := by
  intro j hj
  have h : j = 0 ∨ j = 1 ∨ j = 2 ∨ j = 3 ∨ j = 4 ∨ j = 5 ∨ j = 6 ∨ j = 7 ∨ j = 8 := by omega
  rcases h with rfl | rfl | rfl | rfl | rfl | rfl | rfl | rfl | rfl <;> rfl
theorem dv_X10 : ∀ j, j < 4 → defaultValue (tyX10 j) = vp_V ((xTab.getD 9 []).map (fun q => if q.2 = true then .null else .int 0)) j := by
  intro j hj
  have h : j = 0 ∨ j = 1 ∨ j = 2 ∨ j = 3 := by omega
  rcases h with rfl | rfl | rfl | rfl <;> rfl
theorem dv_X11 : ∀ j, j < 5 → defaultValue (tyX11 j) = vp_V ((xTab.getD 10 []).map (fun q => if q.2 = true then .null else .int 0)) j := by
  intro j hj
  have h : j = 0 ∨ j = 1 ∨ j = 2 ∨ j = 3 ∨ j = 4 := by omega
  rcases h with rfl | rfl | rfl | rfl | rfl <;> rfl
theorem dv_X12 : ∀ j, j < 1 → defaultValue (tyX12 j) = vp_V ((xTab.getD 11 []).map (fun q => if q.2 = true then .null else .int 0)) j := by
  intro j hj
  have h : j = 0 := by omega
  rcases h with rfl <;> rfl
theorem dv_X13 : ∀ j, j < 1 → defaultValue (tyX13 j) = vp_V ((xTab.getD 12 []).map (fun q => if q.2 = true then .null else .int 0)) j := by
  intro j hj
  have h : j = 0 := by omega
  rcases h with rfl <;> rfl
theorem dv_X14 : ∀ j, j < 2 → defaultValue (tyX14 j) = vp_V ((xTab.getD 13 []).map (fun q => if q.2 = true then .null else .int 0)) j := by
  intro j hj
  have h : j = 0 ∨ j = 1 := by omega
  rcases h with rfl | rfl <;> rfl
theorem dv_X15 : ∀ j, j < 2 → defaultValue (tyX15 j) = vp_V ((xTab.getD 14 []).map (fun q => if q.2 = true then .null else .int 0)) j := by
  intro j hj
  have h : j = 0 ∨ j = 1 := by omega
  rcases h with rfl | rfl <;> rfl
theorem dv_X16 : ∀ j, j < 1 → defaultValue (tyX16 j) = vp_V ((xTab.getD 15 []).map (fun q => if q.2 = true then .null else .int 0)) j := by
  intro j hj
  have h : j = 0 := by omega
  rcases h with rfl <;> rfl
theorem dv_J2 : ∀ j, j < 3 → defaultValue (tyJ2 j) = vp_V ((xTab.getD 16 []).map (fun q => if q.2 = true then .null else .int 0)) j := by
  intro j hj
  have h : j = 0 ∨ j = 1 ∨ j = 2 := by omega
  rcases h with rfl | rfl | rfl <;> rfl
theorem dv_J8 : ∀ j, j < 4 → defaultValue (tyJ8 j) = vp_V ((xTab.getD 17 []).map (fun q => if q.2 = true then .null else .int 0)) j := by
  intro j hj
  have h : j = 0 ∨ j = 1 ∨ j = 2 ∨ j = 3 := by omega
  rcases h with rfl | rfl | rfl | rfl <;> rfl
theorem dv_J10 : ∀ j, j < 4 → defaultValue (tyJ10 j) = vp_V ((xTab.getD 18 []).map (fun q => if q.2 = true then .null else .int 0)) j := by
  intro j hj
  have h : j = 0 ∨ j = 1 ∨ j = 2 ∨ j = 3 := by omega
  rcases h with rfl | rfl | rfl | rfl <;> rfl
theorem cat_i (x : Int32) : (Value.int x).category = 1 := rfl
theorem cat_l (x : Int64) : (Value.long x).category = 2 := rfl
theorem lw_4 {a b c d : Cond} (h1 : a ∈ lw_all) (h2 : b ∈ lw_all) (h3 : c ∈ lw_all) (h4 : d ∈ lw_all) : ∀ w ∈ [a, b, c, d], w ∈ lw_all := by
  intro w hw
  simp only [List.mem_cons, List.not_mem_nil, or_false] at hw
  rcases hw with e | e | e | e <;> rw [e] <;> assumption
theorem lw_5 {a b c d f : Cond} (h1 : a ∈ lw_all) (h2 : b ∈ lw_all) (h3 : c ∈ lw_all) (h4 : d ∈ lw_all) (h5 : f ∈ lw_all) : ∀ w ∈ [a, b, c, d, f], w ∈ lw_all := by
  intro w hw
  simp only [List.mem_cons, List.not_mem_nil, or_false] at hw
  rcases hw with e | e | e | e | e <;> rw [e] <;> assumption
theorem lw_6 {a b c d f g : Cond} (h1 : a ∈ lw_all) (h2 : b ∈ lw_all) (h3 : c ∈ lw_all) (h4 : d ∈ lw_all) (h5 : f ∈ lw_all) (h6 : g ∈ lw_all) : ∀ w ∈ [a, b, c, d, f, g], w ∈ lw_all := by
  intro w hw
  simp only [List.mem_cons, List.not_mem_nil, or_false] at hw
  rcases hw with e | e | e | e | e | e <;> rw [e] <;> assumption
/-- one of the five kinds in which a booking is asked -/
def xAs (S : XS) (a : Nat) : Prop := xKD S a = some 11 ∨ xKD S a = some 12 ∨ xKD S a = some 13 ∨ xKD S a = some 14 ∨ xKD S a = some 15
/-- an object that a list of ours may hold -/
def xOb (S : XS) (a : Nat) : Prop := xKD S a = some 7 ∨ xKD S a = some 9 ∨ xKD S a = some 10
theorem xAs_spec {S : XS} {a : Nat} (h : xAs S a) : ∃ (n : Nat) (r : vw_C), xKD S a = some n ∧ vwX[n]? = some r ∧ (n < 19 ∧ n ≠ 17) := by
  rcases h with h | h | h | h | h
  · exact ⟨11, _, h, rfl, by decide⟩
  · exact ⟨12, _, h, rfl, by decide⟩
  · exact ⟨13, _, h, rfl, by decide⟩
  · exact ⟨14, _, h, rfl, by decide⟩
  · exact ⟨15, _, h, rfl, by decide⟩
theorem xOb_spec {S : XS} {a : Nat} (h : xOb S a) : ∃ (n : Nat) (r : vw_C), xKD S a = some n ∧ (n < 19 ∧ n ≠ 17) ∧ vwX[n]? = some r ∧ Cond.castable r.1 "java/lang/Object" ∈ lw_tbl := by
  rcases h with h | h | h
  · exact ⟨7, _, h, by decide, rfl, q2007⟩
  · exact ⟨9, _, h, by decide, rfl, q2019⟩
  · exact ⟨10, _, h, by decide, rfl, q2021⟩
section GXP
variable {E : XE} {C : Cx} {S : XS} {mc ms pc : Nat} {L : List (Option Value)} {st : List Value} {cc : ByteArray} {own : String} {ret : Option FieldType} {rf rl nL : Nat}
theorem gX_it (hC : COk C cc own ret rf rl nL) (hX : XOk E C) {i a : Nat} {ref : String} (d : decode cc pc = .ok (.getfield i, 3)) (hq : Cond.fieldLink own i ref "it" "LVillageHalls$Booking;" ∈ lw_all) (h1 : "VillageHalls$AsBooking" = ref ∨ Cond.sameField ref "VillageHalls$AsBooking" "it" "LVillageHalls$Booking;" ∈ lw_all) (hk : xAs S a) (kk : GX E C S mc ms (pc + 3) L (va_rf (xFR S 1100 a) :: st)) : GX E C S mc ms pc L (va_rf (some a) :: st) := by
  rcases hk with h | h | h | h | h
  · exact gX_get (n := 11) (k := 0) (q := (1100, true)) hC hX d hq rfl in_X12 (by decide) h1 rfl (by decide) h kk
  · exact gX_get (n := 12) (k := 0) (q := (1100, true)) hC hX d hq rfl in_X13 (by decide) h1 rfl (by decide) h kk
  · exact gX_get (n := 13) (k := 0) (q := (1100, true)) hC hX d hq rfl in_X14 (by decide) h1 rfl (by decide) h kk
  · exact gX_get (n := 14) (k := 0) (q := (1100, true)) hC hX d hq rfl in_X15 (by decide) h1 rfl (by decide) h kk
  · exact gX_get (n := 15) (k := 0) (q := (1100, true)) hC hX d hq rfl in_X16 (by decide) h1 rfl (by decide) h kk
theorem gX_heldprice (hC : COk C cc own ret rf rl nL) (hX : XOk E C) {i a : Nat} (d : decode cc pc = .ok (.getfield i, 3)) (hq : Cond.fieldLink own i "VillageHalls$AsHeld" "price" "I" ∈ lw_all) (hk : xKD S a = some 13 ∨ xKD S a = some 14) (kk : GX E C S mc ms (pc + 3) L (.int (xFI S 1300 a) :: st)) : GX E C S mc ms pc L (va_rf (some a) :: st) := by
  rcases hk with h | h
  · exact gX_get (C0 := RX14) (T := TX14) (N := 2) (n := 13) (k := 1) (q := (1300, false)) hC hX d hq rfl in_X14 (by decide) (Or.inl rfl) rfl (by decide) h kk
  · exact gX_get (C0 := RX15) (T := TX15) (N := 2) (n := 14) (k := 1) (q := (1300, false)) hC hX d hq rfl in_X15 (by decide) (Or.inl rfl) rfl (by decide) h kk
theorem gX_itput {cc : ByteArray} {ret : Option FieldType} {rf rl nL : Nat} (hC : COk C cc "VillageHalls$AsBooking" ret rf rl nL) (hX : XOk E C) {i a : Nat} {v : Option Nat} (d : decode cc pc = .ok (.putfield i, 3)) (hq : Cond.fieldLink "VillageHalls$AsBooking" i "VillageHalls$AsBooking" "it" "LVillageHalls$Booking;" ∈ lw_all) (hini : (cx_h C).name = "<init>") (hk : xAs S a) (kk : GX E C (sFR S 1100 a v) mc ms (pc + 3) L st) : GX E C S mc ms pc L (va_rf v :: va_rf (some a) :: st) := by
  rcases hk with h | h | h | h | h
  · exact gX_putRF (C0 := RX12) (T := TX12) (ty0 := tyX12) (N := 1) (n := 11) (k := 0) (f := 1100) hC hX d hq rfl in_X12 tyX12_ok nmX12 (by decide) rfl rfl hini rfl rfl (narrow_rf (Or.inl ⟨_, rfl⟩) _) (fits_rf (Or.inl ⟨_, rfl⟩) _) rfl (by decide) (Or.inl (by decide)) h kk
  · exact gX_putRF (C0 := RX13) (T := TX13) (ty0 := tyX13) (N := 1) (n := 12) (k := 0) (f := 1100) hC hX d hq rfl in_X13 tyX13_ok nmX13 (by decide) rfl rfl hini rfl rfl (narrow_rf (Or.inl ⟨_, rfl⟩) _) (fits_rf (Or.inl ⟨_, rfl⟩) _) rfl (by decide) (Or.inl (by decide)) h kk
  · exact gX_putRF (C0 := RX14) (T := TX14) (ty0 := tyX14) (N := 2) (n := 13) (k := 0) (f := 1100) hC hX d hq rfl in_X14 tyX14_ok nmX14 (by decide) rfl rfl hini rfl rfl (narrow_rf (Or.inl ⟨_, rfl⟩) _) (fits_rf (Or.inl ⟨_, rfl⟩) _) rfl (by decide) (Or.inl (by decide)) h kk
  · exact gX_putRF (C0 := RX15) (T := TX15) (ty0 := tyX15) (N := 2) (n := 14) (k := 0) (f := 1100) hC hX d hq rfl in_X15 tyX15_ok nmX15 (by decide) rfl rfl hini rfl rfl (narrow_rf (Or.inl ⟨_, rfl⟩) _) (fits_rf (Or.inl ⟨_, rfl⟩) _) rfl (by decide) (Or.inl (by decide)) h kk
  · exact gX_putRF (C0 := RX16) (T := TX16) (ty0 := tyX16) (N := 1) (n := 15) (k := 0) (f := 1100) hC hX d hq rfl in_X16 tyX16_ok nmX16 (by decide) rfl rfl hini rfl rfl (narrow_rf (Or.inl ⟨_, rfl⟩) _) (fits_rf (Or.inl ⟨_, rfl⟩) _) rfl (by decide) (Or.inl (by decide)) h kk
theorem gX_priceput {cc : ByteArray} {ret : Option FieldType} {rf rl nL : Nat} (hC : COk C cc "VillageHalls$AsHeld" ret rf rl nL) (hX : XOk E C) {i a : Nat} {v : Int32} (d : decode cc pc = .ok (.putfield i, 3)) (hq : Cond.fieldLink "VillageHalls$AsHeld" i "VillageHalls$AsHeld" "price" "I" ∈ lw_all) (hini : (cx_h C).name = "<init>") (hk : xKD S a = some 13 ∨ xKD S a = some 14) (kk : GX E C (sFI S 1300 a v) mc ms (pc + 3) L st) : GX E C S mc ms pc L (.int v :: va_rf (some a) :: st) := by
  rcases hk with h | h
  · exact gX_putIF (C0 := RX14) (T := TX14) (ty0 := tyX14) (N := 2) (n := 13) (k := 1) (f := 1300) hC hX d hq rfl in_X14 tyX14_ok nmX14 (by decide) rfl rfl hini rfl rfl rfl rfl rfl (by decide) (Or.inl (by decide)) h kk
  · exact gX_putIF (C0 := RX15) (T := TX15) (ty0 := tyX15) (N := 2) (n := 14) (k := 1) (f := 1300) hC hX d hq rfl in_X15 tyX15_ok nmX15 (by decide) rfl rfl hini rfl rfl rfl rfl rfl (by decide) (Or.inl (by decide)) h kk
theorem gX_aastX (hC : COk C cc own ret rf rl nL) (hX : XOk E C) {a v : Nat} {i : Int32} (d : decode cc pc = .ok (.aastore, 1)) (hkd : xKD S a = some 102) (hro : xRO S a = false) (hin : vp_in i (xLN S a)) (hv : xOb S v) (kk : GX E C (sAR S a i.toNatClampNeg (some v)) mc ms (pc + 1) L st) : GX E C S mc ms pc L (va_rf (some v) :: .int i :: va_rf (some a) :: st) := by
  obtain ⟨n, r, h1, h2, h3, h4⟩ := xOb_spec hv
  exact gX_aastO hC hX d hkd hro hin h1 h3 h2 h4 kk
theorem gX_acopyX (hC : COk C cc own ret rf rl nL) (hX : XOk E C) {i a b : Nat} {sp dp len : Int32} (d : decode cc pc = .ok (.invokestatic i, 3)) (hl : Cond.methodLink own i arraycopyName ∈ lw_all) (hnat : Cond.native arraycopyName ∈ lw_all) (hst0 : Cond.static arraycopyName ∈ lw_all) (hini : Cond.initialized "java/lang/System" ∈ lw_all) (hka : xKD S a = some 102) (hkb : xKD S b = some 102) (hra : xRO S a = false) (hrb : xRO S b = false) (h1 : ¬ sp < 0) (h2 : ¬ dp < 0) (h3 : ¬ len < 0) (h4 : sp.toNatClampNeg + len.toNatClampNeg ≤ xLN S a) (h5 : dp.toNatClampNeg + len.toNatClampNeg ≤ xLN S b) (hel : ∀ j, j < len.toNatClampNeg → ∀ y, xAR S a (sp.toNatClampNeg + j) = some y → xOb S y) (hst : st.length ≤ 2) (hrf : 1 ≤ rf) (hrl : 32 ≤ rl) (kk : GX E C (sARf S b (va_cpy (xAR S a) (xAR S b) sp.toNatClampNeg dp.toNatClampNeg len.toNatClampNeg)) mc ms (pc + 3) L st) : GX E C S mc ms pc L (.int len :: .int dp :: va_rf (some b) :: .int sp :: va_rf (some a) :: st) :=
  gX_acopyO hC hX d hl hnat hst0 hini hka hkb hra hrb h1 h2 h3 h4 h5 (fun j hj y hy => by
    obtain ⟨n, r, g1, g2, g3, g4⟩ := xOb_spec (hel j hj y hy)
    exact ⟨n, r, g1, g2, g3, g4⟩) hst hrf hrl kk
theorem gX_ro {n a : Nat} (hkd : xKD S a = some n) (hn : ¬ xROk n) (k : xRO S a = false → GX E C S mc ms pc L st) : GX E C S mc ms pc L st :=
  fun H locs cells slots ls a1 a2 a3 a4 a5 => k (xRO_not a1 hkd hn) H locs cells slots ls a1 a2 a3 a4 a5
theorem gX_acopyi (hC : COk C cc own ret rf rl nL) (hX : XOk E C) {i a b : Nat} {sp dp len : Int32} (d : decode cc pc = .ok (.invokestatic i, 3)) (hl : Cond.methodLink own i arraycopyName ∈ lw_all) (hnat : Cond.native arraycopyName ∈ lw_all) (hst0 : Cond.static arraycopyName ∈ lw_all) (hini : Cond.initialized "java/lang/System" ∈ lw_all) (hka : xKD S a = some 100) (hkb : xKD S b = some 100) (h1 : ¬ sp < 0) (h2 : ¬ dp < 0) (h3 : ¬ len < 0) (h4 : sp.toNatClampNeg + len.toNatClampNeg ≤ xLN S a) (h5 : dp.toNatClampNeg + len.toNatClampNeg ≤ xLN S b) (hst : st.length ≤ 2) (hrf : 1 ≤ rf) (hrl : 32 ≤ rl) (kk : GX E C (sAIf S b (va_cpy (xAI S a) (xAI S b) sp.toNatClampNeg dp.toNatClampNeg len.toNatClampNeg)) mc ms (pc + 3) L st) : GX E C S mc ms pc L (.int len :: .int dp :: va_rf (some b) :: .int sp :: va_rf (some a) :: st) := by
  refine gX_ro hka (by unfold xROk; omega) (fun ra => ?_)
  refine gX_ro hkb (by unfold xROk; omega) (fun rb => ?_)
  exact gX_acopy (n := 100) hC hX d hl hnat hst0 hini (Or.inl rfl) hka hkb ra rb h1 h2 h3 h4 h5 (fun _ _ => rfl) hst hrf hrl kk
theorem x_str {H : Heap} {a : Nat} (hX : XOk E C) (a1 : okXA E (cx_A C) S H) (hk : xKD S a = some 17) : ∃ cell : Cell, H[a]? = some cell ∧ cell.cls = (xe_D E).1 17 ∧ cell.vm.isStatics = false ∧ cell.vm ≠ .unknown ∧ ∀ k : Nat, k < 2 → cell.slots[(xe_D E).2 17 k]? = some (vp_V (xfl S 17 a) k) := by
  cases hr : xRO S a with
  | true =>
    have hw := (a1.2.1 a 17 hk hr).1
    rw [xCell_o (by omega)] at hw
    exact hw
  | false =>
    have hat := a1.1 a 17 hk hr
    rw [xCell_o (by omega)] at hat
    obtain ⟨r, h1, cell, q1, q2, q3, q4⟩ := hat
    cases h1
    exact ⟨cell, q1, q2, (by rw [q3]; rfl), (by rw [q3]; exact fun h => by cases h), fun k hk => q4 k (Nat.lt_trans hk (show 2 < 4 by decide))⟩
theorem x_strc {H : Heap} {a : Nat} (hX : XOk E C) (a1 : okXA E (cx_A C) S H) (hk : xKD S a = some 17) : ∃ cell : Cell, H[a]? = some cell ∧ cell.vm.isStatics = false ∧ (cx_s C).vm.findClass RJ8 = some cell.cls := by
  obtain ⟨cell, h1, h2, h3, h4, -⟩ := x_str hX a1 hk
  exact ⟨cell, h1, h3, by rw [h2]; exact (hX.1.1.1 17 _ rfl).2.1⟩
theorem gX_castStr (hC : COk C cc own ret rf rl nL) (hX : XOk E C) {i a : Nat} (d : decode cc pc = .ok (.checkcast i, 3)) (hl : Cond.classLink own i RJ8 ∈ lw_all) (hkd : xKD S a = some 17) (kk : GX E C S mc ms (pc + 3) L (va_rf (some a) :: st)) : GX E C S mc ms pc L (va_rf (some a) :: st) :=
  fun H locs cells slots ls a1 a2 a3 a4 a5 => va_castS hC.1 hC.2.1 hC.2.2.2.2.2.1 (hC.2.2.2.2.2.2.1 _ hl) (hX.1.1.1 17 _ rfl).2 (x_strc hX a1 hkd) d (kk H locs cells slots ls a1 a2 a3 a4 a5)
theorem gX_instStr (hC : COk C cc own ret rf rl nL) (hX : XOk E C) {i a : Nat} (d : decode cc pc = .ok (.instanceof i, 3)) (hl : Cond.classLink own i RJ8 ∈ lw_all) (hkd : xKD S a = some 17) (kk : GX E C S mc ms (pc + 3) L (.int 1 :: st)) : GX E C S mc ms pc L (va_rf (some a) :: st) :=
  fun H locs cells slots ls a1 a2 a3 a4 a5 => va_instS hC.1 hC.2.1 hC.2.2.2.2.2.1 (hC.2.2.2.2.2.2.1 _ hl) (hX.1.1.1 17 _ rfl).2 (x_strc hX a1 hkd) d (kk H locs cells slots ls a1 a2 a3 a4 a5)
theorem gX_castB (hC : COk C cc own ret rf rl nL) (hX : XOk E C) {i a : Nat} (d : decode cc pc = .ok (.checkcast i, 3)) (hl : Cond.classLink own i "[B" ∈ lw_all) (hka : xKD S a = some 101) (hra : xRO S a = false) (kk : GX E C S mc ms (pc + 3) L (va_rf (some a) :: st)) : GX E C S mc ms pc L (va_rf (some a) :: st) := by
  intro H locs cells slots ls a1 a2 a3 a4 a5
  obtain ⟨q0, hq0⟩ := xLs_at (E := E) (okX_lt a1 hka) hka hra
  rw [xCell_a (by omega)] at hq0
  exact va_castA hC.1 hC.2.1 hC.2.2.2.2.2.1 (hC.2.2.2.2.2.2.1 _ hl) (xLs_P a1 H.size) q0 hq0 (hX.1.1.2 1 _ (xTys_get (by omega))).2 d (kk H locs cells slots ls a1 a2 a3 a4 a5)
theorem gX_cloneb (hC : COk C cc own ret rf rl nL) (hX : XOk E C) {i a : Nat} (d : decode cc pc = .ok (.invokevirtual i, 3)) (hl : Cond.methodLink own i ⟨"[B", "clone", "()Ljava/lang/Object;"⟩ ∈ lw_all) (hsame : Cond.sameMethod "[B" "java/lang/Object" "clone" "()Ljava/lang/Object;" ∈ lw_all) (hnat : Cond.native ⟨"java/lang/Object", "clone", "()Ljava/lang/Object;"⟩ ∈ lw_all) (hinst : Cond.instanceMethod ⟨"java/lang/Object", "clone", "()Ljava/lang/Object;"⟩ ∈ lw_all) (hsel : Cond.selects "[B" ⟨"[B", "clone", "()Ljava/lang/Object;"⟩ ⟨"java/lang/Object", "clone", "()Ljava/lang/Object;"⟩ ∈ lw_all) (hcl : Cond.castable "[B" "java/lang/Cloneable" ∈ lw_tbl) (hka : xKD S a = some 101) (hra : xRO S a = false) (hfit : ∀ j, j < xLN S a → fits .byte (.int (xAI S a j)) = true) (hmc : 1 ≤ mc) (hms : xLN S a ≤ ms) (hst : st.length ≤ 4) (hrf : 1 ≤ rf) (hrl : 32 ≤ rl) (kk : ∀ q : Nat, xKD S q = none → GX E C (sAIf (sNewA S q 101 (xLN S a)) q (xAI S a)) (mc - 1) (ms - xLN S a) (pc + 3) L (va_rf (some q) :: st)) : GX E C S mc ms pc L (va_rf (some a) :: st) := by
  intro H locs cells slots ls a1 a2 a3 a4 a5
  obtain ⟨hx, hb, hr, hlk0, hml, hown, hts, hrf', hrl', hrc, hrs, hnl⟩ := id hC
  obtain ⟨q0, hq0⟩ := xLs_at (E := E) (okX_lt a1 hka) hka hra
  rw [xCell_a (by omega), xAc_I (by omega)] at hq0
  have hcat := cat_le hst
  refine va_clone (ad := "[B") (ty := .byte) hx hb (by rw [hml]; exact a5.1.symm) hown (hts _ hl) (hts _ hsame) (hts _ hnat) (hts _ hinst) (hts _ hsel) (hX.1.2.1 _ (nst_at hcl rfl)) hX.1.1 (xLs_P a1 H.size) (xLs_D a1 H.size) a2 hX.2.1 q0 1 hq0 (xTys_get (by omega)) (hX.1.1.2 1 _ (xTys_get (by omega))).2 (fun j v hv => ?_) (by rw [hrf']; exact hrf) (by rw [hrl']; omega) (by rw [hrc]; omega) (by show slots + xLN S a ≤ _; rw [hrs]; omega) d (fun q H1 hK hP hD hS => ?_)
  · rw [vp_cell_i] at hv
    have hj : j < xLN S a := by
      have := (Array.getElem?_eq_some_iff.mp hv).1
      rw [arrV_size] at this
      exact this
    rw [arrV_read _ _ hj] at hv
    cases hv
    exact hfit j hj
  · obtain ⟨h1, h2⟩ := okX_push2 (S' := sAIf (sNewA S q 101 (xLN S a)) q (xAI S a)) (n := 101) hX.2.1 a1 a2 hS hP hD (fun b => rfl) rfl rfl (fun _ _ => rfl) (fun _ _ => rfl) (fun b hb => if_neg hb) (fun _ => rfl) (fun _ => by
      rw [xCell_a (by omega), xAc_I (by omega)]
      congr 3
      · exact if_pos rfl
      · first | exact congrArg Sum.inl (if_pos rfl) | exact if_pos rfl) (fun b m hb _ => xCell_cong (fun _ => rfl) (fun _ => rfl) (if_neg hb) rfl (if_neg hb))
    exact kk q h2 H1 locs _ _ ls h1 hS (by omega) (by show slots + xLN S a + _ ≤ _; omega) a5
theorem gX_getStr (hC : COk C cc own ret rf rl nL) (hX : XOk E C) {i k a : Nat} {q : Nat × Bool} {ref : String} (d : decode cc pc = .ok (.getfield i, 3)) (hq : Cond.fieldLink own i ref (TJ8 k).2.1 (TJ8 k).2.2.1 ∈ lw_all) (hk : k < 2) (h1 : (TJ8 k).1 = ref) (ht : (xTab.getD 17 [])[k]? = some q) (hkd : xKD S a = some 17) (kk : GX E C S mc ms (pc + 3) L (xFv S a q :: st)) : GX E C S mc ms pc L (va_rf (some a) :: st) := by
  intro H locs cells slots ls a1 a2 a3 a4 a5
  obtain ⟨cell, q1, q2, q3, q4, q5⟩ := x_str hX a1 hkd
  obtain ⟨hS, hfc, kC, hkC, hkind⟩ := hX.1.1.1 17 _ rfl
  obtain ⟨cf, kf, fi, f, hi, hsl⟩ := hS k (by show k < 4; omega)
  have hv : vp_V (xfl S 17 a) k = xFv S a q := by
    unfold vp_V
    rw [List.getD_eq_getElem?_getD, xfl_get ht]
    rfl
  refine W.getf hC.1 hC.2.1 hC.2.2.2.2.2.1 (hC.2.2.2.2.2.2.1 _ hq) (h1 ▸ hi) (u_facts hfc hkC (u_lays hC.2.2.2.2.2.2.1 in_J8 (by show k < 4; omega)) hi).1 q1 q4 (v := xFv S a q) ?_ rfl rfl d (kk H locs cells slots ls a1 a2 a3 a4 a5)
  rw [hsl, q5 k hk, hv]
theorem g_mmax {ω : Type} {ok : ω → Heap → Prop} {w : ω} (hC : COk C cc own ret rf rl nL) {i : Nat} {x y : Int32} (d : decode cc pc = .ok (.invokestatic i, 3)) (hl : Cond.methodLink own i Lib.Math.max.name ∈ lw_all) (hs0 : Cond.static Lib.Math.max.name ∈ lw_all) (hini : Cond.initialized "java/lang/Math" ∈ lw_all) (hcode : Cond.code Lib.Math.max.name Lib.Math.max.code 2 (some .int) ∈ lw_all) (hst : st.length ≤ 4) (hrf : 1 ≤ rf) (hrl : 32 ≤ rl) (kk : Gw ok C w mc ms (pc + 3) L (.int (if x < y then y else x) :: st)) : Gw ok C w mc ms pc L (.int y :: .int x :: st) := by
  intro H locs cells slots ls a1 a2 a3 a4 a5
  obtain ⟨hx, hb, hr, hlk0, hml, hown, hts, hrf', hrl', hrc, hrs, hnl⟩ := id hC
  have hcat := cat_le hst
  exact va_mmax hx hb (by rw [hml]; exact a5.1.symm) hown (hts _ hl) (hts _ hs0) (hts _ hini) (hts _ hcode) (by rw [hrf']; exact hrf) (by rw [hrl']; omega) (by rw [hrc]; omega) (by rw [hrs]; omega) d (kk H locs cells slots ls a1 a2 a3 a4 a5)
theorem g_mmin {ω : Type} {ok : ω → Heap → Prop} {w : ω} (hC : COk C cc own ret rf rl nL) {i : Nat} {x y : Int32} (d : decode cc pc = .ok (.invokestatic i, 3)) (hl : Cond.methodLink own i Lib.Math.min.name ∈ lw_all) (hs0 : Cond.static Lib.Math.min.name ∈ lw_all) (hini : Cond.initialized "java/lang/Math" ∈ lw_all) (hcode : Cond.code Lib.Math.min.name Lib.Math.min.code 2 (some .int) ∈ lw_all) (hst : st.length ≤ 4) (hrf : 1 ≤ rf) (hrl : 32 ≤ rl) (kk : Gw ok C w mc ms (pc + 3) L (.int (if y < x then y else x) :: st)) : Gw ok C w mc ms pc L (.int y :: .int x :: st) := by
  intro H locs cells slots ls a1 a2 a3 a4 a5
  obtain ⟨hx, hb, hr, hlk0, hml, hown, hts, hrf', hrl', hrc, hrs, hnl⟩ := id hC
  have hcat := cat_le hst
  exact va_mmin hx hb (by rw [hml]; exact a5.1.symm) hown (hts _ hl) (hts _ hs0) (hts _ hini) (hts _ hcode) (by rw [hrf']; exact hrf) (by rw [hrl']; omega) (by rw [hrc]; omega) (by rw [hrs]; omega) d (kk H locs cells slots ls a1 a2 a3 a4 a5)
theorem g_mabs {ω : Type} {ok : ω → Heap → Prop} {w : ω} (hC : COk C cc own ret rf rl nL) {i : Nat} {x : Int32} (d : decode cc pc = .ok (.invokestatic i, 3)) (hl : Cond.methodLink own i Lib.Math.abs.name ∈ lw_all) (hs0 : Cond.static Lib.Math.abs.name ∈ lw_all) (hini : Cond.initialized "java/lang/Math" ∈ lw_all) (hcode : Cond.code Lib.Math.abs.name Lib.Math.abs.code 1 (some .int) ∈ lw_all) (hst : st.length ≤ 4) (hrf : 1 ≤ rf) (hrl : 32 ≤ rl) (kk : Gw ok C w mc ms (pc + 3) L (.int (if 0 ≤ x then x else 0 - x) :: st)) : Gw ok C w mc ms pc L (.int x :: st) := by
  intro H locs cells slots ls a1 a2 a3 a4 a5
  obtain ⟨hx, hb, hr, hlk0, hml, hown, hts, hrf', hrl', hrc, hrs, hnl⟩ := id hC
  have hcat := cat_le hst
  exact va_mabs hx hb (by rw [hml]; exact a5.1.symm) hown (hts _ hl) (hts _ hs0) (hts _ hini) (hts _ hcode) (by rw [hrf']; exact hrf) (by rw [hrl']; omega) (by rw [hrc]; omega) (by rw [hrs]; omega) d (kk H locs cells slots ls a1 a2 a3 a4 a5)
theorem gX_ni {Q : Int32 → XS → Prop} {k n : Nat} {a : Array Value} {rest : List Value} (hX : XOk E C) (hrun : XRun E C S mc ms pc L st rest k n (fun sz => va_Qi Q (BX1 E S sz) (xA S sz) a)) (hk : k = 0) (hn : n = 0) (kk : ∀ (r : Int32) (S1 : XS), Q r S1 → GX E C S1 mc ms (pc + 3) L (.int r :: rest)) : GX E C S mc ms pc L st := by
  subst hk; subst hn
  exact gX_ci hX hrun (Nat.zero_le _) (Nat.zero_le _) kk
theorem gX_nv {Q : XS → Prop} {k n : Nat} {a : Array Value} {rest : List Value} (hX : XOk E C) (hrun : XRun E C S mc ms pc L st rest k n (fun sz => va_Qv Q (BX1 E S sz) (xA S sz) a)) (hk : k = 0) (hn : n = 0) (kk : ∀ (S1 : XS), Q S1 → GX E C S1 mc ms (pc + 3) L rest) : GX E C S mc ms pc L st := by
  subst hk; subst hn
  exact gX_cv hX hrun (Nat.zero_le _) (Nat.zero_le _) kk
theorem gX_nq {Q : Option Nat → XS → Prop} {k n : Nat} {a : Array Value} {rest : List Value} (hX : XOk E C) (hrun : XRun E C S mc ms pc L st rest k n (fun sz => va_Qq Q (BX1 E S sz) (xA S sz) a)) (hk : k = 0) (hn : n = 0) (kk : ∀ (r : Option Nat) (S1 : XS), Q r S1 → GX E C S1 mc ms (pc + 3) L (va_rf r :: rest)) : GX E C S mc ms pc L st := by
  subst hk; subst hn
  exact gX_cq hX hrun (Nat.zero_le _) (Nat.zero_le _) kk
theorem gX_ni5 {Q : Int32 → XS → Prop} {k n : Nat} {a : Array Value} {rest : List Value} (hX : XOk E C) (hrun : XRun5 E C S mc ms pc L st rest k n (fun sz => va_Qi Q (BX1 E S sz) (xA S sz) a)) (hk : k = 0) (hn : n = 0) (kk : ∀ (r : Int32) (S1 : XS), Q r S1 → GX E C S1 mc ms (pc + 5) L (.int r :: rest)) : GX E C S mc ms pc L st := by
  subst hk; subst hn
  exact gX_ci5 hX hrun (Nat.zero_le _) (Nat.zero_le _) kk
theorem gX_nv5 {Q : XS → Prop} {k n : Nat} {a : Array Value} {rest : List Value} (hX : XOk E C) (hrun : XRun5 E C S mc ms pc L st rest k n (fun sz => va_Qv Q (BX1 E S sz) (xA S sz) a)) (hk : k = 0) (hn : n = 0) (kk : ∀ (S1 : XS), Q S1 → GX E C S1 mc ms (pc + 5) L rest) : GX E C S mc ms pc L st := by
  subst hk; subst hn
  exact gX_cv5 hX hrun (Nat.zero_le _) (Nat.zero_le _) kk
theorem gX_nq5 {Q : Option Nat → XS → Prop} {k n : Nat} {a : Array Value} {rest : List Value} (hX : XOk E C) (hrun : XRun5 E C S mc ms pc L st rest k n (fun sz => va_Qq Q (BX1 E S sz) (xA S sz) a)) (hk : k = 0) (hn : n = 0) (kk : ∀ (r : Option Nat) (S1 : XS), Q r S1 → GX E C S1 mc ms (pc + 5) L (va_rf r :: rest)) : GX E C S mc ms pc L st := by
  subst hk; subst hn
  exact gX_cq5 hX hrun (Nat.zero_le _) (Nat.zero_le _) kk
end GXP
theorem sw_no6 {x : Int32} (c0 : ¬ x = 0) (c1 : ¬ x = 1) (c2 : ¬ x = 2) (c3 : ¬ x = 3) (c4 : ¬ x = 4) (c5 : ¬ x = 5) : ∀ v : Int, 0 ≤ v ∧ v ≤ 5 → ¬ x.toInt = v := by
  intro v hv
  have hh : v = 0 ∨ v = 1 ∨ v = 2 ∨ v = 3 ∨ v = 4 ∨ v = 5 := by omega
  rcases hh with rfl | rfl | rfl | rfl | rfl | rfl
  · exact sw_ne c0 (by decide)
  · exact sw_ne c1 (by decide)
  · exact sw_ne c2 (by decide)
  · exact sw_ne c3 (by decide)
  · exact sw_ne c4 (by decide)
  · exact sw_ne c5 (by decide)

theorem sw_no11 {x : Int32} (c0 : ¬ x = 0) (c1 : ¬ x = 1) (c2 : ¬ x = 2) (c3 : ¬ x = 3) (c4 : ¬ x = 4) (c5 : ¬ x = 5) (c6 : ¬ x = 6) (c7 : ¬ x = 7) (c8 : ¬ x = 8) (c9 : ¬ x = 9) (c10 : ¬ x = 10) : ∀ v : Int, 0 ≤ v ∧ v ≤ 10 → ¬ x.toInt = v := by
  intro v hv
  have hh : v = 0 ∨ v = 1 ∨ v = 2 ∨ v = 3 ∨ v = 4 ∨ v = 5 ∨ v = 6 ∨ v = 7 ∨ v = 8 ∨ v = 9 ∨ v = 10 := by omega
  rcases hh with rfl | rfl | rfl | rfl | rfl | rfl | rfl | rfl | rfl | rfl | rfl
  · exact sw_ne c0 (by decide)
  · exact sw_ne c1 (by decide)
  · exact sw_ne c2 (by decide)
  · exact sw_ne c3 (by decide)
  · exact sw_ne c4 (by decide)
  · exact sw_ne c5 (by decide)
  · exact sw_ne c6 (by decide)
  · exact sw_ne c7 (by decide)
  · exact sw_ne c8 (by decide)
  · exact sw_ne c9 (by decide)
  · exact sw_ne c10 (by decide)

theorem sw_no31 {x : Int32} (c0 : ¬ x = 0) (c1 : ¬ x = 1) (c2 : ¬ x = 2) (c3 : ¬ x = 3) (c4 : ¬ x = 4) (c5 : ¬ x = 5) (c6 : ¬ x = 6) (c7 : ¬ x = 7) (c8 : ¬ x = 8) (c9 : ¬ x = 9) (c10 : ¬ x = 10) (c11 : ¬ x = 11) (c12 : ¬ x = 12) (c13 : ¬ x = 13) (c14 : ¬ x = 14) (c15 : ¬ x = 15) (c16 : ¬ x = 16) (c17 : ¬ x = 17) (c18 : ¬ x = 18) (c19 : ¬ x = 19) (c20 : ¬ x = 20) (c21 : ¬ x = 21) (c22 : ¬ x = 22) (c23 : ¬ x = 23) (c24 : ¬ x = 24) (c25 : ¬ x = 25) (c26 : ¬ x = 26) (c27 : ¬ x = 27) (c28 : ¬ x = 28) (c29 : ¬ x = 29) (c30 : ¬ x = 30) : ∀ v : Int, 0 ≤ v ∧ v ≤ 30 → ¬ x.toInt = v := by
  intro v hv
  have hh : v = 0 ∨ v = 1 ∨ v = 2 ∨ v = 3 ∨ v = 4 ∨ v = 5 ∨ v = 6 ∨ v = 7 ∨ v = 8 ∨ v = 9 ∨ v = 10 ∨ v = 11 ∨ v = 12 ∨ v = 13 ∨ v = 14 ∨ v = 15 ∨ v = 16 ∨ v = 17 ∨ v = 18 ∨ v = 19 ∨ v = 20 ∨ v = 21 ∨ v = 22 ∨ v = 23 ∨ v = 24 ∨ v = 25 ∨ v = 26 ∨ v = 27 ∨ v = 28 ∨ v = 29 ∨ v = 30 := by omega
  rcases hh with rfl | rfl | rfl | rfl | rfl | rfl | rfl | rfl | rfl | rfl | rfl | rfl | rfl | rfl | rfl | rfl | rfl | rfl | rfl | rfl | rfl | rfl | rfl | rfl | rfl | rfl | rfl | rfl | rfl | rfl | rfl
  · exact sw_ne c0 (by decide)
  · exact sw_ne c1 (by decide)
  · exact sw_ne c2 (by decide)
  · exact sw_ne c3 (by decide)
  · exact sw_ne c4 (by decide)
  · exact sw_ne c5 (by decide)
  · exact sw_ne c6 (by decide)
  · exact sw_ne c7 (by decide)
  · exact sw_ne c8 (by decide)
  · exact sw_ne c9 (by decide)
  · exact sw_ne c10 (by decide)
  · exact sw_ne c11 (by decide)
  · exact sw_ne c12 (by decide)
  · exact sw_ne c13 (by decide)
  · exact sw_ne c14 (by decide)
  · exact sw_ne c15 (by decide)
  · exact sw_ne c16 (by decide)
  · exact sw_ne c17 (by decide)
  · exact sw_ne c18 (by decide)
  · exact sw_ne c19 (by decide)
  · exact sw_ne c20 (by decide)
  · exact sw_ne c21 (by decide)
  · exact sw_ne c22 (by decide)
  · exact sw_ne c23 (by decide)
  · exact sw_ne c24 (by decide)
  · exact sw_ne c25 (by decide)
  · exact sw_ne c26 (by decide)
  · exact sw_ne c27 (by decide)
  · exact sw_ne c28 (by decide)
  · exact sw_ne c29 (by decide)
  · exact sw_ne c30 (by decide)

