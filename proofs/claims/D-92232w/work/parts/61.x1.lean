/-! X0_found -/
def wx_X0_found (Q : Int32 → XS → Prop) (S : XS) (x0 : Option Nat) (x1 : Option Nat) : Prop :=
  dr x1 (fun u1 => xKD S u1 = some 3 ∧ dr x0 (fun u3 => xKD S u3 = some 0 ∧ Q ((-1000010 : Int32) - (xFI (sFI S 12 u3 (xFI S 300 u1)) 300 u1)) (sFI S 12 u3 (xFI S 300 u1))))
theorem hx_X0_found : yX0_found.cls = RX0 ∧ yX0_found.cls ≠ "java/lang/invoke/MethodHandle" ∧ yX0_found.cls ≠ "java/lang/invoke/VarHandle" ∧ (parseMethodDescriptor yX0_found.desc).map (fun d => d.parameters.length) = some 1 := by decide +kernel
set_option maxHeartbeats 4000000 in
set_option maxRecDepth 100000 in
theorem bx_X0_found (E : XE) (C : Cx) (S0 : XS) (sz : Nat) (Q : Int32 → XS → Prop) (S : XS) (x0 : Option Nat) (x1 : Option Nat) (hC : COk C cX0_found RX0 (some .int) 1 34 2) (hX : XOk E C) (hA : cx_A C = xA S0 sz) (hQ : cx_Q C = MQ (cx_b C) (va_Qi Q (BX1 E S0 sz) (xA S0 sz)) (cx_a C) (cx_s C) (cx_MC C) (cx_MS C) (xA S0 sz)) (h : wx_X0_found Q S x0 x1) : GX E C S 0 0 0 [some (va_rf x0), some (va_rf x1)] [] := by
  refine g_aload_nR hC dX0_found_0 rfl ?_
  refine g_aload_nR hC dX0_found_1 rfl ?_
  obtain ⟨u1, eu1, h⟩ := h
  refine g_top0 eu1 ?_
  have hk2 := h.1
  refine gX_get (C0 := RX4) (T := TX4) (N := 7) (n := 3) (k := 6) (q := (300, false)) hC hX dX0_found_2 q327 rfl in_X4 (by decide) (Or.inl rfl) rfl (by decide) hk2 ?_
  show GX _ _ _ _ _ _ _ (.int (xFI S 300 u1) :: _)
  obtain ⟨u3, eu3, h⟩ := h.2
  refine g_top1 eu3 ?_
  have hk4 := h.1
  refine gX_putI (C0 := RX0) (T := TX0) (ty0 := tyX0) (N := 15) (n := 0) (k := 12) (f := 12) hC hX dX0_found_5 q226 rfl in_X0 tyX0_ok nmX0 (by decide) (Or.inl rfl) rfl rfl rfl rfl rfl (by decide) (Or.inl (by decide)) hk4 ?_
  refine g_ldc (v := -1000010) hC dX0_found_8 q365 ?_
  refine g_aload_nR hC dX0_found_10 rfl ?_
  refine g_top0 eu1 ?_
  refine gX_get (C0 := RX4) (T := TX4) (N := 7) (n := 3) (k := 6) (q := (300, false)) hC hX dX0_found_11 q327 rfl in_X4 (by decide) (Or.inl rfl) rfl (by decide) hk2 ?_
  show GX _ _ _ _ _ _ _ (.int (xFI (sFI S 12 u3 (xFI S 300 u1)) 300 u1) :: _)
  refine g_isub hC dX0_found_14 ?_
  refine gX_iret rfl hC hA hQ dX0_found_15 h.2
theorem mx_X0_found (l : Launch) (E : XE) (Q : Int32 → XS → Prop) (S : XS) (x0 : Option Nat) (x1 : Option Nat) (h : wx_X0_found Q S x0 x1) : XMet E l yX0_found cX0_found 2 (some .int) ({ frames := 1, cells := 0, slots := 0, locals := 34 } : Room) [va_rf x0, va_rf x1] S (fun sz => va_Qi Q (BX1 E S sz) (xA S sz)) :=
  XMet_of (rm := ({ frames := 1, cells := 0, slots := 0, locals := 34 } : Room)) (by decide) (by simp [lg_sl, va_rf_cat, cat_i, cat_l]) (L0 := [some (va_rf x0), some (va_rf x1)]) (by simp [lx_pairs, lv_args, va_rf_cat, cat_i, cat_l, List.range_succ]) (fun sz C hC hX hl hnm hA hQ => bx_X0_found E C S sz Q S x0 x1 hC hX hA hQ h)
/-! X0_sheet -/
def wx_X0_sheet_37 (Q : Int32 → XS → Prop) (mc ms : Nat) (S : XS) (a0 : Option Nat) (a1 : Int32) (a2 : Int32) (a3 : Int32) (s0 : Int32) : Prop :=
  (∃ k5 n6, k5 ≤ mc ∧ n6 ≤ ms ∧ wx_X0_must (fun S14 => dr a0 (fun u16 => xKD S14 u16 = some 0 ∧ 1 ≤ (mc - k5) ∧ 2 ≤ (ms - n6) ∧ (∀ q18 : Nat, xKD S14 q18 = none → (∃ k22 n23, k22 ≤ ((mc - k5) - 1) ∧ n23 ≤ ((ms - n6) - 2) ∧ wx_X5_init (fun S24 => dr (xFR S14 0 u16) (fun u26 => xKD S24 u26 = some 105 ∧ xRO S24 u26 = false ∧ vp_in a1 (xLN S24 u26) ∧ xKD S24 q18 = some 4 ∧ xKD (sAR S24 u26 (Int32.toNatClampNeg a1) (some q18)) u16 = some 0 ∧ wx_X0_well (fun r31 S30 => Q r31 S30) (sAR S24 u26 (Int32.toNatClampNeg a1) (some q18)) (some u16) a3)) k22 n23 (sNew S14 q18 4) (some q18) a2 a3)))) (fun q7 S8 => dr a0 (fun u10 => xKD S8 u10 = some 0 ∧ wx_X0_found (fun r13 S12 => Q r13 S12) S8 (some u10) (some q7))) k5 n6 S s0 (4 : Int32))
def wx_X0_sheet (Q : Int32 → XS → Prop) (mc ms : Nat) (S : XS) (x0 : Option Nat) (x1 : Int32) (x2 : Int32) (x3 : Int32) : Prop :=
  wx_X0_isSheet (fun r2 S1 => (if r2 = 0 then Q (-1000001 : Int32) S1 else wx_X0_isIn (fun r4 S3 => (if r4 = 0 then Q (-1000001 : Int32) S3 else (if x3 ≤ (60 : Int32) then (if x3 < 0 then wx_X0_sheet_37 Q mc ms S3 x0 x1 x2 x3 (0 : Int32) else wx_X0_sheet_37 Q mc ms S3 x0 x1 x2 x3 (1 : Int32)) else Q (-1000001 : Int32) S3))) S1 (Int32.toInt64 x2) (0 : Int64) (2 : Int64))) S x1
theorem hx_X0_sheet : yX0_sheet.cls = RX0 ∧ yX0_sheet.cls ≠ "java/lang/invoke/MethodHandle" ∧ yX0_sheet.cls ≠ "java/lang/invoke/VarHandle" ∧ (parseMethodDescriptor yX0_sheet.desc).map (fun d => d.parameters.length) = some 3 := by decide +kernel
set_option maxHeartbeats 4000000 in
set_option maxRecDepth 100000 in
theorem bx_X0_sheet (E : XE) (C : Cx) (S0 : XS) (sz : Nat) (Q : Int32 → XS → Prop) (mc ms : Nat) (S : XS) (x0 : Option Nat) (x1 : Int32) (x2 : Int32) (x3 : Int32) (hC : COk C cX0_sheet RX0 (some .int) 5 124 5) (hX : XOk E C) (hT : (cx_c C).exceptionTable.toList = tableOf [(28, 61, 62, 130)]) (hA : cx_A C = xA S0 sz) (hQ : cx_Q C = MQ (cx_b C) (va_Qi Q (BX1 E S0 sz) (xA S0 sz)) (cx_a C) (cx_s C) (cx_MC C) (cx_MS C) (xA S0 sz)) (h : wx_X0_sheet Q mc ms S x0 x1 x2 x3) : GX E C S mc ms 0 [some (va_rf x0), some (.int x1), some (.int x2), some (.int x3), none] [] := by
  have s_37 : ∀ (mc ms : Nat) (S : XS) (a0 : Option Nat) (a1 : Int32) (a2 : Int32) (a3 : Int32) (s0 : Int32), wx_X0_sheet_37 Q  mc ms S a0 a1 a2 a3 s0 → GX E C S mc ms 37 [some (va_rf a0), some (.int a1), some (.int a2), some (.int a3), none] [.int s0] := by
    intro  mc ms S a0 a1 a2 a3 s0 h
    refine g_iconst (v := 4) hC dX0_sheet_37 (by decide) ?_
    obtain ⟨k5, n6, hk5, hn6, h⟩ := h
    refine gX_xv hX (gX_xrunS (As := [.int s0, .int (4 : Int32)]) (rest := []) hC hX (mx_X0_must (cx_l C) E k5 n6 _ _ _ _ _ h) (lw_S q274 q275 q70 q276) hx_X0_must.2 rfl rfl (Or.inl (Nat.le_of_ble_eq_true rfl)) ⟨Nat.le_of_ble_eq_true rfl, Nat.le_of_ble_eq_true rfl⟩ dX0_sheet_38 hk5 hn6) hk5 hn6 (fun q7 S8 h hk9 => ?_) ?_
    · refine gT_catch (r := (RX4, TX4, 7)) (name := "VillageHalls$Finding") hC hX hT [] (28, 61, 62, 130) [] rfl (by decide) (by decide) (by decide) q264 q278 hk9 rfl (by decide) ?_
      refine g_astoreR hC dX0_sheet_62 (by decide) rfl rfl ?_
      refine g_sub [true, false, false, false, true] rfl ?_
      refine g_aload_nR hC dX0_sheet_64 rfl ?_
      refine g_aloadR hC dX0_sheet_65 rfl ?_
      obtain ⟨u10, eu10, h⟩ := h
      refine g_top1 eu10 ?_
      have hk11 := h.1
      refine gX_ni hX (gX_runV (As := [va_rf (some q7)]) (rest := []) (Cr := RX0) hC hX (mx_X0_found (cx_l C) E _ _ _ _ h.2) (lw_V q361 q363 qs2 q70 q364) hx_X0_found rfl rfl (Or.inl (Nat.le_of_ble_eq_true rfl)) ⟨Nat.le_of_ble_eq_true rfl, Nat.le_of_ble_eq_true rfl⟩ dX0_sheet_67 (Nat.zero_le _) (Nat.zero_le _) hk11 rfl (by decide) rfl) rfl rfl ?_
      intro r13 S12 h
      refine gX_iret rfl hC hA hQ dX0_sheet_70 h
    intro S14 h
    refine g_aload_nR hC dX0_sheet_41 rfl ?_
    obtain ⟨u16, eu16, h⟩ := h
    refine g_top0 eu16 ?_
    have hk17 := h.1
    refine gX_get (C0 := RX0) (T := TX0) (N := 15) (n := 0) (k := 0) (q := (0, true)) hC hX dX0_sheet_42 q208 rfl in_X0 (by decide) (Or.inl rfl) rfl (by decide) hk17 ?_
    show GX _ _ _ _ _ _ _ (va_rf (xFR S14 0 u16) :: _)
    refine g_iload_n hC dX0_sheet_45 rfl ?_
    refine gX_new (C0 := RX5) (T := TX5) (ty0 := tyX5) (N := 2) (n := 4) hC hX dX0_sheet_46 q117 q343 q80 rfl in_X5 tyX5_ok (by decide) dv_X5 h.2.1 h.2.2.1 ?_
    intro q18 hq19
    have h := h.2.2.2 q18 hq19
    have hk20 := kd_new (q := q18) (n := 4) hk17 hq19
    have hk21 : xKD (sNew S14 q18 4) q18 = some 4 := kd_self
    refine g_dup hC dX0_sheet_49 (va_rf_cat _) ?_
    refine g_iload_n hC dX0_sheet_50 rfl ?_
    refine g_iload_n hC dX0_sheet_51 rfl ?_
    obtain ⟨k22, n23, hk22, hn23, h⟩ := h
    refine gX_cv hX (gX_runI (As := [.int a2, .int a3]) (rest := [va_rf (some q18), .int a1, va_rf (xFR S14 0 u16)]) hC hX (mx_X5_init (cx_l C) E k22 n23 _ _ _ _ _ h) q346 q80 q344 q345 rfl hx_X5_init.2 rfl rfl (Or.inl (Nat.le_of_ble_eq_true rfl)) ⟨Nat.le_of_ble_eq_true rfl, Nat.le_of_ble_eq_true rfl⟩ dX0_sheet_52 hk22 hn23) hk22 hn23 ?_
    intro S24 h
    obtain ⟨u26, eu26, h⟩ := h
    refine g_top2 eu26 ?_
    have hk27 := h.1
    have hk28 := h.2.2.2.1
    refine gX_aast (n := 105) (nv := 4) hC hX dX0_sheet_55 (by decide) hk27 h.2.1 h.2.2.1 hk28 rfl (by decide) rfl ?_
    refine g_aload_nR hC dX0_sheet_56 rfl ?_
    refine g_iload_n hC dX0_sheet_57 rfl ?_
    refine g_top1 eu16 ?_
    have hk29 := h.2.2.2.2.1
    refine gX_ni hX (gX_runV (As := [.int a3]) (rest := []) (Cr := RX0) hC hX (mx_X0_well (cx_l C) E _ _ _ _ h.2.2.2.2.2) (lw_V q357 q359 qs1 q70 q360) hx_X0_well rfl rfl (Or.inl (Nat.le_of_ble_eq_true rfl)) ⟨Nat.le_of_ble_eq_true rfl, Nat.le_of_ble_eq_true rfl⟩ dX0_sheet_58 (Nat.zero_le _) (Nat.zero_le _) hk29 rfl (by decide) rfl) rfl rfl ?_
    intro r31 S30 h
    refine gX_iret rfl hC hA hQ dX0_sheet_61 h
  refine g_iload_n hC dX0_sheet_0 rfl ?_
  refine gX_ni hX (gX_runS (As := [.int x1]) (rest := []) hC hX (mx_X0_isSheet (cx_l C) E _ _ _ h) (lw_S q265 q266 q70 q267) hx_X0_isSheet.2 rfl rfl (Or.inl (Nat.le_of_ble_eq_true rfl)) ⟨Nat.le_of_ble_eq_true rfl, Nat.le_of_ble_eq_true rfl⟩ dX0_sheet_1 (Nat.zero_le _) (Nat.zero_le _)) rfl rfl ?_
  intro r2 S1 h
  refine g_if_eq (tgt := 25) hC dX0_sheet_4 (by decide) (fun c => ?_) (fun c => ?_)
  · have h := it_p c h
    refine g_ldc (v := -1000001) hC dX0_sheet_25 q273 ?_
    refine gX_iret rfl hC hA hQ dX0_sheet_27 h
  · have h := it_n c h
    refine g_iload_n hC dX0_sheet_7 rfl ?_
    refine g_i2l hC dX0_sheet_8 ?_
    refine g_lconst (v := 0) hC dX0_sheet_9 (by decide) ?_
    refine g_ldc2 (v := 2) hC dX0_sheet_10 q272 ?_
    refine gX_ni hX (gX_runS (As := [.long (Int32.toInt64 x2), .long (0 : Int64), .long (2 : Int64)]) (rest := []) hC hX (mx_X0_isIn (cx_l C) E _ _ _ _ _ h) (lw_S q269 q270 q70 q271) hx_X0_isIn.2 rfl rfl (Or.inl (Nat.le_of_ble_eq_true rfl)) ⟨Nat.le_of_ble_eq_true rfl, Nat.le_of_ble_eq_true rfl⟩ dX0_sheet_13 (Nat.zero_le _) (Nat.zero_le _)) rfl rfl ?_
    intro r4 S3 h
    refine g_if_eq (tgt := 25) hC dX0_sheet_16 (by decide) (fun c => ?_) (fun c => ?_)
    · have h := it_p c h
      refine g_ldc (v := -1000001) hC dX0_sheet_25 q273 ?_
      refine gX_iret rfl hC hA hQ dX0_sheet_27 h
    · have h := it_n c h
      refine g_iload_n hC dX0_sheet_19 rfl ?_
      refine g_bipush (v := 60) hC dX0_sheet_20 (by decide) ?_
      refine g_icmp_le (tgt := 28) hC dX0_sheet_22 (by decide) (fun c => ?_) (fun c => ?_)
      · have h := it_p c h
        refine g_iload_n hC dX0_sheet_28 rfl ?_
        refine g_if_lt (tgt := 36) hC dX0_sheet_29 (by decide) (fun c => ?_) (fun c => ?_)
        · have h := it_p c h
          refine g_iconst (v := 0) hC dX0_sheet_36 (by decide) ?_
          exact s_37 mc ms S3 x0 x1 x2 x3 (0 : Int32) h
        · have h := it_n c h
          refine g_iconst (v := 1) hC dX0_sheet_32 (by decide) ?_
          refine g_goto (tgt := 37) hC dX0_sheet_33 (by decide) ?_
          exact s_37 mc ms S3 x0 x1 x2 x3 (1 : Int32) h
      · have h := it_n c h
        refine g_ldc (v := -1000001) hC dX0_sheet_25 q273 ?_
        refine gX_iret rfl hC hA hQ dX0_sheet_27 h
theorem mx_X0_sheet (l : Launch) (E : XE) (mc ms : Nat) (Q : Int32 → XS → Prop) (S : XS) (x0 : Option Nat) (x1 : Int32) (x2 : Int32) (x3 : Int32) (h : wx_X0_sheet Q mc ms S x0 x1 x2 x3) : XMetW E l yX0_sheet cX0_sheet 5 (some .int) [(28, 61, 62, 130)] ({ frames := 5, cells := mc, slots := ms, locals := 124 } : Room) [va_rf x0, .int x1, .int x2, .int x3] S (fun sz => va_Qi Q (BX1 E S sz) (xA S sz)) :=
  XMetW_of (rm := ({ frames := 5, cells := mc, slots := ms, locals := 124 } : Room)) (by decide) (by simp [lg_sl, va_rf_cat, cat_i, cat_l]) (L0 := [some (va_rf x0), some (.int x1), some (.int x2), some (.int x3), none]) (by simp [lx_pairs, lv_args, va_rf_cat, cat_i, cat_l, List.range_succ]) (fun sz C hC hX hl hnm hT hA hQ => bx_X0_sheet E C S sz Q mc ms S x0 x1 x2 x3 hC hX hT hA hQ h)
/-! X0_sheetAt -/
def wx_X0_sheetAt_14 (Q : Option Nat → XS → Prop) (X : Nat → XS → Prop) (mc ms : Nat) (S : XS) (a0 : Option Nat) (a1 : Int32) (s0 : Int32) : Prop :=
  (∃ k5 n6, k5 ≤ mc ∧ n6 ≤ ms ∧ wx_X0_must (fun S10 => dr a0 (fun u12 => xKD S10 u12 = some 0 ∧ dr (xFR S10 0 u12) (fun u14 => xKD S10 u14 = some 105 ∧ vp_in a1 (xLN S10 u14) ∧ Q (xAR S10 u14 (Int32.toNatClampNeg a1)) S10))) (fun q7 S8 => X q7 S8) k5 n6 S s0 (1 : Int32))
def wx_X0_sheetAt (Q : Option Nat → XS → Prop) (X : Nat → XS → Prop) (mc ms : Nat) (S : XS) (x0 : Option Nat) (x1 : Int32) : Prop :=
  dr x0 (fun u1 => xKD S u1 = some 0 ∧ dr (xFR S 0 u1) (fun u3 => xKD S u3 = some 105 ∧ vp_in x1 (xLN S u3) ∧ (if (xAR S u3 (Int32.toNatClampNeg x1)) = none then wx_X0_sheetAt_14 Q X mc ms S x0 x1 (0 : Int32) else wx_X0_sheetAt_14 Q X mc ms S x0 x1 (1 : Int32))))
theorem hx_X0_sheetAt : yX0_sheetAt.cls = RX0 ∧ yX0_sheetAt.cls ≠ "java/lang/invoke/MethodHandle" ∧ yX0_sheetAt.cls ≠ "java/lang/invoke/VarHandle" ∧ (parseMethodDescriptor yX0_sheetAt.desc).map (fun d => d.parameters.length) = some 1 := by decide +kernel
set_option maxHeartbeats 4000000 in
set_option maxRecDepth 100000 in
theorem bx_X0_sheetAt (E : XE) (C : Cx) (S0 : XS) (sz : Nat) (Q : Option Nat → XS → Prop) (X : Nat → XS → Prop) (mc ms : Nat) (S : XS) (x0 : Option Nat) (x1 : Int32) (hC : COk C cX0_sheetAt RX0 (some (.object "VillageHalls$Sheet")) 5 124 2) (hX : XOk E C) (hT : ∀ x ∈ (cx_c C).exceptionTable.toList, False) (hA : cx_A C = xA S0 sz) (hQ : cx_Q C = vx_MQ (cx_b C) (va_Qq Q (BX1 E S0 sz) (xA S0 sz)) (XC0 E S0 sz RX4 3 X) (cx_a C) (cx_s C) (cx_MC C) (cx_MS C) (xA S0 sz)) (h : wx_X0_sheetAt Q X mc ms S x0 x1) : GX E C S mc ms 0 [some (va_rf x0), some (.int x1)] [] := by
  have s_14 : ∀ (mc ms : Nat) (S : XS) (a0 : Option Nat) (a1 : Int32) (s0 : Int32), wx_X0_sheetAt_14 Q X  mc ms S a0 a1 s0 → GX E C S mc ms 14 [some (va_rf a0), some (.int a1)] [.int s0] := by
    intro  mc ms S a0 a1 s0 h
    refine g_iconst (v := 1) hC dX0_sheetAt_14 (by decide) ?_
    obtain ⟨k5, n6, hk5, hn6, h⟩ := h
    refine gX_xv hX (gX_xrunS (As := [.int s0, .int (1 : Int32)]) (rest := []) hC hX (mx_X0_must (cx_l C) E k5 n6 _ _ _ _ _ h) (lw_S q274 q275 q70 q276) hx_X0_must.2 rfl rfl (Or.inl (Nat.le_of_ble_eq_true rfl)) ⟨Nat.le_of_ble_eq_true rfl, Nat.le_of_ble_eq_true rfl⟩ dX0_sheetAt_15 hk5 hn6) hk5 hn6 (fun q7 S8 h hk9 => ?_) ?_
    · exact gT_out (r := (RX4, TX4, 7)) hC hX hT hA hQ hk9 rfl (by decide) h
    intro S10 h
    refine g_aload_nR hC dX0_sheetAt_18 rfl ?_
    obtain ⟨u12, eu12, h⟩ := h
    refine g_top0 eu12 ?_
    have hk13 := h.1
    refine gX_get (C0 := RX0) (T := TX0) (N := 15) (n := 0) (k := 0) (q := (0, true)) hC hX dX0_sheetAt_19 q208 rfl in_X0 (by decide) (Or.inl rfl) rfl (by decide) hk13 ?_
    show GX _ _ _ _ _ _ _ (va_rf (xFR S10 0 u12) :: _)
    refine g_iload_n hC dX0_sheetAt_22 rfl ?_
    obtain ⟨u14, eu14, h⟩ := h.2
    refine g_top1 eu14 ?_
    have hk15 := h.1
    refine gX_aald (n := 105) hC hX dX0_sheetAt_23 (by decide) hk15 h.2.1 ?_
    refine gX_end hQ (gX_aret (C := cx_to C _) hC hA rfl rfl (Or.inl ⟨_, rfl⟩) dX0_sheetAt_24 h.2.2)
  refine g_aload_nR hC dX0_sheetAt_0 rfl ?_
  obtain ⟨u1, eu1, h⟩ := h
  refine g_top0 eu1 ?_
  have hk2 := h.1
  refine gX_get (C0 := RX0) (T := TX0) (N := 15) (n := 0) (k := 0) (q := (0, true)) hC hX dX0_sheetAt_1 q208 rfl in_X0 (by decide) (Or.inl rfl) rfl (by decide) hk2 ?_
  show GX _ _ _ _ _ _ _ (va_rf (xFR S 0 u1) :: _)
  refine g_iload_n hC dX0_sheetAt_4 rfl ?_
  obtain ⟨u3, eu3, h⟩ := h.2
  refine g_top1 eu3 ?_
  have hk4 := h.1
  refine gX_aald (n := 105) hC hX dX0_sheetAt_5 (by decide) hk4 h.2.1 ?_
  refine g_ifnullR (tgt := 13) hC dX0_sheetAt_6 (by decide) (fun c => ?_) (fun c => ?_)
  · have h := it_p c h.2.2
    refine g_iconst (v := 0) hC dX0_sheetAt_13 (by decide) ?_
    exact s_14 mc ms S x0 x1 (0 : Int32) h
  · have h := it_n c h.2.2
    refine g_iconst (v := 1) hC dX0_sheetAt_9 (by decide) ?_
    refine g_goto (tgt := 14) hC dX0_sheetAt_10 (by decide) ?_
    exact s_14 mc ms S x0 x1 (1 : Int32) h
theorem mx_X0_sheetAt (l : Launch) (E : XE) (mc ms : Nat) (Q : Option Nat → XS → Prop) (X : Nat → XS → Prop) (S : XS) (x0 : Option Nat) (x1 : Int32) (h : wx_X0_sheetAt Q X mc ms S x0 x1) : XMetX E l yX0_sheetAt cX0_sheetAt 2 (some (.object "VillageHalls$Sheet")) ({ frames := 5, cells := mc, slots := ms, locals := 124 } : Room) [va_rf x0, .int x1] S (fun sz => va_Qq Q (BX1 E S sz) (xA S sz)) RX4 3 X :=
  XMetX_of (rm := ({ frames := 5, cells := mc, slots := ms, locals := 124 } : Room)) (by decide) (by simp [lg_sl, va_rf_cat, cat_i, cat_l]) (L0 := [some (va_rf x0), some (.int x1)]) (by simp [lx_pairs, lv_args, va_rf_cat, cat_i, cat_l, List.range_succ]) (fun sz C hC hX hl hnm hT hA hQ => bx_X0_sheetAt E C S sz Q X mc ms S x0 x1 hC hX hT hA hQ h)
/-! X5_cut -/
def wx_X5_cut (Q : Int32 → XS → Prop) (S : XS) (x0 : Option Nat) (x1 : Int32) : Prop :=
  dr x0 (fun u1 => xKD S u1 = some 4 ∧ (if (xFI S 400 u1) = 0 then Q (Int8.toInt32 (Int32.toInt8 x1)) S else (if (xFI S 400 u1) = (1 : Int32) then Q (Int16.toInt32 (Int32.toInt16 x1)) S else Q x1 S)))
theorem hx_X5_cut : yX5_cut.cls = RX5 ∧ yX5_cut.cls ≠ "java/lang/invoke/MethodHandle" ∧ yX5_cut.cls ≠ "java/lang/invoke/VarHandle" ∧ (parseMethodDescriptor yX5_cut.desc).map (fun d => d.parameters.length) = some 1 := by decide +kernel
set_option maxHeartbeats 4000000 in
set_option maxRecDepth 100000 in
theorem bx_X5_cut (E : XE) (C : Cx) (S0 : XS) (sz : Nat) (Q : Int32 → XS → Prop) (S : XS) (x0 : Option Nat) (x1 : Int32) (hC : COk C cX5_cut RX5 (some .int) 1 34 2) (hX : XOk E C) (hA : cx_A C = xA S0 sz) (hQ : cx_Q C = MQ (cx_b C) (va_Qi Q (BX1 E S0 sz) (xA S0 sz)) (cx_a C) (cx_s C) (cx_MC C) (cx_MS C) (xA S0 sz)) (h : wx_X5_cut Q S x0 x1) : GX E C S 0 0 0 [some (va_rf x0), some (.int x1)] [] := by
  refine g_aload_nR hC dX5_cut_0 rfl ?_
  obtain ⟨u1, eu1, h⟩ := h
  refine g_top0 eu1 ?_
  have hk2 := h.1
  refine gX_get (C0 := RX5) (T := TX5) (N := 2) (n := 4) (k := 0) (q := (400, false)) hC hX dX5_cut_1 q348 rfl in_X5 (by decide) (Or.inl rfl) rfl (by decide) hk2 ?_
  show GX _ _ _ _ _ _ _ (.int (xFI S 400 u1) :: _)
  refine g_if_ne (tgt := 12) hC dX5_cut_4 (by decide) (fun c => ?_) (fun c => ?_)
  · have h := it_n c h.2
    refine g_aload_nR hC dX5_cut_12 rfl ?_
    refine g_top0 eu1 ?_
    refine gX_get (C0 := RX5) (T := TX5) (N := 2) (n := 4) (k := 0) (q := (400, false)) hC hX dX5_cut_13 q348 rfl in_X5 (by decide) (Or.inl rfl) rfl (by decide) hk2 ?_
    show GX _ _ _ _ _ _ _ (.int (xFI S 400 u1) :: _)
    refine g_iconst (v := 1) hC dX5_cut_16 (by decide) ?_
    refine g_icmp_ne (tgt := 25) hC dX5_cut_17 (by decide) (fun c => ?_) (fun c => ?_)
    · have h := it_n c h
      refine g_iload_n hC dX5_cut_25 rfl ?_
      refine gX_iret rfl hC hA hQ dX5_cut_26 h
    · have h := it_p c h
      refine g_iload_n hC dX5_cut_20 rfl ?_
      refine g_i2s hC dX5_cut_21 ?_
      refine g_goto (tgt := 26) hC dX5_cut_22 (by decide) ?_
      refine gX_iret rfl hC hA hQ dX5_cut_26 h
  · have h := it_p c h.2
    refine g_iload_n hC dX5_cut_7 rfl ?_
    refine g_i2b hC dX5_cut_8 ?_
    refine g_goto (tgt := 26) hC dX5_cut_9 (by decide) ?_
    refine gX_iret rfl hC hA hQ dX5_cut_26 h
theorem mx_X5_cut (l : Launch) (E : XE) (Q : Int32 → XS → Prop) (S : XS) (x0 : Option Nat) (x1 : Int32) (h : wx_X5_cut Q S x0 x1) : XMet E l yX5_cut cX5_cut 2 (some .int) ({ frames := 1, cells := 0, slots := 0, locals := 34 } : Room) [va_rf x0, .int x1] S (fun sz => va_Qi Q (BX1 E S sz) (xA S sz)) :=
  XMet_of (rm := ({ frames := 1, cells := 0, slots := 0, locals := 34 } : Room)) (by decide) (by simp [lg_sl, va_rf_cat, cat_i, cat_l]) (L0 := [some (va_rf x0), some (.int x1)]) (by simp [lx_pairs, lv_args, va_rf_cat, cat_i, cat_l, List.range_succ]) (fun sz C hC hX hl hnm hA hQ => bx_X5_cut E C S sz Q S x0 x1 hC hX hA hQ h)
/-! X0_set -/
def wx_X0_set_61 (Q : Int32 → XS → Prop) (mc ms : Nat) (S : XS) (a0 : Option Nat) (s0 : Option Nat) : Prop :=
  dr a0 (fun u10 => xKD S u10 = some 0 ∧ wx_X0_found (fun r13 S12 => Q r13 S12) S (some u10) s0)
def wx_X0_set (Q : Int32 → XS → Prop) (mc ms : Nat) (S : XS) (x0 : Option Nat) (x1 : Int32) (x2 : Int32) (x3 : Int32) : Prop :=
  wx_X0_isSheet (fun r2 S1 => (if r2 = 0 then Q (-1000001 : Int32) S1 else dr x0 (fun u3 => xKD S1 u3 = some 0 ∧ (∃ k5 n6, k5 ≤ mc ∧ n6 ≤ ms ∧ wx_X0_sheetAt (fun r15 S14 => dr r15 (fun u16 => xKD S14 u16 = some 4 ∧ dr (xFR S14 401 u16) (fun u18 => xKD S14 u18 = some 100 ∧ wx_X0_isIn (fun r21 S20 => (∃ k22 n23, k22 ≤ (mc - k5) ∧ n23 ≤ (ms - n6) ∧ wx_X0_must (fun S27 => xKD S27 u16 = some 4 ∧ wx_X5_cut (fun r31 S30 => dr (xFR S27 401 u16) (fun u32 => xKD S30 u32 = some 100 ∧ vp_in x2 (xLN S30 u32) ∧ xKD (sAI S30 u32 (Int32.toNatClampNeg x2) r31) u16 = some 4 ∧ dr (xFR (sAI S30 u32 (Int32.toNatClampNeg x2) r31) 401 u16) (fun u35 => xKD (sAI S30 u32 (Int32.toNatClampNeg x2) r31) u35 = some 100 ∧ vp_in x2 (xLN (sAI S30 u32 (Int32.toNatClampNeg x2) r31) u35) ∧ xKD (sAI S30 u32 (Int32.toNatClampNeg x2) r31) u3 = some 0 ∧ wx_X0_well (fun r39 S38 => Q r39 S38) (sAI S30 u32 (Int32.toNatClampNeg x2) r31) (some u3) (xAI (sAI S30 u32 (Int32.toNatClampNeg x2) r31) u35 (Int32.toNatClampNeg x2))))) S27 (some u16) x3) (fun q24 S25 => wx_X0_set_61 Q ((mc - k5) - k22) ((ms - n6) - n23) S25 x0 (some q24)) k22 n23 S20 r21 (2 : Int32))) S14 (Int32.toInt64 x2) (0 : Int64) (Int32.toInt64 ((Int32.ofNat (xLN S14 u18)) - (1 : Int32)))))) (fun q7 S8 => wx_X0_set_61 Q (mc - k5) (ms - n6) S8 x0 (some q7)) k5 n6 S1 (some u3) x1)))) S x1
theorem hx_X0_set : yX0_set.cls = RX0 ∧ yX0_set.cls ≠ "java/lang/invoke/MethodHandle" ∧ yX0_set.cls ≠ "java/lang/invoke/VarHandle" ∧ (parseMethodDescriptor yX0_set.desc).map (fun d => d.parameters.length) = some 3 := by decide +kernel
set_option maxHeartbeats 4000000 in
set_option maxRecDepth 100000 in
theorem bx_X0_set (E : XE) (C : Cx) (S0 : XS) (sz : Nat) (Q : Int32 → XS → Prop) (mc ms : Nat) (S : XS) (x0 : Option Nat) (x1 : Int32) (x2 : Int32) (x3 : Int32) (hC : COk C cX0_set RX0 (some .int) 6 145 5) (hX : XOk E C) (hT : (cx_c C).exceptionTable.toList = tableOf [(10, 60, 61, 130)]) (hA : cx_A C = xA S0 sz) (hQ : cx_Q C = MQ (cx_b C) (va_Qi Q (BX1 E S0 sz) (xA S0 sz)) (cx_a C) (cx_s C) (cx_MC C) (cx_MS C) (xA S0 sz)) (h : wx_X0_set Q mc ms S x0 x1 x2 x3) : GX E C S mc ms 0 [some (va_rf x0), some (.int x1), some (.int x2), some (.int x3), none] [] := by
  have s_61 : ∀ (mc ms : Nat) (S : XS) (a0 : Option Nat) (s0 : Option Nat), wx_X0_set_61 Q  mc ms S a0 s0 → GX E C S mc ms 61 [some (va_rf a0), none, none, none, none] [va_rf s0] := by
    intro  mc ms S a0 s0 h
    refine g_astoreR hC dX0_set_61 (by decide) rfl rfl ?_
    refine g_aload_nR hC dX0_set_63 rfl ?_
    refine g_aloadR hC dX0_set_64 rfl ?_
    obtain ⟨u10, eu10, h⟩ := h
    refine g_top1 eu10 ?_
    have hk11 := h.1
    refine gX_ni hX (gX_runV (As := [va_rf s0]) (rest := []) (Cr := RX0) hC hX (mx_X0_found (cx_l C) E _ _ _ _ h.2) (lw_V q361 q363 qs2 q70 q364) hx_X0_found rfl rfl (Or.inl (Nat.le_of_ble_eq_true rfl)) ⟨Nat.le_of_ble_eq_true rfl, Nat.le_of_ble_eq_true rfl⟩ dX0_set_66 (Nat.zero_le _) (Nat.zero_le _) hk11 rfl (by decide) rfl) rfl rfl ?_
    intro r13 S12 h
    refine gX_iret rfl hC hA hQ dX0_set_69 h
  refine g_iload_n hC dX0_set_0 rfl ?_
  refine gX_ni hX (gX_runS (As := [.int x1]) (rest := []) hC hX (mx_X0_isSheet (cx_l C) E _ _ _ h) (lw_S q265 q266 q70 q267) hx_X0_isSheet.2 rfl rfl (Or.inl (Nat.le_of_ble_eq_true rfl)) ⟨Nat.le_of_ble_eq_true rfl, Nat.le_of_ble_eq_true rfl⟩ dX0_set_1 (Nat.zero_le _) (Nat.zero_le _)) rfl rfl ?_
  intro r2 S1 h
  refine g_if_ne (tgt := 10) hC dX0_set_4 (by decide) (fun c => ?_) (fun c => ?_)
  · have h := it_n c h
    refine g_aload_nR hC dX0_set_10 rfl ?_
    refine g_iload_n hC dX0_set_11 rfl ?_
    obtain ⟨u3, eu3, h⟩ := h
    refine g_top1 eu3 ?_
    have hk4 := h.1
    obtain ⟨k5, n6, hk5, hn6, h⟩ := h.2
    refine gX_xq hX (gX_xrunV (As := [.int x1]) (rest := []) (Cr := RX0) hC hX (mx_X0_sheetAt (cx_l C) E k5 n6 _ _ _ _ _ h) (lw_V q370 q372 qs3 q70 q373) hx_X0_sheetAt rfl rfl (Or.inl (Nat.le_of_ble_eq_true rfl)) ⟨Nat.le_of_ble_eq_true rfl, Nat.le_of_ble_eq_true rfl⟩ dX0_set_12 hk5 hn6 hk4 rfl (by decide) rfl) hk5 hn6 (fun q7 S8 h hk9 => ?_) ?_
    · refine gT_catch (r := (RX4, TX4, 7)) (name := "VillageHalls$Finding") hC hX hT [] (10, 60, 61, 130) [] rfl (by decide) (by decide) (by decide) q264 q278 hk9 rfl (by decide) ?_
      refine g_sub [true, false, false, false, false] rfl ?_
      exact s_61 (mc - k5) (ms - n6) S8 x0 (some q7) h
    intro r15 S14 h
    refine g_astoreR hC dX0_set_15 (by decide) rfl rfl ?_
    refine g_sub [true, false, true, true, true] rfl ?_
    refine g_iload_n hC dX0_set_17 rfl ?_
    refine g_i2l hC dX0_set_18 ?_
    refine g_lconst (v := 0) hC dX0_set_19 (by decide) ?_
    refine g_aloadR hC dX0_set_20 rfl ?_
    obtain ⟨u16, eu16, h⟩ := h
    refine g_top0 eu16 ?_
    have hk17 := h.1
    refine gX_get (C0 := RX5) (T := TX5) (N := 2) (n := 4) (k := 1) (q := (401, true)) hC hX dX0_set_22 q351 rfl in_X5 (by decide) (Or.inl rfl) rfl (by decide) hk17 ?_
    show GX _ _ _ _ _ _ _ (va_rf (xFR S14 401 u16) :: _)
    obtain ⟨u18, eu18, h⟩ := h.2
    refine g_top0 eu18 ?_
    have hk19 := h.1
    refine gX_alen (n := 100) hC hX dX0_set_25 (by decide) hk19 ?_
    refine g_iconst (v := 1) hC dX0_set_26 (by decide) ?_
    refine g_isub hC dX0_set_27 ?_
    refine g_i2l hC dX0_set_28 ?_
    refine gX_ni hX (gX_runS (As := [.long (Int32.toInt64 x2), .long (0 : Int64), .long (Int32.toInt64 ((Int32.ofNat (xLN S14 u18)) - (1 : Int32)))]) (rest := []) hC hX (mx_X0_isIn (cx_l C) E _ _ _ _ _ h.2) (lw_S q269 q270 q70 q271) hx_X0_isIn.2 rfl rfl (Or.inl (Nat.le_of_ble_eq_true rfl)) ⟨Nat.le_of_ble_eq_true rfl, Nat.le_of_ble_eq_true rfl⟩ dX0_set_29 (Nat.zero_le _) (Nat.zero_le _)) rfl rfl ?_
    intro r21 S20 h
    refine g_iconst (v := 2) hC dX0_set_32 (by decide) ?_
    obtain ⟨k22, n23, hk22, hn23, h⟩ := h
    refine gX_xv hX (gX_xrunS (As := [.int r21, .int (2 : Int32)]) (rest := []) hC hX (mx_X0_must (cx_l C) E k22 n23 _ _ _ _ _ h) (lw_S q274 q275 q70 q276) hx_X0_must.2 rfl rfl (Or.inl (Nat.le_of_ble_eq_true rfl)) ⟨Nat.le_of_ble_eq_true rfl, Nat.le_of_ble_eq_true rfl⟩ dX0_set_33 hk22 hn23) hk22 hn23 (fun q24 S25 h hk26 => ?_) ?_
    · refine gT_catch (r := (RX4, TX4, 7)) (name := "VillageHalls$Finding") hC hX hT [] (10, 60, 61, 130) [] rfl (by decide) (by decide) (by decide) q264 q278 hk26 rfl (by decide) ?_
      refine g_sub [true, false, false, false, false] rfl ?_
      exact s_61 ((mc - k5) - k22) ((ms - n6) - n23) S25 x0 (some q24) h
    intro S27 h
    refine g_aloadR hC dX0_set_36 rfl ?_
    refine g_top0 eu16 ?_
    have hk29 := h.1
    refine gX_get (C0 := RX5) (T := TX5) (N := 2) (n := 4) (k := 1) (q := (401, true)) hC hX dX0_set_38 q351 rfl in_X5 (by decide) (Or.inl rfl) rfl (by decide) hk29 ?_
    show GX _ _ _ _ _ _ _ (va_rf (xFR S27 401 u16) :: _)
    refine g_iload_n hC dX0_set_41 rfl ?_
    refine g_aloadR hC dX0_set_42 rfl ?_
    refine g_iload_n hC dX0_set_44 rfl ?_
    refine g_top1 eu16 ?_
    refine gX_ni hX (gX_runV (As := [.int x3]) (rest := [.int x2, va_rf (xFR S27 401 u16)]) (Cr := RX5) hC hX (mx_X5_cut (cx_l C) E _ _ _ _ h.2) (lw_V q374 q375 q376 q80 q377) hx_X5_cut rfl rfl (Or.inl (Nat.le_of_ble_eq_true rfl)) ⟨Nat.le_of_ble_eq_true rfl, Nat.le_of_ble_eq_true rfl⟩ dX0_set_45 (Nat.zero_le _) (Nat.zero_le _) hk29 rfl (by decide) rfl) rfl rfl ?_
    intro r31 S30 h
    obtain ⟨u32, eu32, h⟩ := h
    refine g_top2 eu32 ?_
    have hk33 := h.1
    refine gX_iast hC hX dX0_set_48 hk33 h.2.1 ?_
    refine g_aload_nR hC dX0_set_49 rfl ?_
    refine g_aloadR hC dX0_set_50 rfl ?_
    refine g_top0 eu16 ?_
    have hk34 := h.2.2.1
    refine gX_get (C0 := RX5) (T := TX5) (N := 2) (n := 4) (k := 1) (q := (401, true)) hC hX dX0_set_52 q351 rfl in_X5 (by decide) (Or.inl rfl) rfl (by decide) hk34 ?_
    show GX _ _ _ _ _ _ _ (va_rf (xFR (sAI S30 u32 (Int32.toNatClampNeg x2) r31) 401 u16) :: _)
    refine g_iload_n hC dX0_set_55 rfl ?_
    obtain ⟨u35, eu35, h⟩ := h.2.2.2
    refine g_top1 eu35 ?_
    have hk36 := h.1
    refine gX_iald hC hX dX0_set_56 hk36 h.2.1 ?_
    refine g_top1 eu3 ?_
    have hk37 := h.2.2.1
    refine gX_ni hX (gX_runV (As := [.int (xAI (sAI S30 u32 (Int32.toNatClampNeg x2) r31) u35 (Int32.toNatClampNeg x2))]) (rest := []) (Cr := RX0) hC hX (mx_X0_well (cx_l C) E _ _ _ _ h.2.2.2) (lw_V q357 q359 qs1 q70 q360) hx_X0_well rfl rfl (Or.inl (Nat.le_of_ble_eq_true rfl)) ⟨Nat.le_of_ble_eq_true rfl, Nat.le_of_ble_eq_true rfl⟩ dX0_set_57 (Nat.zero_le _) (Nat.zero_le _) hk37 rfl (by decide) rfl) rfl rfl ?_
    intro r39 S38 h
    refine gX_iret rfl hC hA hQ dX0_set_60 h
  · have h := it_p c h
    refine g_ldc (v := -1000001) hC dX0_set_7 q273 ?_
    refine gX_iret rfl hC hA hQ dX0_set_9 h
theorem mx_X0_set (l : Launch) (E : XE) (mc ms : Nat) (Q : Int32 → XS → Prop) (S : XS) (x0 : Option Nat) (x1 : Int32) (x2 : Int32) (x3 : Int32) (h : wx_X0_set Q mc ms S x0 x1 x2 x3) : XMetW E l yX0_set cX0_set 5 (some .int) [(10, 60, 61, 130)] ({ frames := 6, cells := mc, slots := ms, locals := 145 } : Room) [va_rf x0, .int x1, .int x2, .int x3] S (fun sz => va_Qi Q (BX1 E S sz) (xA S sz)) :=
  XMetW_of (rm := ({ frames := 6, cells := mc, slots := ms, locals := 145 } : Room)) (by decide) (by simp [lg_sl, va_rf_cat, cat_i, cat_l]) (L0 := [some (va_rf x0), some (.int x1), some (.int x2), some (.int x3), none]) (by simp [lx_pairs, lv_args, va_rf_cat, cat_i, cat_l, List.range_succ]) (fun sz C hC hX hl hnm hT hA hQ => bx_X0_set E C S sz Q mc ms S x0 x1 x2 x3 hC hX hT hA hQ h)
/-! X0_drop -/
def wx_X0_drop (Q : Int32 → XS → Prop) (mc ms : Nat) (S : XS) (x0 : Option Nat) (x1 : Int32) : Prop :=
  wx_X0_isSheet (fun r2 S1 => (if r2 = 0 then Q (-1000001 : Int32) S1 else dr x0 (fun u3 => xKD S1 u3 = some 0 ∧ (∃ k5 n6, k5 ≤ mc ∧ n6 ≤ ms ∧ wx_X0_sheetAt (fun r14 S13 => dr r14 (fun u15 => xKD S13 u15 = some 4 ∧ dr (xFR S13 401 u15) (fun u17 => xKD S13 u17 = some 100 ∧ xKD S13 u3 = some 0 ∧ dr (xFR S13 0 u3) (fun u20 => xKD S13 u20 = some 105 ∧ xRO S13 u20 = false ∧ vp_in x1 (xLN S13 u20) ∧ wx_X0_well (fun r23 S22 => Q r23 S22) (sAR S13 u20 (Int32.toNatClampNeg x1) none) (some u3) (Int32.ofNat (xLN S13 u17)))))) (fun q7 S8 => xKD S8 u3 = some 0 ∧ wx_X0_found (fun r12 S11 => Q r12 S11) S8 (some u3) (some q7)) k5 n6 S1 (some u3) x1)))) S x1
theorem hx_X0_drop : yX0_drop.cls = RX0 ∧ yX0_drop.cls ≠ "java/lang/invoke/MethodHandle" ∧ yX0_drop.cls ≠ "java/lang/invoke/VarHandle" ∧ (parseMethodDescriptor yX0_drop.desc).map (fun d => d.parameters.length) = some 1 := by decide +kernel
set_option maxHeartbeats 4000000 in
set_option maxRecDepth 100000 in
theorem bx_X0_drop (E : XE) (C : Cx) (S0 : XS) (sz : Nat) (Q : Int32 → XS → Prop) (mc ms : Nat) (S : XS) (x0 : Option Nat) (x1 : Int32) (hC : COk C cX0_drop RX0 (some .int) 6 145 3) (hX : XOk E C) (hT : (cx_c C).exceptionTable.toList = tableOf [(10, 32, 33, 130)]) (hA : cx_A C = xA S0 sz) (hQ : cx_Q C = MQ (cx_b C) (va_Qi Q (BX1 E S0 sz) (xA S0 sz)) (cx_a C) (cx_s C) (cx_MC C) (cx_MS C) (xA S0 sz)) (h : wx_X0_drop Q mc ms S x0 x1) : GX E C S mc ms 0 [some (va_rf x0), some (.int x1), none] [] := by
  refine g_iload_n hC dX0_drop_0 rfl ?_
  refine gX_ni hX (gX_runS (As := [.int x1]) (rest := []) hC hX (mx_X0_isSheet (cx_l C) E _ _ _ h) (lw_S q265 q266 q70 q267) hx_X0_isSheet.2 rfl rfl (Or.inl (Nat.le_of_ble_eq_true rfl)) ⟨Nat.le_of_ble_eq_true rfl, Nat.le_of_ble_eq_true rfl⟩ dX0_drop_1 (Nat.zero_le _) (Nat.zero_le _)) rfl rfl ?_
  intro r2 S1 h
  refine g_if_ne (tgt := 10) hC dX0_drop_4 (by decide) (fun c => ?_) (fun c => ?_)
  · have h := it_n c h
    refine g_aload_nR hC dX0_drop_10 rfl ?_
    refine g_iload_n hC dX0_drop_11 rfl ?_
    obtain ⟨u3, eu3, h⟩ := h
    refine g_top1 eu3 ?_
    have hk4 := h.1
    obtain ⟨k5, n6, hk5, hn6, h⟩ := h.2
    refine gX_xq hX (gX_xrunV (As := [.int x1]) (rest := []) (Cr := RX0) hC hX (mx_X0_sheetAt (cx_l C) E k5 n6 _ _ _ _ _ h) (lw_V q370 q372 qs3 q70 q373) hx_X0_sheetAt rfl rfl (Or.inl (Nat.le_of_ble_eq_true rfl)) ⟨Nat.le_of_ble_eq_true rfl, Nat.le_of_ble_eq_true rfl⟩ dX0_drop_12 hk5 hn6 hk4 rfl (by decide) rfl) hk5 hn6 (fun q7 S8 h hk9 => ?_) ?_
    · refine gT_catch (r := (RX4, TX4, 7)) (name := "VillageHalls$Finding") hC hX hT [] (10, 32, 33, 130) [] rfl (by decide) (by decide) (by decide) q264 q278 hk9 rfl (by decide) ?_
      refine g_astore_nR hC dX0_drop_33 rfl (by decide) rfl rfl ?_
      refine g_sub [true, false, true] rfl ?_
      refine g_aload_nR hC dX0_drop_34 rfl ?_
      refine g_aload_nR hC dX0_drop_35 rfl ?_
      refine g_top1 eu3 ?_
      have hk10 := h.1
      refine gX_ni hX (gX_runV (As := [va_rf (some q7)]) (rest := []) (Cr := RX0) hC hX (mx_X0_found (cx_l C) E _ _ _ _ h.2) (lw_V q361 q363 qs2 q70 q364) hx_X0_found rfl rfl (Or.inl (Nat.le_of_ble_eq_true rfl)) ⟨Nat.le_of_ble_eq_true rfl, Nat.le_of_ble_eq_true rfl⟩ dX0_drop_36 (Nat.zero_le _) (Nat.zero_le _) hk10 rfl (by decide) rfl) rfl rfl ?_
      intro r12 S11 h
      refine gX_iret rfl hC hA hQ dX0_drop_39 h
    intro r14 S13 h
    obtain ⟨u15, eu15, h⟩ := h
    refine g_top0 eu15 ?_
    have hk16 := h.1
    refine gX_get (C0 := RX5) (T := TX5) (N := 2) (n := 4) (k := 1) (q := (401, true)) hC hX dX0_drop_15 q351 rfl in_X5 (by decide) (Or.inl rfl) rfl (by decide) hk16 ?_
    show GX _ _ _ _ _ _ _ (va_rf (xFR S13 401 u15) :: _)
    obtain ⟨u17, eu17, h⟩ := h.2
    refine g_top0 eu17 ?_
    have hk18 := h.1
    refine gX_alen (n := 100) hC hX dX0_drop_18 (by decide) hk18 ?_
    refine g_istore_n hC dX0_drop_19 rfl (by decide) rfl rfl ?_
    refine g_aload_nR hC dX0_drop_20 rfl ?_
    refine g_top0 eu3 ?_
    have hk19 := h.2.1
    refine gX_get (C0 := RX0) (T := TX0) (N := 15) (n := 0) (k := 0) (q := (0, true)) hC hX dX0_drop_21 q208 rfl in_X0 (by decide) (Or.inl rfl) rfl (by decide) hk19 ?_
    show GX _ _ _ _ _ _ _ (va_rf (xFR S13 0 u3) :: _)
    refine g_iload_n hC dX0_drop_24 rfl ?_
    refine g_nullR hC dX0_drop_25 ?_
    obtain ⟨u20, eu20, h⟩ := h.2.2
    refine g_top2 eu20 ?_
    have hk21 := h.1
    refine gX_aastN (n := 105) hC hX dX0_drop_26 (by decide) hk21 h.2.1 h.2.2.1 ?_
    refine g_aload_nR hC dX0_drop_27 rfl ?_
    refine g_iload_n hC dX0_drop_28 rfl ?_
    refine g_top1 eu3 ?_
    refine gX_ni hX (gX_runV (As := [.int (Int32.ofNat (xLN S13 u17))]) (rest := []) (Cr := RX0) hC hX (mx_X0_well (cx_l C) E _ _ _ _ h.2.2.2) (lw_V q357 q359 qs1 q70 q360) hx_X0_well rfl rfl (Or.inl (Nat.le_of_ble_eq_true rfl)) ⟨Nat.le_of_ble_eq_true rfl, Nat.le_of_ble_eq_true rfl⟩ dX0_drop_29 (Nat.zero_le _) (Nat.zero_le _) hk19 rfl (by decide) rfl) rfl rfl ?_
    intro r23 S22 h
    refine gX_iret rfl hC hA hQ dX0_drop_32 h
  · have h := it_p c h
    refine g_ldc (v := -1000001) hC dX0_drop_7 q273 ?_
    refine gX_iret rfl hC hA hQ dX0_drop_9 h
theorem mx_X0_drop (l : Launch) (E : XE) (mc ms : Nat) (Q : Int32 → XS → Prop) (S : XS) (x0 : Option Nat) (x1 : Int32) (h : wx_X0_drop Q mc ms S x0 x1) : XMetW E l yX0_drop cX0_drop 3 (some .int) [(10, 32, 33, 130)] ({ frames := 6, cells := mc, slots := ms, locals := 145 } : Room) [va_rf x0, .int x1] S (fun sz => va_Qi Q (BX1 E S sz) (xA S sz)) :=
  XMetW_of (rm := ({ frames := 6, cells := mc, slots := ms, locals := 145 } : Room)) (by decide) (by simp [lg_sl, va_rf_cat, cat_i, cat_l]) (L0 := [some (va_rf x0), some (.int x1), none]) (by simp [lx_pairs, lv_args, va_rf_cat, cat_i, cat_l, List.range_succ]) (fun sz C hC hX hl hnm hT hA hQ => bx_X0_drop E C S sz Q mc ms S x0 x1 hC hX hT hA hQ h)
/-! X0_feed -/
def wx_X0_feed_35 (Q : Int32 → XS → Prop) : Nat → XS → Option Nat → Int64 → Int32 → Prop
  | 0, _, _, _, _ => False
  | n + 1, S, a0, a1, a4 => (if a4 < 0 then dr a0 (fun u5 => xKD S u5 = some 0 ∧ Q (xFI S 8 u5) S) else dr a0 (fun u7 => xKD S u7 = some 0 ∧ dr (xFR S 7 u7) (fun u9 => xKD (sFI S 8 u7 ((xFI S 8 u7) + (1 : Int32))) u9 = some 101 ∧ xRO (sFI S 8 u7 ((xFI S 8 u7) + (1 : Int32))) u9 = false ∧ vp_in (xFI S 8 u7) (xLN (sFI S 8 u7 ((xFI S 8 u7) + (1 : Int32))) u9) ∧ wx_X0_feed_35 Q n (sAI (sFI S 8 u7 ((xFI S 8 u7) + (1 : Int32))) u9 (Int32.toNatClampNeg (xFI S 8 u7)) (vp_nar .byte (Int8.toInt32 (Int32.toInt8 (Int64.toInt32 (a1 >>> (Int32.toInt64 ((8 : Int32) * a4) &&& 63))))))) a0 a1 (a4 + (-1 : Int32)))))
def wx_X0_feed (Q : Int32 → XS → Prop) (S : XS) (x0 : Option Nat) (x1 : Int64) (x3 : Int32) : Prop :=
  wx_X0_isIn (fun r2 S1 => (if r2 = 0 then Q (-1000001 : Int32) S1 else dr x0 (fun u3 => xKD S1 u3 = some 0 ∧ (if ((xFI S1 8 u3) + x3) ≤ (400 : Int32) then ∃ n11, wx_X0_feed_35 Q n11 S1 x0 x1 (x3 - (1 : Int32)) else Q (-1000003 : Int32) S1)))) S (Int32.toInt64 x3) (1 : Int64) (8 : Int64)
theorem hx_X0_feed : yX0_feed.cls = RX0 ∧ yX0_feed.cls ≠ "java/lang/invoke/MethodHandle" ∧ yX0_feed.cls ≠ "java/lang/invoke/VarHandle" ∧ (parseMethodDescriptor yX0_feed.desc).map (fun d => d.parameters.length) = some 2 := by decide +kernel
set_option maxHeartbeats 4000000 in
set_option maxRecDepth 100000 in
theorem bx_X0_feed (E : XE) (C : Cx) (S0 : XS) (sz : Nat) (Q : Int32 → XS → Prop) (S : XS) (x0 : Option Nat) (x1 : Int64) (x3 : Int32) (hC : COk C cX0_feed RX0 (some .int) 2 59 5) (hX : XOk E C) (hA : cx_A C = xA S0 sz) (hQ : cx_Q C = MQ (cx_b C) (va_Qi Q (BX1 E S0 sz) (xA S0 sz)) (cx_a C) (cx_s C) (cx_MC C) (cx_MS C) (xA S0 sz)) (h : wx_X0_feed Q S x0 x1 x3) : GX E C S 0 0 0 [some (va_rf x0), some (.long x1), none, some (.int x3), none] [] := by
  have s_35 : ∀ (n : Nat) (S : XS) (a0 : Option Nat) (a1 : Int64) (a4 : Int32), wx_X0_feed_35 Q  n S a0 a1 a4 → GX E C S 0 0 35 [some (va_rf a0), some (.long a1), none, none, some (.int a4)] [] := by
    intro  n
    induction n with
    | zero =>
      intro S a0 a1 a4 h
      exact False.elim h
    | succ n ih =>
      intro S a0 a1 a4 h
      refine g_iload hC dX0_feed_35 rfl ?_
      refine g_if_lt (tgt := 71) hC dX0_feed_37 (by decide) (fun c => ?_) (fun c => ?_)
      · have h := it_p c h
        refine g_aload_nR hC dX0_feed_71 rfl ?_
        obtain ⟨u5, eu5, h⟩ := h
        refine g_top0 eu5 ?_
        have hk6 := h.1
        refine gX_get (C0 := RX0) (T := TX0) (N := 15) (n := 0) (k := 8) (q := (8, false)) hC hX dX0_feed_72 q221 rfl in_X0 (by decide) (Or.inl rfl) rfl (by decide) hk6 ?_
        show GX _ _ _ _ _ _ _ (.int (xFI S 8 u5) :: _)
        refine gX_iret rfl hC hA hQ dX0_feed_75 h.2
      · have h := it_n c h
        refine g_aload_nR hC dX0_feed_40 rfl ?_
        obtain ⟨u7, eu7, h⟩ := h
        refine g_top0 eu7 ?_
        have hk8 := h.1
        refine gX_get (C0 := RX0) (T := TX0) (N := 15) (n := 0) (k := 7) (q := (7, true)) hC hX dX0_feed_41 q219 rfl in_X0 (by decide) (Or.inl rfl) rfl (by decide) hk8 ?_
        show GX _ _ _ _ _ _ _ (va_rf (xFR S 7 u7) :: _)
        refine g_aload_nR hC dX0_feed_44 rfl ?_
        refine g_dup hC dX0_feed_45 (va_rf_cat _) ?_
        refine g_top0 eu7 ?_
        refine gX_get (C0 := RX0) (T := TX0) (N := 15) (n := 0) (k := 8) (q := (8, false)) hC hX dX0_feed_46 q221 rfl in_X0 (by decide) (Or.inl rfl) rfl (by decide) hk8 ?_
        show GX _ _ _ _ _ _ _ (.int (xFI S 8 u7) :: _)
        refine g_dup_x1 hC dX0_feed_49 rfl (va_rf_cat _) ?_
        refine g_iconst (v := 1) hC dX0_feed_50 (by decide) ?_
        refine g_iadd hC dX0_feed_51 ?_
        refine g_top1 eu7 ?_
        refine gX_putI (C0 := RX0) (T := TX0) (ty0 := tyX0) (N := 15) (n := 0) (k := 8) (f := 8) hC hX dX0_feed_52 q221 rfl in_X0 tyX0_ok nmX0 (by decide) (Or.inl rfl) rfl rfl rfl rfl rfl (by decide) (Or.inl (by decide)) hk8 ?_
        refine g_lload_n hC dX0_feed_55 rfl ?_
        refine g_bipush (v := 8) hC dX0_feed_56 (by decide) ?_
        refine g_iload hC dX0_feed_58 rfl ?_
        refine g_imul hC dX0_feed_60 ?_
        refine g_lshr hC dX0_feed_61 ?_
        refine g_l2i hC dX0_feed_62 ?_
        refine g_i2b hC dX0_feed_63 ?_
        obtain ⟨u9, eu9, h⟩ := h.2
        refine g_top2 eu9 ?_
        have hk10 := h.1
        refine gX_bast hC hX dX0_feed_64 hk10 h.2.1 h.2.2.1 ?_
        refine g_iinc (v := (a4 + (-1 : Int32))) hC dX0_feed_65 rfl rfl (by decide) rfl rfl ?_
        refine g_goto (tgt := 35) hC dX0_feed_68 (by decide) ?_
        exact ih (sAI (sFI S 8 u7 ((xFI S 8 u7) + (1 : Int32))) u9 (Int32.toNatClampNeg (xFI S 8 u7)) (vp_nar .byte (Int8.toInt32 (Int32.toInt8 (Int64.toInt32 (a1 >>> (Int32.toInt64 ((8 : Int32) * a4) &&& 63))))))) a0 a1 (a4 + (-1 : Int32)) h.2.2.2
  refine g_iload_n hC dX0_feed_0 rfl ?_
  refine g_i2l hC dX0_feed_1 ?_
  refine g_lconst (v := 1) hC dX0_feed_2 (by decide) ?_
  refine g_ldc2 (v := 8) hC dX0_feed_3 q427 ?_
  refine gX_ni hX (gX_runS (As := [.long (Int32.toInt64 x3), .long (1 : Int64), .long (8 : Int64)]) (rest := []) hC hX (mx_X0_isIn (cx_l C) E _ _ _ _ _ h) (lw_S q269 q270 q70 q271) hx_X0_isIn.2 rfl rfl (Or.inl (Nat.le_of_ble_eq_true rfl)) ⟨Nat.le_of_ble_eq_true rfl, Nat.le_of_ble_eq_true rfl⟩ dX0_feed_6 (Nat.zero_le _) (Nat.zero_le _)) rfl rfl ?_
  intro r2 S1 h
  refine g_if_ne (tgt := 15) hC dX0_feed_9 (by decide) (fun c => ?_) (fun c => ?_)
  · have h := it_n c h
    refine g_aload_nR hC dX0_feed_15 rfl ?_
    obtain ⟨u3, eu3, h⟩ := h
    refine g_top0 eu3 ?_
    have hk4 := h.1
    refine gX_get (C0 := RX0) (T := TX0) (N := 15) (n := 0) (k := 8) (q := (8, false)) hC hX dX0_feed_16 q221 rfl in_X0 (by decide) (Or.inl rfl) rfl (by decide) hk4 ?_
    show GX _ _ _ _ _ _ _ (.int (xFI S1 8 u3) :: _)
    refine g_iload_n hC dX0_feed_19 rfl ?_
    refine g_iadd hC dX0_feed_20 ?_
    refine g_sipush (v := 400) hC dX0_feed_21 (by decide) ?_
    refine g_icmp_le (tgt := 30) hC dX0_feed_24 (by decide) (fun c => ?_) (fun c => ?_)
    · have h := it_p c h.2
      refine g_iload_n hC dX0_feed_30 rfl ?_
      refine g_iconst (v := 1) hC dX0_feed_31 (by decide) ?_
      refine g_isub hC dX0_feed_32 ?_
      refine g_istore hC dX0_feed_33 (by decide) rfl rfl ?_
      refine g_sub [true, true, false, false, true] rfl ?_
      obtain ⟨n0, h0⟩ := h
      exact s_35 n0 S1 x0 x1 (x3 - (1 : Int32)) h0
    · have h := it_n c h.2
      refine g_ldc (v := -1000003) hC dX0_feed_27 q428 ?_
      refine gX_iret rfl hC hA hQ dX0_feed_29 h
  · have h := it_p c h
    refine g_ldc (v := -1000001) hC dX0_feed_12 q273 ?_
    refine gX_iret rfl hC hA hQ dX0_feed_14 h
theorem mx_X0_feed (l : Launch) (E : XE) (Q : Int32 → XS → Prop) (S : XS) (x0 : Option Nat) (x1 : Int64) (x3 : Int32) (h : wx_X0_feed Q S x0 x1 x3) : XMet E l yX0_feed cX0_feed 5 (some .int) ({ frames := 2, cells := 0, slots := 0, locals := 59 } : Room) [va_rf x0, .long x1, .int x3] S (fun sz => va_Qi Q (BX1 E S sz) (xA S sz)) :=
  XMet_of (rm := ({ frames := 2, cells := 0, slots := 0, locals := 59 } : Room)) (by decide) (by simp [lg_sl, va_rf_cat, cat_i, cat_l]) (L0 := [some (va_rf x0), some (.long x1), none, some (.int x3), none]) (by simp [lx_pairs, lv_args, va_rf_cat, cat_i, cat_l, List.range_succ]) (fun sz C hC hX hl hnm hA hQ => bx_X0_feed E C S sz Q S x0 x1 x3 hC hX hA hQ h)
/-! X0_fault -/
def wx_X0_fault (Q : Int32 → XS → Prop) (S : XS) (x0 : Option Nat) : Prop :=
  dr x0 (fun u1 => xKD S u1 = some 0 ∧ Q (xFI S 9 u1) S)
theorem hx_X0_fault : yX0_fault.cls = RX0 ∧ yX0_fault.cls ≠ "java/lang/invoke/MethodHandle" ∧ yX0_fault.cls ≠ "java/lang/invoke/VarHandle" ∧ (parseMethodDescriptor yX0_fault.desc).map (fun d => d.parameters.length) = some 0 := by decide +kernel
set_option maxHeartbeats 4000000 in
set_option maxRecDepth 100000 in
theorem bx_X0_fault (E : XE) (C : Cx) (S0 : XS) (sz : Nat) (Q : Int32 → XS → Prop) (S : XS) (x0 : Option Nat) (hC : COk C cX0_fault RX0 (some .int) 1 34 1) (hX : XOk E C) (hA : cx_A C = xA S0 sz) (hQ : cx_Q C = MQ (cx_b C) (va_Qi Q (BX1 E S0 sz) (xA S0 sz)) (cx_a C) (cx_s C) (cx_MC C) (cx_MS C) (xA S0 sz)) (h : wx_X0_fault Q S x0) : GX E C S 0 0 0 [some (va_rf x0)] [] := by
  refine g_aload_nR hC dX0_fault_0 rfl ?_
  obtain ⟨u1, eu1, h⟩ := h
  refine g_top0 eu1 ?_
  have hk2 := h.1
  refine gX_get (C0 := RX0) (T := TX0) (N := 15) (n := 0) (k := 9) (q := (9, false)) hC hX dX0_fault_1 q222 rfl in_X0 (by decide) (Or.inl rfl) rfl (by decide) hk2 ?_
  show GX _ _ _ _ _ _ _ (.int (xFI S 9 u1) :: _)
  refine gX_iret rfl hC hA hQ dX0_fault_4 h.2
theorem mx_X0_fault (l : Launch) (E : XE) (Q : Int32 → XS → Prop) (S : XS) (x0 : Option Nat) (h : wx_X0_fault Q S x0) : XMet E l yX0_fault cX0_fault 1 (some .int) ({ frames := 1, cells := 0, slots := 0, locals := 34 } : Room) [va_rf x0] S (fun sz => va_Qi Q (BX1 E S sz) (xA S sz)) :=
  XMet_of (rm := ({ frames := 1, cells := 0, slots := 0, locals := 34 } : Room)) (by decide) (by simp [lg_sl, va_rf_cat, cat_i, cat_l]) (L0 := [some (va_rf x0)]) (by simp [lx_pairs, lv_args, va_rf_cat, cat_i, cat_l, List.range_succ]) (fun sz C hC hX hl hnm hA hQ => bx_X0_fault E C S sz Q S x0 hC hX hA hQ h)
/-! X0_isHall -/
def wx_X0_isHall (Q : Int32 → XS → Prop) (S : XS) (x0 : Int32) : Prop :=
  wx_X0_isIn (fun r2 S1 => narrow .boolean (.int r2) = .int r2 ∧ Q r2 S1) S (Int32.toInt64 x0) (0 : Int64) (3 : Int64)
theorem hx_X0_isHall : yX0_isHall.cls = RX0 ∧ yX0_isHall.cls ≠ "java/lang/invoke/MethodHandle" ∧ yX0_isHall.cls ≠ "java/lang/invoke/VarHandle" ∧ (parseMethodDescriptor yX0_isHall.desc).map (fun d => d.parameters.length) = some 1 := by decide +kernel
set_option maxHeartbeats 4000000 in
set_option maxRecDepth 100000 in
theorem bx_X0_isHall (E : XE) (C : Cx) (S0 : XS) (sz : Nat) (Q : Int32 → XS → Prop) (S : XS) (x0 : Int32) (hC : COk C cX0_isHall RX0 (some .boolean) 2 59 1) (hX : XOk E C) (hA : cx_A C = xA S0 sz) (hQ : cx_Q C = MQ (cx_b C) (va_Qi Q (BX1 E S0 sz) (xA S0 sz)) (cx_a C) (cx_s C) (cx_MC C) (cx_MS C) (xA S0 sz)) (h : wx_X0_isHall Q S x0) : GX E C S 0 0 0 [some (.int x0)] [] := by
  refine g_iload_n hC dX0_isHall_0 rfl ?_
  refine g_i2l hC dX0_isHall_1 ?_
  refine g_lconst (v := 0) hC dX0_isHall_2 (by decide) ?_
  refine g_ldc2 (v := 3) hC dX0_isHall_3 q755 ?_
  refine gX_ni hX (gX_runS (As := [.long (Int32.toInt64 x0), .long (0 : Int64), .long (3 : Int64)]) (rest := []) hC hX (mx_X0_isIn (cx_l C) E _ _ _ _ _ h) (lw_S q269 q270 q70 q271) hx_X0_isIn.2 rfl rfl (Or.inl (Nat.le_of_ble_eq_true rfl)) ⟨Nat.le_of_ble_eq_true rfl, Nat.le_of_ble_eq_true rfl⟩ dX0_isHall_6 (Nat.zero_le _) (Nat.zero_le _)) rfl rfl ?_
  intro r2 S1 h
  refine gX_zret rfl h.1 hC hA hQ dX0_isHall_9 h.2
theorem mx_X0_isHall (l : Launch) (E : XE) (Q : Int32 → XS → Prop) (S : XS) (x0 : Int32) (h : wx_X0_isHall Q S x0) : XMet E l yX0_isHall cX0_isHall 1 (some .boolean) ({ frames := 2, cells := 0, slots := 0, locals := 59 } : Room) [.int x0] S (fun sz => va_Qi Q (BX1 E S sz) (xA S sz)) :=
  XMet_of (rm := ({ frames := 2, cells := 0, slots := 0, locals := 59 } : Room)) (by decide) (by simp [lg_sl, va_rf_cat, cat_i, cat_l]) (L0 := [some (.int x0)]) (by simp [lx_pairs, lv_args, va_rf_cat, cat_i, cat_l, List.range_succ]) (fun sz C hC hX hl hnm hA hQ => bx_X0_isHall E C S sz Q S x0 hC hX hA hQ h)
/-! X2_told -/
def wx_X2_told_60 (Q : Int32 → XS → Prop) (S : XS) (a0 : Option Nat) (a1 : Int32) : Prop :=
  dr a0 (fun u9 => xKD S u9 = some 2 ∧ dr (xFR S 204 u9) (fun u11 => xKD S u11 = some 100 ∧ vp_in (a1 - (4 : Int32)) (xLN S u11) ∧ Q (xAI S u11 (Int32.toNatClampNeg (a1 - (4 : Int32)))) S))
def wx_X2_told (Q : Int32 → XS → Prop) (S : XS) (x0 : Option Nat) (x1 : Int32) : Prop :=
  (if x1 = (0 : Int32) then dr x0 (fun u1 => xKD S u1 = some 2 ∧ Q (xFI S 200 u1) S) else (if x1 = (1 : Int32) then dr x0 (fun u3 => xKD S u3 = some 2 ∧ Q (xFI S 201 u3) S) else (if x1 = (2 : Int32) then dr x0 (fun u5 => xKD S u5 = some 2 ∧ Q (xFI S 202 u5) S) else (if x1 = (3 : Int32) then dr x0 (fun u7 => xKD S u7 = some 2 ∧ Q (xFI S 203 u7) S) else (if x1 = (4 : Int32) then wx_X2_told_60 Q S x0 x1 else (if x1 = (5 : Int32) then wx_X2_told_60 Q S x0 x1 else (if (20 : Int32) ≤ x1 then dr x0 (fun u13 => xKD S u13 = some 2 ∧ dr (xFR S 206 u13) (fun u15 => xKD S u15 = some 100 ∧ vp_in (x1 - (20 : Int32)) (xLN S u15) ∧ Q (xAI S u15 (Int32.toNatClampNeg (x1 - (20 : Int32)))) S)) else dr x0 (fun u17 => xKD S u17 = some 2 ∧ dr (xFR S 205 u17) (fun u19 => xKD S u19 = some 100 ∧ vp_in (x1 - (10 : Int32)) (xLN S u19) ∧ Q (xAI S u19 (Int32.toNatClampNeg (x1 - (10 : Int32)))) S)))))))))
theorem hx_X2_told : yX2_told.cls = RX2 ∧ yX2_told.cls ≠ "java/lang/invoke/MethodHandle" ∧ yX2_told.cls ≠ "java/lang/invoke/VarHandle" ∧ (parseMethodDescriptor yX2_told.desc).map (fun d => d.parameters.length) = some 1 := by decide +kernel
set_option maxHeartbeats 4000000 in
set_option maxRecDepth 100000 in
theorem bx_X2_told (E : XE) (C : Cx) (S0 : XS) (sz : Nat) (Q : Int32 → XS → Prop) (S : XS) (x0 : Option Nat) (x1 : Int32) (hC : COk C cX2_told RX2 (some .int) 1 34 2) (hX : XOk E C) (hA : cx_A C = xA S0 sz) (hQ : cx_Q C = MQ (cx_b C) (va_Qi Q (BX1 E S0 sz) (xA S0 sz)) (cx_a C) (cx_s C) (cx_MC C) (cx_MS C) (xA S0 sz)) (h : wx_X2_told Q S x0 x1) : GX E C S 0 0 0 [some (va_rf x0), some (.int x1)] [] := by
  have s_60 : ∀ (S : XS) (a0 : Option Nat) (a1 : Int32), wx_X2_told_60 Q  S a0 a1 → GX E C S 0 0 60 [some (va_rf a0), some (.int a1)] [] := by
    intro  S a0 a1 h
    refine g_aload_nR hC dX2_told_60 rfl ?_
    obtain ⟨u9, eu9, h⟩ := h
    refine g_top0 eu9 ?_
    have hk10 := h.1
    refine gX_get (C0 := RX2) (T := TX2) (N := 7) (n := 2) (k := 4) (q := (204, true)) hC hX dX2_told_61 q184 rfl in_X2 (by decide) (Or.inl rfl) rfl (by decide) hk10 ?_
    show GX _ _ _ _ _ _ _ (va_rf (xFR S 204 u9) :: _)
    refine g_iload_n hC dX2_told_64 rfl ?_
    refine g_iconst (v := 4) hC dX2_told_65 (by decide) ?_
    refine g_isub hC dX2_told_66 ?_
    obtain ⟨u11, eu11, h⟩ := h.2
    refine g_top1 eu11 ?_
    have hk12 := h.1
    refine gX_iald hC hX dX2_told_67 hk12 h.2.1 ?_
    refine gX_iret rfl hC hA hQ dX2_told_68 h.2.2
  refine g_iload_n hC dX2_told_0 rfl ?_
  rcases Decidable.em (x1 = (0 : Int32)) with c0 | c0
  · have h := it_p c0 h
    refine g_tin (v := 0) (tgt := 40) hC dX2_told_1 c0 (by decide) (by decide) rfl (by decide) ?_
    refine g_aload_nR hC dX2_told_40 rfl ?_
    obtain ⟨u1, eu1, h⟩ := h
    refine g_top0 eu1 ?_
    have hk2 := h.1
    refine gX_get (C0 := RX2) (T := TX2) (N := 7) (n := 2) (k := 0) (q := (200, false)) hC hX dX2_told_41 q171 rfl in_X2 (by decide) (Or.inl rfl) rfl (by decide) hk2 ?_
    show GX _ _ _ _ _ _ _ (.int (xFI S 200 u1) :: _)
    refine gX_iret rfl hC hA hQ dX2_told_44 h.2
  have h := it_n c0 h
  rcases Decidable.em (x1 = (1 : Int32)) with c1 | c1
  · have h := it_p c1 h
    refine g_tin (v := 1) (tgt := 45) hC dX2_told_1 c1 (by decide) (by decide) rfl (by decide) ?_
    refine g_aload_nR hC dX2_told_45 rfl ?_
    obtain ⟨u3, eu3, h⟩ := h
    refine g_top0 eu3 ?_
    have hk4 := h.1
    refine gX_get (C0 := RX2) (T := TX2) (N := 7) (n := 2) (k := 1) (q := (201, false)) hC hX dX2_told_46 q175 rfl in_X2 (by decide) (Or.inl rfl) rfl (by decide) hk4 ?_
    show GX _ _ _ _ _ _ _ (.int (xFI S 201 u3) :: _)
    refine gX_iret rfl hC hA hQ dX2_told_49 h.2
  have h := it_n c1 h
  rcases Decidable.em (x1 = (2 : Int32)) with c2 | c2
  · have h := it_p c2 h
    refine g_tin (v := 2) (tgt := 50) hC dX2_told_1 c2 (by decide) (by decide) rfl (by decide) ?_
    refine g_aload_nR hC dX2_told_50 rfl ?_
    obtain ⟨u5, eu5, h⟩ := h
    refine g_top0 eu5 ?_
    have hk6 := h.1
    refine gX_get (C0 := RX2) (T := TX2) (N := 7) (n := 2) (k := 2) (q := (202, false)) hC hX dX2_told_51 q178 rfl in_X2 (by decide) (Or.inl rfl) rfl (by decide) hk6 ?_
    show GX _ _ _ _ _ _ _ (.int (xFI S 202 u5) :: _)
    refine gX_iret rfl hC hA hQ dX2_told_54 h.2
  have h := it_n c2 h
  rcases Decidable.em (x1 = (3 : Int32)) with c3 | c3
  · have h := it_p c3 h
    refine g_tin (v := 3) (tgt := 55) hC dX2_told_1 c3 (by decide) (by decide) rfl (by decide) ?_
    refine g_aload_nR hC dX2_told_55 rfl ?_
    obtain ⟨u7, eu7, h⟩ := h
    refine g_top0 eu7 ?_
    have hk8 := h.1
    refine gX_get (C0 := RX2) (T := TX2) (N := 7) (n := 2) (k := 3) (q := (203, false)) hC hX dX2_told_56 q181 rfl in_X2 (by decide) (Or.inl rfl) rfl (by decide) hk8 ?_
    show GX _ _ _ _ _ _ _ (.int (xFI S 203 u7) :: _)
    refine gX_iret rfl hC hA hQ dX2_told_59 h.2
  have h := it_n c3 h
  rcases Decidable.em (x1 = (4 : Int32)) with c4 | c4
  · have h := it_p c4 h
    refine g_tin (v := 4) (tgt := 60) hC dX2_told_1 c4 (by decide) (by decide) rfl (by decide) ?_
    exact s_60 S x0 x1 h
  have h := it_n c4 h
  rcases Decidable.em (x1 = (5 : Int32)) with c5 | c5
  · have h := it_p c5 h
    refine g_tin (v := 5) (tgt := 60) hC dX2_told_1 c5 (by decide) (by decide) rfl (by decide) ?_
    exact s_60 S x0 x1 h
  have h := it_n c5 h
  refine g_tout (tgt := 69) hC dX2_told_1 (sw_out 0 5 (by decide) (fun v hv => ?_)) (by decide) ?_
  · exact sw_no6 c0 c1 c2 c3 c4 c5 v hv
  refine g_iload_n hC dX2_told_69 rfl ?_
  refine g_bipush (v := 20) hC dX2_told_70 (by decide) ?_
  refine g_icmp_ge (tgt := 87) hC dX2_told_72 (by decide) (fun c => ?_) (fun c => ?_)
  · have h := it_p c h
    refine g_aload_nR hC dX2_told_87 rfl ?_
    obtain ⟨u13, eu13, h⟩ := h
    refine g_top0 eu13 ?_
    have hk14 := h.1
    refine gX_get (C0 := RX2) (T := TX2) (N := 7) (n := 2) (k := 6) (q := (206, true)) hC hX dX2_told_88 q191 rfl in_X2 (by decide) (Or.inl rfl) rfl (by decide) hk14 ?_
    show GX _ _ _ _ _ _ _ (va_rf (xFR S 206 u13) :: _)
    refine g_iload_n hC dX2_told_91 rfl ?_
    refine g_bipush (v := 20) hC dX2_told_92 (by decide) ?_
    refine g_isub hC dX2_told_94 ?_
    obtain ⟨u15, eu15, h⟩ := h.2
    refine g_top1 eu15 ?_
    have hk16 := h.1
    refine gX_iald hC hX dX2_told_95 hk16 h.2.1 ?_
    refine gX_iret rfl hC hA hQ dX2_told_96 h.2.2
  · have h := it_n c h
    refine g_aload_nR hC dX2_told_75 rfl ?_
    obtain ⟨u17, eu17, h⟩ := h
    refine g_top0 eu17 ?_
    have hk18 := h.1
    refine gX_get (C0 := RX2) (T := TX2) (N := 7) (n := 2) (k := 5) (q := (205, true)) hC hX dX2_told_76 q188 rfl in_X2 (by decide) (Or.inl rfl) rfl (by decide) hk18 ?_
    show GX _ _ _ _ _ _ _ (va_rf (xFR S 205 u17) :: _)
    refine g_iload_n hC dX2_told_79 rfl ?_
    refine g_bipush (v := 10) hC dX2_told_80 (by decide) ?_
    refine g_isub hC dX2_told_82 ?_
    obtain ⟨u19, eu19, h⟩ := h.2
    refine g_top1 eu19 ?_
    have hk20 := h.1
    refine gX_iald hC hX dX2_told_83 hk20 h.2.1 ?_
    refine g_goto (tgt := 96) hC dX2_told_84 (by decide) ?_
    refine gX_iret rfl hC hA hQ dX2_told_96 h.2.2
theorem mx_X2_told (l : Launch) (E : XE) (Q : Int32 → XS → Prop) (S : XS) (x0 : Option Nat) (x1 : Int32) (h : wx_X2_told Q S x0 x1) : XMet E l yX2_told cX2_told 2 (some .int) ({ frames := 1, cells := 0, slots := 0, locals := 34 } : Room) [va_rf x0, .int x1] S (fun sz => va_Qi Q (BX1 E S sz) (xA S sz)) :=
  XMet_of (rm := ({ frames := 1, cells := 0, slots := 0, locals := 34 } : Room)) (by decide) (by simp [lg_sl, va_rf_cat, cat_i, cat_l]) (L0 := [some (va_rf x0), some (.int x1)]) (by simp [lx_pairs, lv_args, va_rf_cat, cat_i, cat_l, List.range_succ]) (fun sz C hC hX hl hnm hA hQ => bx_X2_told E C S sz Q S x0 x1 hC hX hA hQ h)
/-! X0_hall -/
def wx_X0_hall_47 (Q : Int32 → XS → Prop) (S : XS) (a0 : Option Nat) (a1 : Int32) (a2 : Int32) : Prop :=
  dr a0 (fun u5 => xKD S u5 = some 0 ∧ dr (xFR S 1 u5) (fun u7 => xKD S u7 = some 104 ∧ vp_in a1 (xLN S u7) ∧ dr (xAR S u7 (Int32.toNatClampNeg a1)) (fun u9 => xKD S u9 = some 2 ∧ wx_X2_told (fun r12 S11 => Q r12 S11) S (some u9) a2)))
def wx_X0_hall (Q : Int32 → XS → Prop) (S : XS) (x0 : Option Nat) (x1 : Int32) (x2 : Int32) : Prop :=
  wx_X0_isHall (fun r2 S1 => (if r2 = 0 then Q (-1000001 : Int32) S1 else wx_X0_isIn (fun r4 S3 => (if r4 = 0 then wx_X0_isIn (fun r14 S13 => (if r14 = 0 then wx_X0_isIn (fun r16 S15 => (if r16 = 0 then Q (-1000001 : Int32) S15 else wx_X0_hall_47 Q S15 x0 x1 x2)) S13 (Int32.toInt64 x2) (20 : Int64) (24 : Int64) else wx_X0_hall_47 Q S13 x0 x1 x2)) S3 (Int32.toInt64 x2) (10 : Int64) (14 : Int64) else wx_X0_hall_47 Q S3 x0 x1 x2)) S1 (Int32.toInt64 x2) (0 : Int64) (5 : Int64))) S x1
theorem hx_X0_hall : yX0_hall.cls = RX0 ∧ yX0_hall.cls ≠ "java/lang/invoke/MethodHandle" ∧ yX0_hall.cls ≠ "java/lang/invoke/VarHandle" ∧ (parseMethodDescriptor yX0_hall.desc).map (fun d => d.parameters.length) = some 2 := by decide +kernel
set_option maxHeartbeats 4000000 in
set_option maxRecDepth 100000 in
theorem bx_X0_hall (E : XE) (C : Cx) (S0 : XS) (sz : Nat) (Q : Int32 → XS → Prop) (S : XS) (x0 : Option Nat) (x1 : Int32) (x2 : Int32) (hC : COk C cX0_hall RX0 (some .int) 3 79 3) (hX : XOk E C) (hA : cx_A C = xA S0 sz) (hQ : cx_Q C = MQ (cx_b C) (va_Qi Q (BX1 E S0 sz) (xA S0 sz)) (cx_a C) (cx_s C) (cx_MC C) (cx_MS C) (xA S0 sz)) (h : wx_X0_hall Q S x0 x1 x2) : GX E C S 0 0 0 [some (va_rf x0), some (.int x1), some (.int x2)] [] := by
  have s_47 : ∀ (S : XS) (a0 : Option Nat) (a1 : Int32) (a2 : Int32), wx_X0_hall_47 Q  S a0 a1 a2 → GX E C S 0 0 47 [some (va_rf a0), some (.int a1), some (.int a2)] [] := by
    intro  S a0 a1 a2 h
    refine g_aload_nR hC dX0_hall_47 rfl ?_
    obtain ⟨u5, eu5, h⟩ := h
    refine g_top0 eu5 ?_
    have hk6 := h.1
    refine gX_get (C0 := RX0) (T := TX0) (N := 15) (n := 0) (k := 1) (q := (1, true)) hC hX dX0_hall_48 q211 rfl in_X0 (by decide) (Or.inl rfl) rfl (by decide) hk6 ?_
    show GX _ _ _ _ _ _ _ (va_rf (xFR S 1 u5) :: _)
    refine g_iload_n hC dX0_hall_51 rfl ?_
    obtain ⟨u7, eu7, h⟩ := h.2
    refine g_top1 eu7 ?_
    have hk8 := h.1
    refine gX_aald (n := 104) hC hX dX0_hall_52 (by decide) hk8 h.2.1 ?_
    refine g_iload_n hC dX0_hall_53 rfl ?_
    obtain ⟨u9, eu9, h⟩ := h.2.2
    refine g_top1 eu9 ?_
    have hk10 := h.1
    refine gX_ni hX (gX_runV (As := [.int a2]) (rest := []) (Cr := RX2) hC hX (mx_X2_told (cx_l C) E _ _ _ _ h.2) (lw_V q761 q762 q763 q75 q764) hx_X2_told rfl rfl (Or.inl (Nat.le_of_ble_eq_true rfl)) ⟨Nat.le_of_ble_eq_true rfl, Nat.le_of_ble_eq_true rfl⟩ dX0_hall_54 (Nat.zero_le _) (Nat.zero_le _) hk10 rfl (by decide) rfl) rfl rfl ?_
    intro r12 S11 h
    refine g_goto (tgt := 62) hC dX0_hall_57 (by decide) ?_
    refine gX_iret rfl hC hA hQ dX0_hall_62 h
  refine g_iload_n hC dX0_hall_0 rfl ?_
  refine gX_ni hX (gX_runS (As := [.int x1]) (rest := []) hC hX (mx_X0_isHall (cx_l C) E _ _ _ h) (lw_S q752 q753 q70 q754) hx_X0_isHall.2 rfl rfl (Or.inl (Nat.le_of_ble_eq_true rfl)) ⟨Nat.le_of_ble_eq_true rfl, Nat.le_of_ble_eq_true rfl⟩ dX0_hall_1 (Nat.zero_le _) (Nat.zero_le _)) rfl rfl ?_
  intro r2 S1 h
  refine g_if_eq (tgt := 60) hC dX0_hall_4 (by decide) (fun c => ?_) (fun c => ?_)
  · have h := it_p c h
    refine g_ldc (v := -1000001) hC dX0_hall_60 q273 ?_
    refine gX_iret rfl hC hA hQ dX0_hall_62 h
  · have h := it_n c h
    refine g_iload_n hC dX0_hall_7 rfl ?_
    refine g_i2l hC dX0_hall_8 ?_
    refine g_lconst (v := 0) hC dX0_hall_9 (by decide) ?_
    refine g_ldc2 (v := 5) hC dX0_hall_10 q756 ?_
    refine gX_ni hX (gX_runS (As := [.long (Int32.toInt64 x2), .long (0 : Int64), .long (5 : Int64)]) (rest := []) hC hX (mx_X0_isIn (cx_l C) E _ _ _ _ _ h) (lw_S q269 q270 q70 q271) hx_X0_isIn.2 rfl rfl (Or.inl (Nat.le_of_ble_eq_true rfl)) ⟨Nat.le_of_ble_eq_true rfl, Nat.le_of_ble_eq_true rfl⟩ dX0_hall_13 (Nat.zero_le _) (Nat.zero_le _)) rfl rfl ?_
    intro r4 S3 h
    refine g_if_ne (tgt := 47) hC dX0_hall_16 (by decide) (fun c => ?_) (fun c => ?_)
    · have h := it_n c h
      exact s_47 S3 x0 x1 x2 h
    · have h := it_p c h
      refine g_iload_n hC dX0_hall_19 rfl ?_
      refine g_i2l hC dX0_hall_20 ?_
      refine g_ldc2 (v := 10) hC dX0_hall_21 q757 ?_
      refine g_ldc2 (v := 14) hC dX0_hall_24 q758 ?_
      refine gX_ni hX (gX_runS (As := [.long (Int32.toInt64 x2), .long (10 : Int64), .long (14 : Int64)]) (rest := []) hC hX (mx_X0_isIn (cx_l C) E _ _ _ _ _ h) (lw_S q269 q270 q70 q271) hx_X0_isIn.2 rfl rfl (Or.inl (Nat.le_of_ble_eq_true rfl)) ⟨Nat.le_of_ble_eq_true rfl, Nat.le_of_ble_eq_true rfl⟩ dX0_hall_27 (Nat.zero_le _) (Nat.zero_le _)) rfl rfl ?_
      intro r14 S13 h
      refine g_if_ne (tgt := 47) hC dX0_hall_30 (by decide) (fun c => ?_) (fun c => ?_)
      · have h := it_n c h
        exact s_47 S13 x0 x1 x2 h
      · have h := it_p c h
        refine g_iload_n hC dX0_hall_33 rfl ?_
        refine g_i2l hC dX0_hall_34 ?_
        refine g_ldc2 (v := 20) hC dX0_hall_35 q759 ?_
        refine g_ldc2 (v := 24) hC dX0_hall_38 q760 ?_
        refine gX_ni hX (gX_runS (As := [.long (Int32.toInt64 x2), .long (20 : Int64), .long (24 : Int64)]) (rest := []) hC hX (mx_X0_isIn (cx_l C) E _ _ _ _ _ h) (lw_S q269 q270 q70 q271) hx_X0_isIn.2 rfl rfl (Or.inl (Nat.le_of_ble_eq_true rfl)) ⟨Nat.le_of_ble_eq_true rfl, Nat.le_of_ble_eq_true rfl⟩ dX0_hall_41 (Nat.zero_le _) (Nat.zero_le _)) rfl rfl ?_
        intro r16 S15 h
        refine g_if_eq (tgt := 60) hC dX0_hall_44 (by decide) (fun c => ?_) (fun c => ?_)
        · have h := it_p c h
          refine g_ldc (v := -1000001) hC dX0_hall_60 q273 ?_
          refine gX_iret rfl hC hA hQ dX0_hall_62 h
        · have h := it_n c h
          exact s_47 S15 x0 x1 x2 h
theorem mx_X0_hall (l : Launch) (E : XE) (Q : Int32 → XS → Prop) (S : XS) (x0 : Option Nat) (x1 : Int32) (x2 : Int32) (h : wx_X0_hall Q S x0 x1 x2) : XMet E l yX0_hall cX0_hall 3 (some .int) ({ frames := 3, cells := 0, slots := 0, locals := 79 } : Room) [va_rf x0, .int x1, .int x2] S (fun sz => va_Qi Q (BX1 E S sz) (xA S sz)) :=
  XMet_of (rm := ({ frames := 3, cells := 0, slots := 0, locals := 79 } : Room)) (by decide) (by simp [lg_sl, va_rf_cat, cat_i, cat_l]) (L0 := [some (va_rf x0), some (.int x1), some (.int x2)]) (by simp [lx_pairs, lv_args, va_rf_cat, cat_i, cat_l, List.range_succ]) (fun sz C hC hX hl hnm hA hQ => bx_X0_hall E C S sz Q S x0 x1 x2 hC hX hA hQ h)
/-! X5_row -/
def wx_X5_row_24 (Q : Option Nat → XS → Prop) (X : Nat → XS → Prop) (mc ms : Nat) (S : XS) (a0 : Option Nat) (a1 : Int32) (a2 : Int32) (s0 : Int32) : Prop :=
  (∃ k1 n2, k1 ≤ mc ∧ n2 ≤ ms ∧ wx_X0_must (fun S6 => ¬ a2 < 0 ∧ (Int32.toNatClampNeg a2) ≤ 100000 ∧ 1 ≤ (mc - k1) ∧ (Int32.toNatClampNeg a2) ≤ (ms - n2) ∧ (∀ q8 : Nat, xKD S6 q8 = none → dr a0 (fun u11 => xKD (sNewA S6 q8 100 (Int32.toNatClampNeg a2)) u11 = some 4 ∧ dr (xFR (sNewA S6 q8 100 (Int32.toNatClampNeg a2)) 401 u11) (fun u13 => xKD (sNewA S6 q8 100 (Int32.toNatClampNeg a2)) u13 = some 100 ∧ ¬ a1 < 0 ∧ ¬ (0 : Int32) < 0 ∧ ¬ a2 < 0 ∧ (Int32.toNatClampNeg a1) + (Int32.toNatClampNeg a2) ≤ xLN (sNewA S6 q8 100 (Int32.toNatClampNeg a2)) u13 ∧ (Int32.toNatClampNeg (0 : Int32)) + (Int32.toNatClampNeg a2) ≤ xLN (sNewA S6 q8 100 (Int32.toNatClampNeg a2)) q8 ∧ Q (some q8) (sAIf (sNewA S6 q8 100 (Int32.toNatClampNeg a2)) q8 (va_cpy (xAI (sNewA S6 q8 100 (Int32.toNatClampNeg a2)) u13) (xAI (sNewA S6 q8 100 (Int32.toNatClampNeg a2)) q8) (Int32.toNatClampNeg a1) (Int32.toNatClampNeg (0 : Int32)) (Int32.toNatClampNeg a2))))))) (fun q3 S4 => X q3 S4) k1 n2 S s0 (2 : Int32))
def wx_X5_row_23 (Q : Option Nat → XS → Prop) (X : Nat → XS → Prop) (mc ms : Nat) (S : XS) (a0 : Option Nat) (a1 : Int32) (a2 : Int32) : Prop :=
  wx_X5_row_24 Q X mc ms S a0 a1 a2 (0 : Int32)
def wx_X5_row (Q : Option Nat → XS → Prop) (X : Nat → XS → Prop) (mc ms : Nat) (S : XS) (x0 : Option Nat) (x1 : Int32) (x2 : Int32) : Prop :=
  (if x1 < 0 then wx_X5_row_23 Q X mc ms S x0 x1 x2 else dr x0 (fun u15 => xKD S u15 = some 4 ∧ dr (xFR S 401 u15) (fun u17 => xKD S u17 = some 100 ∧ (if 0 < (lg_cmp ((Int32.toInt64 x1) + (Int32.toInt64 x2)) (Int32.toInt64 (Int32.ofNat (xLN S u17)))) then wx_X5_row_23 Q X mc ms S x0 x1 x2 else wx_X5_row_24 Q X mc ms S x0 x1 x2 (1 : Int32)))))
theorem hx_X5_row : yX5_row.cls = RX5 ∧ yX5_row.cls ≠ "java/lang/invoke/MethodHandle" ∧ yX5_row.cls ≠ "java/lang/invoke/VarHandle" ∧ (parseMethodDescriptor yX5_row.desc).map (fun d => d.parameters.length) = some 2 := by decide +kernel
set_option maxHeartbeats 4000000 in
set_option maxRecDepth 100000 in
theorem bx_X5_row (E : XE) (C : Cx) (S0 : XS) (sz : Nat) (Q : Option Nat → XS → Prop) (X : Nat → XS → Prop) (mc ms : Nat) (S : XS) (x0 : Option Nat) (x1 : Int32) (x2 : Int32) (hC : COk C cX5_row RX5 (some (.array .int)) 5 124 4) (hX : XOk E C) (hT : ∀ x ∈ (cx_c C).exceptionTable.toList, False) (hA : cx_A C = xA S0 sz) (hQ : cx_Q C = vx_MQ (cx_b C) (va_Qq Q (BX1 E S0 sz) (xA S0 sz)) (XC0 E S0 sz RX4 3 X) (cx_a C) (cx_s C) (cx_MC C) (cx_MS C) (xA S0 sz)) (h : wx_X5_row Q X mc ms S x0 x1 x2) : GX E C S mc ms 0 [some (va_rf x0), some (.int x1), some (.int x2), none] [] := by
  have s_24 : ∀ (mc ms : Nat) (S : XS) (a0 : Option Nat) (a1 : Int32) (a2 : Int32) (s0 : Int32), wx_X5_row_24 Q X  mc ms S a0 a1 a2 s0 → GX E C S mc ms 24 [some (va_rf a0), some (.int a1), some (.int a2), none] [.int s0] := by
    intro  mc ms S a0 a1 a2 s0 h
    refine g_iconst (v := 2) hC dX5_row_24 (by decide) ?_
    obtain ⟨k1, n2, hk1, hn2, h⟩ := h
    refine gX_xv hX (gX_xrunSN (As := [.int s0, .int (2 : Int32)]) (rest := []) hC hX (mx_X0_must (cx_l C) E k1 n2 _ _ _ _ _ h) q276 q783 q70 hx_X0_must.2 q275 rfl rfl (Or.inl (Nat.le_of_ble_eq_true rfl)) ⟨Nat.le_of_ble_eq_true rfl, Nat.le_of_ble_eq_true rfl⟩ dX5_row_25 hk1 hn2) hk1 hn2 (fun q3 S4 h hk5 => ?_) ?_
    · exact gT_out (r := (RX4, TX4, 7)) hC hX hT hA hQ hk5 rfl (by decide) h
    intro S6 h
    refine g_iload_n hC dX5_row_28 rfl ?_
    refine gX_newi hC hX dX5_row_29 q163 h.1 h.2.1 h.2.2.1 h.2.2.2.1 ?_
    intro q8 hq9
    have h := h.2.2.2.2 q8 hq9
    have hk10 : xKD (sNewA S6 q8 100 (Int32.toNatClampNeg a2)) q8 = some 100 := kd_selfA
    refine g_astore_nR hC dX5_row_31 rfl (by decide) rfl rfl ?_
    refine g_aload_nR hC dX5_row_32 rfl ?_
    obtain ⟨u11, eu11, h⟩ := h
    refine g_top0 eu11 ?_
    have hk12 := h.1
    refine gX_get (C0 := RX5) (T := TX5) (N := 2) (n := 4) (k := 1) (q := (401, true)) hC hX dX5_row_33 q350 rfl in_X5 (by decide) (Or.inl rfl) rfl (by decide) hk12 ?_
    show GX _ _ _ _ _ _ _ (va_rf (xFR (sNewA S6 q8 100 (Int32.toNatClampNeg a2)) 401 u11) :: _)
    refine g_iload_n hC dX5_row_36 rfl ?_
    refine g_aload_nR hC dX5_row_37 rfl ?_
    refine g_iconst (v := 0) hC dX5_row_38 (by decide) ?_
    refine g_iload_n hC dX5_row_39 rfl ?_
    obtain ⟨u13, eu13, h⟩ := h.2
    refine g_top4 eu13 ?_
    have hk14 := h.1
    refine gX_acopyi hC hX dX5_row_40 q784 q418 q417 q85 hk14 hk10 h.2.1 h.2.2.1 h.2.2.2.1 h.2.2.2.2.1 h.2.2.2.2.2.1 (Nat.le_of_ble_eq_true rfl) (by decide) (by decide) ?_
    refine g_aload_nR hC dX5_row_43 rfl ?_
    refine gX_end hQ (gX_aret (C := cx_to C _) hC hA rfl rfl (Or.inr ⟨_, rfl⟩) dX5_row_44 h.2.2.2.2.2.2)
  have s_23 : ∀ (mc ms : Nat) (S : XS) (a0 : Option Nat) (a1 : Int32) (a2 : Int32), wx_X5_row_23 Q X  mc ms S a0 a1 a2 → GX E C S mc ms 23 [some (va_rf a0), some (.int a1), some (.int a2), none] [] := by
    intro  mc ms S a0 a1 a2 h
    refine g_iconst (v := 0) hC dX5_row_23 (by decide) ?_
    exact s_24 mc ms S a0 a1 a2 (0 : Int32) h
  refine g_iload_n hC dX5_row_0 rfl ?_
  refine g_if_lt (tgt := 23) hC dX5_row_1 (by decide) (fun c => ?_) (fun c => ?_)
  · have h := it_p c h
    exact s_23 mc ms S x0 x1 x2 h
  · have h := it_n c h
    refine g_iload_n hC dX5_row_4 rfl ?_
    refine g_i2l hC dX5_row_5 ?_
    refine g_iload_n hC dX5_row_6 rfl ?_
    refine g_i2l hC dX5_row_7 ?_
    refine g_ladd hC dX5_row_8 ?_
    refine g_aload_nR hC dX5_row_9 rfl ?_
    obtain ⟨u15, eu15, h⟩ := h
    refine g_top0 eu15 ?_
    have hk16 := h.1
    refine gX_get (C0 := RX5) (T := TX5) (N := 2) (n := 4) (k := 1) (q := (401, true)) hC hX dX5_row_10 q350 rfl in_X5 (by decide) (Or.inl rfl) rfl (by decide) hk16 ?_
    show GX _ _ _ _ _ _ _ (va_rf (xFR S 401 u15) :: _)
    obtain ⟨u17, eu17, h⟩ := h.2
    refine g_top0 eu17 ?_
    have hk18 := h.1
    refine gX_alen (n := 100) hC hX dX5_row_13 (by decide) hk18 ?_
    refine g_i2l hC dX5_row_14 ?_
    refine g_lcmp hC dX5_row_15 ?_
    refine g_if_gt (tgt := 23) hC dX5_row_16 (by decide) (fun c => ?_) (fun c => ?_)
    · have h := it_p c h.2
      exact s_23 mc ms S x0 x1 x2 h
    · have h := it_n c h.2
      refine g_iconst (v := 1) hC dX5_row_19 (by decide) ?_
      refine g_goto (tgt := 24) hC dX5_row_20 (by decide) ?_
      exact s_24 mc ms S x0 x1 x2 (1 : Int32) h
theorem mx_X5_row (l : Launch) (E : XE) (mc ms : Nat) (Q : Option Nat → XS → Prop) (X : Nat → XS → Prop) (S : XS) (x0 : Option Nat) (x1 : Int32) (x2 : Int32) (h : wx_X5_row Q X mc ms S x0 x1 x2) : XMetX E l yX5_row cX5_row 4 (some (.array .int)) ({ frames := 5, cells := mc, slots := ms, locals := 124 } : Room) [va_rf x0, .int x1, .int x2] S (fun sz => va_Qq Q (BX1 E S sz) (xA S sz)) RX4 3 X :=
  XMetX_of (rm := ({ frames := 5, cells := mc, slots := ms, locals := 124 } : Room)) (by decide) (by simp [lg_sl, va_rf_cat, cat_i, cat_l]) (L0 := [some (va_rf x0), some (.int x1), some (.int x2), none]) (by simp [lx_pairs, lv_args, va_rf_cat, cat_i, cat_l, List.range_succ]) (fun sz C hC hX hl hnm hT hA hQ => bx_X5_row E C S sz Q X mc ms S x0 x1 x2 hC hX hT hA hQ h)
/-! X0_isDay -/
def wx_X0_isDay (Q : Int32 → XS → Prop) (S : XS) (x0 : Int32) : Prop :=
  wx_X0_isIn (fun r2 S1 => narrow .boolean (.int r2) = .int r2 ∧ Q r2 S1) S (Int32.toInt64 x0) (0 : Int64) (364 : Int64)
theorem hx_X0_isDay : yX0_isDay.cls = RX0 ∧ yX0_isDay.cls ≠ "java/lang/invoke/MethodHandle" ∧ yX0_isDay.cls ≠ "java/lang/invoke/VarHandle" ∧ (parseMethodDescriptor yX0_isDay.desc).map (fun d => d.parameters.length) = some 1 := by decide +kernel
set_option maxHeartbeats 4000000 in
set_option maxRecDepth 100000 in
theorem bx_X0_isDay (E : XE) (C : Cx) (S0 : XS) (sz : Nat) (Q : Int32 → XS → Prop) (S : XS) (x0 : Int32) (hC : COk C cX0_isDay RX0 (some .boolean) 2 59 1) (hX : XOk E C) (hA : cx_A C = xA S0 sz) (hQ : cx_Q C = MQ (cx_b C) (va_Qi Q (BX1 E S0 sz) (xA S0 sz)) (cx_a C) (cx_s C) (cx_MC C) (cx_MS C) (xA S0 sz)) (h : wx_X0_isDay Q S x0) : GX E C S 0 0 0 [some (.int x0)] [] := by
  refine g_iload_n hC dX0_isDay_0 rfl ?_
  refine g_i2l hC dX0_isDay_1 ?_
  refine g_lconst (v := 0) hC dX0_isDay_2 (by decide) ?_
  refine g_ldc2 (v := 364) hC dX0_isDay_3 q791 ?_
  refine gX_ni hX (gX_runS (As := [.long (Int32.toInt64 x0), .long (0 : Int64), .long (364 : Int64)]) (rest := []) hC hX (mx_X0_isIn (cx_l C) E _ _ _ _ _ h) (lw_S q269 q270 q70 q271) hx_X0_isIn.2 rfl rfl (Or.inl (Nat.le_of_ble_eq_true rfl)) ⟨Nat.le_of_ble_eq_true rfl, Nat.le_of_ble_eq_true rfl⟩ dX0_isDay_6 (Nat.zero_le _) (Nat.zero_le _)) rfl rfl ?_
  intro r2 S1 h
  refine gX_zret rfl h.1 hC hA hQ dX0_isDay_9 h.2
theorem mx_X0_isDay (l : Launch) (E : XE) (Q : Int32 → XS → Prop) (S : XS) (x0 : Int32) (h : wx_X0_isDay Q S x0) : XMet E l yX0_isDay cX0_isDay 1 (some .boolean) ({ frames := 2, cells := 0, slots := 0, locals := 59 } : Room) [.int x0] S (fun sz => va_Qi Q (BX1 E S sz) (xA S sz)) :=
  XMet_of (rm := ({ frames := 2, cells := 0, slots := 0, locals := 59 } : Room)) (by decide) (by simp [lg_sl, va_rf_cat, cat_i, cat_l]) (L0 := [some (.int x0)]) (by simp [lx_pairs, lv_args, va_rf_cat, cat_i, cat_l, List.range_succ]) (fun sz C hC hX hl hnm hA hQ => bx_X0_isDay E C S sz Q S x0 hC hX hA hQ h)
/-! X0_areQuarters -/
def wx_X0_areQuarters (Q : Int32 → XS → Prop) (S : XS) (x0 : Int32) (x1 : Int32) : Prop :=
  wx_X0_isIn (fun r2 S1 => (if r2 = 0 then Q (0 : Int32) S1 else wx_X0_isIn (fun r4 S3 => (if r4 = 0 then Q (0 : Int32) S3 else Q (1 : Int32) S3)) S1 (Int32.toInt64 x1) (Int32.toInt64 (x0 + (1 : Int32))) (96 : Int64))) S (Int32.toInt64 x0) (0 : Int64) (95 : Int64)
theorem hx_X0_areQuarters : yX0_areQuarters.cls = RX0 ∧ yX0_areQuarters.cls ≠ "java/lang/invoke/MethodHandle" ∧ yX0_areQuarters.cls ≠ "java/lang/invoke/VarHandle" ∧ (parseMethodDescriptor yX0_areQuarters.desc).map (fun d => d.parameters.length) = some 2 := by decide +kernel
set_option maxHeartbeats 4000000 in
set_option maxRecDepth 100000 in
theorem bx_X0_areQuarters (E : XE) (C : Cx) (S0 : XS) (sz : Nat) (Q : Int32 → XS → Prop) (S : XS) (x0 : Int32) (x1 : Int32) (hC : COk C cX0_areQuarters RX0 (some .boolean) 2 59 2) (hX : XOk E C) (hA : cx_A C = xA S0 sz) (hQ : cx_Q C = MQ (cx_b C) (va_Qi Q (BX1 E S0 sz) (xA S0 sz)) (cx_a C) (cx_s C) (cx_MC C) (cx_MS C) (xA S0 sz)) (h : wx_X0_areQuarters Q S x0 x1) : GX E C S 0 0 0 [some (.int x0), some (.int x1)] [] := by
  refine g_iload_n hC dX0_areQuarters_0 rfl ?_
  refine g_i2l hC dX0_areQuarters_1 ?_
  refine g_lconst (v := 0) hC dX0_areQuarters_2 (by decide) ?_
  refine g_ldc2 (v := 95) hC dX0_areQuarters_3 q795 ?_
  refine gX_ni hX (gX_runS (As := [.long (Int32.toInt64 x0), .long (0 : Int64), .long (95 : Int64)]) (rest := []) hC hX (mx_X0_isIn (cx_l C) E _ _ _ _ _ h) (lw_S q269 q270 q70 q271) hx_X0_isIn.2 rfl rfl (Or.inl (Nat.le_of_ble_eq_true rfl)) ⟨Nat.le_of_ble_eq_true rfl, Nat.le_of_ble_eq_true rfl⟩ dX0_areQuarters_6 (Nat.zero_le _) (Nat.zero_le _)) rfl rfl ?_
  intro r2 S1 h
  refine g_if_eq (tgt := 31) hC dX0_areQuarters_9 (by decide) (fun c => ?_) (fun c => ?_)
  · have h := it_p c h
    refine g_iconst (v := 0) hC dX0_areQuarters_31 (by decide) ?_
    refine gX_zret rfl rfl hC hA hQ dX0_areQuarters_32 h
  · have h := it_n c h
    refine g_iload_n hC dX0_areQuarters_12 rfl ?_
    refine g_i2l hC dX0_areQuarters_13 ?_
    refine g_iload_n hC dX0_areQuarters_14 rfl ?_
    refine g_iconst (v := 1) hC dX0_areQuarters_15 (by decide) ?_
    refine g_iadd hC dX0_areQuarters_16 ?_
    refine g_i2l hC dX0_areQuarters_17 ?_
    refine g_ldc2 (v := 96) hC dX0_areQuarters_18 q796 ?_
    refine gX_ni hX (gX_runS (As := [.long (Int32.toInt64 x1), .long (Int32.toInt64 (x0 + (1 : Int32))), .long (96 : Int64)]) (rest := []) hC hX (mx_X0_isIn (cx_l C) E _ _ _ _ _ h) (lw_S q269 q270 q70 q271) hx_X0_isIn.2 rfl rfl (Or.inl (Nat.le_of_ble_eq_true rfl)) ⟨Nat.le_of_ble_eq_true rfl, Nat.le_of_ble_eq_true rfl⟩ dX0_areQuarters_21 (Nat.zero_le _) (Nat.zero_le _)) rfl rfl ?_
    intro r4 S3 h
    refine g_if_eq (tgt := 31) hC dX0_areQuarters_24 (by decide) (fun c => ?_) (fun c => ?_)
    · have h := it_p c h
      refine g_iconst (v := 0) hC dX0_areQuarters_31 (by decide) ?_
      refine gX_zret rfl rfl hC hA hQ dX0_areQuarters_32 h
    · have h := it_n c h
      refine g_iconst (v := 1) hC dX0_areQuarters_27 (by decide) ?_
      refine g_goto (tgt := 32) hC dX0_areQuarters_28 (by decide) ?_
      refine gX_zret rfl rfl hC hA hQ dX0_areQuarters_32 h
theorem mx_X0_areQuarters (l : Launch) (E : XE) (Q : Int32 → XS → Prop) (S : XS) (x0 : Int32) (x1 : Int32) (h : wx_X0_areQuarters Q S x0 x1) : XMet E l yX0_areQuarters cX0_areQuarters 2 (some .boolean) ({ frames := 2, cells := 0, slots := 0, locals := 59 } : Room) [.int x0, .int x1] S (fun sz => va_Qi Q (BX1 E S sz) (xA S sz)) :=
  XMet_of (rm := ({ frames := 2, cells := 0, slots := 0, locals := 59 } : Room)) (by decide) (by simp [lg_sl, va_rf_cat, cat_i, cat_l]) (L0 := [some (.int x0), some (.int x1)]) (by simp [lx_pairs, lv_args, va_rf_cat, cat_i, cat_l, List.range_succ]) (fun sz C hC hX hl hnm hA hQ => bx_X0_areQuarters E C S sz Q S x0 x1 hC hX hA hQ h)
/-! X0_isBooked -/
def wx_X0_isBooked (Q : Int32 → XS → Prop) (S : XS) (x0 : Option Nat) : Prop :=
  dr x0 (fun u1 => xKD S u1 = some 100 ∧ vp_in (0 : Int32) (xLN S u1) ∧ wx_X0_isHall (fun r4 S3 => (if r4 = 0 then Q (0 : Int32) S3 else xKD S3 u1 = some 100 ∧ vp_in (1 : Int32) (xLN S3 u1) ∧ wx_X0_isIn (fun r7 S6 => (if r7 = 0 then Q (0 : Int32) S6 else xKD S6 u1 = some 100 ∧ vp_in (2 : Int32) (xLN S6 u1) ∧ wx_X0_isDay (fun r10 S9 => (if r10 = 0 then Q (0 : Int32) S9 else xKD S9 u1 = some 100 ∧ vp_in (3 : Int32) (xLN S9 u1) ∧ vp_in (4 : Int32) (xLN S9 u1) ∧ wx_X0_areQuarters (fun r13 S12 => (if r13 = 0 then Q (0 : Int32) S12 else xKD S12 u1 = some 100 ∧ vp_in (5 : Int32) (xLN S12 u1) ∧ wx_X0_isIn (fun r16 S15 => (if r16 = 0 then Q (0 : Int32) S15 else xKD S15 u1 = some 100 ∧ vp_in (6 : Int32) (xLN S15 u1) ∧ wx_X0_isIn (fun r19 S18 => (if r19 = 0 then Q (0 : Int32) S18 else xKD S18 u1 = some 100 ∧ vp_in (7 : Int32) (xLN S18 u1) ∧ wx_X0_isIn (fun r22 S21 => (if r22 = 0 then Q (0 : Int32) S21 else xKD S21 u1 = some 100 ∧ vp_in (8 : Int32) (xLN S21 u1) ∧ vp_in (2 : Int32) (xLN S21 u1) ∧ wx_X0_isIn (fun r25 S24 => (if r25 = 0 then Q (0 : Int32) S24 else Q (1 : Int32) S24)) S21 (Int32.toInt64 (xAI S21 u1 (Int32.toNatClampNeg (8 : Int32)))) (0 : Int64) (Int32.toInt64 (xAI S21 u1 (Int32.toNatClampNeg (2 : Int32)))))) S18 (Int32.toInt64 (xAI S18 u1 (Int32.toNatClampNeg (7 : Int32)))) (0 : Int64) (1 : Int64))) S15 (Int32.toInt64 (xAI S15 u1 (Int32.toNatClampNeg (6 : Int32)))) (0 : Int64) (4 : Int64))) S12 (Int32.toInt64 (xAI S12 u1 (Int32.toNatClampNeg (5 : Int32)))) (1 : Int64) (999 : Int64))) S9 (xAI S9 u1 (Int32.toNatClampNeg (3 : Int32))) (xAI S9 u1 (Int32.toNatClampNeg (4 : Int32))))) S6 (xAI S6 u1 (Int32.toNatClampNeg (2 : Int32))))) S3 (Int32.toInt64 (xAI S3 u1 (Int32.toNatClampNeg (1 : Int32)))) (0 : Int64) (1 : Int64))) S (xAI S u1 (Int32.toNatClampNeg (0 : Int32))))
theorem hx_X0_isBooked : yX0_isBooked.cls = RX0 ∧ yX0_isBooked.cls ≠ "java/lang/invoke/MethodHandle" ∧ yX0_isBooked.cls ≠ "java/lang/invoke/VarHandle" ∧ (parseMethodDescriptor yX0_isBooked.desc).map (fun d => d.parameters.length) = some 1 := by decide +kernel
set_option maxHeartbeats 4000000 in
set_option maxRecDepth 100000 in
theorem bx_X0_isBooked (E : XE) (C : Cx) (S0 : XS) (sz : Nat) (Q : Int32 → XS → Prop) (S : XS) (x0 : Option Nat) (hC : COk C cX0_isBooked RX0 (some .boolean) 3 80 1) (hX : XOk E C) (hA : cx_A C = xA S0 sz) (hQ : cx_Q C = MQ (cx_b C) (va_Qi Q (BX1 E S0 sz) (xA S0 sz)) (cx_a C) (cx_s C) (cx_MC C) (cx_MS C) (xA S0 sz)) (h : wx_X0_isBooked Q S x0) : GX E C S 0 0 0 [some (va_rf x0)] [] := by
  refine g_aload_nR hC dX0_isBooked_0 rfl ?_
  refine g_iconst (v := 0) hC dX0_isBooked_1 (by decide) ?_
  obtain ⟨u1, eu1, h⟩ := h
  refine g_top1 eu1 ?_
  have hk2 := h.1
  refine gX_iald hC hX dX0_isBooked_2 hk2 h.2.1 ?_
  refine gX_ni hX (gX_runS (As := [.int (xAI S u1 (Int32.toNatClampNeg (0 : Int32)))]) (rest := []) hC hX (mx_X0_isHall (cx_l C) E _ _ _ h.2.2) (lw_S q752 q753 q70 q754) hx_X0_isHall.2 rfl rfl (Or.inl (Nat.le_of_ble_eq_true rfl)) ⟨Nat.le_of_ble_eq_true rfl, Nat.le_of_ble_eq_true rfl⟩ dX0_isBooked_3 (Nat.zero_le _) (Nat.zero_le _)) rfl rfl ?_
  intro r4 S3 h
  refine g_if_eq (tgt := 104) hC dX0_isBooked_6 (by decide) (fun c => ?_) (fun c => ?_)
  · have h := it_p c h
    refine g_iconst (v := 0) hC dX0_isBooked_104 (by decide) ?_
    refine gX_zret rfl rfl hC hA hQ dX0_isBooked_105 h
  · have h := it_n c h
    refine g_aload_nR hC dX0_isBooked_9 rfl ?_
    refine g_iconst (v := 1) hC dX0_isBooked_10 (by decide) ?_
    refine g_top1 eu1 ?_
    have hk5 := h.1
    refine gX_iald hC hX dX0_isBooked_11 hk5 h.2.1 ?_
    refine g_i2l hC dX0_isBooked_12 ?_
    refine g_lconst (v := 0) hC dX0_isBooked_13 (by decide) ?_
    refine g_lconst (v := 1) hC dX0_isBooked_14 (by decide) ?_
    refine gX_ni hX (gX_runS (As := [.long (Int32.toInt64 (xAI S3 u1 (Int32.toNatClampNeg (1 : Int32)))), .long (0 : Int64), .long (1 : Int64)]) (rest := []) hC hX (mx_X0_isIn (cx_l C) E _ _ _ _ _ h.2.2) (lw_S q269 q270 q70 q271) hx_X0_isIn.2 rfl rfl (Or.inl (Nat.le_of_ble_eq_true rfl)) ⟨Nat.le_of_ble_eq_true rfl, Nat.le_of_ble_eq_true rfl⟩ dX0_isBooked_15 (Nat.zero_le _) (Nat.zero_le _)) rfl rfl ?_
    intro r7 S6 h
    refine g_if_eq (tgt := 104) hC dX0_isBooked_18 (by decide) (fun c => ?_) (fun c => ?_)
    · have h := it_p c h
      refine g_iconst (v := 0) hC dX0_isBooked_104 (by decide) ?_
      refine gX_zret rfl rfl hC hA hQ dX0_isBooked_105 h
    · have h := it_n c h
      refine g_aload_nR hC dX0_isBooked_21 rfl ?_
      refine g_iconst (v := 2) hC dX0_isBooked_22 (by decide) ?_
      refine g_top1 eu1 ?_
      have hk8 := h.1
      refine gX_iald hC hX dX0_isBooked_23 hk8 h.2.1 ?_
      refine gX_ni hX (gX_runS (As := [.int (xAI S6 u1 (Int32.toNatClampNeg (2 : Int32)))]) (rest := []) hC hX (mx_X0_isDay (cx_l C) E _ _ _ h.2.2) (lw_S q788 q789 q70 q790) hx_X0_isDay.2 rfl rfl (Or.inl (Nat.le_of_ble_eq_true rfl)) ⟨Nat.le_of_ble_eq_true rfl, Nat.le_of_ble_eq_true rfl⟩ dX0_isBooked_24 (Nat.zero_le _) (Nat.zero_le _)) rfl rfl ?_
      intro r10 S9 h
      refine g_if_eq (tgt := 104) hC dX0_isBooked_27 (by decide) (fun c => ?_) (fun c => ?_)
      · have h := it_p c h
        refine g_iconst (v := 0) hC dX0_isBooked_104 (by decide) ?_
        refine gX_zret rfl rfl hC hA hQ dX0_isBooked_105 h
      · have h := it_n c h
        refine g_aload_nR hC dX0_isBooked_30 rfl ?_
        refine g_iconst (v := 3) hC dX0_isBooked_31 (by decide) ?_
        refine g_top1 eu1 ?_
        have hk11 := h.1
        refine gX_iald hC hX dX0_isBooked_32 hk11 h.2.1 ?_
        refine g_aload_nR hC dX0_isBooked_33 rfl ?_
        refine g_iconst (v := 4) hC dX0_isBooked_34 (by decide) ?_
        refine g_top1 eu1 ?_
        refine gX_iald hC hX dX0_isBooked_35 hk11 h.2.2.1 ?_
        refine gX_ni hX (gX_runS (As := [.int (xAI S9 u1 (Int32.toNatClampNeg (3 : Int32))), .int (xAI S9 u1 (Int32.toNatClampNeg (4 : Int32)))]) (rest := []) hC hX (mx_X0_areQuarters (cx_l C) E _ _ _ _ h.2.2.2) (lw_S q792 q793 q70 q794) hx_X0_areQuarters.2 rfl rfl (Or.inl (Nat.le_of_ble_eq_true rfl)) ⟨Nat.le_of_ble_eq_true rfl, Nat.le_of_ble_eq_true rfl⟩ dX0_isBooked_36 (Nat.zero_le _) (Nat.zero_le _)) rfl rfl ?_
        intro r13 S12 h
        refine g_if_eq (tgt := 104) hC dX0_isBooked_39 (by decide) (fun c => ?_) (fun c => ?_)
        · have h := it_p c h
          refine g_iconst (v := 0) hC dX0_isBooked_104 (by decide) ?_
          refine gX_zret rfl rfl hC hA hQ dX0_isBooked_105 h
        · have h := it_n c h
          refine g_aload_nR hC dX0_isBooked_42 rfl ?_
          refine g_iconst (v := 5) hC dX0_isBooked_43 (by decide) ?_
          refine g_top1 eu1 ?_
          have hk14 := h.1
          refine gX_iald hC hX dX0_isBooked_44 hk14 h.2.1 ?_
          refine g_i2l hC dX0_isBooked_45 ?_
          refine g_lconst (v := 1) hC dX0_isBooked_46 (by decide) ?_
          refine g_ldc2 (v := 999) hC dX0_isBooked_47 q797 ?_
          refine gX_ni hX (gX_runS (As := [.long (Int32.toInt64 (xAI S12 u1 (Int32.toNatClampNeg (5 : Int32)))), .long (1 : Int64), .long (999 : Int64)]) (rest := []) hC hX (mx_X0_isIn (cx_l C) E _ _ _ _ _ h.2.2) (lw_S q269 q270 q70 q271) hx_X0_isIn.2 rfl rfl (Or.inl (Nat.le_of_ble_eq_true rfl)) ⟨Nat.le_of_ble_eq_true rfl, Nat.le_of_ble_eq_true rfl⟩ dX0_isBooked_50 (Nat.zero_le _) (Nat.zero_le _)) rfl rfl ?_
          intro r16 S15 h
          refine g_if_eq (tgt := 104) hC dX0_isBooked_53 (by decide) (fun c => ?_) (fun c => ?_)
          · have h := it_p c h
            refine g_iconst (v := 0) hC dX0_isBooked_104 (by decide) ?_
            refine gX_zret rfl rfl hC hA hQ dX0_isBooked_105 h
          · have h := it_n c h
            refine g_aload_nR hC dX0_isBooked_56 rfl ?_
            refine g_bipush (v := 6) hC dX0_isBooked_57 (by decide) ?_
            refine g_top1 eu1 ?_
            have hk17 := h.1
            refine gX_iald hC hX dX0_isBooked_59 hk17 h.2.1 ?_
            refine g_i2l hC dX0_isBooked_60 ?_
            refine g_lconst (v := 0) hC dX0_isBooked_61 (by decide) ?_
            refine g_ldc2 (v := 4) hC dX0_isBooked_62 q798 ?_
            refine gX_ni hX (gX_runS (As := [.long (Int32.toInt64 (xAI S15 u1 (Int32.toNatClampNeg (6 : Int32)))), .long (0 : Int64), .long (4 : Int64)]) (rest := []) hC hX (mx_X0_isIn (cx_l C) E _ _ _ _ _ h.2.2) (lw_S q269 q270 q70 q271) hx_X0_isIn.2 rfl rfl (Or.inl (Nat.le_of_ble_eq_true rfl)) ⟨Nat.le_of_ble_eq_true rfl, Nat.le_of_ble_eq_true rfl⟩ dX0_isBooked_65 (Nat.zero_le _) (Nat.zero_le _)) rfl rfl ?_
            intro r19 S18 h
            refine g_if_eq (tgt := 104) hC dX0_isBooked_68 (by decide) (fun c => ?_) (fun c => ?_)
            · have h := it_p c h
              refine g_iconst (v := 0) hC dX0_isBooked_104 (by decide) ?_
              refine gX_zret rfl rfl hC hA hQ dX0_isBooked_105 h
            · have h := it_n c h
              refine g_aload_nR hC dX0_isBooked_71 rfl ?_
              refine g_bipush (v := 7) hC dX0_isBooked_72 (by decide) ?_
              refine g_top1 eu1 ?_
              have hk20 := h.1
              refine gX_iald hC hX dX0_isBooked_74 hk20 h.2.1 ?_
              refine g_i2l hC dX0_isBooked_75 ?_
              refine g_lconst (v := 0) hC dX0_isBooked_76 (by decide) ?_
              refine g_lconst (v := 1) hC dX0_isBooked_77 (by decide) ?_
              refine gX_ni hX (gX_runS (As := [.long (Int32.toInt64 (xAI S18 u1 (Int32.toNatClampNeg (7 : Int32)))), .long (0 : Int64), .long (1 : Int64)]) (rest := []) hC hX (mx_X0_isIn (cx_l C) E _ _ _ _ _ h.2.2) (lw_S q269 q270 q70 q271) hx_X0_isIn.2 rfl rfl (Or.inl (Nat.le_of_ble_eq_true rfl)) ⟨Nat.le_of_ble_eq_true rfl, Nat.le_of_ble_eq_true rfl⟩ dX0_isBooked_78 (Nat.zero_le _) (Nat.zero_le _)) rfl rfl ?_
              intro r22 S21 h
              refine g_if_eq (tgt := 104) hC dX0_isBooked_81 (by decide) (fun c => ?_) (fun c => ?_)
              · have h := it_p c h
                refine g_iconst (v := 0) hC dX0_isBooked_104 (by decide) ?_
                refine gX_zret rfl rfl hC hA hQ dX0_isBooked_105 h
              · have h := it_n c h
                refine g_aload_nR hC dX0_isBooked_84 rfl ?_
                refine g_bipush (v := 8) hC dX0_isBooked_85 (by decide) ?_
                refine g_top1 eu1 ?_
                have hk23 := h.1
                refine gX_iald hC hX dX0_isBooked_87 hk23 h.2.1 ?_
                refine g_i2l hC dX0_isBooked_88 ?_
                refine g_lconst (v := 0) hC dX0_isBooked_89 (by decide) ?_
                refine g_aload_nR hC dX0_isBooked_90 rfl ?_
                refine g_iconst (v := 2) hC dX0_isBooked_91 (by decide) ?_
                refine g_top1 eu1 ?_
                refine gX_iald hC hX dX0_isBooked_92 hk23 h.2.2.1 ?_
                refine g_i2l hC dX0_isBooked_93 ?_
                refine gX_ni hX (gX_runS (As := [.long (Int32.toInt64 (xAI S21 u1 (Int32.toNatClampNeg (8 : Int32)))), .long (0 : Int64), .long (Int32.toInt64 (xAI S21 u1 (Int32.toNatClampNeg (2 : Int32))))]) (rest := []) hC hX (mx_X0_isIn (cx_l C) E _ _ _ _ _ h.2.2.2) (lw_S q269 q270 q70 q271) hx_X0_isIn.2 rfl rfl (Or.inl (Nat.le_of_ble_eq_true rfl)) ⟨Nat.le_of_ble_eq_true rfl, Nat.le_of_ble_eq_true rfl⟩ dX0_isBooked_94 (Nat.zero_le _) (Nat.zero_le _)) rfl rfl ?_
                intro r25 S24 h
                refine g_if_eq (tgt := 104) hC dX0_isBooked_97 (by decide) (fun c => ?_) (fun c => ?_)
                · have h := it_p c h
                  refine g_iconst (v := 0) hC dX0_isBooked_104 (by decide) ?_
                  refine gX_zret rfl rfl hC hA hQ dX0_isBooked_105 h
                · have h := it_n c h
                  refine g_iconst (v := 1) hC dX0_isBooked_100 (by decide) ?_
                  refine g_goto (tgt := 105) hC dX0_isBooked_101 (by decide) ?_
                  refine gX_zret rfl rfl hC hA hQ dX0_isBooked_105 h
theorem mx_X0_isBooked (l : Launch) (E : XE) (Q : Int32 → XS → Prop) (S : XS) (x0 : Option Nat) (h : wx_X0_isBooked Q S x0) : XMet E l yX0_isBooked cX0_isBooked 1 (some .boolean) ({ frames := 3, cells := 0, slots := 0, locals := 80 } : Room) [va_rf x0] S (fun sz => va_Qi Q (BX1 E S sz) (xA S sz)) :=
  XMet_of (rm := ({ frames := 3, cells := 0, slots := 0, locals := 80 } : Room)) (by decide) (by simp [lg_sl, va_rf_cat, cat_i, cat_l]) (L0 := [some (va_rf x0)]) (by simp [lx_pairs, lv_args, va_rf_cat, cat_i, cat_l, List.range_succ]) (fun sz C hC hX hl hnm hA hQ => bx_X0_isBooked E C S sz Q S x0 hC hX hA hQ h)
/-! X8_init -/
def wx_X8_init_79 (Q : XS → Prop) (S : XS) (a0 : Option Nat) (a2 : Option Nat) (s0 : Option Nat) (s1 : Int32) : Prop :=
  dr s0 (fun u5 => xKD S u5 = some 7 ∧ narrow .boolean (.int s1) = .int s1 ∧ fits .boolean (.int s1) = true ∧ dr a2 (fun u7 => xKD (sFI S 708 u5 s1) u7 = some 100 ∧ vp_in (8 : Int32) (xLN (sFI S 708 u5 s1) u7) ∧ dr a0 (fun u9 => xKD (sFI S 708 u5 s1) u9 = some 7 ∧ Q (sFI (sFI S 708 u5 s1) 709 u9 (xAI (sFI S 708 u5 s1) u7 (Int32.toNatClampNeg (8 : Int32)))))))
def wx_X8_init (Q : XS → Prop) (S : XS) (x0 : Option Nat) (x1 : Int32) (x2 : Option Nat) : Prop :=
  dr x0 (fun u1 => xKD S u1 = some 7 ∧ dr x2 (fun u3 => xKD (sFI (sFI S 710 u1 (-1000000 : Int32)) 700 u1 x1) u3 = some 100 ∧ vp_in (0 : Int32) (xLN (sFI (sFI S 710 u1 (-1000000 : Int32)) 700 u1 x1) u3) ∧ vp_in (1 : Int32) (xLN (sFI (sFI (sFI S 710 u1 (-1000000 : Int32)) 700 u1 x1) 701 u1 (xAI (sFI (sFI S 710 u1 (-1000000 : Int32)) 700 u1 x1) u3 (Int32.toNatClampNeg (0 : Int32)))) u3) ∧ vp_in (2 : Int32) (xLN (sFI (sFI (sFI (sFI S 710 u1 (-1000000 : Int32)) 700 u1 x1) 701 u1 (xAI (sFI (sFI S 710 u1 (-1000000 : Int32)) 700 u1 x1) u3 (Int32.toNatClampNeg (0 : Int32)))) 702 u1 (xAI (sFI (sFI (sFI S 710 u1 (-1000000 : Int32)) 700 u1 x1) 701 u1 (xAI (sFI (sFI S 710 u1 (-1000000 : Int32)) 700 u1 x1) u3 (Int32.toNatClampNeg (0 : Int32)))) u3 (Int32.toNatClampNeg (1 : Int32)))) u3) ∧ vp_in (3 : Int32) (xLN (sFI (sFI (sFI (sFI (sFI S 710 u1 (-1000000 : Int32)) 700 u1 x1) 701 u1 (xAI (sFI (sFI S 710 u1 (-1000000 : Int32)) 700 u1 x1) u3 (Int32.toNatClampNeg (0 : Int32)))) 702 u1 (xAI (sFI (sFI (sFI S 710 u1 (-1000000 : Int32)) 700 u1 x1) 701 u1 (xAI (sFI (sFI S 710 u1 (-1000000 : Int32)) 700 u1 x1) u3 (Int32.toNatClampNeg (0 : Int32)))) u3 (Int32.toNatClampNeg (1 : Int32)))) 703 u1 (xAI (sFI (sFI (sFI (sFI S 710 u1 (-1000000 : Int32)) 700 u1 x1) 701 u1 (xAI (sFI (sFI S 710 u1 (-1000000 : Int32)) 700 u1 x1) u3 (Int32.toNatClampNeg (0 : Int32)))) 702 u1 (xAI (sFI (sFI (sFI S 710 u1 (-1000000 : Int32)) 700 u1 x1) 701 u1 (xAI (sFI (sFI S 710 u1 (-1000000 : Int32)) 700 u1 x1) u3 (Int32.toNatClampNeg (0 : Int32)))) u3 (Int32.toNatClampNeg (1 : Int32)))) u3 (Int32.toNatClampNeg (2 : Int32)))) u3) ∧ vp_in (4 : Int32) (xLN (sFI (sFI (sFI (sFI (sFI (sFI S 710 u1 (-1000000 : Int32)) 700 u1 x1) 701 u1 (xAI (sFI (sFI S 710 u1 (-1000000 : Int32)) 700 u1 x1) u3 (Int32.toNatClampNeg (0 : Int32)))) 702 u1 (xAI (sFI (sFI (sFI S 710 u1 (-1000000 : Int32)) 700 u1 x1) 701 u1 (xAI (sFI (sFI S 710 u1 (-1000000 : Int32)) 700 u1 x1) u3 (Int32.toNatClampNeg (0 : Int32)))) u3 (Int32.toNatClampNeg (1 : Int32)))) 703 u1 (xAI (sFI (sFI (sFI (sFI S 710 u1 (-1000000 : Int32)) 700 u1 x1) 701 u1 (xAI (sFI (sFI S 710 u1 (-1000000 : Int32)) 700 u1 x1) u3 (Int32.toNatClampNeg (0 : Int32)))) 702 u1 (xAI (sFI (sFI (sFI S 710 u1 (-1000000 : Int32)) 700 u1 x1) 701 u1 (xAI (sFI (sFI S 710 u1 (-1000000 : Int32)) 700 u1 x1) u3 (Int32.toNatClampNeg (0 : Int32)))) u3 (Int32.toNatClampNeg (1 : Int32)))) u3 (Int32.toNatClampNeg (2 : Int32)))) 704 u1 (xAI (sFI (sFI (sFI (sFI (sFI S 710 u1 (-1000000 : Int32)) 700 u1 x1) 701 u1 (xAI (sFI (sFI S 710 u1 (-1000000 : Int32)) 700 u1 x1) u3 (Int32.toNatClampNeg (0 : Int32)))) 702 u1 (xAI (sFI (sFI (sFI S 710 u1 (-1000000 : Int32)) 700 u1 x1) 701 u1 (xAI (sFI (sFI S 710 u1 (-1000000 : Int32)) 700 u1 x1) u3 (Int32.toNatClampNeg (0 : Int32)))) u3 (Int32.toNatClampNeg (1 : Int32)))) 703 u1 (xAI (sFI (sFI (sFI (sFI S 710 u1 (-1000000 : Int32)) 700 u1 x1) 701 u1 (xAI (sFI (sFI S 710 u1 (-1000000 : Int32)) 700 u1 x1) u3 (Int32.toNatClampNeg (0 : Int32)))) 702 u1 (xAI (sFI (sFI (sFI S 710 u1 (-1000000 : Int32)) 700 u1 x1) 701 u1 (xAI (sFI (sFI S 710 u1 (-1000000 : Int32)) 700 u1 x1) u3 (Int32.toNatClampNeg (0 : Int32)))) u3 (Int32.toNatClampNeg (1 : Int32)))) u3 (Int32.toNatClampNeg (2 : Int32)))) u3 (Int32.toNatClampNeg (3 : Int32)))) u3) ∧ vp_in (5 : Int32) (xLN (sFI (sFI (sFI (sFI (sFI (sFI (sFI S 710 u1 (-1000000 : Int32)) 700 u1 x1) 701 u1 (xAI (sFI (sFI S 710 u1 (-1000000 : Int32)) 700 u1 x1) u3 (Int32.toNatClampNeg (0 : Int32)))) 702 u1 (xAI (sFI (sFI (sFI S 710 u1 (-1000000 : Int32)) 700 u1 x1) 701 u1 (xAI (sFI (sFI S 710 u1 (-1000000 : Int32)) 700 u1 x1) u3 (Int32.toNatClampNeg (0 : Int32)))) u3 (Int32.toNatClampNeg (1 : Int32)))) 703 u1 (xAI (sFI (sFI (sFI (sFI S 710 u1 (-1000000 : Int32)) 700 u1 x1) 701 u1 (xAI (sFI (sFI S 710 u1 (-1000000 : Int32)) 700 u1 x1) u3 (Int32.toNatClampNeg (0 : Int32)))) 702 u1 (xAI (sFI (sFI (sFI S 710 u1 (-1000000 : Int32)) 700 u1 x1) 701 u1 (xAI (sFI (sFI S 710 u1 (-1000000 : Int32)) 700 u1 x1) u3 (Int32.toNatClampNeg (0 : Int32)))) u3 (Int32.toNatClampNeg (1 : Int32)))) u3 (Int32.toNatClampNeg (2 : Int32)))) 704 u1 (xAI (sFI (sFI (sFI (sFI (sFI S 710 u1 (-1000000 : Int32)) 700 u1 x1) 701 u1 (xAI (sFI (sFI S 710 u1 (-1000000 : Int32)) 700 u1 x1) u3 (Int32.toNatClampNeg (0 : Int32)))) 702 u1 (xAI (sFI (sFI (sFI S 710 u1 (-1000000 : Int32)) 700 u1 x1) 701 u1 (xAI (sFI (sFI S 710 u1 (-1000000 : Int32)) 700 u1 x1) u3 (Int32.toNatClampNeg (0 : Int32)))) u3 (Int32.toNatClampNeg (1 : Int32)))) 703 u1 (xAI (sFI (sFI (sFI (sFI S 710 u1 (-1000000 : Int32)) 700 u1 x1) 701 u1 (xAI (sFI (sFI S 710 u1 (-1000000 : Int32)) 700 u1 x1) u3 (Int32.toNatClampNeg (0 : Int32)))) 702 u1 (xAI (sFI (sFI (sFI S 710 u1 (-1000000 : Int32)) 700 u1 x1) 701 u1 (xAI (sFI (sFI S 710 u1 (-1000000 : Int32)) 700 u1 x1) u3 (Int32.toNatClampNeg (0 : Int32)))) u3 (Int32.toNatClampNeg (1 : Int32)))) u3 (Int32.toNatClampNeg (2 : Int32)))) u3 (Int32.toNatClampNeg (3 : Int32)))) 705 u1 (xAI (sFI (sFI (sFI (sFI (sFI (sFI S 710 u1 (-1000000 : Int32)) 700 u1 x1) 701 u1 (xAI (sFI (sFI S 710 u1 (-1000000 : Int32)) 700 u1 x1) u3 (Int32.toNatClampNeg (0 : Int32)))) 702 u1 (xAI (sFI (sFI (sFI S 710 u1 (-1000000 : Int32)) 700 u1 x1) 701 u1 (xAI (sFI (sFI S 710 u1 (-1000000 : Int32)) 700 u1 x1) u3 (Int32.toNatClampNeg (0 : Int32)))) u3 (Int32.toNatClampNeg (1 : Int32)))) 703 u1 (xAI (sFI (sFI (sFI (sFI S 710 u1 (-1000000 : Int32)) 700 u1 x1) 701 u1 (xAI (sFI (sFI S 710 u1 (-1000000 : Int32)) 700 u1 x1) u3 (Int32.toNatClampNeg (0 : Int32)))) 702 u1 (xAI (sFI (sFI (sFI S 710 u1 (-1000000 : Int32)) 700 u1 x1) 701 u1 (xAI (sFI (sFI S 710 u1 (-1000000 : Int32)) 700 u1 x1) u3 (Int32.toNatClampNeg (0 : Int32)))) u3 (Int32.toNatClampNeg (1 : Int32)))) u3 (Int32.toNatClampNeg (2 : Int32)))) 704 u1 (xAI (sFI (sFI (sFI (sFI (sFI S 710 u1 (-1000000 : Int32)) 700 u1 x1) 701 u1 (xAI (sFI (sFI S 710 u1 (-1000000 : Int32)) 700 u1 x1) u3 (Int32.toNatClampNeg (0 : Int32)))) 702 u1 (xAI (sFI (sFI (sFI S 710 u1 (-1000000 : Int32)) 700 u1 x1) 701 u1 (xAI (sFI (sFI S 710 u1 (-1000000 : Int32)) 700 u1 x1) u3 (Int32.toNatClampNeg (0 : Int32)))) u3 (Int32.toNatClampNeg (1 : Int32)))) 703 u1 (xAI (sFI (sFI (sFI (sFI S 710 u1 (-1000000 : Int32)) 700 u1 x1) 701 u1 (xAI (sFI (sFI S 710 u1 (-1000000 : Int32)) 700 u1 x1) u3 (Int32.toNatClampNeg (0 : Int32)))) 702 u1 (xAI (sFI (sFI (sFI S 710 u1 (-1000000 : Int32)) 700 u1 x1) 701 u1 (xAI (sFI (sFI S 710 u1 (-1000000 : Int32)) 700 u1 x1) u3 (Int32.toNatClampNeg (0 : Int32)))) u3 (Int32.toNatClampNeg (1 : Int32)))) u3 (Int32.toNatClampNeg (2 : Int32)))) u3 (Int32.toNatClampNeg (3 : Int32)))) u3 (Int32.toNatClampNeg (4 : Int32)))) u3) ∧ vp_in (6 : Int32) (xLN (sFI (sFI (sFI (sFI (sFI (sFI (sFI (sFI S 710 u1 (-1000000 : Int32)) 700 u1 x1) 701 u1 (xAI (sFI (sFI S 710 u1 (-1000000 : Int32)) 700 u1 x1) u3 (Int32.toNatClampNeg (0 : Int32)))) 702 u1 (xAI (sFI (sFI (sFI S 710 u1 (-1000000 : Int32)) 700 u1 x1) 701 u1 (xAI (sFI (sFI S 710 u1 (-1000000 : Int32)) 700 u1 x1) u3 (Int32.toNatClampNeg (0 : Int32)))) u3 (Int32.toNatClampNeg (1 : Int32)))) 703 u1 (xAI (sFI (sFI (sFI (sFI S 710 u1 (-1000000 : Int32)) 700 u1 x1) 701 u1 (xAI (sFI (sFI S 710 u1 (-1000000 : Int32)) 700 u1 x1) u3 (Int32.toNatClampNeg (0 : Int32)))) 702 u1 (xAI (sFI (sFI (sFI S 710 u1 (-1000000 : Int32)) 700 u1 x1) 701 u1 (xAI (sFI (sFI S 710 u1 (-1000000 : Int32)) 700 u1 x1) u3 (Int32.toNatClampNeg (0 : Int32)))) u3 (Int32.toNatClampNeg (1 : Int32)))) u3 (Int32.toNatClampNeg (2 : Int32)))) 704 u1 (xAI (sFI (sFI (sFI (sFI (sFI S 710 u1 (-1000000 : Int32)) 700 u1 x1) 701 u1 (xAI (sFI (sFI S 710 u1 (-1000000 : Int32)) 700 u1 x1) u3 (Int32.toNatClampNeg (0 : Int32)))) 702 u1 (xAI (sFI (sFI (sFI S 710 u1 (-1000000 : Int32)) 700 u1 x1) 701 u1 (xAI (sFI (sFI S 710 u1 (-1000000 : Int32)) 700 u1 x1) u3 (Int32.toNatClampNeg (0 : Int32)))) u3 (Int32.toNatClampNeg (1 : Int32)))) 703 u1 (xAI (sFI (sFI (sFI (sFI S 710 u1 (-1000000 : Int32)) 700 u1 x1) 701 u1 (xAI (sFI (sFI S 710 u1 (-1000000 : Int32)) 700 u1 x1) u3 (Int32.toNatClampNeg (0 : Int32)))) 702 u1 (xAI (sFI (sFI (sFI S 710 u1 (-1000000 : Int32)) 700 u1 x1) 701 u1 (xAI (sFI (sFI S 710 u1 (-1000000 : Int32)) 700 u1 x1) u3 (Int32.toNatClampNeg (0 : Int32)))) u3 (Int32.toNatClampNeg (1 : Int32)))) u3 (Int32.toNatClampNeg (2 : Int32)))) u3 (Int32.toNatClampNeg (3 : Int32)))) 705 u1 (xAI (sFI (sFI (sFI (sFI (sFI (sFI S 710 u1 (-1000000 : Int32)) 700 u1 x1) 701 u1 (xAI (sFI (sFI S 710 u1 (-1000000 : Int32)) 700 u1 x1) u3 (Int32.toNatClampNeg (0 : Int32)))) 702 u1 (xAI (sFI (sFI (sFI S 710 u1 (-1000000 : Int32)) 700 u1 x1) 701 u1 (xAI (sFI (sFI S 710 u1 (-1000000 : Int32)) 700 u1 x1) u3 (Int32.toNatClampNeg (0 : Int32)))) u3 (Int32.toNatClampNeg (1 : Int32)))) 703 u1 (xAI (sFI (sFI (sFI (sFI S 710 u1 (-1000000 : Int32)) 700 u1 x1) 701 u1 (xAI (sFI (sFI S 710 u1 (-1000000 : Int32)) 700 u1 x1) u3 (Int32.toNatClampNeg (0 : Int32)))) 702 u1 (xAI (sFI (sFI (sFI S 710 u1 (-1000000 : Int32)) 700 u1 x1) 701 u1 (xAI (sFI (sFI S 710 u1 (-1000000 : Int32)) 700 u1 x1) u3 (Int32.toNatClampNeg (0 : Int32)))) u3 (Int32.toNatClampNeg (1 : Int32)))) u3 (Int32.toNatClampNeg (2 : Int32)))) 704 u1 (xAI (sFI (sFI (sFI (sFI (sFI S 710 u1 (-1000000 : Int32)) 700 u1 x1) 701 u1 (xAI (sFI (sFI S 710 u1 (-1000000 : Int32)) 700 u1 x1) u3 (Int32.toNatClampNeg (0 : Int32)))) 702 u1 (xAI (sFI (sFI (sFI S 710 u1 (-1000000 : Int32)) 700 u1 x1) 701 u1 (xAI (sFI (sFI S 710 u1 (-1000000 : Int32)) 700 u1 x1) u3 (Int32.toNatClampNeg (0 : Int32)))) u3 (Int32.toNatClampNeg (1 : Int32)))) 703 u1 (xAI (sFI (sFI (sFI (sFI S 710 u1 (-1000000 : Int32)) 700 u1 x1) 701 u1 (xAI (sFI (sFI S 710 u1 (-1000000 : Int32)) 700 u1 x1) u3 (Int32.toNatClampNeg (0 : Int32)))) 702 u1 (xAI (sFI (sFI (sFI S 710 u1 (-1000000 : Int32)) 700 u1 x1) 701 u1 (xAI (sFI (sFI S 710 u1 (-1000000 : Int32)) 700 u1 x1) u3 (Int32.toNatClampNeg (0 : Int32)))) u3 (Int32.toNatClampNeg (1 : Int32)))) u3 (Int32.toNatClampNeg (2 : Int32)))) u3 (Int32.toNatClampNeg (3 : Int32)))) u3 (Int32.toNatClampNeg (4 : Int32)))) 706 u1 (xAI (sFI (sFI (sFI (sFI (sFI (sFI (sFI S 710 u1 (-1000000 : Int32)) 700 u1 x1) 701 u1 (xAI (sFI (sFI S 710 u1 (-1000000 : Int32)) 700 u1 x1) u3 (Int32.toNatClampNeg (0 : Int32)))) 702 u1 (xAI (sFI (sFI (sFI S 710 u1 (-1000000 : Int32)) 700 u1 x1) 701 u1 (xAI (sFI (sFI S 710 u1 (-1000000 : Int32)) 700 u1 x1) u3 (Int32.toNatClampNeg (0 : Int32)))) u3 (Int32.toNatClampNeg (1 : Int32)))) 703 u1 (xAI (sFI (sFI (sFI (sFI S 710 u1 (-1000000 : Int32)) 700 u1 x1) 701 u1 (xAI (sFI (sFI S 710 u1 (-1000000 : Int32)) 700 u1 x1) u3 (Int32.toNatClampNeg (0 : Int32)))) 702 u1 (xAI (sFI (sFI (sFI S 710 u1 (-1000000 : Int32)) 700 u1 x1) 701 u1 (xAI (sFI (sFI S 710 u1 (-1000000 : Int32)) 700 u1 x1) u3 (Int32.toNatClampNeg (0 : Int32)))) u3 (Int32.toNatClampNeg (1 : Int32)))) u3 (Int32.toNatClampNeg (2 : Int32)))) 704 u1 (xAI (sFI (sFI (sFI (sFI (sFI S 710 u1 (-1000000 : Int32)) 700 u1 x1) 701 u1 (xAI (sFI (sFI S 710 u1 (-1000000 : Int32)) 700 u1 x1) u3 (Int32.toNatClampNeg (0 : Int32)))) 702 u1 (xAI (sFI (sFI (sFI S 710 u1 (-1000000 : Int32)) 700 u1 x1) 701 u1 (xAI (sFI (sFI S 710 u1 (-1000000 : Int32)) 700 u1 x1) u3 (Int32.toNatClampNeg (0 : Int32)))) u3 (Int32.toNatClampNeg (1 : Int32)))) 703 u1 (xAI (sFI (sFI (sFI (sFI S 710 u1 (-1000000 : Int32)) 700 u1 x1) 701 u1 (xAI (sFI (sFI S 710 u1 (-1000000 : Int32)) 700 u1 x1) u3 (Int32.toNatClampNeg (0 : Int32)))) 702 u1 (xAI (sFI (sFI (sFI S 710 u1 (-1000000 : Int32)) 700 u1 x1) 701 u1 (xAI (sFI (sFI S 710 u1 (-1000000 : Int32)) 700 u1 x1) u3 (Int32.toNatClampNeg (0 : Int32)))) u3 (Int32.toNatClampNeg (1 : Int32)))) u3 (Int32.toNatClampNeg (2 : Int32)))) u3 (Int32.toNatClampNeg (3 : Int32)))) 705 u1 (xAI (sFI (sFI (sFI (sFI (sFI (sFI S 710 u1 (-1000000 : Int32)) 700 u1 x1) 701 u1 (xAI (sFI (sFI S 710 u1 (-1000000 : Int32)) 700 u1 x1) u3 (Int32.toNatClampNeg (0 : Int32)))) 702 u1 (xAI (sFI (sFI (sFI S 710 u1 (-1000000 : Int32)) 700 u1 x1) 701 u1 (xAI (sFI (sFI S 710 u1 (-1000000 : Int32)) 700 u1 x1) u3 (Int32.toNatClampNeg (0 : Int32)))) u3 (Int32.toNatClampNeg (1 : Int32)))) 703 u1 (xAI (sFI (sFI (sFI (sFI S 710 u1 (-1000000 : Int32)) 700 u1 x1) 701 u1 (xAI (sFI (sFI S 710 u1 (-1000000 : Int32)) 700 u1 x1) u3 (Int32.toNatClampNeg (0 : Int32)))) 702 u1 (xAI (sFI (sFI (sFI S 710 u1 (-1000000 : Int32)) 700 u1 x1) 701 u1 (xAI (sFI (sFI S 710 u1 (-1000000 : Int32)) 700 u1 x1) u3 (Int32.toNatClampNeg (0 : Int32)))) u3 (Int32.toNatClampNeg (1 : Int32)))) u3 (Int32.toNatClampNeg (2 : Int32)))) 704 u1 (xAI (sFI (sFI (sFI (sFI (sFI S 710 u1 (-1000000 : Int32)) 700 u1 x1) 701 u1 (xAI (sFI (sFI S 710 u1 (-1000000 : Int32)) 700 u1 x1) u3 (Int32.toNatClampNeg (0 : Int32)))) 702 u1 (xAI (sFI (sFI (sFI S 710 u1 (-1000000 : Int32)) 700 u1 x1) 701 u1 (xAI (sFI (sFI S 710 u1 (-1000000 : Int32)) 700 u1 x1) u3 (Int32.toNatClampNeg (0 : Int32)))) u3 (Int32.toNatClampNeg (1 : Int32)))) 703 u1 (xAI (sFI (sFI (sFI (sFI S 710 u1 (-1000000 : Int32)) 700 u1 x1) 701 u1 (xAI (sFI (sFI S 710 u1 (-1000000 : Int32)) 700 u1 x1) u3 (Int32.toNatClampNeg (0 : Int32)))) 702 u1 (xAI (sFI (sFI (sFI S 710 u1 (-1000000 : Int32)) 700 u1 x1) 701 u1 (xAI (sFI (sFI S 710 u1 (-1000000 : Int32)) 700 u1 x1) u3 (Int32.toNatClampNeg (0 : Int32)))) u3 (Int32.toNatClampNeg (1 : Int32)))) u3 (Int32.toNatClampNeg (2 : Int32)))) u3 (Int32.toNatClampNeg (3 : Int32)))) u3 (Int32.toNatClampNeg (4 : Int32)))) u3 (Int32.toNatClampNeg (5 : Int32)))) u3) ∧ vp_in (7 : Int32) (xLN (sFI (sFI (sFI (sFI (sFI (sFI (sFI (sFI (sFI S 710 u1 (-1000000 : Int32)) 700 u1 x1) 701 u1 (xAI (sFI (sFI S 710 u1 (-1000000 : Int32)) 700 u1 x1) u3 (Int32.toNatClampNeg (0 : Int32)))) 702 u1 (xAI (sFI (sFI (sFI S 710 u1 (-1000000 : Int32)) 700 u1 x1) 701 u1 (xAI (sFI (sFI S 710 u1 (-1000000 : Int32)) 700 u1 x1) u3 (Int32.toNatClampNeg (0 : Int32)))) u3 (Int32.toNatClampNeg (1 : Int32)))) 703 u1 (xAI (sFI (sFI (sFI (sFI S 710 u1 (-1000000 : Int32)) 700 u1 x1) 701 u1 (xAI (sFI (sFI S 710 u1 (-1000000 : Int32)) 700 u1 x1) u3 (Int32.toNatClampNeg (0 : Int32)))) 702 u1 (xAI (sFI (sFI (sFI S 710 u1 (-1000000 : Int32)) 700 u1 x1) 701 u1 (xAI (sFI (sFI S 710 u1 (-1000000 : Int32)) 700 u1 x1) u3 (Int32.toNatClampNeg (0 : Int32)))) u3 (Int32.toNatClampNeg (1 : Int32)))) u3 (Int32.toNatClampNeg (2 : Int32)))) 704 u1 (xAI (sFI (sFI (sFI (sFI (sFI S 710 u1 (-1000000 : Int32)) 700 u1 x1) 701 u1 (xAI (sFI (sFI S 710 u1 (-1000000 : Int32)) 700 u1 x1) u3 (Int32.toNatClampNeg (0 : Int32)))) 702 u1 (xAI (sFI (sFI (sFI S 710 u1 (-1000000 : Int32)) 700 u1 x1) 701 u1 (xAI (sFI (sFI S 710 u1 (-1000000 : Int32)) 700 u1 x1) u3 (Int32.toNatClampNeg (0 : Int32)))) u3 (Int32.toNatClampNeg (1 : Int32)))) 703 u1 (xAI (sFI (sFI (sFI (sFI S 710 u1 (-1000000 : Int32)) 700 u1 x1) 701 u1 (xAI (sFI (sFI S 710 u1 (-1000000 : Int32)) 700 u1 x1) u3 (Int32.toNatClampNeg (0 : Int32)))) 702 u1 (xAI (sFI (sFI (sFI S 710 u1 (-1000000 : Int32)) 700 u1 x1) 701 u1 (xAI (sFI (sFI S 710 u1 (-1000000 : Int32)) 700 u1 x1) u3 (Int32.toNatClampNeg (0 : Int32)))) u3 (Int32.toNatClampNeg (1 : Int32)))) u3 (Int32.toNatClampNeg (2 : Int32)))) u3 (Int32.toNatClampNeg (3 : Int32)))) 705 u1 (xAI (sFI (sFI (sFI (sFI (sFI (sFI S 710 u1 (-1000000 : Int32)) 700 u1 x1) 701 u1 (xAI (sFI (sFI S 710 u1 (-1000000 : Int32)) 700 u1 x1) u3 (Int32.toNatClampNeg (0 : Int32)))) 702 u1 (xAI (sFI (sFI (sFI S 710 u1 (-1000000 : Int32)) 700 u1 x1) 701 u1 (xAI (sFI (sFI S 710 u1 (-1000000 : Int32)) 700 u1 x1) u3 (Int32.toNatClampNeg (0 : Int32)))) u3 (Int32.toNatClampNeg (1 : Int32)))) 703 u1 (xAI (sFI (sFI (sFI (sFI S 710 u1 (-1000000 : Int32)) 700 u1 x1) 701 u1 (xAI (sFI (sFI S 710 u1 (-1000000 : Int32)) 700 u1 x1) u3 (Int32.toNatClampNeg (0 : Int32)))) 702 u1 (xAI (sFI (sFI (sFI S 710 u1 (-1000000 : Int32)) 700 u1 x1) 701 u1 (xAI (sFI (sFI S 710 u1 (-1000000 : Int32)) 700 u1 x1) u3 (Int32.toNatClampNeg (0 : Int32)))) u3 (Int32.toNatClampNeg (1 : Int32)))) u3 (Int32.toNatClampNeg (2 : Int32)))) 704 u1 (xAI (sFI (sFI (sFI (sFI (sFI S 710 u1 (-1000000 : Int32)) 700 u1 x1) 701 u1 (xAI (sFI (sFI S 710 u1 (-1000000 : Int32)) 700 u1 x1) u3 (Int32.toNatClampNeg (0 : Int32)))) 702 u1 (xAI (sFI (sFI (sFI S 710 u1 (-1000000 : Int32)) 700 u1 x1) 701 u1 (xAI (sFI (sFI S 710 u1 (-1000000 : Int32)) 700 u1 x1) u3 (Int32.toNatClampNeg (0 : Int32)))) u3 (Int32.toNatClampNeg (1 : Int32)))) 703 u1 (xAI (sFI (sFI (sFI (sFI S 710 u1 (-1000000 : Int32)) 700 u1 x1) 701 u1 (xAI (sFI (sFI S 710 u1 (-1000000 : Int32)) 700 u1 x1) u3 (Int32.toNatClampNeg (0 : Int32)))) 702 u1 (xAI (sFI (sFI (sFI S 710 u1 (-1000000 : Int32)) 700 u1 x1) 701 u1 (xAI (sFI (sFI S 710 u1 (-1000000 : Int32)) 700 u1 x1) u3 (Int32.toNatClampNeg (0 : Int32)))) u3 (Int32.toNatClampNeg (1 : Int32)))) u3 (Int32.toNatClampNeg (2 : Int32)))) u3 (Int32.toNatClampNeg (3 : Int32)))) u3 (Int32.toNatClampNeg (4 : Int32)))) 706 u1 (xAI (sFI (sFI (sFI (sFI (sFI (sFI (sFI S 710 u1 (-1000000 : Int32)) 700 u1 x1) 701 u1 (xAI (sFI (sFI S 710 u1 (-1000000 : Int32)) 700 u1 x1) u3 (Int32.toNatClampNeg (0 : Int32)))) 702 u1 (xAI (sFI (sFI (sFI S 710 u1 (-1000000 : Int32)) 700 u1 x1) 701 u1 (xAI (sFI (sFI S 710 u1 (-1000000 : Int32)) 700 u1 x1) u3 (Int32.toNatClampNeg (0 : Int32)))) u3 (Int32.toNatClampNeg (1 : Int32)))) 703 u1 (xAI (sFI (sFI (sFI (sFI S 710 u1 (-1000000 : Int32)) 700 u1 x1) 701 u1 (xAI (sFI (sFI S 710 u1 (-1000000 : Int32)) 700 u1 x1) u3 (Int32.toNatClampNeg (0 : Int32)))) 702 u1 (xAI (sFI (sFI (sFI S 710 u1 (-1000000 : Int32)) 700 u1 x1) 701 u1 (xAI (sFI (sFI S 710 u1 (-1000000 : Int32)) 700 u1 x1) u3 (Int32.toNatClampNeg (0 : Int32)))) u3 (Int32.toNatClampNeg (1 : Int32)))) u3 (Int32.toNatClampNeg (2 : Int32)))) 704 u1 (xAI (sFI (sFI (sFI (sFI (sFI S 710 u1 (-1000000 : Int32)) 700 u1 x1) 701 u1 (xAI (sFI (sFI S 710 u1 (-1000000 : Int32)) 700 u1 x1) u3 (Int32.toNatClampNeg (0 : Int32)))) 702 u1 (xAI (sFI (sFI (sFI S 710 u1 (-1000000 : Int32)) 700 u1 x1) 701 u1 (xAI (sFI (sFI S 710 u1 (-1000000 : Int32)) 700 u1 x1) u3 (Int32.toNatClampNeg (0 : Int32)))) u3 (Int32.toNatClampNeg (1 : Int32)))) 703 u1 (xAI (sFI (sFI (sFI (sFI S 710 u1 (-1000000 : Int32)) 700 u1 x1) 701 u1 (xAI (sFI (sFI S 710 u1 (-1000000 : Int32)) 700 u1 x1) u3 (Int32.toNatClampNeg (0 : Int32)))) 702 u1 (xAI (sFI (sFI (sFI S 710 u1 (-1000000 : Int32)) 700 u1 x1) 701 u1 (xAI (sFI (sFI S 710 u1 (-1000000 : Int32)) 700 u1 x1) u3 (Int32.toNatClampNeg (0 : Int32)))) u3 (Int32.toNatClampNeg (1 : Int32)))) u3 (Int32.toNatClampNeg (2 : Int32)))) u3 (Int32.toNatClampNeg (3 : Int32)))) 705 u1 (xAI (sFI (sFI (sFI (sFI (sFI (sFI S 710 u1 (-1000000 : Int32)) 700 u1 x1) 701 u1 (xAI (sFI (sFI S 710 u1 (-1000000 : Int32)) 700 u1 x1) u3 (Int32.toNatClampNeg (0 : Int32)))) 702 u1 (xAI (sFI (sFI (sFI S 710 u1 (-1000000 : Int32)) 700 u1 x1) 701 u1 (xAI (sFI (sFI S 710 u1 (-1000000 : Int32)) 700 u1 x1) u3 (Int32.toNatClampNeg (0 : Int32)))) u3 (Int32.toNatClampNeg (1 : Int32)))) 703 u1 (xAI (sFI (sFI (sFI (sFI S 710 u1 (-1000000 : Int32)) 700 u1 x1) 701 u1 (xAI (sFI (sFI S 710 u1 (-1000000 : Int32)) 700 u1 x1) u3 (Int32.toNatClampNeg (0 : Int32)))) 702 u1 (xAI (sFI (sFI (sFI S 710 u1 (-1000000 : Int32)) 700 u1 x1) 701 u1 (xAI (sFI (sFI S 710 u1 (-1000000 : Int32)) 700 u1 x1) u3 (Int32.toNatClampNeg (0 : Int32)))) u3 (Int32.toNatClampNeg (1 : Int32)))) u3 (Int32.toNatClampNeg (2 : Int32)))) 704 u1 (xAI (sFI (sFI (sFI (sFI (sFI S 710 u1 (-1000000 : Int32)) 700 u1 x1) 701 u1 (xAI (sFI (sFI S 710 u1 (-1000000 : Int32)) 700 u1 x1) u3 (Int32.toNatClampNeg (0 : Int32)))) 702 u1 (xAI (sFI (sFI (sFI S 710 u1 (-1000000 : Int32)) 700 u1 x1) 701 u1 (xAI (sFI (sFI S 710 u1 (-1000000 : Int32)) 700 u1 x1) u3 (Int32.toNatClampNeg (0 : Int32)))) u3 (Int32.toNatClampNeg (1 : Int32)))) 703 u1 (xAI (sFI (sFI (sFI (sFI S 710 u1 (-1000000 : Int32)) 700 u1 x1) 701 u1 (xAI (sFI (sFI S 710 u1 (-1000000 : Int32)) 700 u1 x1) u3 (Int32.toNatClampNeg (0 : Int32)))) 702 u1 (xAI (sFI (sFI (sFI S 710 u1 (-1000000 : Int32)) 700 u1 x1) 701 u1 (xAI (sFI (sFI S 710 u1 (-1000000 : Int32)) 700 u1 x1) u3 (Int32.toNatClampNeg (0 : Int32)))) u3 (Int32.toNatClampNeg (1 : Int32)))) u3 (Int32.toNatClampNeg (2 : Int32)))) u3 (Int32.toNatClampNeg (3 : Int32)))) u3 (Int32.toNatClampNeg (4 : Int32)))) u3 (Int32.toNatClampNeg (5 : Int32)))) 707 u1 (xAI (sFI (sFI (sFI (sFI (sFI (sFI (sFI (sFI S 710 u1 (-1000000 : Int32)) 700 u1 x1) 701 u1 (xAI (sFI (sFI S 710 u1 (-1000000 : Int32)) 700 u1 x1) u3 (Int32.toNatClampNeg (0 : Int32)))) 702 u1 (xAI (sFI (sFI (sFI S 710 u1 (-1000000 : Int32)) 700 u1 x1) 701 u1 (xAI (sFI (sFI S 710 u1 (-1000000 : Int32)) 700 u1 x1) u3 (Int32.toNatClampNeg (0 : Int32)))) u3 (Int32.toNatClampNeg (1 : Int32)))) 703 u1 (xAI (sFI (sFI (sFI (sFI S 710 u1 (-1000000 : Int32)) 700 u1 x1) 701 u1 (xAI (sFI (sFI S 710 u1 (-1000000 : Int32)) 700 u1 x1) u3 (Int32.toNatClampNeg (0 : Int32)))) 702 u1 (xAI (sFI (sFI (sFI S 710 u1 (-1000000 : Int32)) 700 u1 x1) 701 u1 (xAI (sFI (sFI S 710 u1 (-1000000 : Int32)) 700 u1 x1) u3 (Int32.toNatClampNeg (0 : Int32)))) u3 (Int32.toNatClampNeg (1 : Int32)))) u3 (Int32.toNatClampNeg (2 : Int32)))) 704 u1 (xAI (sFI (sFI (sFI (sFI (sFI S 710 u1 (-1000000 : Int32)) 700 u1 x1) 701 u1 (xAI (sFI (sFI S 710 u1 (-1000000 : Int32)) 700 u1 x1) u3 (Int32.toNatClampNeg (0 : Int32)))) 702 u1 (xAI (sFI (sFI (sFI S 710 u1 (-1000000 : Int32)) 700 u1 x1) 701 u1 (xAI (sFI (sFI S 710 u1 (-1000000 : Int32)) 700 u1 x1) u3 (Int32.toNatClampNeg (0 : Int32)))) u3 (Int32.toNatClampNeg (1 : Int32)))) 703 u1 (xAI (sFI (sFI (sFI (sFI S 710 u1 (-1000000 : Int32)) 700 u1 x1) 701 u1 (xAI (sFI (sFI S 710 u1 (-1000000 : Int32)) 700 u1 x1) u3 (Int32.toNatClampNeg (0 : Int32)))) 702 u1 (xAI (sFI (sFI (sFI S 710 u1 (-1000000 : Int32)) 700 u1 x1) 701 u1 (xAI (sFI (sFI S 710 u1 (-1000000 : Int32)) 700 u1 x1) u3 (Int32.toNatClampNeg (0 : Int32)))) u3 (Int32.toNatClampNeg (1 : Int32)))) u3 (Int32.toNatClampNeg (2 : Int32)))) u3 (Int32.toNatClampNeg (3 : Int32)))) 705 u1 (xAI (sFI (sFI (sFI (sFI (sFI (sFI S 710 u1 (-1000000 : Int32)) 700 u1 x1) 701 u1 (xAI (sFI (sFI S 710 u1 (-1000000 : Int32)) 700 u1 x1) u3 (Int32.toNatClampNeg (0 : Int32)))) 702 u1 (xAI (sFI (sFI (sFI S 710 u1 (-1000000 : Int32)) 700 u1 x1) 701 u1 (xAI (sFI (sFI S 710 u1 (-1000000 : Int32)) 700 u1 x1) u3 (Int32.toNatClampNeg (0 : Int32)))) u3 (Int32.toNatClampNeg (1 : Int32)))) 703 u1 (xAI (sFI (sFI (sFI (sFI S 710 u1 (-1000000 : Int32)) 700 u1 x1) 701 u1 (xAI (sFI (sFI S 710 u1 (-1000000 : Int32)) 700 u1 x1) u3 (Int32.toNatClampNeg (0 : Int32)))) 702 u1 (xAI (sFI (sFI (sFI S 710 u1 (-1000000 : Int32)) 700 u1 x1) 701 u1 (xAI (sFI (sFI S 710 u1 (-1000000 : Int32)) 700 u1 x1) u3 (Int32.toNatClampNeg (0 : Int32)))) u3 (Int32.toNatClampNeg (1 : Int32)))) u3 (Int32.toNatClampNeg (2 : Int32)))) 704 u1 (xAI (sFI (sFI (sFI (sFI (sFI S 710 u1 (-1000000 : Int32)) 700 u1 x1) 701 u1 (xAI (sFI (sFI S 710 u1 (-1000000 : Int32)) 700 u1 x1) u3 (Int32.toNatClampNeg (0 : Int32)))) 702 u1 (xAI (sFI (sFI (sFI S 710 u1 (-1000000 : Int32)) 700 u1 x1) 701 u1 (xAI (sFI (sFI S 710 u1 (-1000000 : Int32)) 700 u1 x1) u3 (Int32.toNatClampNeg (0 : Int32)))) u3 (Int32.toNatClampNeg (1 : Int32)))) 703 u1 (xAI (sFI (sFI (sFI (sFI S 710 u1 (-1000000 : Int32)) 700 u1 x1) 701 u1 (xAI (sFI (sFI S 710 u1 (-1000000 : Int32)) 700 u1 x1) u3 (Int32.toNatClampNeg (0 : Int32)))) 702 u1 (xAI (sFI (sFI (sFI S 710 u1 (-1000000 : Int32)) 700 u1 x1) 701 u1 (xAI (sFI (sFI S 710 u1 (-1000000 : Int32)) 700 u1 x1) u3 (Int32.toNatClampNeg (0 : Int32)))) u3 (Int32.toNatClampNeg (1 : Int32)))) u3 (Int32.toNatClampNeg (2 : Int32)))) u3 (Int32.toNatClampNeg (3 : Int32)))) u3 (Int32.toNatClampNeg (4 : Int32)))) 706 u1 (xAI (sFI (sFI (sFI (sFI (sFI (sFI (sFI S 710 u1 (-1000000 : Int32)) 700 u1 x1) 701 u1 (xAI (sFI (sFI S 710 u1 (-1000000 : Int32)) 700 u1 x1) u3 (Int32.toNatClampNeg (0 : Int32)))) 702 u1 (xAI (sFI (sFI (sFI S 710 u1 (-1000000 : Int32)) 700 u1 x1) 701 u1 (xAI (sFI (sFI S 710 u1 (-1000000 : Int32)) 700 u1 x1) u3 (Int32.toNatClampNeg (0 : Int32)))) u3 (Int32.toNatClampNeg (1 : Int32)))) 703 u1 (xAI (sFI (sFI (sFI (sFI S 710 u1 (-1000000 : Int32)) 700 u1 x1) 701 u1 (xAI (sFI (sFI S 710 u1 (-1000000 : Int32)) 700 u1 x1) u3 (Int32.toNatClampNeg (0 : Int32)))) 702 u1 (xAI (sFI (sFI (sFI S 710 u1 (-1000000 : Int32)) 700 u1 x1) 701 u1 (xAI (sFI (sFI S 710 u1 (-1000000 : Int32)) 700 u1 x1) u3 (Int32.toNatClampNeg (0 : Int32)))) u3 (Int32.toNatClampNeg (1 : Int32)))) u3 (Int32.toNatClampNeg (2 : Int32)))) 704 u1 (xAI (sFI (sFI (sFI (sFI (sFI S 710 u1 (-1000000 : Int32)) 700 u1 x1) 701 u1 (xAI (sFI (sFI S 710 u1 (-1000000 : Int32)) 700 u1 x1) u3 (Int32.toNatClampNeg (0 : Int32)))) 702 u1 (xAI (sFI (sFI (sFI S 710 u1 (-1000000 : Int32)) 700 u1 x1) 701 u1 (xAI (sFI (sFI S 710 u1 (-1000000 : Int32)) 700 u1 x1) u3 (Int32.toNatClampNeg (0 : Int32)))) u3 (Int32.toNatClampNeg (1 : Int32)))) 703 u1 (xAI (sFI (sFI (sFI (sFI S 710 u1 (-1000000 : Int32)) 700 u1 x1) 701 u1 (xAI (sFI (sFI S 710 u1 (-1000000 : Int32)) 700 u1 x1) u3 (Int32.toNatClampNeg (0 : Int32)))) 702 u1 (xAI (sFI (sFI (sFI S 710 u1 (-1000000 : Int32)) 700 u1 x1) 701 u1 (xAI (sFI (sFI S 710 u1 (-1000000 : Int32)) 700 u1 x1) u3 (Int32.toNatClampNeg (0 : Int32)))) u3 (Int32.toNatClampNeg (1 : Int32)))) u3 (Int32.toNatClampNeg (2 : Int32)))) u3 (Int32.toNatClampNeg (3 : Int32)))) 705 u1 (xAI (sFI (sFI (sFI (sFI (sFI (sFI S 710 u1 (-1000000 : Int32)) 700 u1 x1) 701 u1 (xAI (sFI (sFI S 710 u1 (-1000000 : Int32)) 700 u1 x1) u3 (Int32.toNatClampNeg (0 : Int32)))) 702 u1 (xAI (sFI (sFI (sFI S 710 u1 (-1000000 : Int32)) 700 u1 x1) 701 u1 (xAI (sFI (sFI S 710 u1 (-1000000 : Int32)) 700 u1 x1) u3 (Int32.toNatClampNeg (0 : Int32)))) u3 (Int32.toNatClampNeg (1 : Int32)))) 703 u1 (xAI (sFI (sFI (sFI (sFI S 710 u1 (-1000000 : Int32)) 700 u1 x1) 701 u1 (xAI (sFI (sFI S 710 u1 (-1000000 : Int32)) 700 u1 x1) u3 (Int32.toNatClampNeg (0 : Int32)))) 702 u1 (xAI (sFI (sFI (sFI S 710 u1 (-1000000 : Int32)) 700 u1 x1) 701 u1 (xAI (sFI (sFI S 710 u1 (-1000000 : Int32)) 700 u1 x1) u3 (Int32.toNatClampNeg (0 : Int32)))) u3 (Int32.toNatClampNeg (1 : Int32)))) u3 (Int32.toNatClampNeg (2 : Int32)))) 704 u1 (xAI (sFI (sFI (sFI (sFI (sFI S 710 u1 (-1000000 : Int32)) 700 u1 x1) 701 u1 (xAI (sFI (sFI S 710 u1 (-1000000 : Int32)) 700 u1 x1) u3 (Int32.toNatClampNeg (0 : Int32)))) 702 u1 (xAI (sFI (sFI (sFI S 710 u1 (-1000000 : Int32)) 700 u1 x1) 701 u1 (xAI (sFI (sFI S 710 u1 (-1000000 : Int32)) 700 u1 x1) u3 (Int32.toNatClampNeg (0 : Int32)))) u3 (Int32.toNatClampNeg (1 : Int32)))) 703 u1 (xAI (sFI (sFI (sFI (sFI S 710 u1 (-1000000 : Int32)) 700 u1 x1) 701 u1 (xAI (sFI (sFI S 710 u1 (-1000000 : Int32)) 700 u1 x1) u3 (Int32.toNatClampNeg (0 : Int32)))) 702 u1 (xAI (sFI (sFI (sFI S 710 u1 (-1000000 : Int32)) 700 u1 x1) 701 u1 (xAI (sFI (sFI S 710 u1 (-1000000 : Int32)) 700 u1 x1) u3 (Int32.toNatClampNeg (0 : Int32)))) u3 (Int32.toNatClampNeg (1 : Int32)))) u3 (Int32.toNatClampNeg (2 : Int32)))) u3 (Int32.toNatClampNeg (3 : Int32)))) u3 (Int32.toNatClampNeg (4 : Int32)))) u3 (Int32.toNatClampNeg (5 : Int32)))) u3 (Int32.toNatClampNeg (6 : Int32)))) u3) ∧ (if (xAI (sFI (sFI (sFI (sFI (sFI (sFI (sFI (sFI (sFI S 710 u1 (-1000000 : Int32)) 700 u1 x1) 701 u1 (xAI (sFI (sFI S 710 u1 (-1000000 : Int32)) 700 u1 x1) u3 (Int32.toNatClampNeg (0 : Int32)))) 702 u1 (xAI (sFI (sFI (sFI S 710 u1 (-1000000 : Int32)) 700 u1 x1) 701 u1 (xAI (sFI (sFI S 710 u1 (-1000000 : Int32)) 700 u1 x1) u3 (Int32.toNatClampNeg (0 : Int32)))) u3 (Int32.toNatClampNeg (1 : Int32)))) 703 u1 (xAI (sFI (sFI (sFI (sFI S 710 u1 (-1000000 : Int32)) 700 u1 x1) 701 u1 (xAI (sFI (sFI S 710 u1 (-1000000 : Int32)) 700 u1 x1) u3 (Int32.toNatClampNeg (0 : Int32)))) 702 u1 (xAI (sFI (sFI (sFI S 710 u1 (-1000000 : Int32)) 700 u1 x1) 701 u1 (xAI (sFI (sFI S 710 u1 (-1000000 : Int32)) 700 u1 x1) u3 (Int32.toNatClampNeg (0 : Int32)))) u3 (Int32.toNatClampNeg (1 : Int32)))) u3 (Int32.toNatClampNeg (2 : Int32)))) 704 u1 (xAI (sFI (sFI (sFI (sFI (sFI S 710 u1 (-1000000 : Int32)) 700 u1 x1) 701 u1 (xAI (sFI (sFI S 710 u1 (-1000000 : Int32)) 700 u1 x1) u3 (Int32.toNatClampNeg (0 : Int32)))) 702 u1 (xAI (sFI (sFI (sFI S 710 u1 (-1000000 : Int32)) 700 u1 x1) 701 u1 (xAI (sFI (sFI S 710 u1 (-1000000 : Int32)) 700 u1 x1) u3 (Int32.toNatClampNeg (0 : Int32)))) u3 (Int32.toNatClampNeg (1 : Int32)))) 703 u1 (xAI (sFI (sFI (sFI (sFI S 710 u1 (-1000000 : Int32)) 700 u1 x1) 701 u1 (xAI (sFI (sFI S 710 u1 (-1000000 : Int32)) 700 u1 x1) u3 (Int32.toNatClampNeg (0 : Int32)))) 702 u1 (xAI (sFI (sFI (sFI S 710 u1 (-1000000 : Int32)) 700 u1 x1) 701 u1 (xAI (sFI (sFI S 710 u1 (-1000000 : Int32)) 700 u1 x1) u3 (Int32.toNatClampNeg (0 : Int32)))) u3 (Int32.toNatClampNeg (1 : Int32)))) u3 (Int32.toNatClampNeg (2 : Int32)))) u3 (Int32.toNatClampNeg (3 : Int32)))) 705 u1 (xAI (sFI (sFI (sFI (sFI (sFI (sFI S 710 u1 (-1000000 : Int32)) 700 u1 x1) 701 u1 (xAI (sFI (sFI S 710 u1 (-1000000 : Int32)) 700 u1 x1) u3 (Int32.toNatClampNeg (0 : Int32)))) 702 u1 (xAI (sFI (sFI (sFI S 710 u1 (-1000000 : Int32)) 700 u1 x1) 701 u1 (xAI (sFI (sFI S 710 u1 (-1000000 : Int32)) 700 u1 x1) u3 (Int32.toNatClampNeg (0 : Int32)))) u3 (Int32.toNatClampNeg (1 : Int32)))) 703 u1 (xAI (sFI (sFI (sFI (sFI S 710 u1 (-1000000 : Int32)) 700 u1 x1) 701 u1 (xAI (sFI (sFI S 710 u1 (-1000000 : Int32)) 700 u1 x1) u3 (Int32.toNatClampNeg (0 : Int32)))) 702 u1 (xAI (sFI (sFI (sFI S 710 u1 (-1000000 : Int32)) 700 u1 x1) 701 u1 (xAI (sFI (sFI S 710 u1 (-1000000 : Int32)) 700 u1 x1) u3 (Int32.toNatClampNeg (0 : Int32)))) u3 (Int32.toNatClampNeg (1 : Int32)))) u3 (Int32.toNatClampNeg (2 : Int32)))) 704 u1 (xAI (sFI (sFI (sFI (sFI (sFI S 710 u1 (-1000000 : Int32)) 700 u1 x1) 701 u1 (xAI (sFI (sFI S 710 u1 (-1000000 : Int32)) 700 u1 x1) u3 (Int32.toNatClampNeg (0 : Int32)))) 702 u1 (xAI (sFI (sFI (sFI S 710 u1 (-1000000 : Int32)) 700 u1 x1) 701 u1 (xAI (sFI (sFI S 710 u1 (-1000000 : Int32)) 700 u1 x1) u3 (Int32.toNatClampNeg (0 : Int32)))) u3 (Int32.toNatClampNeg (1 : Int32)))) 703 u1 (xAI (sFI (sFI (sFI (sFI S 710 u1 (-1000000 : Int32)) 700 u1 x1) 701 u1 (xAI (sFI (sFI S 710 u1 (-1000000 : Int32)) 700 u1 x1) u3 (Int32.toNatClampNeg (0 : Int32)))) 702 u1 (xAI (sFI (sFI (sFI S 710 u1 (-1000000 : Int32)) 700 u1 x1) 701 u1 (xAI (sFI (sFI S 710 u1 (-1000000 : Int32)) 700 u1 x1) u3 (Int32.toNatClampNeg (0 : Int32)))) u3 (Int32.toNatClampNeg (1 : Int32)))) u3 (Int32.toNatClampNeg (2 : Int32)))) u3 (Int32.toNatClampNeg (3 : Int32)))) u3 (Int32.toNatClampNeg (4 : Int32)))) 706 u1 (xAI (sFI (sFI (sFI (sFI (sFI (sFI (sFI S 710 u1 (-1000000 : Int32)) 700 u1 x1) 701 u1 (xAI (sFI (sFI S 710 u1 (-1000000 : Int32)) 700 u1 x1) u3 (Int32.toNatClampNeg (0 : Int32)))) 702 u1 (xAI (sFI (sFI (sFI S 710 u1 (-1000000 : Int32)) 700 u1 x1) 701 u1 (xAI (sFI (sFI S 710 u1 (-1000000 : Int32)) 700 u1 x1) u3 (Int32.toNatClampNeg (0 : Int32)))) u3 (Int32.toNatClampNeg (1 : Int32)))) 703 u1 (xAI (sFI (sFI (sFI (sFI S 710 u1 (-1000000 : Int32)) 700 u1 x1) 701 u1 (xAI (sFI (sFI S 710 u1 (-1000000 : Int32)) 700 u1 x1) u3 (Int32.toNatClampNeg (0 : Int32)))) 702 u1 (xAI (sFI (sFI (sFI S 710 u1 (-1000000 : Int32)) 700 u1 x1) 701 u1 (xAI (sFI (sFI S 710 u1 (-1000000 : Int32)) 700 u1 x1) u3 (Int32.toNatClampNeg (0 : Int32)))) u3 (Int32.toNatClampNeg (1 : Int32)))) u3 (Int32.toNatClampNeg (2 : Int32)))) 704 u1 (xAI (sFI (sFI (sFI (sFI (sFI S 710 u1 (-1000000 : Int32)) 700 u1 x1) 701 u1 (xAI (sFI (sFI S 710 u1 (-1000000 : Int32)) 700 u1 x1) u3 (Int32.toNatClampNeg (0 : Int32)))) 702 u1 (xAI (sFI (sFI (sFI S 710 u1 (-1000000 : Int32)) 700 u1 x1) 701 u1 (xAI (sFI (sFI S 710 u1 (-1000000 : Int32)) 700 u1 x1) u3 (Int32.toNatClampNeg (0 : Int32)))) u3 (Int32.toNatClampNeg (1 : Int32)))) 703 u1 (xAI (sFI (sFI (sFI (sFI S 710 u1 (-1000000 : Int32)) 700 u1 x1) 701 u1 (xAI (sFI (sFI S 710 u1 (-1000000 : Int32)) 700 u1 x1) u3 (Int32.toNatClampNeg (0 : Int32)))) 702 u1 (xAI (sFI (sFI (sFI S 710 u1 (-1000000 : Int32)) 700 u1 x1) 701 u1 (xAI (sFI (sFI S 710 u1 (-1000000 : Int32)) 700 u1 x1) u3 (Int32.toNatClampNeg (0 : Int32)))) u3 (Int32.toNatClampNeg (1 : Int32)))) u3 (Int32.toNatClampNeg (2 : Int32)))) u3 (Int32.toNatClampNeg (3 : Int32)))) 705 u1 (xAI (sFI (sFI (sFI (sFI (sFI (sFI S 710 u1 (-1000000 : Int32)) 700 u1 x1) 701 u1 (xAI (sFI (sFI S 710 u1 (-1000000 : Int32)) 700 u1 x1) u3 (Int32.toNatClampNeg (0 : Int32)))) 702 u1 (xAI (sFI (sFI (sFI S 710 u1 (-1000000 : Int32)) 700 u1 x1) 701 u1 (xAI (sFI (sFI S 710 u1 (-1000000 : Int32)) 700 u1 x1) u3 (Int32.toNatClampNeg (0 : Int32)))) u3 (Int32.toNatClampNeg (1 : Int32)))) 703 u1 (xAI (sFI (sFI (sFI (sFI S 710 u1 (-1000000 : Int32)) 700 u1 x1) 701 u1 (xAI (sFI (sFI S 710 u1 (-1000000 : Int32)) 700 u1 x1) u3 (Int32.toNatClampNeg (0 : Int32)))) 702 u1 (xAI (sFI (sFI (sFI S 710 u1 (-1000000 : Int32)) 700 u1 x1) 701 u1 (xAI (sFI (sFI S 710 u1 (-1000000 : Int32)) 700 u1 x1) u3 (Int32.toNatClampNeg (0 : Int32)))) u3 (Int32.toNatClampNeg (1 : Int32)))) u3 (Int32.toNatClampNeg (2 : Int32)))) 704 u1 (xAI (sFI (sFI (sFI (sFI (sFI S 710 u1 (-1000000 : Int32)) 700 u1 x1) 701 u1 (xAI (sFI (sFI S 710 u1 (-1000000 : Int32)) 700 u1 x1) u3 (Int32.toNatClampNeg (0 : Int32)))) 702 u1 (xAI (sFI (sFI (sFI S 710 u1 (-1000000 : Int32)) 700 u1 x1) 701 u1 (xAI (sFI (sFI S 710 u1 (-1000000 : Int32)) 700 u1 x1) u3 (Int32.toNatClampNeg (0 : Int32)))) u3 (Int32.toNatClampNeg (1 : Int32)))) 703 u1 (xAI (sFI (sFI (sFI (sFI S 710 u1 (-1000000 : Int32)) 700 u1 x1) 701 u1 (xAI (sFI (sFI S 710 u1 (-1000000 : Int32)) 700 u1 x1) u3 (Int32.toNatClampNeg (0 : Int32)))) 702 u1 (xAI (sFI (sFI (sFI S 710 u1 (-1000000 : Int32)) 700 u1 x1) 701 u1 (xAI (sFI (sFI S 710 u1 (-1000000 : Int32)) 700 u1 x1) u3 (Int32.toNatClampNeg (0 : Int32)))) u3 (Int32.toNatClampNeg (1 : Int32)))) u3 (Int32.toNatClampNeg (2 : Int32)))) u3 (Int32.toNatClampNeg (3 : Int32)))) u3 (Int32.toNatClampNeg (4 : Int32)))) u3 (Int32.toNatClampNeg (5 : Int32)))) 707 u1 (xAI (sFI (sFI (sFI (sFI (sFI (sFI (sFI (sFI S 710 u1 (-1000000 : Int32)) 700 u1 x1) 701 u1 (xAI (sFI (sFI S 710 u1 (-1000000 : Int32)) 700 u1 x1) u3 (Int32.toNatClampNeg (0 : Int32)))) 702 u1 (xAI (sFI (sFI (sFI S 710 u1 (-1000000 : Int32)) 700 u1 x1) 701 u1 (xAI (sFI (sFI S 710 u1 (-1000000 : Int32)) 700 u1 x1) u3 (Int32.toNatClampNeg (0 : Int32)))) u3 (Int32.toNatClampNeg (1 : Int32)))) 703 u1 (xAI (sFI (sFI (sFI (sFI S 710 u1 (-1000000 : Int32)) 700 u1 x1) 701 u1 (xAI (sFI (sFI S 710 u1 (-1000000 : Int32)) 700 u1 x1) u3 (Int32.toNatClampNeg (0 : Int32)))) 702 u1 (xAI (sFI (sFI (sFI S 710 u1 (-1000000 : Int32)) 700 u1 x1) 701 u1 (xAI (sFI (sFI S 710 u1 (-1000000 : Int32)) 700 u1 x1) u3 (Int32.toNatClampNeg (0 : Int32)))) u3 (Int32.toNatClampNeg (1 : Int32)))) u3 (Int32.toNatClampNeg (2 : Int32)))) 704 u1 (xAI (sFI (sFI (sFI (sFI (sFI S 710 u1 (-1000000 : Int32)) 700 u1 x1) 701 u1 (xAI (sFI (sFI S 710 u1 (-1000000 : Int32)) 700 u1 x1) u3 (Int32.toNatClampNeg (0 : Int32)))) 702 u1 (xAI (sFI (sFI (sFI S 710 u1 (-1000000 : Int32)) 700 u1 x1) 701 u1 (xAI (sFI (sFI S 710 u1 (-1000000 : Int32)) 700 u1 x1) u3 (Int32.toNatClampNeg (0 : Int32)))) u3 (Int32.toNatClampNeg (1 : Int32)))) 703 u1 (xAI (sFI (sFI (sFI (sFI S 710 u1 (-1000000 : Int32)) 700 u1 x1) 701 u1 (xAI (sFI (sFI S 710 u1 (-1000000 : Int32)) 700 u1 x1) u3 (Int32.toNatClampNeg (0 : Int32)))) 702 u1 (xAI (sFI (sFI (sFI S 710 u1 (-1000000 : Int32)) 700 u1 x1) 701 u1 (xAI (sFI (sFI S 710 u1 (-1000000 : Int32)) 700 u1 x1) u3 (Int32.toNatClampNeg (0 : Int32)))) u3 (Int32.toNatClampNeg (1 : Int32)))) u3 (Int32.toNatClampNeg (2 : Int32)))) u3 (Int32.toNatClampNeg (3 : Int32)))) 705 u1 (xAI (sFI (sFI (sFI (sFI (sFI (sFI S 710 u1 (-1000000 : Int32)) 700 u1 x1) 701 u1 (xAI (sFI (sFI S 710 u1 (-1000000 : Int32)) 700 u1 x1) u3 (Int32.toNatClampNeg (0 : Int32)))) 702 u1 (xAI (sFI (sFI (sFI S 710 u1 (-1000000 : Int32)) 700 u1 x1) 701 u1 (xAI (sFI (sFI S 710 u1 (-1000000 : Int32)) 700 u1 x1) u3 (Int32.toNatClampNeg (0 : Int32)))) u3 (Int32.toNatClampNeg (1 : Int32)))) 703 u1 (xAI (sFI (sFI (sFI (sFI S 710 u1 (-1000000 : Int32)) 700 u1 x1) 701 u1 (xAI (sFI (sFI S 710 u1 (-1000000 : Int32)) 700 u1 x1) u3 (Int32.toNatClampNeg (0 : Int32)))) 702 u1 (xAI (sFI (sFI (sFI S 710 u1 (-1000000 : Int32)) 700 u1 x1) 701 u1 (xAI (sFI (sFI S 710 u1 (-1000000 : Int32)) 700 u1 x1) u3 (Int32.toNatClampNeg (0 : Int32)))) u3 (Int32.toNatClampNeg (1 : Int32)))) u3 (Int32.toNatClampNeg (2 : Int32)))) 704 u1 (xAI (sFI (sFI (sFI (sFI (sFI S 710 u1 (-1000000 : Int32)) 700 u1 x1) 701 u1 (xAI (sFI (sFI S 710 u1 (-1000000 : Int32)) 700 u1 x1) u3 (Int32.toNatClampNeg (0 : Int32)))) 702 u1 (xAI (sFI (sFI (sFI S 710 u1 (-1000000 : Int32)) 700 u1 x1) 701 u1 (xAI (sFI (sFI S 710 u1 (-1000000 : Int32)) 700 u1 x1) u3 (Int32.toNatClampNeg (0 : Int32)))) u3 (Int32.toNatClampNeg (1 : Int32)))) 703 u1 (xAI (sFI (sFI (sFI (sFI S 710 u1 (-1000000 : Int32)) 700 u1 x1) 701 u1 (xAI (sFI (sFI S 710 u1 (-1000000 : Int32)) 700 u1 x1) u3 (Int32.toNatClampNeg (0 : Int32)))) 702 u1 (xAI (sFI (sFI (sFI S 710 u1 (-1000000 : Int32)) 700 u1 x1) 701 u1 (xAI (sFI (sFI S 710 u1 (-1000000 : Int32)) 700 u1 x1) u3 (Int32.toNatClampNeg (0 : Int32)))) u3 (Int32.toNatClampNeg (1 : Int32)))) u3 (Int32.toNatClampNeg (2 : Int32)))) u3 (Int32.toNatClampNeg (3 : Int32)))) u3 (Int32.toNatClampNeg (4 : Int32)))) 706 u1 (xAI (sFI (sFI (sFI (sFI (sFI (sFI (sFI S 710 u1 (-1000000 : Int32)) 700 u1 x1) 701 u1 (xAI (sFI (sFI S 710 u1 (-1000000 : Int32)) 700 u1 x1) u3 (Int32.toNatClampNeg (0 : Int32)))) 702 u1 (xAI (sFI (sFI (sFI S 710 u1 (-1000000 : Int32)) 700 u1 x1) 701 u1 (xAI (sFI (sFI S 710 u1 (-1000000 : Int32)) 700 u1 x1) u3 (Int32.toNatClampNeg (0 : Int32)))) u3 (Int32.toNatClampNeg (1 : Int32)))) 703 u1 (xAI (sFI (sFI (sFI (sFI S 710 u1 (-1000000 : Int32)) 700 u1 x1) 701 u1 (xAI (sFI (sFI S 710 u1 (-1000000 : Int32)) 700 u1 x1) u3 (Int32.toNatClampNeg (0 : Int32)))) 702 u1 (xAI (sFI (sFI (sFI S 710 u1 (-1000000 : Int32)) 700 u1 x1) 701 u1 (xAI (sFI (sFI S 710 u1 (-1000000 : Int32)) 700 u1 x1) u3 (Int32.toNatClampNeg (0 : Int32)))) u3 (Int32.toNatClampNeg (1 : Int32)))) u3 (Int32.toNatClampNeg (2 : Int32)))) 704 u1 (xAI (sFI (sFI (sFI (sFI (sFI S 710 u1 (-1000000 : Int32)) 700 u1 x1) 701 u1 (xAI (sFI (sFI S 710 u1 (-1000000 : Int32)) 700 u1 x1) u3 (Int32.toNatClampNeg (0 : Int32)))) 702 u1 (xAI (sFI (sFI (sFI S 710 u1 (-1000000 : Int32)) 700 u1 x1) 701 u1 (xAI (sFI (sFI S 710 u1 (-1000000 : Int32)) 700 u1 x1) u3 (Int32.toNatClampNeg (0 : Int32)))) u3 (Int32.toNatClampNeg (1 : Int32)))) 703 u1 (xAI (sFI (sFI (sFI (sFI S 710 u1 (-1000000 : Int32)) 700 u1 x1) 701 u1 (xAI (sFI (sFI S 710 u1 (-1000000 : Int32)) 700 u1 x1) u3 (Int32.toNatClampNeg (0 : Int32)))) 702 u1 (xAI (sFI (sFI (sFI S 710 u1 (-1000000 : Int32)) 700 u1 x1) 701 u1 (xAI (sFI (sFI S 710 u1 (-1000000 : Int32)) 700 u1 x1) u3 (Int32.toNatClampNeg (0 : Int32)))) u3 (Int32.toNatClampNeg (1 : Int32)))) u3 (Int32.toNatClampNeg (2 : Int32)))) u3 (Int32.toNatClampNeg (3 : Int32)))) 705 u1 (xAI (sFI (sFI (sFI (sFI (sFI (sFI S 710 u1 (-1000000 : Int32)) 700 u1 x1) 701 u1 (xAI (sFI (sFI S 710 u1 (-1000000 : Int32)) 700 u1 x1) u3 (Int32.toNatClampNeg (0 : Int32)))) 702 u1 (xAI (sFI (sFI (sFI S 710 u1 (-1000000 : Int32)) 700 u1 x1) 701 u1 (xAI (sFI (sFI S 710 u1 (-1000000 : Int32)) 700 u1 x1) u3 (Int32.toNatClampNeg (0 : Int32)))) u3 (Int32.toNatClampNeg (1 : Int32)))) 703 u1 (xAI (sFI (sFI (sFI (sFI S 710 u1 (-1000000 : Int32)) 700 u1 x1) 701 u1 (xAI (sFI (sFI S 710 u1 (-1000000 : Int32)) 700 u1 x1) u3 (Int32.toNatClampNeg (0 : Int32)))) 702 u1 (xAI (sFI (sFI (sFI S 710 u1 (-1000000 : Int32)) 700 u1 x1) 701 u1 (xAI (sFI (sFI S 710 u1 (-1000000 : Int32)) 700 u1 x1) u3 (Int32.toNatClampNeg (0 : Int32)))) u3 (Int32.toNatClampNeg (1 : Int32)))) u3 (Int32.toNatClampNeg (2 : Int32)))) 704 u1 (xAI (sFI (sFI (sFI (sFI (sFI S 710 u1 (-1000000 : Int32)) 700 u1 x1) 701 u1 (xAI (sFI (sFI S 710 u1 (-1000000 : Int32)) 700 u1 x1) u3 (Int32.toNatClampNeg (0 : Int32)))) 702 u1 (xAI (sFI (sFI (sFI S 710 u1 (-1000000 : Int32)) 700 u1 x1) 701 u1 (xAI (sFI (sFI S 710 u1 (-1000000 : Int32)) 700 u1 x1) u3 (Int32.toNatClampNeg (0 : Int32)))) u3 (Int32.toNatClampNeg (1 : Int32)))) 703 u1 (xAI (sFI (sFI (sFI (sFI S 710 u1 (-1000000 : Int32)) 700 u1 x1) 701 u1 (xAI (sFI (sFI S 710 u1 (-1000000 : Int32)) 700 u1 x1) u3 (Int32.toNatClampNeg (0 : Int32)))) 702 u1 (xAI (sFI (sFI (sFI S 710 u1 (-1000000 : Int32)) 700 u1 x1) 701 u1 (xAI (sFI (sFI S 710 u1 (-1000000 : Int32)) 700 u1 x1) u3 (Int32.toNatClampNeg (0 : Int32)))) u3 (Int32.toNatClampNeg (1 : Int32)))) u3 (Int32.toNatClampNeg (2 : Int32)))) u3 (Int32.toNatClampNeg (3 : Int32)))) u3 (Int32.toNatClampNeg (4 : Int32)))) u3 (Int32.toNatClampNeg (5 : Int32)))) u3 (Int32.toNatClampNeg (6 : Int32)))) u3 (Int32.toNatClampNeg (7 : Int32))) = (1 : Int32) then wx_X8_init_79 Q (sFI (sFI (sFI (sFI (sFI (sFI (sFI (sFI (sFI S 710 u1 (-1000000 : Int32)) 700 u1 x1) 701 u1 (xAI (sFI (sFI S 710 u1 (-1000000 : Int32)) 700 u1 x1) u3 (Int32.toNatClampNeg (0 : Int32)))) 702 u1 (xAI (sFI (sFI (sFI S 710 u1 (-1000000 : Int32)) 700 u1 x1) 701 u1 (xAI (sFI (sFI S 710 u1 (-1000000 : Int32)) 700 u1 x1) u3 (Int32.toNatClampNeg (0 : Int32)))) u3 (Int32.toNatClampNeg (1 : Int32)))) 703 u1 (xAI (sFI (sFI (sFI (sFI S 710 u1 (-1000000 : Int32)) 700 u1 x1) 701 u1 (xAI (sFI (sFI S 710 u1 (-1000000 : Int32)) 700 u1 x1) u3 (Int32.toNatClampNeg (0 : Int32)))) 702 u1 (xAI (sFI (sFI (sFI S 710 u1 (-1000000 : Int32)) 700 u1 x1) 701 u1 (xAI (sFI (sFI S 710 u1 (-1000000 : Int32)) 700 u1 x1) u3 (Int32.toNatClampNeg (0 : Int32)))) u3 (Int32.toNatClampNeg (1 : Int32)))) u3 (Int32.toNatClampNeg (2 : Int32)))) 704 u1 (xAI (sFI (sFI (sFI (sFI (sFI S 710 u1 (-1000000 : Int32)) 700 u1 x1) 701 u1 (xAI (sFI (sFI S 710 u1 (-1000000 : Int32)) 700 u1 x1) u3 (Int32.toNatClampNeg (0 : Int32)))) 702 u1 (xAI (sFI (sFI (sFI S 710 u1 (-1000000 : Int32)) 700 u1 x1) 701 u1 (xAI (sFI (sFI S 710 u1 (-1000000 : Int32)) 700 u1 x1) u3 (Int32.toNatClampNeg (0 : Int32)))) u3 (Int32.toNatClampNeg (1 : Int32)))) 703 u1 (xAI (sFI (sFI (sFI (sFI S 710 u1 (-1000000 : Int32)) 700 u1 x1) 701 u1 (xAI (sFI (sFI S 710 u1 (-1000000 : Int32)) 700 u1 x1) u3 (Int32.toNatClampNeg (0 : Int32)))) 702 u1 (xAI (sFI (sFI (sFI S 710 u1 (-1000000 : Int32)) 700 u1 x1) 701 u1 (xAI (sFI (sFI S 710 u1 (-1000000 : Int32)) 700 u1 x1) u3 (Int32.toNatClampNeg (0 : Int32)))) u3 (Int32.toNatClampNeg (1 : Int32)))) u3 (Int32.toNatClampNeg (2 : Int32)))) u3 (Int32.toNatClampNeg (3 : Int32)))) 705 u1 (xAI (sFI (sFI (sFI (sFI (sFI (sFI S 710 u1 (-1000000 : Int32)) 700 u1 x1) 701 u1 (xAI (sFI (sFI S 710 u1 (-1000000 : Int32)) 700 u1 x1) u3 (Int32.toNatClampNeg (0 : Int32)))) 702 u1 (xAI (sFI (sFI (sFI S 710 u1 (-1000000 : Int32)) 700 u1 x1) 701 u1 (xAI (sFI (sFI S 710 u1 (-1000000 : Int32)) 700 u1 x1) u3 (Int32.toNatClampNeg (0 : Int32)))) u3 (Int32.toNatClampNeg (1 : Int32)))) 703 u1 (xAI (sFI (sFI (sFI (sFI S 710 u1 (-1000000 : Int32)) 700 u1 x1) 701 u1 (xAI (sFI (sFI S 710 u1 (-1000000 : Int32)) 700 u1 x1) u3 (Int32.toNatClampNeg (0 : Int32)))) 702 u1 (xAI (sFI (sFI (sFI S 710 u1 (-1000000 : Int32)) 700 u1 x1) 701 u1 (xAI (sFI (sFI S 710 u1 (-1000000 : Int32)) 700 u1 x1) u3 (Int32.toNatClampNeg (0 : Int32)))) u3 (Int32.toNatClampNeg (1 : Int32)))) u3 (Int32.toNatClampNeg (2 : Int32)))) 704 u1 (xAI (sFI (sFI (sFI (sFI (sFI S 710 u1 (-1000000 : Int32)) 700 u1 x1) 701 u1 (xAI (sFI (sFI S 710 u1 (-1000000 : Int32)) 700 u1 x1) u3 (Int32.toNatClampNeg (0 : Int32)))) 702 u1 (xAI (sFI (sFI (sFI S 710 u1 (-1000000 : Int32)) 700 u1 x1) 701 u1 (xAI (sFI (sFI S 710 u1 (-1000000 : Int32)) 700 u1 x1) u3 (Int32.toNatClampNeg (0 : Int32)))) u3 (Int32.toNatClampNeg (1 : Int32)))) 703 u1 (xAI (sFI (sFI (sFI (sFI S 710 u1 (-1000000 : Int32)) 700 u1 x1) 701 u1 (xAI (sFI (sFI S 710 u1 (-1000000 : Int32)) 700 u1 x1) u3 (Int32.toNatClampNeg (0 : Int32)))) 702 u1 (xAI (sFI (sFI (sFI S 710 u1 (-1000000 : Int32)) 700 u1 x1) 701 u1 (xAI (sFI (sFI S 710 u1 (-1000000 : Int32)) 700 u1 x1) u3 (Int32.toNatClampNeg (0 : Int32)))) u3 (Int32.toNatClampNeg (1 : Int32)))) u3 (Int32.toNatClampNeg (2 : Int32)))) u3 (Int32.toNatClampNeg (3 : Int32)))) u3 (Int32.toNatClampNeg (4 : Int32)))) 706 u1 (xAI (sFI (sFI (sFI (sFI (sFI (sFI (sFI S 710 u1 (-1000000 : Int32)) 700 u1 x1) 701 u1 (xAI (sFI (sFI S 710 u1 (-1000000 : Int32)) 700 u1 x1) u3 (Int32.toNatClampNeg (0 : Int32)))) 702 u1 (xAI (sFI (sFI (sFI S 710 u1 (-1000000 : Int32)) 700 u1 x1) 701 u1 (xAI (sFI (sFI S 710 u1 (-1000000 : Int32)) 700 u1 x1) u3 (Int32.toNatClampNeg (0 : Int32)))) u3 (Int32.toNatClampNeg (1 : Int32)))) 703 u1 (xAI (sFI (sFI (sFI (sFI S 710 u1 (-1000000 : Int32)) 700 u1 x1) 701 u1 (xAI (sFI (sFI S 710 u1 (-1000000 : Int32)) 700 u1 x1) u3 (Int32.toNatClampNeg (0 : Int32)))) 702 u1 (xAI (sFI (sFI (sFI S 710 u1 (-1000000 : Int32)) 700 u1 x1) 701 u1 (xAI (sFI (sFI S 710 u1 (-1000000 : Int32)) 700 u1 x1) u3 (Int32.toNatClampNeg (0 : Int32)))) u3 (Int32.toNatClampNeg (1 : Int32)))) u3 (Int32.toNatClampNeg (2 : Int32)))) 704 u1 (xAI (sFI (sFI (sFI (sFI (sFI S 710 u1 (-1000000 : Int32)) 700 u1 x1) 701 u1 (xAI (sFI (sFI S 710 u1 (-1000000 : Int32)) 700 u1 x1) u3 (Int32.toNatClampNeg (0 : Int32)))) 702 u1 (xAI (sFI (sFI (sFI S 710 u1 (-1000000 : Int32)) 700 u1 x1) 701 u1 (xAI (sFI (sFI S 710 u1 (-1000000 : Int32)) 700 u1 x1) u3 (Int32.toNatClampNeg (0 : Int32)))) u3 (Int32.toNatClampNeg (1 : Int32)))) 703 u1 (xAI (sFI (sFI (sFI (sFI S 710 u1 (-1000000 : Int32)) 700 u1 x1) 701 u1 (xAI (sFI (sFI S 710 u1 (-1000000 : Int32)) 700 u1 x1) u3 (Int32.toNatClampNeg (0 : Int32)))) 702 u1 (xAI (sFI (sFI (sFI S 710 u1 (-1000000 : Int32)) 700 u1 x1) 701 u1 (xAI (sFI (sFI S 710 u1 (-1000000 : Int32)) 700 u1 x1) u3 (Int32.toNatClampNeg (0 : Int32)))) u3 (Int32.toNatClampNeg (1 : Int32)))) u3 (Int32.toNatClampNeg (2 : Int32)))) u3 (Int32.toNatClampNeg (3 : Int32)))) 705 u1 (xAI (sFI (sFI (sFI (sFI (sFI (sFI S 710 u1 (-1000000 : Int32)) 700 u1 x1) 701 u1 (xAI (sFI (sFI S 710 u1 (-1000000 : Int32)) 700 u1 x1) u3 (Int32.toNatClampNeg (0 : Int32)))) 702 u1 (xAI (sFI (sFI (sFI S 710 u1 (-1000000 : Int32)) 700 u1 x1) 701 u1 (xAI (sFI (sFI S 710 u1 (-1000000 : Int32)) 700 u1 x1) u3 (Int32.toNatClampNeg (0 : Int32)))) u3 (Int32.toNatClampNeg (1 : Int32)))) 703 u1 (xAI (sFI (sFI (sFI (sFI S 710 u1 (-1000000 : Int32)) 700 u1 x1) 701 u1 (xAI (sFI (sFI S 710 u1 (-1000000 : Int32)) 700 u1 x1) u3 (Int32.toNatClampNeg (0 : Int32)))) 702 u1 (xAI (sFI (sFI (sFI S 710 u1 (-1000000 : Int32)) 700 u1 x1) 701 u1 (xAI (sFI (sFI S 710 u1 (-1000000 : Int32)) 700 u1 x1) u3 (Int32.toNatClampNeg (0 : Int32)))) u3 (Int32.toNatClampNeg (1 : Int32)))) u3 (Int32.toNatClampNeg (2 : Int32)))) 704 u1 (xAI (sFI (sFI (sFI (sFI (sFI S 710 u1 (-1000000 : Int32)) 700 u1 x1) 701 u1 (xAI (sFI (sFI S 710 u1 (-1000000 : Int32)) 700 u1 x1) u3 (Int32.toNatClampNeg (0 : Int32)))) 702 u1 (xAI (sFI (sFI (sFI S 710 u1 (-1000000 : Int32)) 700 u1 x1) 701 u1 (xAI (sFI (sFI S 710 u1 (-1000000 : Int32)) 700 u1 x1) u3 (Int32.toNatClampNeg (0 : Int32)))) u3 (Int32.toNatClampNeg (1 : Int32)))) 703 u1 (xAI (sFI (sFI (sFI (sFI S 710 u1 (-1000000 : Int32)) 700 u1 x1) 701 u1 (xAI (sFI (sFI S 710 u1 (-1000000 : Int32)) 700 u1 x1) u3 (Int32.toNatClampNeg (0 : Int32)))) 702 u1 (xAI (sFI (sFI (sFI S 710 u1 (-1000000 : Int32)) 700 u1 x1) 701 u1 (xAI (sFI (sFI S 710 u1 (-1000000 : Int32)) 700 u1 x1) u3 (Int32.toNatClampNeg (0 : Int32)))) u3 (Int32.toNatClampNeg (1 : Int32)))) u3 (Int32.toNatClampNeg (2 : Int32)))) u3 (Int32.toNatClampNeg (3 : Int32)))) u3 (Int32.toNatClampNeg (4 : Int32)))) u3 (Int32.toNatClampNeg (5 : Int32)))) 707 u1 (xAI (sFI (sFI (sFI (sFI (sFI (sFI (sFI (sFI S 710 u1 (-1000000 : Int32)) 700 u1 x1) 701 u1 (xAI (sFI (sFI S 710 u1 (-1000000 : Int32)) 700 u1 x1) u3 (Int32.toNatClampNeg (0 : Int32)))) 702 u1 (xAI (sFI (sFI (sFI S 710 u1 (-1000000 : Int32)) 700 u1 x1) 701 u1 (xAI (sFI (sFI S 710 u1 (-1000000 : Int32)) 700 u1 x1) u3 (Int32.toNatClampNeg (0 : Int32)))) u3 (Int32.toNatClampNeg (1 : Int32)))) 703 u1 (xAI (sFI (sFI (sFI (sFI S 710 u1 (-1000000 : Int32)) 700 u1 x1) 701 u1 (xAI (sFI (sFI S 710 u1 (-1000000 : Int32)) 700 u1 x1) u3 (Int32.toNatClampNeg (0 : Int32)))) 702 u1 (xAI (sFI (sFI (sFI S 710 u1 (-1000000 : Int32)) 700 u1 x1) 701 u1 (xAI (sFI (sFI S 710 u1 (-1000000 : Int32)) 700 u1 x1) u3 (Int32.toNatClampNeg (0 : Int32)))) u3 (Int32.toNatClampNeg (1 : Int32)))) u3 (Int32.toNatClampNeg (2 : Int32)))) 704 u1 (xAI (sFI (sFI (sFI (sFI (sFI S 710 u1 (-1000000 : Int32)) 700 u1 x1) 701 u1 (xAI (sFI (sFI S 710 u1 (-1000000 : Int32)) 700 u1 x1) u3 (Int32.toNatClampNeg (0 : Int32)))) 702 u1 (xAI (sFI (sFI (sFI S 710 u1 (-1000000 : Int32)) 700 u1 x1) 701 u1 (xAI (sFI (sFI S 710 u1 (-1000000 : Int32)) 700 u1 x1) u3 (Int32.toNatClampNeg (0 : Int32)))) u3 (Int32.toNatClampNeg (1 : Int32)))) 703 u1 (xAI (sFI (sFI (sFI (sFI S 710 u1 (-1000000 : Int32)) 700 u1 x1) 701 u1 (xAI (sFI (sFI S 710 u1 (-1000000 : Int32)) 700 u1 x1) u3 (Int32.toNatClampNeg (0 : Int32)))) 702 u1 (xAI (sFI (sFI (sFI S 710 u1 (-1000000 : Int32)) 700 u1 x1) 701 u1 (xAI (sFI (sFI S 710 u1 (-1000000 : Int32)) 700 u1 x1) u3 (Int32.toNatClampNeg (0 : Int32)))) u3 (Int32.toNatClampNeg (1 : Int32)))) u3 (Int32.toNatClampNeg (2 : Int32)))) u3 (Int32.toNatClampNeg (3 : Int32)))) 705 u1 (xAI (sFI (sFI (sFI (sFI (sFI (sFI S 710 u1 (-1000000 : Int32)) 700 u1 x1) 701 u1 (xAI (sFI (sFI S 710 u1 (-1000000 : Int32)) 700 u1 x1) u3 (Int32.toNatClampNeg (0 : Int32)))) 702 u1 (xAI (sFI (sFI (sFI S 710 u1 (-1000000 : Int32)) 700 u1 x1) 701 u1 (xAI (sFI (sFI S 710 u1 (-1000000 : Int32)) 700 u1 x1) u3 (Int32.toNatClampNeg (0 : Int32)))) u3 (Int32.toNatClampNeg (1 : Int32)))) 703 u1 (xAI (sFI (sFI (sFI (sFI S 710 u1 (-1000000 : Int32)) 700 u1 x1) 701 u1 (xAI (sFI (sFI S 710 u1 (-1000000 : Int32)) 700 u1 x1) u3 (Int32.toNatClampNeg (0 : Int32)))) 702 u1 (xAI (sFI (sFI (sFI S 710 u1 (-1000000 : Int32)) 700 u1 x1) 701 u1 (xAI (sFI (sFI S 710 u1 (-1000000 : Int32)) 700 u1 x1) u3 (Int32.toNatClampNeg (0 : Int32)))) u3 (Int32.toNatClampNeg (1 : Int32)))) u3 (Int32.toNatClampNeg (2 : Int32)))) 704 u1 (xAI (sFI (sFI (sFI (sFI (sFI S 710 u1 (-1000000 : Int32)) 700 u1 x1) 701 u1 (xAI (sFI (sFI S 710 u1 (-1000000 : Int32)) 700 u1 x1) u3 (Int32.toNatClampNeg (0 : Int32)))) 702 u1 (xAI (sFI (sFI (sFI S 710 u1 (-1000000 : Int32)) 700 u1 x1) 701 u1 (xAI (sFI (sFI S 710 u1 (-1000000 : Int32)) 700 u1 x1) u3 (Int32.toNatClampNeg (0 : Int32)))) u3 (Int32.toNatClampNeg (1 : Int32)))) 703 u1 (xAI (sFI (sFI (sFI (sFI S 710 u1 (-1000000 : Int32)) 700 u1 x1) 701 u1 (xAI (sFI (sFI S 710 u1 (-1000000 : Int32)) 700 u1 x1) u3 (Int32.toNatClampNeg (0 : Int32)))) 702 u1 (xAI (sFI (sFI (sFI S 710 u1 (-1000000 : Int32)) 700 u1 x1) 701 u1 (xAI (sFI (sFI S 710 u1 (-1000000 : Int32)) 700 u1 x1) u3 (Int32.toNatClampNeg (0 : Int32)))) u3 (Int32.toNatClampNeg (1 : Int32)))) u3 (Int32.toNatClampNeg (2 : Int32)))) u3 (Int32.toNatClampNeg (3 : Int32)))) u3 (Int32.toNatClampNeg (4 : Int32)))) 706 u1 (xAI (sFI (sFI (sFI (sFI (sFI (sFI (sFI S 710 u1 (-1000000 : Int32)) 700 u1 x1) 701 u1 (xAI (sFI (sFI S 710 u1 (-1000000 : Int32)) 700 u1 x1) u3 (Int32.toNatClampNeg (0 : Int32)))) 702 u1 (xAI (sFI (sFI (sFI S 710 u1 (-1000000 : Int32)) 700 u1 x1) 701 u1 (xAI (sFI (sFI S 710 u1 (-1000000 : Int32)) 700 u1 x1) u3 (Int32.toNatClampNeg (0 : Int32)))) u3 (Int32.toNatClampNeg (1 : Int32)))) 703 u1 (xAI (sFI (sFI (sFI (sFI S 710 u1 (-1000000 : Int32)) 700 u1 x1) 701 u1 (xAI (sFI (sFI S 710 u1 (-1000000 : Int32)) 700 u1 x1) u3 (Int32.toNatClampNeg (0 : Int32)))) 702 u1 (xAI (sFI (sFI (sFI S 710 u1 (-1000000 : Int32)) 700 u1 x1) 701 u1 (xAI (sFI (sFI S 710 u1 (-1000000 : Int32)) 700 u1 x1) u3 (Int32.toNatClampNeg (0 : Int32)))) u3 (Int32.toNatClampNeg (1 : Int32)))) u3 (Int32.toNatClampNeg (2 : Int32)))) 704 u1 (xAI (sFI (sFI (sFI (sFI (sFI S 710 u1 (-1000000 : Int32)) 700 u1 x1) 701 u1 (xAI (sFI (sFI S 710 u1 (-1000000 : Int32)) 700 u1 x1) u3 (Int32.toNatClampNeg (0 : Int32)))) 702 u1 (xAI (sFI (sFI (sFI S 710 u1 (-1000000 : Int32)) 700 u1 x1) 701 u1 (xAI (sFI (sFI S 710 u1 (-1000000 : Int32)) 700 u1 x1) u3 (Int32.toNatClampNeg (0 : Int32)))) u3 (Int32.toNatClampNeg (1 : Int32)))) 703 u1 (xAI (sFI (sFI (sFI (sFI S 710 u1 (-1000000 : Int32)) 700 u1 x1) 701 u1 (xAI (sFI (sFI S 710 u1 (-1000000 : Int32)) 700 u1 x1) u3 (Int32.toNatClampNeg (0 : Int32)))) 702 u1 (xAI (sFI (sFI (sFI S 710 u1 (-1000000 : Int32)) 700 u1 x1) 701 u1 (xAI (sFI (sFI S 710 u1 (-1000000 : Int32)) 700 u1 x1) u3 (Int32.toNatClampNeg (0 : Int32)))) u3 (Int32.toNatClampNeg (1 : Int32)))) u3 (Int32.toNatClampNeg (2 : Int32)))) u3 (Int32.toNatClampNeg (3 : Int32)))) 705 u1 (xAI (sFI (sFI (sFI (sFI (sFI (sFI S 710 u1 (-1000000 : Int32)) 700 u1 x1) 701 u1 (xAI (sFI (sFI S 710 u1 (-1000000 : Int32)) 700 u1 x1) u3 (Int32.toNatClampNeg (0 : Int32)))) 702 u1 (xAI (sFI (sFI (sFI S 710 u1 (-1000000 : Int32)) 700 u1 x1) 701 u1 (xAI (sFI (sFI S 710 u1 (-1000000 : Int32)) 700 u1 x1) u3 (Int32.toNatClampNeg (0 : Int32)))) u3 (Int32.toNatClampNeg (1 : Int32)))) 703 u1 (xAI (sFI (sFI (sFI (sFI S 710 u1 (-1000000 : Int32)) 700 u1 x1) 701 u1 (xAI (sFI (sFI S 710 u1 (-1000000 : Int32)) 700 u1 x1) u3 (Int32.toNatClampNeg (0 : Int32)))) 702 u1 (xAI (sFI (sFI (sFI S 710 u1 (-1000000 : Int32)) 700 u1 x1) 701 u1 (xAI (sFI (sFI S 710 u1 (-1000000 : Int32)) 700 u1 x1) u3 (Int32.toNatClampNeg (0 : Int32)))) u3 (Int32.toNatClampNeg (1 : Int32)))) u3 (Int32.toNatClampNeg (2 : Int32)))) 704 u1 (xAI (sFI (sFI (sFI (sFI (sFI S 710 u1 (-1000000 : Int32)) 700 u1 x1) 701 u1 (xAI (sFI (sFI S 710 u1 (-1000000 : Int32)) 700 u1 x1) u3 (Int32.toNatClampNeg (0 : Int32)))) 702 u1 (xAI (sFI (sFI (sFI S 710 u1 (-1000000 : Int32)) 700 u1 x1) 701 u1 (xAI (sFI (sFI S 710 u1 (-1000000 : Int32)) 700 u1 x1) u3 (Int32.toNatClampNeg (0 : Int32)))) u3 (Int32.toNatClampNeg (1 : Int32)))) 703 u1 (xAI (sFI (sFI (sFI (sFI S 710 u1 (-1000000 : Int32)) 700 u1 x1) 701 u1 (xAI (sFI (sFI S 710 u1 (-1000000 : Int32)) 700 u1 x1) u3 (Int32.toNatClampNeg (0 : Int32)))) 702 u1 (xAI (sFI (sFI (sFI S 710 u1 (-1000000 : Int32)) 700 u1 x1) 701 u1 (xAI (sFI (sFI S 710 u1 (-1000000 : Int32)) 700 u1 x1) u3 (Int32.toNatClampNeg (0 : Int32)))) u3 (Int32.toNatClampNeg (1 : Int32)))) u3 (Int32.toNatClampNeg (2 : Int32)))) u3 (Int32.toNatClampNeg (3 : Int32)))) u3 (Int32.toNatClampNeg (4 : Int32)))) u3 (Int32.toNatClampNeg (5 : Int32)))) u3 (Int32.toNatClampNeg (6 : Int32)))) x0 x2 x0 (1 : Int32) else wx_X8_init_79 Q (sFI (sFI (sFI (sFI (sFI (sFI (sFI (sFI (sFI S 710 u1 (-1000000 : Int32)) 700 u1 x1) 701 u1 (xAI (sFI (sFI S 710 u1 (-1000000 : Int32)) 700 u1 x1) u3 (Int32.toNatClampNeg (0 : Int32)))) 702 u1 (xAI (sFI (sFI (sFI S 710 u1 (-1000000 : Int32)) 700 u1 x1) 701 u1 (xAI (sFI (sFI S 710 u1 (-1000000 : Int32)) 700 u1 x1) u3 (Int32.toNatClampNeg (0 : Int32)))) u3 (Int32.toNatClampNeg (1 : Int32)))) 703 u1 (xAI (sFI (sFI (sFI (sFI S 710 u1 (-1000000 : Int32)) 700 u1 x1) 701 u1 (xAI (sFI (sFI S 710 u1 (-1000000 : Int32)) 700 u1 x1) u3 (Int32.toNatClampNeg (0 : Int32)))) 702 u1 (xAI (sFI (sFI (sFI S 710 u1 (-1000000 : Int32)) 700 u1 x1) 701 u1 (xAI (sFI (sFI S 710 u1 (-1000000 : Int32)) 700 u1 x1) u3 (Int32.toNatClampNeg (0 : Int32)))) u3 (Int32.toNatClampNeg (1 : Int32)))) u3 (Int32.toNatClampNeg (2 : Int32)))) 704 u1 (xAI (sFI (sFI (sFI (sFI (sFI S 710 u1 (-1000000 : Int32)) 700 u1 x1) 701 u1 (xAI (sFI (sFI S 710 u1 (-1000000 : Int32)) 700 u1 x1) u3 (Int32.toNatClampNeg (0 : Int32)))) 702 u1 (xAI (sFI (sFI (sFI S 710 u1 (-1000000 : Int32)) 700 u1 x1) 701 u1 (xAI (sFI (sFI S 710 u1 (-1000000 : Int32)) 700 u1 x1) u3 (Int32.toNatClampNeg (0 : Int32)))) u3 (Int32.toNatClampNeg (1 : Int32)))) 703 u1 (xAI (sFI (sFI (sFI (sFI S 710 u1 (-1000000 : Int32)) 700 u1 x1) 701 u1 (xAI (sFI (sFI S 710 u1 (-1000000 : Int32)) 700 u1 x1) u3 (Int32.toNatClampNeg (0 : Int32)))) 702 u1 (xAI (sFI (sFI (sFI S 710 u1 (-1000000 : Int32)) 700 u1 x1) 701 u1 (xAI (sFI (sFI S 710 u1 (-1000000 : Int32)) 700 u1 x1) u3 (Int32.toNatClampNeg (0 : Int32)))) u3 (Int32.toNatClampNeg (1 : Int32)))) u3 (Int32.toNatClampNeg (2 : Int32)))) u3 (Int32.toNatClampNeg (3 : Int32)))) 705 u1 (xAI (sFI (sFI (sFI (sFI (sFI (sFI S 710 u1 (-1000000 : Int32)) 700 u1 x1) 701 u1 (xAI (sFI (sFI S 710 u1 (-1000000 : Int32)) 700 u1 x1) u3 (Int32.toNatClampNeg (0 : Int32)))) 702 u1 (xAI (sFI (sFI (sFI S 710 u1 (-1000000 : Int32)) 700 u1 x1) 701 u1 (xAI (sFI (sFI S 710 u1 (-1000000 : Int32)) 700 u1 x1) u3 (Int32.toNatClampNeg (0 : Int32)))) u3 (Int32.toNatClampNeg (1 : Int32)))) 703 u1 (xAI (sFI (sFI (sFI (sFI S 710 u1 (-1000000 : Int32)) 700 u1 x1) 701 u1 (xAI (sFI (sFI S 710 u1 (-1000000 : Int32)) 700 u1 x1) u3 (Int32.toNatClampNeg (0 : Int32)))) 702 u1 (xAI (sFI (sFI (sFI S 710 u1 (-1000000 : Int32)) 700 u1 x1) 701 u1 (xAI (sFI (sFI S 710 u1 (-1000000 : Int32)) 700 u1 x1) u3 (Int32.toNatClampNeg (0 : Int32)))) u3 (Int32.toNatClampNeg (1 : Int32)))) u3 (Int32.toNatClampNeg (2 : Int32)))) 704 u1 (xAI (sFI (sFI (sFI (sFI (sFI S 710 u1 (-1000000 : Int32)) 700 u1 x1) 701 u1 (xAI (sFI (sFI S 710 u1 (-1000000 : Int32)) 700 u1 x1) u3 (Int32.toNatClampNeg (0 : Int32)))) 702 u1 (xAI (sFI (sFI (sFI S 710 u1 (-1000000 : Int32)) 700 u1 x1) 701 u1 (xAI (sFI (sFI S 710 u1 (-1000000 : Int32)) 700 u1 x1) u3 (Int32.toNatClampNeg (0 : Int32)))) u3 (Int32.toNatClampNeg (1 : Int32)))) 703 u1 (xAI (sFI (sFI (sFI (sFI S 710 u1 (-1000000 : Int32)) 700 u1 x1) 701 u1 (xAI (sFI (sFI S 710 u1 (-1000000 : Int32)) 700 u1 x1) u3 (Int32.toNatClampNeg (0 : Int32)))) 702 u1 (xAI (sFI (sFI (sFI S 710 u1 (-1000000 : Int32)) 700 u1 x1) 701 u1 (xAI (sFI (sFI S 710 u1 (-1000000 : Int32)) 700 u1 x1) u3 (Int32.toNatClampNeg (0 : Int32)))) u3 (Int32.toNatClampNeg (1 : Int32)))) u3 (Int32.toNatClampNeg (2 : Int32)))) u3 (Int32.toNatClampNeg (3 : Int32)))) u3 (Int32.toNatClampNeg (4 : Int32)))) 706 u1 (xAI (sFI (sFI (sFI (sFI (sFI (sFI (sFI S 710 u1 (-1000000 : Int32)) 700 u1 x1) 701 u1 (xAI (sFI (sFI S 710 u1 (-1000000 : Int32)) 700 u1 x1) u3 (Int32.toNatClampNeg (0 : Int32)))) 702 u1 (xAI (sFI (sFI (sFI S 710 u1 (-1000000 : Int32)) 700 u1 x1) 701 u1 (xAI (sFI (sFI S 710 u1 (-1000000 : Int32)) 700 u1 x1) u3 (Int32.toNatClampNeg (0 : Int32)))) u3 (Int32.toNatClampNeg (1 : Int32)))) 703 u1 (xAI (sFI (sFI (sFI (sFI S 710 u1 (-1000000 : Int32)) 700 u1 x1) 701 u1 (xAI (sFI (sFI S 710 u1 (-1000000 : Int32)) 700 u1 x1) u3 (Int32.toNatClampNeg (0 : Int32)))) 702 u1 (xAI (sFI (sFI (sFI S 710 u1 (-1000000 : Int32)) 700 u1 x1) 701 u1 (xAI (sFI (sFI S 710 u1 (-1000000 : Int32)) 700 u1 x1) u3 (Int32.toNatClampNeg (0 : Int32)))) u3 (Int32.toNatClampNeg (1 : Int32)))) u3 (Int32.toNatClampNeg (2 : Int32)))) 704 u1 (xAI (sFI (sFI (sFI (sFI (sFI S 710 u1 (-1000000 : Int32)) 700 u1 x1) 701 u1 (xAI (sFI (sFI S 710 u1 (-1000000 : Int32)) 700 u1 x1) u3 (Int32.toNatClampNeg (0 : Int32)))) 702 u1 (xAI (sFI (sFI (sFI S 710 u1 (-1000000 : Int32)) 700 u1 x1) 701 u1 (xAI (sFI (sFI S 710 u1 (-1000000 : Int32)) 700 u1 x1) u3 (Int32.toNatClampNeg (0 : Int32)))) u3 (Int32.toNatClampNeg (1 : Int32)))) 703 u1 (xAI (sFI (sFI (sFI (sFI S 710 u1 (-1000000 : Int32)) 700 u1 x1) 701 u1 (xAI (sFI (sFI S 710 u1 (-1000000 : Int32)) 700 u1 x1) u3 (Int32.toNatClampNeg (0 : Int32)))) 702 u1 (xAI (sFI (sFI (sFI S 710 u1 (-1000000 : Int32)) 700 u1 x1) 701 u1 (xAI (sFI (sFI S 710 u1 (-1000000 : Int32)) 700 u1 x1) u3 (Int32.toNatClampNeg (0 : Int32)))) u3 (Int32.toNatClampNeg (1 : Int32)))) u3 (Int32.toNatClampNeg (2 : Int32)))) u3 (Int32.toNatClampNeg (3 : Int32)))) 705 u1 (xAI (sFI (sFI (sFI (sFI (sFI (sFI S 710 u1 (-1000000 : Int32)) 700 u1 x1) 701 u1 (xAI (sFI (sFI S 710 u1 (-1000000 : Int32)) 700 u1 x1) u3 (Int32.toNatClampNeg (0 : Int32)))) 702 u1 (xAI (sFI (sFI (sFI S 710 u1 (-1000000 : Int32)) 700 u1 x1) 701 u1 (xAI (sFI (sFI S 710 u1 (-1000000 : Int32)) 700 u1 x1) u3 (Int32.toNatClampNeg (0 : Int32)))) u3 (Int32.toNatClampNeg (1 : Int32)))) 703 u1 (xAI (sFI (sFI (sFI (sFI S 710 u1 (-1000000 : Int32)) 700 u1 x1) 701 u1 (xAI (sFI (sFI S 710 u1 (-1000000 : Int32)) 700 u1 x1) u3 (Int32.toNatClampNeg (0 : Int32)))) 702 u1 (xAI (sFI (sFI (sFI S 710 u1 (-1000000 : Int32)) 700 u1 x1) 701 u1 (xAI (sFI (sFI S 710 u1 (-1000000 : Int32)) 700 u1 x1) u3 (Int32.toNatClampNeg (0 : Int32)))) u3 (Int32.toNatClampNeg (1 : Int32)))) u3 (Int32.toNatClampNeg (2 : Int32)))) 704 u1 (xAI (sFI (sFI (sFI (sFI (sFI S 710 u1 (-1000000 : Int32)) 700 u1 x1) 701 u1 (xAI (sFI (sFI S 710 u1 (-1000000 : Int32)) 700 u1 x1) u3 (Int32.toNatClampNeg (0 : Int32)))) 702 u1 (xAI (sFI (sFI (sFI S 710 u1 (-1000000 : Int32)) 700 u1 x1) 701 u1 (xAI (sFI (sFI S 710 u1 (-1000000 : Int32)) 700 u1 x1) u3 (Int32.toNatClampNeg (0 : Int32)))) u3 (Int32.toNatClampNeg (1 : Int32)))) 703 u1 (xAI (sFI (sFI (sFI (sFI S 710 u1 (-1000000 : Int32)) 700 u1 x1) 701 u1 (xAI (sFI (sFI S 710 u1 (-1000000 : Int32)) 700 u1 x1) u3 (Int32.toNatClampNeg (0 : Int32)))) 702 u1 (xAI (sFI (sFI (sFI S 710 u1 (-1000000 : Int32)) 700 u1 x1) 701 u1 (xAI (sFI (sFI S 710 u1 (-1000000 : Int32)) 700 u1 x1) u3 (Int32.toNatClampNeg (0 : Int32)))) u3 (Int32.toNatClampNeg (1 : Int32)))) u3 (Int32.toNatClampNeg (2 : Int32)))) u3 (Int32.toNatClampNeg (3 : Int32)))) u3 (Int32.toNatClampNeg (4 : Int32)))) u3 (Int32.toNatClampNeg (5 : Int32)))) 707 u1 (xAI (sFI (sFI (sFI (sFI (sFI (sFI (sFI (sFI S 710 u1 (-1000000 : Int32)) 700 u1 x1) 701 u1 (xAI (sFI (sFI S 710 u1 (-1000000 : Int32)) 700 u1 x1) u3 (Int32.toNatClampNeg (0 : Int32)))) 702 u1 (xAI (sFI (sFI (sFI S 710 u1 (-1000000 : Int32)) 700 u1 x1) 701 u1 (xAI (sFI (sFI S 710 u1 (-1000000 : Int32)) 700 u1 x1) u3 (Int32.toNatClampNeg (0 : Int32)))) u3 (Int32.toNatClampNeg (1 : Int32)))) 703 u1 (xAI (sFI (sFI (sFI (sFI S 710 u1 (-1000000 : Int32)) 700 u1 x1) 701 u1 (xAI (sFI (sFI S 710 u1 (-1000000 : Int32)) 700 u1 x1) u3 (Int32.toNatClampNeg (0 : Int32)))) 702 u1 (xAI (sFI (sFI (sFI S 710 u1 (-1000000 : Int32)) 700 u1 x1) 701 u1 (xAI (sFI (sFI S 710 u1 (-1000000 : Int32)) 700 u1 x1) u3 (Int32.toNatClampNeg (0 : Int32)))) u3 (Int32.toNatClampNeg (1 : Int32)))) u3 (Int32.toNatClampNeg (2 : Int32)))) 704 u1 (xAI (sFI (sFI (sFI (sFI (sFI S 710 u1 (-1000000 : Int32)) 700 u1 x1) 701 u1 (xAI (sFI (sFI S 710 u1 (-1000000 : Int32)) 700 u1 x1) u3 (Int32.toNatClampNeg (0 : Int32)))) 702 u1 (xAI (sFI (sFI (sFI S 710 u1 (-1000000 : Int32)) 700 u1 x1) 701 u1 (xAI (sFI (sFI S 710 u1 (-1000000 : Int32)) 700 u1 x1) u3 (Int32.toNatClampNeg (0 : Int32)))) u3 (Int32.toNatClampNeg (1 : Int32)))) 703 u1 (xAI (sFI (sFI (sFI (sFI S 710 u1 (-1000000 : Int32)) 700 u1 x1) 701 u1 (xAI (sFI (sFI S 710 u1 (-1000000 : Int32)) 700 u1 x1) u3 (Int32.toNatClampNeg (0 : Int32)))) 702 u1 (xAI (sFI (sFI (sFI S 710 u1 (-1000000 : Int32)) 700 u1 x1) 701 u1 (xAI (sFI (sFI S 710 u1 (-1000000 : Int32)) 700 u1 x1) u3 (Int32.toNatClampNeg (0 : Int32)))) u3 (Int32.toNatClampNeg (1 : Int32)))) u3 (Int32.toNatClampNeg (2 : Int32)))) u3 (Int32.toNatClampNeg (3 : Int32)))) 705 u1 (xAI (sFI (sFI (sFI (sFI (sFI (sFI S 710 u1 (-1000000 : Int32)) 700 u1 x1) 701 u1 (xAI (sFI (sFI S 710 u1 (-1000000 : Int32)) 700 u1 x1) u3 (Int32.toNatClampNeg (0 : Int32)))) 702 u1 (xAI (sFI (sFI (sFI S 710 u1 (-1000000 : Int32)) 700 u1 x1) 701 u1 (xAI (sFI (sFI S 710 u1 (-1000000 : Int32)) 700 u1 x1) u3 (Int32.toNatClampNeg (0 : Int32)))) u3 (Int32.toNatClampNeg (1 : Int32)))) 703 u1 (xAI (sFI (sFI (sFI (sFI S 710 u1 (-1000000 : Int32)) 700 u1 x1) 701 u1 (xAI (sFI (sFI S 710 u1 (-1000000 : Int32)) 700 u1 x1) u3 (Int32.toNatClampNeg (0 : Int32)))) 702 u1 (xAI (sFI (sFI (sFI S 710 u1 (-1000000 : Int32)) 700 u1 x1) 701 u1 (xAI (sFI (sFI S 710 u1 (-1000000 : Int32)) 700 u1 x1) u3 (Int32.toNatClampNeg (0 : Int32)))) u3 (Int32.toNatClampNeg (1 : Int32)))) u3 (Int32.toNatClampNeg (2 : Int32)))) 704 u1 (xAI (sFI (sFI (sFI (sFI (sFI S 710 u1 (-1000000 : Int32)) 700 u1 x1) 701 u1 (xAI (sFI (sFI S 710 u1 (-1000000 : Int32)) 700 u1 x1) u3 (Int32.toNatClampNeg (0 : Int32)))) 702 u1 (xAI (sFI (sFI (sFI S 710 u1 (-1000000 : Int32)) 700 u1 x1) 701 u1 (xAI (sFI (sFI S 710 u1 (-1000000 : Int32)) 700 u1 x1) u3 (Int32.toNatClampNeg (0 : Int32)))) u3 (Int32.toNatClampNeg (1 : Int32)))) 703 u1 (xAI (sFI (sFI (sFI (sFI S 710 u1 (-1000000 : Int32)) 700 u1 x1) 701 u1 (xAI (sFI (sFI S 710 u1 (-1000000 : Int32)) 700 u1 x1) u3 (Int32.toNatClampNeg (0 : Int32)))) 702 u1 (xAI (sFI (sFI (sFI S 710 u1 (-1000000 : Int32)) 700 u1 x1) 701 u1 (xAI (sFI (sFI S 710 u1 (-1000000 : Int32)) 700 u1 x1) u3 (Int32.toNatClampNeg (0 : Int32)))) u3 (Int32.toNatClampNeg (1 : Int32)))) u3 (Int32.toNatClampNeg (2 : Int32)))) u3 (Int32.toNatClampNeg (3 : Int32)))) u3 (Int32.toNatClampNeg (4 : Int32)))) 706 u1 (xAI (sFI (sFI (sFI (sFI (sFI (sFI (sFI S 710 u1 (-1000000 : Int32)) 700 u1 x1) 701 u1 (xAI (sFI (sFI S 710 u1 (-1000000 : Int32)) 700 u1 x1) u3 (Int32.toNatClampNeg (0 : Int32)))) 702 u1 (xAI (sFI (sFI (sFI S 710 u1 (-1000000 : Int32)) 700 u1 x1) 701 u1 (xAI (sFI (sFI S 710 u1 (-1000000 : Int32)) 700 u1 x1) u3 (Int32.toNatClampNeg (0 : Int32)))) u3 (Int32.toNatClampNeg (1 : Int32)))) 703 u1 (xAI (sFI (sFI (sFI (sFI S 710 u1 (-1000000 : Int32)) 700 u1 x1) 701 u1 (xAI (sFI (sFI S 710 u1 (-1000000 : Int32)) 700 u1 x1) u3 (Int32.toNatClampNeg (0 : Int32)))) 702 u1 (xAI (sFI (sFI (sFI S 710 u1 (-1000000 : Int32)) 700 u1 x1) 701 u1 (xAI (sFI (sFI S 710 u1 (-1000000 : Int32)) 700 u1 x1) u3 (Int32.toNatClampNeg (0 : Int32)))) u3 (Int32.toNatClampNeg (1 : Int32)))) u3 (Int32.toNatClampNeg (2 : Int32)))) 704 u1 (xAI (sFI (sFI (sFI (sFI (sFI S 710 u1 (-1000000 : Int32)) 700 u1 x1) 701 u1 (xAI (sFI (sFI S 710 u1 (-1000000 : Int32)) 700 u1 x1) u3 (Int32.toNatClampNeg (0 : Int32)))) 702 u1 (xAI (sFI (sFI (sFI S 710 u1 (-1000000 : Int32)) 700 u1 x1) 701 u1 (xAI (sFI (sFI S 710 u1 (-1000000 : Int32)) 700 u1 x1) u3 (Int32.toNatClampNeg (0 : Int32)))) u3 (Int32.toNatClampNeg (1 : Int32)))) 703 u1 (xAI (sFI (sFI (sFI (sFI S 710 u1 (-1000000 : Int32)) 700 u1 x1) 701 u1 (xAI (sFI (sFI S 710 u1 (-1000000 : Int32)) 700 u1 x1) u3 (Int32.toNatClampNeg (0 : Int32)))) 702 u1 (xAI (sFI (sFI (sFI S 710 u1 (-1000000 : Int32)) 700 u1 x1) 701 u1 (xAI (sFI (sFI S 710 u1 (-1000000 : Int32)) 700 u1 x1) u3 (Int32.toNatClampNeg (0 : Int32)))) u3 (Int32.toNatClampNeg (1 : Int32)))) u3 (Int32.toNatClampNeg (2 : Int32)))) u3 (Int32.toNatClampNeg (3 : Int32)))) 705 u1 (xAI (sFI (sFI (sFI (sFI (sFI (sFI S 710 u1 (-1000000 : Int32)) 700 u1 x1) 701 u1 (xAI (sFI (sFI S 710 u1 (-1000000 : Int32)) 700 u1 x1) u3 (Int32.toNatClampNeg (0 : Int32)))) 702 u1 (xAI (sFI (sFI (sFI S 710 u1 (-1000000 : Int32)) 700 u1 x1) 701 u1 (xAI (sFI (sFI S 710 u1 (-1000000 : Int32)) 700 u1 x1) u3 (Int32.toNatClampNeg (0 : Int32)))) u3 (Int32.toNatClampNeg (1 : Int32)))) 703 u1 (xAI (sFI (sFI (sFI (sFI S 710 u1 (-1000000 : Int32)) 700 u1 x1) 701 u1 (xAI (sFI (sFI S 710 u1 (-1000000 : Int32)) 700 u1 x1) u3 (Int32.toNatClampNeg (0 : Int32)))) 702 u1 (xAI (sFI (sFI (sFI S 710 u1 (-1000000 : Int32)) 700 u1 x1) 701 u1 (xAI (sFI (sFI S 710 u1 (-1000000 : Int32)) 700 u1 x1) u3 (Int32.toNatClampNeg (0 : Int32)))) u3 (Int32.toNatClampNeg (1 : Int32)))) u3 (Int32.toNatClampNeg (2 : Int32)))) 704 u1 (xAI (sFI (sFI (sFI (sFI (sFI S 710 u1 (-1000000 : Int32)) 700 u1 x1) 701 u1 (xAI (sFI (sFI S 710 u1 (-1000000 : Int32)) 700 u1 x1) u3 (Int32.toNatClampNeg (0 : Int32)))) 702 u1 (xAI (sFI (sFI (sFI S 710 u1 (-1000000 : Int32)) 700 u1 x1) 701 u1 (xAI (sFI (sFI S 710 u1 (-1000000 : Int32)) 700 u1 x1) u3 (Int32.toNatClampNeg (0 : Int32)))) u3 (Int32.toNatClampNeg (1 : Int32)))) 703 u1 (xAI (sFI (sFI (sFI (sFI S 710 u1 (-1000000 : Int32)) 700 u1 x1) 701 u1 (xAI (sFI (sFI S 710 u1 (-1000000 : Int32)) 700 u1 x1) u3 (Int32.toNatClampNeg (0 : Int32)))) 702 u1 (xAI (sFI (sFI (sFI S 710 u1 (-1000000 : Int32)) 700 u1 x1) 701 u1 (xAI (sFI (sFI S 710 u1 (-1000000 : Int32)) 700 u1 x1) u3 (Int32.toNatClampNeg (0 : Int32)))) u3 (Int32.toNatClampNeg (1 : Int32)))) u3 (Int32.toNatClampNeg (2 : Int32)))) u3 (Int32.toNatClampNeg (3 : Int32)))) u3 (Int32.toNatClampNeg (4 : Int32)))) u3 (Int32.toNatClampNeg (5 : Int32)))) u3 (Int32.toNatClampNeg (6 : Int32)))) x0 x2 x0 (0 : Int32))))
theorem hx_X8_init : yX8_init.cls = RX8 ∧ yX8_init.cls ≠ "java/lang/invoke/MethodHandle" ∧ yX8_init.cls ≠ "java/lang/invoke/VarHandle" ∧ (parseMethodDescriptor yX8_init.desc).map (fun d => d.parameters.length) = some 2 := by decide +kernel
set_option maxHeartbeats 4000000 in
set_option maxRecDepth 100000 in
theorem bx_X8_init (E : XE) (C : Cx) (S0 : XS) (sz : Nat) (Q : XS → Prop) (S : XS) (x0 : Option Nat) (x1 : Int32) (x2 : Option Nat) (hC : COk C cX8_init RX8 none 1 34 3) (hX : XOk E C) (hA : cx_A C = xA S0 sz) (hini : (cx_h C).name = "<init>") (hQ : cx_Q C = MQ (cx_b C) (va_Qv Q (BX1 E S0 sz) (xA S0 sz)) (cx_a C) (cx_s C) (cx_MC C) (cx_MS C) (xA S0 sz)) (h : wx_X8_init Q S x0 x1 x2) : GX E C S 0 0 0 [some (va_rf x0), some (.int x1), some (va_rf x2)] [] := by
  have s_79 : ∀ (S : XS) (a0 : Option Nat) (a2 : Option Nat) (s0 : Option Nat) (s1 : Int32), wx_X8_init_79 Q  S a0 a2 s0 s1 → GX E C S 0 0 79 [some (va_rf a0), none, some (va_rf a2)] [.int s1, va_rf s0] := by
    intro  S a0 a2 s0 s1 h
    obtain ⟨u5, eu5, h⟩ := h
    refine g_top1 eu5 ?_
    have hk6 := h.1
    refine gX_putIF (C0 := RX8) (T := TX8) (ty0 := tyX8) (N := 11) (n := 7) (k := 8) (f := 708) hC hX dX8_init_79 q830 rfl in_X8 tyX8_ok nmX8 (by decide) rfl rfl hini rfl rfl h.2.1 h.2.2.1 rfl (by decide) (Or.inl (by decide)) hk6 ?_
    refine g_aload_nR hC dX8_init_82 rfl ?_
    refine g_aload_nR hC dX8_init_83 rfl ?_
    refine g_bipush (v := 8) hC dX8_init_84 (by decide) ?_
    obtain ⟨u7, eu7, h⟩ := h.2.2.2
    refine g_top1 eu7 ?_
    have hk8 := h.1
    refine gX_iald hC hX dX8_init_86 hk8 h.2.1 ?_
    obtain ⟨u9, eu9, h⟩ := h.2.2
    refine g_top1 eu9 ?_
    have hk10 := h.1
    refine gX_putIF (C0 := RX8) (T := TX8) (ty0 := tyX8) (N := 11) (n := 7) (k := 9) (f := 709) hC hX dX8_init_87 q832 rfl in_X8 tyX8_ok nmX8 (by decide) rfl rfl hini rfl rfl rfl rfl rfl (by decide) (Or.inl (by decide)) hk10 ?_
    refine gX_vret hC hA hQ rfl dX8_init_90 h.2
  refine g_aload_nR hC dX8_init_0 rfl ?_
  obtain ⟨u1, eu1, h⟩ := h
  refine g_top0 eu1 ?_
  refine gX_oinit hC dX8_init_1 q803 q115 q116 (Nat.le_of_ble_eq_true rfl) (by decide) (by decide) ?_
  refine g_aload_nR hC dX8_init_4 rfl ?_
  refine g_ldc (v := -1000000) hC dX8_init_5 q804 ?_
  refine g_top1 eu1 ?_
  have hk2 := h.1
  refine gX_putI (C0 := RX8) (T := TX8) (ty0 := tyX8) (N := 11) (n := 7) (k := 10) (f := 710) hC hX dX8_init_7 q834 rfl in_X8 tyX8_ok nmX8 (by decide) (Or.inl rfl) rfl rfl rfl rfl rfl (by decide) (Or.inl (by decide)) hk2 ?_
  refine g_aload_nR hC dX8_init_10 rfl ?_
  refine g_iload_n hC dX8_init_11 rfl ?_
  refine g_top1 eu1 ?_
  refine gX_putIF (C0 := RX8) (T := TX8) (ty0 := tyX8) (N := 11) (n := 7) (k := 0) (f := 700) hC hX dX8_init_12 q805 rfl in_X8 tyX8_ok nmX8 (by decide) rfl rfl hini rfl rfl rfl rfl rfl (by decide) (Or.inl (by decide)) hk2 ?_
  refine g_aload_nR hC dX8_init_15 rfl ?_
  refine g_aload_nR hC dX8_init_16 rfl ?_
  refine g_iconst (v := 0) hC dX8_init_17 (by decide) ?_
  obtain ⟨u3, eu3, h⟩ := h.2
  refine g_top1 eu3 ?_
  have hk4 := h.1
  refine gX_iald hC hX dX8_init_18 hk4 h.2.1 ?_
  refine g_top1 eu1 ?_
  refine gX_putIF (C0 := RX8) (T := TX8) (ty0 := tyX8) (N := 11) (n := 7) (k := 1) (f := 701) hC hX dX8_init_19 q807 rfl in_X8 tyX8_ok nmX8 (by decide) rfl rfl hini rfl rfl rfl rfl rfl (by decide) (Or.inl (by decide)) hk2 ?_
  refine g_aload_nR hC dX8_init_22 rfl ?_
  refine g_aload_nR hC dX8_init_23 rfl ?_
  refine g_iconst (v := 1) hC dX8_init_24 (by decide) ?_
  refine g_top1 eu3 ?_
  refine gX_iald hC hX dX8_init_25 hk4 h.2.2.1 ?_
  refine g_top1 eu1 ?_
  refine gX_putIF (C0 := RX8) (T := TX8) (ty0 := tyX8) (N := 11) (n := 7) (k := 2) (f := 702) hC hX dX8_init_26 q810 rfl in_X8 tyX8_ok nmX8 (by decide) rfl rfl hini rfl rfl rfl rfl rfl (by decide) (Or.inl (by decide)) hk2 ?_
  refine g_aload_nR hC dX8_init_29 rfl ?_
  refine g_aload_nR hC dX8_init_30 rfl ?_
  refine g_iconst (v := 2) hC dX8_init_31 (by decide) ?_
  refine g_top1 eu3 ?_
  refine gX_iald hC hX dX8_init_32 hk4 h.2.2.2.1 ?_
  refine g_top1 eu1 ?_
  refine gX_putIF (C0 := RX8) (T := TX8) (ty0 := tyX8) (N := 11) (n := 7) (k := 3) (f := 703) hC hX dX8_init_33 q812 rfl in_X8 tyX8_ok nmX8 (by decide) rfl rfl hini rfl rfl rfl rfl rfl (by decide) (Or.inl (by decide)) hk2 ?_
  refine g_aload_nR hC dX8_init_36 rfl ?_
  refine g_aload_nR hC dX8_init_37 rfl ?_
  refine g_iconst (v := 3) hC dX8_init_38 (by decide) ?_
  refine g_top1 eu3 ?_
  refine gX_iald hC hX dX8_init_39 hk4 h.2.2.2.2.1 ?_
  refine g_top1 eu1 ?_
  refine gX_putIF (C0 := RX8) (T := TX8) (ty0 := tyX8) (N := 11) (n := 7) (k := 4) (f := 704) hC hX dX8_init_40 q816 rfl in_X8 tyX8_ok nmX8 (by decide) rfl rfl hini rfl rfl rfl rfl rfl (by decide) (Or.inl (by decide)) hk2 ?_
  refine g_aload_nR hC dX8_init_43 rfl ?_
  refine g_aload_nR hC dX8_init_44 rfl ?_
  refine g_iconst (v := 4) hC dX8_init_45 (by decide) ?_
  refine g_top1 eu3 ?_
  refine gX_iald hC hX dX8_init_46 hk4 h.2.2.2.2.2.1 ?_
  refine g_top1 eu1 ?_
  refine gX_putIF (C0 := RX8) (T := TX8) (ty0 := tyX8) (N := 11) (n := 7) (k := 5) (f := 705) hC hX dX8_init_47 q819 rfl in_X8 tyX8_ok nmX8 (by decide) rfl rfl hini rfl rfl rfl rfl rfl (by decide) (Or.inl (by decide)) hk2 ?_
  refine g_aload_nR hC dX8_init_50 rfl ?_
  refine g_aload_nR hC dX8_init_51 rfl ?_
  refine g_iconst (v := 5) hC dX8_init_52 (by decide) ?_
  refine g_top1 eu3 ?_
  refine gX_iald hC hX dX8_init_53 hk4 h.2.2.2.2.2.2.1 ?_
  refine g_top1 eu1 ?_
  refine gX_putIF (C0 := RX8) (T := TX8) (ty0 := tyX8) (N := 11) (n := 7) (k := 6) (f := 706) hC hX dX8_init_54 q822 rfl in_X8 tyX8_ok nmX8 (by decide) rfl rfl hini rfl rfl rfl rfl rfl (by decide) (Or.inl (by decide)) hk2 ?_
  refine g_aload_nR hC dX8_init_57 rfl ?_
  refine g_aload_nR hC dX8_init_58 rfl ?_
  refine g_bipush (v := 6) hC dX8_init_59 (by decide) ?_
  refine g_top1 eu3 ?_
  refine gX_iald hC hX dX8_init_61 hk4 h.2.2.2.2.2.2.2.1 ?_
  refine g_top1 eu1 ?_
  refine gX_putIF (C0 := RX8) (T := TX8) (ty0 := tyX8) (N := 11) (n := 7) (k := 7) (f := 707) hC hX dX8_init_62 q826 rfl in_X8 tyX8_ok nmX8 (by decide) rfl rfl hini rfl rfl rfl rfl rfl (by decide) (Or.inl (by decide)) hk2 ?_
  refine g_aload_nR hC dX8_init_65 rfl ?_
  refine g_aload_nR hC dX8_init_66 rfl ?_
  refine g_bipush (v := 7) hC dX8_init_67 (by decide) ?_
  refine g_top1 eu3 ?_
  refine gX_iald hC hX dX8_init_69 hk4 h.2.2.2.2.2.2.2.2.1 ?_
  refine g_iconst (v := 1) hC dX8_init_70 (by decide) ?_
  refine g_icmp_ne (tgt := 78) hC dX8_init_71 (by decide) (fun c => ?_) (fun c => ?_)
  · have h := it_n c h.2.2.2.2.2.2.2.2.2
    refine g_iconst (v := 0) hC dX8_init_78 (by decide) ?_
    refine g_sub [true, false, true] rfl ?_
    exact s_79 (sFI (sFI (sFI (sFI (sFI (sFI (sFI (sFI (sFI S 710 u1 (-1000000 : Int32)) 700 u1 x1) 701 u1 (xAI (sFI (sFI S 710 u1 (-1000000 : Int32)) 700 u1 x1) u3 (Int32.toNatClampNeg (0 : Int32)))) 702 u1 (xAI (sFI (sFI (sFI S 710 u1 (-1000000 : Int32)) 700 u1 x1) 701 u1 (xAI (sFI (sFI S 710 u1 (-1000000 : Int32)) 700 u1 x1) u3 (Int32.toNatClampNeg (0 : Int32)))) u3 (Int32.toNatClampNeg (1 : Int32)))) 703 u1 (xAI (sFI (sFI (sFI (sFI S 710 u1 (-1000000 : Int32)) 700 u1 x1) 701 u1 (xAI (sFI (sFI S 710 u1 (-1000000 : Int32)) 700 u1 x1) u3 (Int32.toNatClampNeg (0 : Int32)))) 702 u1 (xAI (sFI (sFI (sFI S 710 u1 (-1000000 : Int32)) 700 u1 x1) 701 u1 (xAI (sFI (sFI S 710 u1 (-1000000 : Int32)) 700 u1 x1) u3 (Int32.toNatClampNeg (0 : Int32)))) u3 (Int32.toNatClampNeg (1 : Int32)))) u3 (Int32.toNatClampNeg (2 : Int32)))) 704 u1 (xAI (sFI (sFI (sFI (sFI (sFI S 710 u1 (-1000000 : Int32)) 700 u1 x1) 701 u1 (xAI (sFI (sFI S 710 u1 (-1000000 : Int32)) 700 u1 x1) u3 (Int32.toNatClampNeg (0 : Int32)))) 702 u1 (xAI (sFI (sFI (sFI S 710 u1 (-1000000 : Int32)) 700 u1 x1) 701 u1 (xAI (sFI (sFI S 710 u1 (-1000000 : Int32)) 700 u1 x1) u3 (Int32.toNatClampNeg (0 : Int32)))) u3 (Int32.toNatClampNeg (1 : Int32)))) 703 u1 (xAI (sFI (sFI (sFI (sFI S 710 u1 (-1000000 : Int32)) 700 u1 x1) 701 u1 (xAI (sFI (sFI S 710 u1 (-1000000 : Int32)) 700 u1 x1) u3 (Int32.toNatClampNeg (0 : Int32)))) 702 u1 (xAI (sFI (sFI (sFI S 710 u1 (-1000000 : Int32)) 700 u1 x1) 701 u1 (xAI (sFI (sFI S 710 u1 (-1000000 : Int32)) 700 u1 x1) u3 (Int32.toNatClampNeg (0 : Int32)))) u3 (Int32.toNatClampNeg (1 : Int32)))) u3 (Int32.toNatClampNeg (2 : Int32)))) u3 (Int32.toNatClampNeg (3 : Int32)))) 705 u1 (xAI (sFI (sFI (sFI (sFI (sFI (sFI S 710 u1 (-1000000 : Int32)) 700 u1 x1) 701 u1 (xAI (sFI (sFI S 710 u1 (-1000000 : Int32)) 700 u1 x1) u3 (Int32.toNatClampNeg (0 : Int32)))) 702 u1 (xAI (sFI (sFI (sFI S 710 u1 (-1000000 : Int32)) 700 u1 x1) 701 u1 (xAI (sFI (sFI S 710 u1 (-1000000 : Int32)) 700 u1 x1) u3 (Int32.toNatClampNeg (0 : Int32)))) u3 (Int32.toNatClampNeg (1 : Int32)))) 703 u1 (xAI (sFI (sFI (sFI (sFI S 710 u1 (-1000000 : Int32)) 700 u1 x1) 701 u1 (xAI (sFI (sFI S 710 u1 (-1000000 : Int32)) 700 u1 x1) u3 (Int32.toNatClampNeg (0 : Int32)))) 702 u1 (xAI (sFI (sFI (sFI S 710 u1 (-1000000 : Int32)) 700 u1 x1) 701 u1 (xAI (sFI (sFI S 710 u1 (-1000000 : Int32)) 700 u1 x1) u3 (Int32.toNatClampNeg (0 : Int32)))) u3 (Int32.toNatClampNeg (1 : Int32)))) u3 (Int32.toNatClampNeg (2 : Int32)))) 704 u1 (xAI (sFI (sFI (sFI (sFI (sFI S 710 u1 (-1000000 : Int32)) 700 u1 x1) 701 u1 (xAI (sFI (sFI S 710 u1 (-1000000 : Int32)) 700 u1 x1) u3 (Int32.toNatClampNeg (0 : Int32)))) 702 u1 (xAI (sFI (sFI (sFI S 710 u1 (-1000000 : Int32)) 700 u1 x1) 701 u1 (xAI (sFI (sFI S 710 u1 (-1000000 : Int32)) 700 u1 x1) u3 (Int32.toNatClampNeg (0 : Int32)))) u3 (Int32.toNatClampNeg (1 : Int32)))) 703 u1 (xAI (sFI (sFI (sFI (sFI S 710 u1 (-1000000 : Int32)) 700 u1 x1) 701 u1 (xAI (sFI (sFI S 710 u1 (-1000000 : Int32)) 700 u1 x1) u3 (Int32.toNatClampNeg (0 : Int32)))) 702 u1 (xAI (sFI (sFI (sFI S 710 u1 (-1000000 : Int32)) 700 u1 x1) 701 u1 (xAI (sFI (sFI S 710 u1 (-1000000 : Int32)) 700 u1 x1) u3 (Int32.toNatClampNeg (0 : Int32)))) u3 (Int32.toNatClampNeg (1 : Int32)))) u3 (Int32.toNatClampNeg (2 : Int32)))) u3 (Int32.toNatClampNeg (3 : Int32)))) u3 (Int32.toNatClampNeg (4 : Int32)))) 706 u1 (xAI (sFI (sFI (sFI (sFI (sFI (sFI (sFI S 710 u1 (-1000000 : Int32)) 700 u1 x1) 701 u1 (xAI (sFI (sFI S 710 u1 (-1000000 : Int32)) 700 u1 x1) u3 (Int32.toNatClampNeg (0 : Int32)))) 702 u1 (xAI (sFI (sFI (sFI S 710 u1 (-1000000 : Int32)) 700 u1 x1) 701 u1 (xAI (sFI (sFI S 710 u1 (-1000000 : Int32)) 700 u1 x1) u3 (Int32.toNatClampNeg (0 : Int32)))) u3 (Int32.toNatClampNeg (1 : Int32)))) 703 u1 (xAI (sFI (sFI (sFI (sFI S 710 u1 (-1000000 : Int32)) 700 u1 x1) 701 u1 (xAI (sFI (sFI S 710 u1 (-1000000 : Int32)) 700 u1 x1) u3 (Int32.toNatClampNeg (0 : Int32)))) 702 u1 (xAI (sFI (sFI (sFI S 710 u1 (-1000000 : Int32)) 700 u1 x1) 701 u1 (xAI (sFI (sFI S 710 u1 (-1000000 : Int32)) 700 u1 x1) u3 (Int32.toNatClampNeg (0 : Int32)))) u3 (Int32.toNatClampNeg (1 : Int32)))) u3 (Int32.toNatClampNeg (2 : Int32)))) 704 u1 (xAI (sFI (sFI (sFI (sFI (sFI S 710 u1 (-1000000 : Int32)) 700 u1 x1) 701 u1 (xAI (sFI (sFI S 710 u1 (-1000000 : Int32)) 700 u1 x1) u3 (Int32.toNatClampNeg (0 : Int32)))) 702 u1 (xAI (sFI (sFI (sFI S 710 u1 (-1000000 : Int32)) 700 u1 x1) 701 u1 (xAI (sFI (sFI S 710 u1 (-1000000 : Int32)) 700 u1 x1) u3 (Int32.toNatClampNeg (0 : Int32)))) u3 (Int32.toNatClampNeg (1 : Int32)))) 703 u1 (xAI (sFI (sFI (sFI (sFI S 710 u1 (-1000000 : Int32)) 700 u1 x1) 701 u1 (xAI (sFI (sFI S 710 u1 (-1000000 : Int32)) 700 u1 x1) u3 (Int32.toNatClampNeg (0 : Int32)))) 702 u1 (xAI (sFI (sFI (sFI S 710 u1 (-1000000 : Int32)) 700 u1 x1) 701 u1 (xAI (sFI (sFI S 710 u1 (-1000000 : Int32)) 700 u1 x1) u3 (Int32.toNatClampNeg (0 : Int32)))) u3 (Int32.toNatClampNeg (1 : Int32)))) u3 (Int32.toNatClampNeg (2 : Int32)))) u3 (Int32.toNatClampNeg (3 : Int32)))) 705 u1 (xAI (sFI (sFI (sFI (sFI (sFI (sFI S 710 u1 (-1000000 : Int32)) 700 u1 x1) 701 u1 (xAI (sFI (sFI S 710 u1 (-1000000 : Int32)) 700 u1 x1) u3 (Int32.toNatClampNeg (0 : Int32)))) 702 u1 (xAI (sFI (sFI (sFI S 710 u1 (-1000000 : Int32)) 700 u1 x1) 701 u1 (xAI (sFI (sFI S 710 u1 (-1000000 : Int32)) 700 u1 x1) u3 (Int32.toNatClampNeg (0 : Int32)))) u3 (Int32.toNatClampNeg (1 : Int32)))) 703 u1 (xAI (sFI (sFI (sFI (sFI S 710 u1 (-1000000 : Int32)) 700 u1 x1) 701 u1 (xAI (sFI (sFI S 710 u1 (-1000000 : Int32)) 700 u1 x1) u3 (Int32.toNatClampNeg (0 : Int32)))) 702 u1 (xAI (sFI (sFI (sFI S 710 u1 (-1000000 : Int32)) 700 u1 x1) 701 u1 (xAI (sFI (sFI S 710 u1 (-1000000 : Int32)) 700 u1 x1) u3 (Int32.toNatClampNeg (0 : Int32)))) u3 (Int32.toNatClampNeg (1 : Int32)))) u3 (Int32.toNatClampNeg (2 : Int32)))) 704 u1 (xAI (sFI (sFI (sFI (sFI (sFI S 710 u1 (-1000000 : Int32)) 700 u1 x1) 701 u1 (xAI (sFI (sFI S 710 u1 (-1000000 : Int32)) 700 u1 x1) u3 (Int32.toNatClampNeg (0 : Int32)))) 702 u1 (xAI (sFI (sFI (sFI S 710 u1 (-1000000 : Int32)) 700 u1 x1) 701 u1 (xAI (sFI (sFI S 710 u1 (-1000000 : Int32)) 700 u1 x1) u3 (Int32.toNatClampNeg (0 : Int32)))) u3 (Int32.toNatClampNeg (1 : Int32)))) 703 u1 (xAI (sFI (sFI (sFI (sFI S 710 u1 (-1000000 : Int32)) 700 u1 x1) 701 u1 (xAI (sFI (sFI S 710 u1 (-1000000 : Int32)) 700 u1 x1) u3 (Int32.toNatClampNeg (0 : Int32)))) 702 u1 (xAI (sFI (sFI (sFI S 710 u1 (-1000000 : Int32)) 700 u1 x1) 701 u1 (xAI (sFI (sFI S 710 u1 (-1000000 : Int32)) 700 u1 x1) u3 (Int32.toNatClampNeg (0 : Int32)))) u3 (Int32.toNatClampNeg (1 : Int32)))) u3 (Int32.toNatClampNeg (2 : Int32)))) u3 (Int32.toNatClampNeg (3 : Int32)))) u3 (Int32.toNatClampNeg (4 : Int32)))) u3 (Int32.toNatClampNeg (5 : Int32)))) 707 u1 (xAI (sFI (sFI (sFI (sFI (sFI (sFI (sFI (sFI S 710 u1 (-1000000 : Int32)) 700 u1 x1) 701 u1 (xAI (sFI (sFI S 710 u1 (-1000000 : Int32)) 700 u1 x1) u3 (Int32.toNatClampNeg (0 : Int32)))) 702 u1 (xAI (sFI (sFI (sFI S 710 u1 (-1000000 : Int32)) 700 u1 x1) 701 u1 (xAI (sFI (sFI S 710 u1 (-1000000 : Int32)) 700 u1 x1) u3 (Int32.toNatClampNeg (0 : Int32)))) u3 (Int32.toNatClampNeg (1 : Int32)))) 703 u1 (xAI (sFI (sFI (sFI (sFI S 710 u1 (-1000000 : Int32)) 700 u1 x1) 701 u1 (xAI (sFI (sFI S 710 u1 (-1000000 : Int32)) 700 u1 x1) u3 (Int32.toNatClampNeg (0 : Int32)))) 702 u1 (xAI (sFI (sFI (sFI S 710 u1 (-1000000 : Int32)) 700 u1 x1) 701 u1 (xAI (sFI (sFI S 710 u1 (-1000000 : Int32)) 700 u1 x1) u3 (Int32.toNatClampNeg (0 : Int32)))) u3 (Int32.toNatClampNeg (1 : Int32)))) u3 (Int32.toNatClampNeg (2 : Int32)))) 704 u1 (xAI (sFI (sFI (sFI (sFI (sFI S 710 u1 (-1000000 : Int32)) 700 u1 x1) 701 u1 (xAI (sFI (sFI S 710 u1 (-1000000 : Int32)) 700 u1 x1) u3 (Int32.toNatClampNeg (0 : Int32)))) 702 u1 (xAI (sFI (sFI (sFI S 710 u1 (-1000000 : Int32)) 700 u1 x1) 701 u1 (xAI (sFI (sFI S 710 u1 (-1000000 : Int32)) 700 u1 x1) u3 (Int32.toNatClampNeg (0 : Int32)))) u3 (Int32.toNatClampNeg (1 : Int32)))) 703 u1 (xAI (sFI (sFI (sFI (sFI S 710 u1 (-1000000 : Int32)) 700 u1 x1) 701 u1 (xAI (sFI (sFI S 710 u1 (-1000000 : Int32)) 700 u1 x1) u3 (Int32.toNatClampNeg (0 : Int32)))) 702 u1 (xAI (sFI (sFI (sFI S 710 u1 (-1000000 : Int32)) 700 u1 x1) 701 u1 (xAI (sFI (sFI S 710 u1 (-1000000 : Int32)) 700 u1 x1) u3 (Int32.toNatClampNeg (0 : Int32)))) u3 (Int32.toNatClampNeg (1 : Int32)))) u3 (Int32.toNatClampNeg (2 : Int32)))) u3 (Int32.toNatClampNeg (3 : Int32)))) 705 u1 (xAI (sFI (sFI (sFI (sFI (sFI (sFI S 710 u1 (-1000000 : Int32)) 700 u1 x1) 701 u1 (xAI (sFI (sFI S 710 u1 (-1000000 : Int32)) 700 u1 x1) u3 (Int32.toNatClampNeg (0 : Int32)))) 702 u1 (xAI (sFI (sFI (sFI S 710 u1 (-1000000 : Int32)) 700 u1 x1) 701 u1 (xAI (sFI (sFI S 710 u1 (-1000000 : Int32)) 700 u1 x1) u3 (Int32.toNatClampNeg (0 : Int32)))) u3 (Int32.toNatClampNeg (1 : Int32)))) 703 u1 (xAI (sFI (sFI (sFI (sFI S 710 u1 (-1000000 : Int32)) 700 u1 x1) 701 u1 (xAI (sFI (sFI S 710 u1 (-1000000 : Int32)) 700 u1 x1) u3 (Int32.toNatClampNeg (0 : Int32)))) 702 u1 (xAI (sFI (sFI (sFI S 710 u1 (-1000000 : Int32)) 700 u1 x1) 701 u1 (xAI (sFI (sFI S 710 u1 (-1000000 : Int32)) 700 u1 x1) u3 (Int32.toNatClampNeg (0 : Int32)))) u3 (Int32.toNatClampNeg (1 : Int32)))) u3 (Int32.toNatClampNeg (2 : Int32)))) 704 u1 (xAI (sFI (sFI (sFI (sFI (sFI S 710 u1 (-1000000 : Int32)) 700 u1 x1) 701 u1 (xAI (sFI (sFI S 710 u1 (-1000000 : Int32)) 700 u1 x1) u3 (Int32.toNatClampNeg (0 : Int32)))) 702 u1 (xAI (sFI (sFI (sFI S 710 u1 (-1000000 : Int32)) 700 u1 x1) 701 u1 (xAI (sFI (sFI S 710 u1 (-1000000 : Int32)) 700 u1 x1) u3 (Int32.toNatClampNeg (0 : Int32)))) u3 (Int32.toNatClampNeg (1 : Int32)))) 703 u1 (xAI (sFI (sFI (sFI (sFI S 710 u1 (-1000000 : Int32)) 700 u1 x1) 701 u1 (xAI (sFI (sFI S 710 u1 (-1000000 : Int32)) 700 u1 x1) u3 (Int32.toNatClampNeg (0 : Int32)))) 702 u1 (xAI (sFI (sFI (sFI S 710 u1 (-1000000 : Int32)) 700 u1 x1) 701 u1 (xAI (sFI (sFI S 710 u1 (-1000000 : Int32)) 700 u1 x1) u3 (Int32.toNatClampNeg (0 : Int32)))) u3 (Int32.toNatClampNeg (1 : Int32)))) u3 (Int32.toNatClampNeg (2 : Int32)))) u3 (Int32.toNatClampNeg (3 : Int32)))) u3 (Int32.toNatClampNeg (4 : Int32)))) 706 u1 (xAI (sFI (sFI (sFI (sFI (sFI (sFI (sFI S 710 u1 (-1000000 : Int32)) 700 u1 x1) 701 u1 (xAI (sFI (sFI S 710 u1 (-1000000 : Int32)) 700 u1 x1) u3 (Int32.toNatClampNeg (0 : Int32)))) 702 u1 (xAI (sFI (sFI (sFI S 710 u1 (-1000000 : Int32)) 700 u1 x1) 701 u1 (xAI (sFI (sFI S 710 u1 (-1000000 : Int32)) 700 u1 x1) u3 (Int32.toNatClampNeg (0 : Int32)))) u3 (Int32.toNatClampNeg (1 : Int32)))) 703 u1 (xAI (sFI (sFI (sFI (sFI S 710 u1 (-1000000 : Int32)) 700 u1 x1) 701 u1 (xAI (sFI (sFI S 710 u1 (-1000000 : Int32)) 700 u1 x1) u3 (Int32.toNatClampNeg (0 : Int32)))) 702 u1 (xAI (sFI (sFI (sFI S 710 u1 (-1000000 : Int32)) 700 u1 x1) 701 u1 (xAI (sFI (sFI S 710 u1 (-1000000 : Int32)) 700 u1 x1) u3 (Int32.toNatClampNeg (0 : Int32)))) u3 (Int32.toNatClampNeg (1 : Int32)))) u3 (Int32.toNatClampNeg (2 : Int32)))) 704 u1 (xAI (sFI (sFI (sFI (sFI (sFI S 710 u1 (-1000000 : Int32)) 700 u1 x1) 701 u1 (xAI (sFI (sFI S 710 u1 (-1000000 : Int32)) 700 u1 x1) u3 (Int32.toNatClampNeg (0 : Int32)))) 702 u1 (xAI (sFI (sFI (sFI S 710 u1 (-1000000 : Int32)) 700 u1 x1) 701 u1 (xAI (sFI (sFI S 710 u1 (-1000000 : Int32)) 700 u1 x1) u3 (Int32.toNatClampNeg (0 : Int32)))) u3 (Int32.toNatClampNeg (1 : Int32)))) 703 u1 (xAI (sFI (sFI (sFI (sFI S 710 u1 (-1000000 : Int32)) 700 u1 x1) 701 u1 (xAI (sFI (sFI S 710 u1 (-1000000 : Int32)) 700 u1 x1) u3 (Int32.toNatClampNeg (0 : Int32)))) 702 u1 (xAI (sFI (sFI (sFI S 710 u1 (-1000000 : Int32)) 700 u1 x1) 701 u1 (xAI (sFI (sFI S 710 u1 (-1000000 : Int32)) 700 u1 x1) u3 (Int32.toNatClampNeg (0 : Int32)))) u3 (Int32.toNatClampNeg (1 : Int32)))) u3 (Int32.toNatClampNeg (2 : Int32)))) u3 (Int32.toNatClampNeg (3 : Int32)))) 705 u1 (xAI (sFI (sFI (sFI (sFI (sFI (sFI S 710 u1 (-1000000 : Int32)) 700 u1 x1) 701 u1 (xAI (sFI (sFI S 710 u1 (-1000000 : Int32)) 700 u1 x1) u3 (Int32.toNatClampNeg (0 : Int32)))) 702 u1 (xAI (sFI (sFI (sFI S 710 u1 (-1000000 : Int32)) 700 u1 x1) 701 u1 (xAI (sFI (sFI S 710 u1 (-1000000 : Int32)) 700 u1 x1) u3 (Int32.toNatClampNeg (0 : Int32)))) u3 (Int32.toNatClampNeg (1 : Int32)))) 703 u1 (xAI (sFI (sFI (sFI (sFI S 710 u1 (-1000000 : Int32)) 700 u1 x1) 701 u1 (xAI (sFI (sFI S 710 u1 (-1000000 : Int32)) 700 u1 x1) u3 (Int32.toNatClampNeg (0 : Int32)))) 702 u1 (xAI (sFI (sFI (sFI S 710 u1 (-1000000 : Int32)) 700 u1 x1) 701 u1 (xAI (sFI (sFI S 710 u1 (-1000000 : Int32)) 700 u1 x1) u3 (Int32.toNatClampNeg (0 : Int32)))) u3 (Int32.toNatClampNeg (1 : Int32)))) u3 (Int32.toNatClampNeg (2 : Int32)))) 704 u1 (xAI (sFI (sFI (sFI (sFI (sFI S 710 u1 (-1000000 : Int32)) 700 u1 x1) 701 u1 (xAI (sFI (sFI S 710 u1 (-1000000 : Int32)) 700 u1 x1) u3 (Int32.toNatClampNeg (0 : Int32)))) 702 u1 (xAI (sFI (sFI (sFI S 710 u1 (-1000000 : Int32)) 700 u1 x1) 701 u1 (xAI (sFI (sFI S 710 u1 (-1000000 : Int32)) 700 u1 x1) u3 (Int32.toNatClampNeg (0 : Int32)))) u3 (Int32.toNatClampNeg (1 : Int32)))) 703 u1 (xAI (sFI (sFI (sFI (sFI S 710 u1 (-1000000 : Int32)) 700 u1 x1) 701 u1 (xAI (sFI (sFI S 710 u1 (-1000000 : Int32)) 700 u1 x1) u3 (Int32.toNatClampNeg (0 : Int32)))) 702 u1 (xAI (sFI (sFI (sFI S 710 u1 (-1000000 : Int32)) 700 u1 x1) 701 u1 (xAI (sFI (sFI S 710 u1 (-1000000 : Int32)) 700 u1 x1) u3 (Int32.toNatClampNeg (0 : Int32)))) u3 (Int32.toNatClampNeg (1 : Int32)))) u3 (Int32.toNatClampNeg (2 : Int32)))) u3 (Int32.toNatClampNeg (3 : Int32)))) u3 (Int32.toNatClampNeg (4 : Int32)))) u3 (Int32.toNatClampNeg (5 : Int32)))) u3 (Int32.toNatClampNeg (6 : Int32)))) x0 x2 x0 (0 : Int32) h
  · have h := it_p c h.2.2.2.2.2.2.2.2.2
    refine g_iconst (v := 1) hC dX8_init_74 (by decide) ?_
    refine g_goto (tgt := 79) hC dX8_init_75 (by decide) ?_
    refine g_sub [true, false, true] rfl ?_
    exact s_79 (sFI (sFI (sFI (sFI (sFI (sFI (sFI (sFI (sFI S 710 u1 (-1000000 : Int32)) 700 u1 x1) 701 u1 (xAI (sFI (sFI S 710 u1 (-1000000 : Int32)) 700 u1 x1) u3 (Int32.toNatClampNeg (0 : Int32)))) 702 u1 (xAI (sFI (sFI (sFI S 710 u1 (-1000000 : Int32)) 700 u1 x1) 701 u1 (xAI (sFI (sFI S 710 u1 (-1000000 : Int32)) 700 u1 x1) u3 (Int32.toNatClampNeg (0 : Int32)))) u3 (Int32.toNatClampNeg (1 : Int32)))) 703 u1 (xAI (sFI (sFI (sFI (sFI S 710 u1 (-1000000 : Int32)) 700 u1 x1) 701 u1 (xAI (sFI (sFI S 710 u1 (-1000000 : Int32)) 700 u1 x1) u3 (Int32.toNatClampNeg (0 : Int32)))) 702 u1 (xAI (sFI (sFI (sFI S 710 u1 (-1000000 : Int32)) 700 u1 x1) 701 u1 (xAI (sFI (sFI S 710 u1 (-1000000 : Int32)) 700 u1 x1) u3 (Int32.toNatClampNeg (0 : Int32)))) u3 (Int32.toNatClampNeg (1 : Int32)))) u3 (Int32.toNatClampNeg (2 : Int32)))) 704 u1 (xAI (sFI (sFI (sFI (sFI (sFI S 710 u1 (-1000000 : Int32)) 700 u1 x1) 701 u1 (xAI (sFI (sFI S 710 u1 (-1000000 : Int32)) 700 u1 x1) u3 (Int32.toNatClampNeg (0 : Int32)))) 702 u1 (xAI (sFI (sFI (sFI S 710 u1 (-1000000 : Int32)) 700 u1 x1) 701 u1 (xAI (sFI (sFI S 710 u1 (-1000000 : Int32)) 700 u1 x1) u3 (Int32.toNatClampNeg (0 : Int32)))) u3 (Int32.toNatClampNeg (1 : Int32)))) 703 u1 (xAI (sFI (sFI (sFI (sFI S 710 u1 (-1000000 : Int32)) 700 u1 x1) 701 u1 (xAI (sFI (sFI S 710 u1 (-1000000 : Int32)) 700 u1 x1) u3 (Int32.toNatClampNeg (0 : Int32)))) 702 u1 (xAI (sFI (sFI (sFI S 710 u1 (-1000000 : Int32)) 700 u1 x1) 701 u1 (xAI (sFI (sFI S 710 u1 (-1000000 : Int32)) 700 u1 x1) u3 (Int32.toNatClampNeg (0 : Int32)))) u3 (Int32.toNatClampNeg (1 : Int32)))) u3 (Int32.toNatClampNeg (2 : Int32)))) u3 (Int32.toNatClampNeg (3 : Int32)))) 705 u1 (xAI (sFI (sFI (sFI (sFI (sFI (sFI S 710 u1 (-1000000 : Int32)) 700 u1 x1) 701 u1 (xAI (sFI (sFI S 710 u1 (-1000000 : Int32)) 700 u1 x1) u3 (Int32.toNatClampNeg (0 : Int32)))) 702 u1 (xAI (sFI (sFI (sFI S 710 u1 (-1000000 : Int32)) 700 u1 x1) 701 u1 (xAI (sFI (sFI S 710 u1 (-1000000 : Int32)) 700 u1 x1) u3 (Int32.toNatClampNeg (0 : Int32)))) u3 (Int32.toNatClampNeg (1 : Int32)))) 703 u1 (xAI (sFI (sFI (sFI (sFI S 710 u1 (-1000000 : Int32)) 700 u1 x1) 701 u1 (xAI (sFI (sFI S 710 u1 (-1000000 : Int32)) 700 u1 x1) u3 (Int32.toNatClampNeg (0 : Int32)))) 702 u1 (xAI (sFI (sFI (sFI S 710 u1 (-1000000 : Int32)) 700 u1 x1) 701 u1 (xAI (sFI (sFI S 710 u1 (-1000000 : Int32)) 700 u1 x1) u3 (Int32.toNatClampNeg (0 : Int32)))) u3 (Int32.toNatClampNeg (1 : Int32)))) u3 (Int32.toNatClampNeg (2 : Int32)))) 704 u1 (xAI (sFI (sFI (sFI (sFI (sFI S 710 u1 (-1000000 : Int32)) 700 u1 x1) 701 u1 (xAI (sFI (sFI S 710 u1 (-1000000 : Int32)) 700 u1 x1) u3 (Int32.toNatClampNeg (0 : Int32)))) 702 u1 (xAI (sFI (sFI (sFI S 710 u1 (-1000000 : Int32)) 700 u1 x1) 701 u1 (xAI (sFI (sFI S 710 u1 (-1000000 : Int32)) 700 u1 x1) u3 (Int32.toNatClampNeg (0 : Int32)))) u3 (Int32.toNatClampNeg (1 : Int32)))) 703 u1 (xAI (sFI (sFI (sFI (sFI S 710 u1 (-1000000 : Int32)) 700 u1 x1) 701 u1 (xAI (sFI (sFI S 710 u1 (-1000000 : Int32)) 700 u1 x1) u3 (Int32.toNatClampNeg (0 : Int32)))) 702 u1 (xAI (sFI (sFI (sFI S 710 u1 (-1000000 : Int32)) 700 u1 x1) 701 u1 (xAI (sFI (sFI S 710 u1 (-1000000 : Int32)) 700 u1 x1) u3 (Int32.toNatClampNeg (0 : Int32)))) u3 (Int32.toNatClampNeg (1 : Int32)))) u3 (Int32.toNatClampNeg (2 : Int32)))) u3 (Int32.toNatClampNeg (3 : Int32)))) u3 (Int32.toNatClampNeg (4 : Int32)))) 706 u1 (xAI (sFI (sFI (sFI (sFI (sFI (sFI (sFI S 710 u1 (-1000000 : Int32)) 700 u1 x1) 701 u1 (xAI (sFI (sFI S 710 u1 (-1000000 : Int32)) 700 u1 x1) u3 (Int32.toNatClampNeg (0 : Int32)))) 702 u1 (xAI (sFI (sFI (sFI S 710 u1 (-1000000 : Int32)) 700 u1 x1) 701 u1 (xAI (sFI (sFI S 710 u1 (-1000000 : Int32)) 700 u1 x1) u3 (Int32.toNatClampNeg (0 : Int32)))) u3 (Int32.toNatClampNeg (1 : Int32)))) 703 u1 (xAI (sFI (sFI (sFI (sFI S 710 u1 (-1000000 : Int32)) 700 u1 x1) 701 u1 (xAI (sFI (sFI S 710 u1 (-1000000 : Int32)) 700 u1 x1) u3 (Int32.toNatClampNeg (0 : Int32)))) 702 u1 (xAI (sFI (sFI (sFI S 710 u1 (-1000000 : Int32)) 700 u1 x1) 701 u1 (xAI (sFI (sFI S 710 u1 (-1000000 : Int32)) 700 u1 x1) u3 (Int32.toNatClampNeg (0 : Int32)))) u3 (Int32.toNatClampNeg (1 : Int32)))) u3 (Int32.toNatClampNeg (2 : Int32)))) 704 u1 (xAI (sFI (sFI (sFI (sFI (sFI S 710 u1 (-1000000 : Int32)) 700 u1 x1) 701 u1 (xAI (sFI (sFI S 710 u1 (-1000000 : Int32)) 700 u1 x1) u3 (Int32.toNatClampNeg (0 : Int32)))) 702 u1 (xAI (sFI (sFI (sFI S 710 u1 (-1000000 : Int32)) 700 u1 x1) 701 u1 (xAI (sFI (sFI S 710 u1 (-1000000 : Int32)) 700 u1 x1) u3 (Int32.toNatClampNeg (0 : Int32)))) u3 (Int32.toNatClampNeg (1 : Int32)))) 703 u1 (xAI (sFI (sFI (sFI (sFI S 710 u1 (-1000000 : Int32)) 700 u1 x1) 701 u1 (xAI (sFI (sFI S 710 u1 (-1000000 : Int32)) 700 u1 x1) u3 (Int32.toNatClampNeg (0 : Int32)))) 702 u1 (xAI (sFI (sFI (sFI S 710 u1 (-1000000 : Int32)) 700 u1 x1) 701 u1 (xAI (sFI (sFI S 710 u1 (-1000000 : Int32)) 700 u1 x1) u3 (Int32.toNatClampNeg (0 : Int32)))) u3 (Int32.toNatClampNeg (1 : Int32)))) u3 (Int32.toNatClampNeg (2 : Int32)))) u3 (Int32.toNatClampNeg (3 : Int32)))) 705 u1 (xAI (sFI (sFI (sFI (sFI (sFI (sFI S 710 u1 (-1000000 : Int32)) 700 u1 x1) 701 u1 (xAI (sFI (sFI S 710 u1 (-1000000 : Int32)) 700 u1 x1) u3 (Int32.toNatClampNeg (0 : Int32)))) 702 u1 (xAI (sFI (sFI (sFI S 710 u1 (-1000000 : Int32)) 700 u1 x1) 701 u1 (xAI (sFI (sFI S 710 u1 (-1000000 : Int32)) 700 u1 x1) u3 (Int32.toNatClampNeg (0 : Int32)))) u3 (Int32.toNatClampNeg (1 : Int32)))) 703 u1 (xAI (sFI (sFI (sFI (sFI S 710 u1 (-1000000 : Int32)) 700 u1 x1) 701 u1 (xAI (sFI (sFI S 710 u1 (-1000000 : Int32)) 700 u1 x1) u3 (Int32.toNatClampNeg (0 : Int32)))) 702 u1 (xAI (sFI (sFI (sFI S 710 u1 (-1000000 : Int32)) 700 u1 x1) 701 u1 (xAI (sFI (sFI S 710 u1 (-1000000 : Int32)) 700 u1 x1) u3 (Int32.toNatClampNeg (0 : Int32)))) u3 (Int32.toNatClampNeg (1 : Int32)))) u3 (Int32.toNatClampNeg (2 : Int32)))) 704 u1 (xAI (sFI (sFI (sFI (sFI (sFI S 710 u1 (-1000000 : Int32)) 700 u1 x1) 701 u1 (xAI (sFI (sFI S 710 u1 (-1000000 : Int32)) 700 u1 x1) u3 (Int32.toNatClampNeg (0 : Int32)))) 702 u1 (xAI (sFI (sFI (sFI S 710 u1 (-1000000 : Int32)) 700 u1 x1) 701 u1 (xAI (sFI (sFI S 710 u1 (-1000000 : Int32)) 700 u1 x1) u3 (Int32.toNatClampNeg (0 : Int32)))) u3 (Int32.toNatClampNeg (1 : Int32)))) 703 u1 (xAI (sFI (sFI (sFI (sFI S 710 u1 (-1000000 : Int32)) 700 u1 x1) 701 u1 (xAI (sFI (sFI S 710 u1 (-1000000 : Int32)) 700 u1 x1) u3 (Int32.toNatClampNeg (0 : Int32)))) 702 u1 (xAI (sFI (sFI (sFI S 710 u1 (-1000000 : Int32)) 700 u1 x1) 701 u1 (xAI (sFI (sFI S 710 u1 (-1000000 : Int32)) 700 u1 x1) u3 (Int32.toNatClampNeg (0 : Int32)))) u3 (Int32.toNatClampNeg (1 : Int32)))) u3 (Int32.toNatClampNeg (2 : Int32)))) u3 (Int32.toNatClampNeg (3 : Int32)))) u3 (Int32.toNatClampNeg (4 : Int32)))) u3 (Int32.toNatClampNeg (5 : Int32)))) 707 u1 (xAI (sFI (sFI (sFI (sFI (sFI (sFI (sFI (sFI S 710 u1 (-1000000 : Int32)) 700 u1 x1) 701 u1 (xAI (sFI (sFI S 710 u1 (-1000000 : Int32)) 700 u1 x1) u3 (Int32.toNatClampNeg (0 : Int32)))) 702 u1 (xAI (sFI (sFI (sFI S 710 u1 (-1000000 : Int32)) 700 u1 x1) 701 u1 (xAI (sFI (sFI S 710 u1 (-1000000 : Int32)) 700 u1 x1) u3 (Int32.toNatClampNeg (0 : Int32)))) u3 (Int32.toNatClampNeg (1 : Int32)))) 703 u1 (xAI (sFI (sFI (sFI (sFI S 710 u1 (-1000000 : Int32)) 700 u1 x1) 701 u1 (xAI (sFI (sFI S 710 u1 (-1000000 : Int32)) 700 u1 x1) u3 (Int32.toNatClampNeg (0 : Int32)))) 702 u1 (xAI (sFI (sFI (sFI S 710 u1 (-1000000 : Int32)) 700 u1 x1) 701 u1 (xAI (sFI (sFI S 710 u1 (-1000000 : Int32)) 700 u1 x1) u3 (Int32.toNatClampNeg (0 : Int32)))) u3 (Int32.toNatClampNeg (1 : Int32)))) u3 (Int32.toNatClampNeg (2 : Int32)))) 704 u1 (xAI (sFI (sFI (sFI (sFI (sFI S 710 u1 (-1000000 : Int32)) 700 u1 x1) 701 u1 (xAI (sFI (sFI S 710 u1 (-1000000 : Int32)) 700 u1 x1) u3 (Int32.toNatClampNeg (0 : Int32)))) 702 u1 (xAI (sFI (sFI (sFI S 710 u1 (-1000000 : Int32)) 700 u1 x1) 701 u1 (xAI (sFI (sFI S 710 u1 (-1000000 : Int32)) 700 u1 x1) u3 (Int32.toNatClampNeg (0 : Int32)))) u3 (Int32.toNatClampNeg (1 : Int32)))) 703 u1 (xAI (sFI (sFI (sFI (sFI S 710 u1 (-1000000 : Int32)) 700 u1 x1) 701 u1 (xAI (sFI (sFI S 710 u1 (-1000000 : Int32)) 700 u1 x1) u3 (Int32.toNatClampNeg (0 : Int32)))) 702 u1 (xAI (sFI (sFI (sFI S 710 u1 (-1000000 : Int32)) 700 u1 x1) 701 u1 (xAI (sFI (sFI S 710 u1 (-1000000 : Int32)) 700 u1 x1) u3 (Int32.toNatClampNeg (0 : Int32)))) u3 (Int32.toNatClampNeg (1 : Int32)))) u3 (Int32.toNatClampNeg (2 : Int32)))) u3 (Int32.toNatClampNeg (3 : Int32)))) 705 u1 (xAI (sFI (sFI (sFI (sFI (sFI (sFI S 710 u1 (-1000000 : Int32)) 700 u1 x1) 701 u1 (xAI (sFI (sFI S 710 u1 (-1000000 : Int32)) 700 u1 x1) u3 (Int32.toNatClampNeg (0 : Int32)))) 702 u1 (xAI (sFI (sFI (sFI S 710 u1 (-1000000 : Int32)) 700 u1 x1) 701 u1 (xAI (sFI (sFI S 710 u1 (-1000000 : Int32)) 700 u1 x1) u3 (Int32.toNatClampNeg (0 : Int32)))) u3 (Int32.toNatClampNeg (1 : Int32)))) 703 u1 (xAI (sFI (sFI (sFI (sFI S 710 u1 (-1000000 : Int32)) 700 u1 x1) 701 u1 (xAI (sFI (sFI S 710 u1 (-1000000 : Int32)) 700 u1 x1) u3 (Int32.toNatClampNeg (0 : Int32)))) 702 u1 (xAI (sFI (sFI (sFI S 710 u1 (-1000000 : Int32)) 700 u1 x1) 701 u1 (xAI (sFI (sFI S 710 u1 (-1000000 : Int32)) 700 u1 x1) u3 (Int32.toNatClampNeg (0 : Int32)))) u3 (Int32.toNatClampNeg (1 : Int32)))) u3 (Int32.toNatClampNeg (2 : Int32)))) 704 u1 (xAI (sFI (sFI (sFI (sFI (sFI S 710 u1 (-1000000 : Int32)) 700 u1 x1) 701 u1 (xAI (sFI (sFI S 710 u1 (-1000000 : Int32)) 700 u1 x1) u3 (Int32.toNatClampNeg (0 : Int32)))) 702 u1 (xAI (sFI (sFI (sFI S 710 u1 (-1000000 : Int32)) 700 u1 x1) 701 u1 (xAI (sFI (sFI S 710 u1 (-1000000 : Int32)) 700 u1 x1) u3 (Int32.toNatClampNeg (0 : Int32)))) u3 (Int32.toNatClampNeg (1 : Int32)))) 703 u1 (xAI (sFI (sFI (sFI (sFI S 710 u1 (-1000000 : Int32)) 700 u1 x1) 701 u1 (xAI (sFI (sFI S 710 u1 (-1000000 : Int32)) 700 u1 x1) u3 (Int32.toNatClampNeg (0 : Int32)))) 702 u1 (xAI (sFI (sFI (sFI S 710 u1 (-1000000 : Int32)) 700 u1 x1) 701 u1 (xAI (sFI (sFI S 710 u1 (-1000000 : Int32)) 700 u1 x1) u3 (Int32.toNatClampNeg (0 : Int32)))) u3 (Int32.toNatClampNeg (1 : Int32)))) u3 (Int32.toNatClampNeg (2 : Int32)))) u3 (Int32.toNatClampNeg (3 : Int32)))) u3 (Int32.toNatClampNeg (4 : Int32)))) 706 u1 (xAI (sFI (sFI (sFI (sFI (sFI (sFI (sFI S 710 u1 (-1000000 : Int32)) 700 u1 x1) 701 u1 (xAI (sFI (sFI S 710 u1 (-1000000 : Int32)) 700 u1 x1) u3 (Int32.toNatClampNeg (0 : Int32)))) 702 u1 (xAI (sFI (sFI (sFI S 710 u1 (-1000000 : Int32)) 700 u1 x1) 701 u1 (xAI (sFI (sFI S 710 u1 (-1000000 : Int32)) 700 u1 x1) u3 (Int32.toNatClampNeg (0 : Int32)))) u3 (Int32.toNatClampNeg (1 : Int32)))) 703 u1 (xAI (sFI (sFI (sFI (sFI S 710 u1 (-1000000 : Int32)) 700 u1 x1) 701 u1 (xAI (sFI (sFI S 710 u1 (-1000000 : Int32)) 700 u1 x1) u3 (Int32.toNatClampNeg (0 : Int32)))) 702 u1 (xAI (sFI (sFI (sFI S 710 u1 (-1000000 : Int32)) 700 u1 x1) 701 u1 (xAI (sFI (sFI S 710 u1 (-1000000 : Int32)) 700 u1 x1) u3 (Int32.toNatClampNeg (0 : Int32)))) u3 (Int32.toNatClampNeg (1 : Int32)))) u3 (Int32.toNatClampNeg (2 : Int32)))) 704 u1 (xAI (sFI (sFI (sFI (sFI (sFI S 710 u1 (-1000000 : Int32)) 700 u1 x1) 701 u1 (xAI (sFI (sFI S 710 u1 (-1000000 : Int32)) 700 u1 x1) u3 (Int32.toNatClampNeg (0 : Int32)))) 702 u1 (xAI (sFI (sFI (sFI S 710 u1 (-1000000 : Int32)) 700 u1 x1) 701 u1 (xAI (sFI (sFI S 710 u1 (-1000000 : Int32)) 700 u1 x1) u3 (Int32.toNatClampNeg (0 : Int32)))) u3 (Int32.toNatClampNeg (1 : Int32)))) 703 u1 (xAI (sFI (sFI (sFI (sFI S 710 u1 (-1000000 : Int32)) 700 u1 x1) 701 u1 (xAI (sFI (sFI S 710 u1 (-1000000 : Int32)) 700 u1 x1) u3 (Int32.toNatClampNeg (0 : Int32)))) 702 u1 (xAI (sFI (sFI (sFI S 710 u1 (-1000000 : Int32)) 700 u1 x1) 701 u1 (xAI (sFI (sFI S 710 u1 (-1000000 : Int32)) 700 u1 x1) u3 (Int32.toNatClampNeg (0 : Int32)))) u3 (Int32.toNatClampNeg (1 : Int32)))) u3 (Int32.toNatClampNeg (2 : Int32)))) u3 (Int32.toNatClampNeg (3 : Int32)))) 705 u1 (xAI (sFI (sFI (sFI (sFI (sFI (sFI S 710 u1 (-1000000 : Int32)) 700 u1 x1) 701 u1 (xAI (sFI (sFI S 710 u1 (-1000000 : Int32)) 700 u1 x1) u3 (Int32.toNatClampNeg (0 : Int32)))) 702 u1 (xAI (sFI (sFI (sFI S 710 u1 (-1000000 : Int32)) 700 u1 x1) 701 u1 (xAI (sFI (sFI S 710 u1 (-1000000 : Int32)) 700 u1 x1) u3 (Int32.toNatClampNeg (0 : Int32)))) u3 (Int32.toNatClampNeg (1 : Int32)))) 703 u1 (xAI (sFI (sFI (sFI (sFI S 710 u1 (-1000000 : Int32)) 700 u1 x1) 701 u1 (xAI (sFI (sFI S 710 u1 (-1000000 : Int32)) 700 u1 x1) u3 (Int32.toNatClampNeg (0 : Int32)))) 702 u1 (xAI (sFI (sFI (sFI S 710 u1 (-1000000 : Int32)) 700 u1 x1) 701 u1 (xAI (sFI (sFI S 710 u1 (-1000000 : Int32)) 700 u1 x1) u3 (Int32.toNatClampNeg (0 : Int32)))) u3 (Int32.toNatClampNeg (1 : Int32)))) u3 (Int32.toNatClampNeg (2 : Int32)))) 704 u1 (xAI (sFI (sFI (sFI (sFI (sFI S 710 u1 (-1000000 : Int32)) 700 u1 x1) 701 u1 (xAI (sFI (sFI S 710 u1 (-1000000 : Int32)) 700 u1 x1) u3 (Int32.toNatClampNeg (0 : Int32)))) 702 u1 (xAI (sFI (sFI (sFI S 710 u1 (-1000000 : Int32)) 700 u1 x1) 701 u1 (xAI (sFI (sFI S 710 u1 (-1000000 : Int32)) 700 u1 x1) u3 (Int32.toNatClampNeg (0 : Int32)))) u3 (Int32.toNatClampNeg (1 : Int32)))) 703 u1 (xAI (sFI (sFI (sFI (sFI S 710 u1 (-1000000 : Int32)) 700 u1 x1) 701 u1 (xAI (sFI (sFI S 710 u1 (-1000000 : Int32)) 700 u1 x1) u3 (Int32.toNatClampNeg (0 : Int32)))) 702 u1 (xAI (sFI (sFI (sFI S 710 u1 (-1000000 : Int32)) 700 u1 x1) 701 u1 (xAI (sFI (sFI S 710 u1 (-1000000 : Int32)) 700 u1 x1) u3 (Int32.toNatClampNeg (0 : Int32)))) u3 (Int32.toNatClampNeg (1 : Int32)))) u3 (Int32.toNatClampNeg (2 : Int32)))) u3 (Int32.toNatClampNeg (3 : Int32)))) u3 (Int32.toNatClampNeg (4 : Int32)))) u3 (Int32.toNatClampNeg (5 : Int32)))) u3 (Int32.toNatClampNeg (6 : Int32)))) x0 x2 x0 (1 : Int32) h
theorem mx_X8_init (l : Launch) (E : XE) (Q : XS → Prop) (S : XS) (x0 : Option Nat) (x1 : Int32) (x2 : Option Nat) (h : wx_X8_init Q S x0 x1 x2) : XMet E l yX8_init cX8_init 3 none ({ frames := 1, cells := 0, slots := 0, locals := 34 } : Room) [va_rf x0, .int x1, va_rf x2] S (fun sz => va_Qv Q (BX1 E S sz) (xA S sz)) :=
  XMet_of (rm := ({ frames := 1, cells := 0, slots := 0, locals := 34 } : Room)) (by decide) (by simp [lg_sl, va_rf_cat, cat_i, cat_l]) (L0 := [some (va_rf x0), some (.int x1), some (va_rf x2)]) (by simp [lx_pairs, lv_args, va_rf_cat, cat_i, cat_l, List.range_succ]) (fun sz C hC hX hl hnm hA hQ => bx_X8_init E C S sz Q S x0 x1 x2 hC hX hA hnm hQ h)
/-! X0_book -/
def wx_X0_book_92 (Q : Int32 → XS → Prop) (mc ms : Nat) (S : XS) (a0 : Option Nat) (s0 : Option Nat) : Prop :=
  dr a0 (fun u15 => xKD S u15 = some 0 ∧ wx_X0_found (fun r18 S17 => Q r18 S17) S (some u15) s0)
def wx_X0_book (Q : Int32 → XS → Prop) (mc ms : Nat) (S : XS) (x0 : Option Nat) (x1 : Int32) (x2 : Int32) : Prop :=
  wx_X0_isSheet (fun r2 S1 => (if r2 = 0 then Q (-1000001 : Int32) S1 else dr x0 (fun u3 => xKD S1 u3 = some 0 ∧ dr (xFR S1 2 u3) (fun u5 => xKD S1 u5 = some 16 ∧ wx_J2_size (fun r8 S7 => (if r8 = (16 : Int32) then Q (-1000003 : Int32) S7 else xKD S7 u3 = some 0 ∧ (∃ k10 n11, k10 ≤ mc ∧ n11 ≤ ms ∧ wx_X0_sheetAt (fun r20 S19 => dr r20 (fun u21 => xKD S19 u21 = some 4 ∧ (∃ k23 n24, k23 ≤ (mc - k10) ∧ n24 ≤ (ms - n11) ∧ wx_X5_row (fun r29 S28 => wx_X0_isBooked (fun r31 S30 => (if r31 = 0 then Q (-1000001 : Int32) S30 else xKD S30 u3 = some 0 ∧ 1 ≤ ((mc - k10) - k23) ∧ 11 ≤ ((ms - n11) - n24) ∧ (∀ q33 : Nat, xKD S30 q33 = none → dr (xFR (sNew S30 q33 7) 2 u3) (fun u37 => xKD (sNew S30 q33 7) u37 = some 16 ∧ wx_J2_size (fun r40 S39 => wx_X8_init (fun S41 => dr (xFR S30 2 u3) (fun u43 => xKD S41 u43 = some 16 ∧ (∃ k45 n46, k45 ≤ (((mc - k10) - k23) - 1) ∧ n46 ≤ (((ms - n11) - n24) - 11) ∧ wx_J2_add (fun r48 S47 => xKD S47 u3 = some 0 ∧ dr (xFR S47 2 u3) (fun u50 => xKD S47 u50 = some 16 ∧ wx_J2_size (fun r53 S52 => xKD S52 u3 = some 0 ∧ wx_X0_well (fun r56 S55 => Q r56 S55) S52 (some u3) (r53 - (1 : Int32))) S47 (some u50))) k45 n46 S41 (some u43) (some q33)))) S39 (some q33) r40 r29) (sNew S30 q33 7) (some u37))))) S28 r29) (fun q25 S26 => wx_X0_book_92 Q ((mc - k10) - k23) ((ms - n11) - n24) S26 x0 (some q25)) k23 n24 S19 (some u21) x2 (9 : Int32)))) (fun q12 S13 => wx_X0_book_92 Q (mc - k10) (ms - n11) S13 x0 (some q12)) k10 n11 S7 (some u3) x1))) S1 (some u5))))) S x1
theorem hx_X0_book : yX0_book.cls = RX0 ∧ yX0_book.cls ≠ "java/lang/invoke/MethodHandle" ∧ yX0_book.cls ≠ "java/lang/invoke/VarHandle" ∧ (parseMethodDescriptor yX0_book.desc).map (fun d => d.parameters.length) = some 2 := by decide +kernel
set_option maxHeartbeats 4000000 in
set_option maxRecDepth 100000 in
theorem bx_X0_book (E : XE) (C : Cx) (S0 : XS) (sz : Nat) (Q : Int32 → XS → Prop) (mc ms : Nat) (S : XS) (x0 : Option Nat) (x1 : Int32) (x2 : Int32) (hC : COk C cX0_book RX0 (some .int) 7 165 4) (hX : XOk E C) (hT : (cx_c C).exceptionTable.toList = tableOf [(27, 48, 92, 130), (49, 91, 92, 130)]) (hA : cx_A C = xA S0 sz) (hQ : cx_Q C = MQ (cx_b C) (va_Qi Q (BX1 E S0 sz) (xA S0 sz)) (cx_a C) (cx_s C) (cx_MC C) (cx_MS C) (xA S0 sz)) (h : wx_X0_book Q mc ms S x0 x1 x2) : GX E C S mc ms 0 [some (va_rf x0), some (.int x1), some (.int x2), none] [] := by
  have s_92 : ∀ (mc ms : Nat) (S : XS) (a0 : Option Nat) (s0 : Option Nat), wx_X0_book_92 Q  mc ms S a0 s0 → GX E C S mc ms 92 [some (va_rf a0), none, none, none] [va_rf s0] := by
    intro  mc ms S a0 s0 h
    refine g_astore_nR hC dX0_book_92 rfl (by decide) rfl rfl ?_
    refine g_aload_nR hC dX0_book_93 rfl ?_
    refine g_aload_nR hC dX0_book_94 rfl ?_
    obtain ⟨u15, eu15, h⟩ := h
    refine g_top1 eu15 ?_
    have hk16 := h.1
    refine gX_ni hX (gX_runV (As := [va_rf s0]) (rest := []) (Cr := RX0) hC hX (mx_X0_found (cx_l C) E _ _ _ _ h.2) (lw_V q361 q363 qs2 q70 q364) hx_X0_found rfl rfl (Or.inl (Nat.le_of_ble_eq_true rfl)) ⟨Nat.le_of_ble_eq_true rfl, Nat.le_of_ble_eq_true rfl⟩ dX0_book_95 (Nat.zero_le _) (Nat.zero_le _) hk16 rfl (by decide) rfl) rfl rfl ?_
    intro r18 S17 h
    refine gX_iret rfl hC hA hQ dX0_book_98 h
  refine g_iload_n hC dX0_book_0 rfl ?_
  refine gX_ni hX (gX_runS (As := [.int x1]) (rest := []) hC hX (mx_X0_isSheet (cx_l C) E _ _ _ h) (lw_S q265 q266 q70 q267) hx_X0_isSheet.2 rfl rfl (Or.inl (Nat.le_of_ble_eq_true rfl)) ⟨Nat.le_of_ble_eq_true rfl, Nat.le_of_ble_eq_true rfl⟩ dX0_book_1 (Nat.zero_le _) (Nat.zero_le _)) rfl rfl ?_
  intro r2 S1 h
  refine g_if_ne (tgt := 10) hC dX0_book_4 (by decide) (fun c => ?_) (fun c => ?_)
  · have h := it_n c h
    refine g_aload_nR hC dX0_book_10 rfl ?_
    obtain ⟨u3, eu3, h⟩ := h
    refine g_top0 eu3 ?_
    have hk4 := h.1
    refine gX_get (C0 := RX0) (T := TX0) (N := 15) (n := 0) (k := 2) (q := (2, true)) hC hX dX0_book_11 q213 rfl in_X0 (by decide) (Or.inl rfl) rfl (by decide) hk4 ?_
    show GX _ _ _ _ _ _ _ (va_rf (xFR S1 2 u3) :: _)
    obtain ⟨u5, eu5, h⟩ := h.2
    refine g_top0 eu5 ?_
    have hk6 := h.1
    refine gX_ni5 hX (gX_runF (n := 0) (As := []) (rest := []) (Cr := "java/util/ArrayList") (x := ⟨"java/util/List", "size", "()I"⟩) hC hX (mx_J2_size (cx_l C) E _ _ _ h.2) (lw_app (lw_4 q770 q774 q776 q73) (lw_meth q778)) (List.mem_of_getElem? (i := 0) rfl) (by decide +kernel) rfl rfl (Or.inl (Nat.le_of_ble_eq_true rfl)) ⟨Nat.le_of_ble_eq_true rfl, Nat.le_of_ble_eq_true rfl⟩ dX0_book_14 (Nat.zero_le _) (Nat.zero_le _) hk6 rfl (by decide) rfl) rfl rfl ?_
    intro r8 S7 h
    refine g_bipush (v := 16) hC dX0_book_19 (by decide) ?_
    refine g_icmp_ne (tgt := 27) hC dX0_book_21 (by decide) (fun c => ?_) (fun c => ?_)
    · have h := it_n c h
      refine g_aload_nR hC dX0_book_27 rfl ?_
      refine g_iload_n hC dX0_book_28 rfl ?_
      refine g_top1 eu3 ?_
      have hk9 := h.1
      obtain ⟨k10, n11, hk10, hn11, h⟩ := h.2
      refine gX_xq hX (gX_xrunV (As := [.int x1]) (rest := []) (Cr := RX0) hC hX (mx_X0_sheetAt (cx_l C) E k10 n11 _ _ _ _ _ h) (lw_V q370 q372 qs3 q70 q373) hx_X0_sheetAt rfl rfl (Or.inl (Nat.le_of_ble_eq_true rfl)) ⟨Nat.le_of_ble_eq_true rfl, Nat.le_of_ble_eq_true rfl⟩ dX0_book_29 hk10 hn11 hk9 rfl (by decide) rfl) hk10 hn11 (fun q12 S13 h hk14 => ?_) ?_
      · refine gT_catch (r := (RX4, TX4, 7)) (name := "VillageHalls$Finding") hC hX hT [] (27, 48, 92, 130) [(49, 91, 92, 130)] rfl (by decide) (by decide) (by decide) q264 q278 hk14 rfl (by decide) ?_
        refine g_sub [true, false, false, false] rfl ?_
        exact s_92 (mc - k10) (ms - n11) S13 x0 (some q12) h
      intro r20 S19 h
      refine g_iload_n hC dX0_book_32 rfl ?_
      refine g_bipush (v := 9) hC dX0_book_33 (by decide) ?_
      obtain ⟨u21, eu21, h⟩ := h
      refine g_top2 eu21 ?_
      have hk22 := h.1
      obtain ⟨k23, n24, hk23, hn24, h⟩ := h.2
      refine gX_xq hX (gX_xrunV (As := [.int x2, .int (9 : Int32)]) (rest := []) (Cr := RX5) hC hX (mx_X5_row (cx_l C) E k23 n24 _ _ _ _ _ _ h) (lw_V q779 q780 q781 q80 q782) hx_X5_row rfl rfl (Or.inl (Nat.le_of_ble_eq_true rfl)) ⟨Nat.le_of_ble_eq_true rfl, Nat.le_of_ble_eq_true rfl⟩ dX0_book_35 hk23 hn24 hk22 rfl (by decide) rfl) hk23 hn24 (fun q25 S26 h hk27 => ?_) ?_
      · refine gT_catch (r := (RX4, TX4, 7)) (name := "VillageHalls$Finding") hC hX hT [] (27, 48, 92, 130) [(49, 91, 92, 130)] rfl (by decide) (by decide) (by decide) q264 q278 hk27 rfl (by decide) ?_
        refine g_sub [true, false, false, false] rfl ?_
        exact s_92 ((mc - k10) - k23) ((ms - n11) - n24) S26 x0 (some q25) h
      intro r29 S28 h
      refine g_astore_nR hC dX0_book_38 rfl (by decide) rfl rfl ?_
      refine g_sub [true, false, false, true] rfl ?_
      refine g_aload_nR hC dX0_book_39 rfl ?_
      refine gX_ni hX (gX_runS (As := [va_rf r29]) (rest := []) hC hX (mx_X0_isBooked (cx_l C) E _ _ _ h) (lw_S q785 q786 q70 q787) hx_X0_isBooked.2 rfl rfl (Or.inl (Nat.le_of_ble_eq_true rfl)) ⟨Nat.le_of_ble_eq_true rfl, Nat.le_of_ble_eq_true rfl⟩ dX0_book_40 (Nat.zero_le _) (Nat.zero_le _)) rfl rfl ?_
      intro r31 S30 h
      refine g_if_ne (tgt := 49) hC dX0_book_43 (by decide) (fun c => ?_) (fun c => ?_)
      · have h := it_n c h
        refine g_aload_nR hC dX0_book_49 rfl ?_
        refine g_top0 eu3 ?_
        have hk32 := h.1
        refine gX_get (C0 := RX0) (T := TX0) (N := 15) (n := 0) (k := 2) (q := (2, true)) hC hX dX0_book_50 q213 rfl in_X0 (by decide) (Or.inl rfl) rfl (by decide) hk32 ?_
        show GX _ _ _ _ _ _ _ (va_rf (xFR S30 2 u3) :: _)
        refine gX_new (C0 := RX8) (T := TX8) (ty0 := tyX8) (N := 11) (n := 7) hC hX dX0_book_53 q164 q799 q96 rfl in_X8 tyX8_ok (by decide) dv_X8 h.2.1 h.2.2.1 ?_
        intro q33 hq34
        have h := h.2.2.2 q33 hq34
        have hk35 := kd_new (q := q33) (n := 7) hk32 hq34
        have hk36 : xKD (sNew S30 q33 7) q33 = some 7 := kd_self
        refine g_dup hC dX0_book_56 (va_rf_cat _) ?_
        refine g_aload_nR hC dX0_book_57 rfl ?_
        refine g_top0 eu3 ?_
        refine gX_get (C0 := RX0) (T := TX0) (N := 15) (n := 0) (k := 2) (q := (2, true)) hC hX dX0_book_58 q213 rfl in_X0 (by decide) (Or.inl rfl) rfl (by decide) hk35 ?_
        show GX _ _ _ _ _ _ _ (va_rf (xFR (sNew S30 q33 7) 2 u3) :: _)
        obtain ⟨u37, eu37, h⟩ := h
        refine g_top0 eu37 ?_
        have hk38 := h.1
        refine gX_ni5 hX (gX_runF (n := 0) (As := []) (rest := [va_rf (some q33), va_rf (some q33), va_rf (xFR S30 2 u3)]) (Cr := "java/util/ArrayList") (x := ⟨"java/util/List", "size", "()I"⟩) hC hX (mx_J2_size (cx_l C) E _ _ _ h.2) (lw_app (lw_4 q770 q774 q776 q73) (lw_meth q778)) (List.mem_of_getElem? (i := 0) rfl) (by decide +kernel) rfl rfl (Or.inl (Nat.le_of_ble_eq_true rfl)) ⟨Nat.le_of_ble_eq_true rfl, Nat.le_of_ble_eq_true rfl⟩ dX0_book_61 (Nat.zero_le _) (Nat.zero_le _) hk38 rfl (by decide) rfl) rfl rfl ?_
        intro r40 S39 h
        refine g_aload_nR hC dX0_book_66 rfl ?_
        refine gX_nv hX (gX_runI (As := [.int r40, va_rf r29]) (rest := [va_rf (some q33), va_rf (xFR S30 2 u3)]) hC hX (mx_X8_init (cx_l C) E _ _ _ _ _ h) q802 q96 q800 q801 rfl hx_X8_init.2 rfl rfl (Or.inl (Nat.le_of_ble_eq_true rfl)) ⟨Nat.le_of_ble_eq_true rfl, Nat.le_of_ble_eq_true rfl⟩ dX0_book_67 (Nat.zero_le _) (Nat.zero_le _)) rfl rfl ?_
        intro S41 h
        obtain ⟨u43, eu43, h⟩ := h
        refine g_top1 eu43 ?_
        have hk44 := h.1
        obtain ⟨k45, n46, hk45, hn46, h⟩ := h.2
        refine gX_ci5 hX (gX_runF (n := 1) (As := [va_rf (some q33)]) (rest := []) (Cr := "java/util/ArrayList") (x := ⟨"java/util/List", "add", "(Ljava/lang/Object;)Z"⟩) hC hX (mx_J2_add (cx_l C) E k45 n46 _ _ _ _ h) (lw_app (lw_4 q860 q863 q865 q73) (lw_meth q867)) (List.mem_of_getElem? (i := 1) rfl) (by decide +kernel) rfl rfl (Or.inl (Nat.le_of_ble_eq_true rfl)) ⟨Nat.le_of_ble_eq_true rfl, Nat.le_of_ble_eq_true rfl⟩ dX0_book_70 hk45 hn46 hk44 rfl (by decide) rfl) hk45 hn46 ?_
        intro r48 S47 h
        refine g_pop hC dX0_book_75 rfl ?_
        refine g_aload_nR hC dX0_book_76 rfl ?_
        refine g_aload_nR hC dX0_book_77 rfl ?_
        refine g_top0 eu3 ?_
        have hk49 := h.1
        refine gX_get (C0 := RX0) (T := TX0) (N := 15) (n := 0) (k := 2) (q := (2, true)) hC hX dX0_book_78 q213 rfl in_X0 (by decide) (Or.inl rfl) rfl (by decide) hk49 ?_
        show GX _ _ _ _ _ _ _ (va_rf (xFR S47 2 u3) :: _)
        obtain ⟨u50, eu50, h⟩ := h.2
        refine g_top0 eu50 ?_
        have hk51 := h.1
        refine gX_ni5 hX (gX_runF (n := 0) (As := []) (rest := [va_rf x0]) (Cr := "java/util/ArrayList") (x := ⟨"java/util/List", "size", "()I"⟩) hC hX (mx_J2_size (cx_l C) E _ _ _ h.2) (lw_app (lw_4 q770 q774 q776 q73) (lw_meth q778)) (List.mem_of_getElem? (i := 0) rfl) (by decide +kernel) rfl rfl (Or.inl (Nat.le_of_ble_eq_true rfl)) ⟨Nat.le_of_ble_eq_true rfl, Nat.le_of_ble_eq_true rfl⟩ dX0_book_81 (Nat.zero_le _) (Nat.zero_le _) hk51 rfl (by decide) rfl) rfl rfl ?_
        intro r53 S52 h
        refine g_iconst (v := 1) hC dX0_book_86 (by decide) ?_
        refine g_isub hC dX0_book_87 ?_
        refine g_top1 eu3 ?_
        have hk54 := h.1
        refine gX_ni hX (gX_runV (As := [.int (r53 - (1 : Int32))]) (rest := []) (Cr := RX0) hC hX (mx_X0_well (cx_l C) E _ _ _ _ h.2) (lw_V q357 q359 qs1 q70 q360) hx_X0_well rfl rfl (Or.inl (Nat.le_of_ble_eq_true rfl)) ⟨Nat.le_of_ble_eq_true rfl, Nat.le_of_ble_eq_true rfl⟩ dX0_book_88 (Nat.zero_le _) (Nat.zero_le _) hk54 rfl (by decide) rfl) rfl rfl ?_
        intro r56 S55 h
        refine gX_iret rfl hC hA hQ dX0_book_91 h
      · have h := it_p c h
        refine g_ldc (v := -1000001) hC dX0_book_46 q273 ?_
        refine gX_iret rfl hC hA hQ dX0_book_48 h
    · have h := it_p c h
      refine g_ldc (v := -1000003) hC dX0_book_24 q428 ?_
      refine gX_iret rfl hC hA hQ dX0_book_26 h
  · have h := it_p c h
    refine g_ldc (v := -1000001) hC dX0_book_7 q273 ?_
    refine gX_iret rfl hC hA hQ dX0_book_9 h
theorem mx_X0_book (l : Launch) (E : XE) (mc ms : Nat) (Q : Int32 → XS → Prop) (S : XS) (x0 : Option Nat) (x1 : Int32) (x2 : Int32) (h : wx_X0_book Q mc ms S x0 x1 x2) : XMetW E l yX0_book cX0_book 4 (some .int) [(27, 48, 92, 130), (49, 91, 92, 130)] ({ frames := 7, cells := mc, slots := ms, locals := 165 } : Room) [va_rf x0, .int x1, .int x2] S (fun sz => va_Qi Q (BX1 E S sz) (xA S sz)) :=
  XMetW_of (rm := ({ frames := 7, cells := mc, slots := ms, locals := 165 } : Room)) (by decide) (by simp [lg_sl, va_rf_cat, cat_i, cat_l]) (L0 := [some (va_rf x0), some (.int x1), some (.int x2), none]) (by simp [lx_pairs, lv_args, va_rf_cat, cat_i, cat_l, List.range_succ]) (fun sz C hC hX hl hnm hT hA hQ => bx_X0_book E C S sz Q mc ms S x0 x1 x2 hC hX hT hA hQ h)
/-! X0_isBooking -/
def wx_X0_isBooking (Q : Int32 → XS → Prop) (S : XS) (x0 : Option Nat) (x1 : Int32) : Prop :=
  dr x0 (fun u1 => xKD S u1 = some 0 ∧ dr (xFR S 2 u1) (fun u3 => xKD S u3 = some 16 ∧ wx_J2_size (fun r6 S5 => wx_X0_isIn (fun r8 S7 => narrow .boolean (.int r8) = .int r8 ∧ Q r8 S7) S5 (Int32.toInt64 x1) (0 : Int64) (Int32.toInt64 (r6 - (1 : Int32)))) S (some u3)))
theorem hx_X0_isBooking : yX0_isBooking.cls = RX0 ∧ yX0_isBooking.cls ≠ "java/lang/invoke/MethodHandle" ∧ yX0_isBooking.cls ≠ "java/lang/invoke/VarHandle" ∧ (parseMethodDescriptor yX0_isBooking.desc).map (fun d => d.parameters.length) = some 1 := by decide +kernel
set_option maxHeartbeats 4000000 in
set_option maxRecDepth 100000 in
theorem bx_X0_isBooking (E : XE) (C : Cx) (S0 : XS) (sz : Nat) (Q : Int32 → XS → Prop) (S : XS) (x0 : Option Nat) (x1 : Int32) (hC : COk C cX0_isBooking RX0 (some .boolean) 2 59 2) (hX : XOk E C) (hA : cx_A C = xA S0 sz) (hQ : cx_Q C = MQ (cx_b C) (va_Qi Q (BX1 E S0 sz) (xA S0 sz)) (cx_a C) (cx_s C) (cx_MC C) (cx_MS C) (xA S0 sz)) (h : wx_X0_isBooking Q S x0 x1) : GX E C S 0 0 0 [some (va_rf x0), some (.int x1)] [] := by
  refine g_iload_n hC dX0_isBooking_0 rfl ?_
  refine g_i2l hC dX0_isBooking_1 ?_
  refine g_lconst (v := 0) hC dX0_isBooking_2 (by decide) ?_
  refine g_aload_nR hC dX0_isBooking_3 rfl ?_
  obtain ⟨u1, eu1, h⟩ := h
  refine g_top0 eu1 ?_
  have hk2 := h.1
  refine gX_get (C0 := RX0) (T := TX0) (N := 15) (n := 0) (k := 2) (q := (2, true)) hC hX dX0_isBooking_4 q213 rfl in_X0 (by decide) (Or.inl rfl) rfl (by decide) hk2 ?_
  show GX _ _ _ _ _ _ _ (va_rf (xFR S 2 u1) :: _)
  obtain ⟨u3, eu3, h⟩ := h.2
  refine g_top0 eu3 ?_
  have hk4 := h.1
  refine gX_ni5 hX (gX_runF (n := 0) (As := []) (rest := [.long (0 : Int64), .long (Int32.toInt64 x1)]) (Cr := "java/util/ArrayList") (x := ⟨"java/util/List", "size", "()I"⟩) hC hX (mx_J2_size (cx_l C) E _ _ _ h.2) (lw_app (lw_4 q770 q774 q776 q73) (lw_meth q778)) (List.mem_of_getElem? (i := 0) rfl) (by decide +kernel) rfl rfl (Or.inl (Nat.le_of_ble_eq_true rfl)) ⟨Nat.le_of_ble_eq_true rfl, Nat.le_of_ble_eq_true rfl⟩ dX0_isBooking_7 (Nat.zero_le _) (Nat.zero_le _) hk4 rfl (by decide) rfl) rfl rfl ?_
  intro r6 S5 h
  refine g_iconst (v := 1) hC dX0_isBooking_12 (by decide) ?_
  refine g_isub hC dX0_isBooking_13 ?_
  refine g_i2l hC dX0_isBooking_14 ?_
  refine gX_ni hX (gX_runS (As := [.long (Int32.toInt64 x1), .long (0 : Int64), .long (Int32.toInt64 (r6 - (1 : Int32)))]) (rest := []) hC hX (mx_X0_isIn (cx_l C) E _ _ _ _ _ h) (lw_S q269 q270 q70 q271) hx_X0_isIn.2 rfl rfl (Or.inl (Nat.le_of_ble_eq_true rfl)) ⟨Nat.le_of_ble_eq_true rfl, Nat.le_of_ble_eq_true rfl⟩ dX0_isBooking_15 (Nat.zero_le _) (Nat.zero_le _)) rfl rfl ?_
  intro r8 S7 h
  refine gX_zret rfl h.1 hC hA hQ dX0_isBooking_18 h.2
theorem mx_X0_isBooking (l : Launch) (E : XE) (Q : Int32 → XS → Prop) (S : XS) (x0 : Option Nat) (x1 : Int32) (h : wx_X0_isBooking Q S x0 x1) : XMet E l yX0_isBooking cX0_isBooking 2 (some .boolean) ({ frames := 2, cells := 0, slots := 0, locals := 59 } : Room) [va_rf x0, .int x1] S (fun sz => va_Qi Q (BX1 E S sz) (xA S sz)) :=
  XMet_of (rm := ({ frames := 2, cells := 0, slots := 0, locals := 59 } : Room)) (by decide) (by simp [lg_sl, va_rf_cat, cat_i, cat_l]) (L0 := [some (va_rf x0), some (.int x1)]) (by simp [lx_pairs, lv_args, va_rf_cat, cat_i, cat_l, List.range_succ]) (fun sz C hC hX hl hnm hA hQ => bx_X0_isBooking E C S sz Q S x0 x1 hC hX hA hQ h)
/-! X0_cancel -/
def wx_X0_cancel (Q : Int32 → XS → Prop) (S : XS) (x0 : Option Nat) (x1 : Int32) (x2 : Int32) : Prop :=
  dr x0 (fun u1 => xKD S u1 = some 0 ∧ wx_X0_isBooking (fun r4 S3 => (if r4 = 0 then Q (-1000001 : Int32) S3 else xKD S3 u1 = some 0 ∧ dr (xFR S3 2 u1) (fun u6 => xKD S3 u6 = some 16 ∧ wx_J2_get (fun r9 S8 => dr r9 (fun u10 => xKD S8 u10 = some 7 ∧ xKD S8 u1 = some 0 ∧ dr (xFR S8 2 u1) (fun u13 => xKD S8 u13 = some 16 ∧ wx_J2_get (fun r16 S15 => dr r16 (fun u17 => xKD S15 u17 = some 7 ∧ wx_X0_isIn (fun r20 S19 => (if r20 = 0 then Q (-1000001 : Int32) S19 else xKD S19 u1 = some 0 ∧ dr (xFR S19 2 u1) (fun u22 => xKD S19 u22 = some 16 ∧ wx_J2_get (fun r25 S24 => dr r25 (fun u26 => xKD S24 u26 = some 7 ∧ (if (xFI S24 710 u26) = (-1000000 : Int32) then xKD S24 u1 = some 0 ∧ dr (xFR S24 2 u1) (fun u29 => xKD S24 u29 = some 16 ∧ wx_J2_get (fun r32 S31 => dr r32 (fun u33 => xKD S31 u33 = some 7 ∧ Q (1 : Int32) (sFI S31 710 u33 x2))) S24 (some u29) x1) else Q (-1000002 : Int32) S24))) S19 (some u22) x1))) S15 (Int32.toInt64 x2) (Int32.toInt64 (xFI S8 709 u10)) (Int32.toInt64 (xFI S15 703 u17)))) S8 (some u13) x1))) S3 (some u6) x1))) S (some u1) x1)
theorem hx_X0_cancel : yX0_cancel.cls = RX0 ∧ yX0_cancel.cls ≠ "java/lang/invoke/MethodHandle" ∧ yX0_cancel.cls ≠ "java/lang/invoke/VarHandle" ∧ (parseMethodDescriptor yX0_cancel.desc).map (fun d => d.parameters.length) = some 2 := by decide +kernel
set_option maxHeartbeats 4000000 in
set_option maxRecDepth 100000 in
theorem bx_X0_cancel (E : XE) (C : Cx) (S0 : XS) (sz : Nat) (Q : Int32 → XS → Prop) (S : XS) (x0 : Option Nat) (x1 : Int32) (x2 : Int32) (hC : COk C cX0_cancel RX0 (some .int) 4 98 3) (hX : XOk E C) (hA : cx_A C = xA S0 sz) (hQ : cx_Q C = MQ (cx_b C) (va_Qi Q (BX1 E S0 sz) (xA S0 sz)) (cx_a C) (cx_s C) (cx_MC C) (cx_MS C) (xA S0 sz)) (h : wx_X0_cancel Q S x0 x1 x2) : GX E C S 0 0 0 [some (va_rf x0), some (.int x1), some (.int x2)] [] := by
  refine g_aload_nR hC dX0_cancel_0 rfl ?_
  refine g_iload_n hC dX0_cancel_1 rfl ?_
  obtain ⟨u1, eu1, h⟩ := h
  refine g_top1 eu1 ?_
  have hk2 := h.1
  refine gX_ni hX (gX_runV (As := [.int x1]) (rest := []) (Cr := RX0) hC hX (mx_X0_isBooking (cx_l C) E _ _ _ _ h.2) (lw_V q923 q925 qs16 q70 q926) hx_X0_isBooking rfl rfl (Or.inl (Nat.le_of_ble_eq_true rfl)) ⟨Nat.le_of_ble_eq_true rfl, Nat.le_of_ble_eq_true rfl⟩ dX0_cancel_2 (Nat.zero_le _) (Nat.zero_le _) hk2 rfl (by decide) rfl) rfl rfl ?_
  intro r4 S3 h
  refine g_if_eq (tgt := 50) hC dX0_cancel_5 (by decide) (fun c => ?_) (fun c => ?_)
  · have h := it_p c h
    refine g_ldc (v := -1000001) hC dX0_cancel_50 q273 ?_
    refine gX_iret rfl hC hA hQ dX0_cancel_52 h
  · have h := it_n c h
    refine g_iload_n hC dX0_cancel_8 rfl ?_
    refine g_i2l hC dX0_cancel_9 ?_
    refine g_aload_nR hC dX0_cancel_10 rfl ?_
    refine g_top0 eu1 ?_
    have hk5 := h.1
    refine gX_get (C0 := RX0) (T := TX0) (N := 15) (n := 0) (k := 2) (q := (2, true)) hC hX dX0_cancel_11 q213 rfl in_X0 (by decide) (Or.inl rfl) rfl (by decide) hk5 ?_
    show GX _ _ _ _ _ _ _ (va_rf (xFR S3 2 u1) :: _)
    refine g_iload_n hC dX0_cancel_14 rfl ?_
    obtain ⟨u6, eu6, h⟩ := h.2
    refine g_top1 eu6 ?_
    have hk7 := h.1
    refine gX_nq5 hX (gX_runF (n := 1) (As := [.int x1]) (rest := [.long (Int32.toInt64 x2)]) (Cr := "java/util/ArrayList") (x := ⟨"java/util/List", "get", "(I)Ljava/lang/Object;"⟩) hC hX (mx_J2_get (cx_l C) E _ _ _ _ h.2) (lw_app (lw_4 q928 q931 q933 q73) (lw_meth q935)) (List.mem_of_getElem? (i := 2) rfl) (by decide +kernel) rfl rfl (Or.inl (Nat.le_of_ble_eq_true rfl)) ⟨Nat.le_of_ble_eq_true rfl, Nat.le_of_ble_eq_true rfl⟩ dX0_cancel_15 (Nat.zero_le _) (Nat.zero_le _) hk7 rfl (by decide) rfl) rfl rfl ?_
    intro r9 S8 h
    obtain ⟨u10, eu10, h⟩ := h
    refine g_top0 eu10 ?_
    have hk11 := h.1
    refine gX_cast (r := (RX8, TX8, 11)) (n := 7) hC hX dX0_cancel_20 q164 rfl (by decide) hk11 ?_
    refine gX_get (C0 := RX8) (T := TX8) (N := 11) (n := 7) (k := 9) (q := (709, false)) hC hX dX0_cancel_23 q833 rfl in_X8 (by decide) (Or.inl rfl) rfl (by decide) hk11 ?_
    show GX _ _ _ _ _ _ _ (.int (xFI S8 709 u10) :: _)
    refine g_i2l hC dX0_cancel_26 ?_
    refine g_aload_nR hC dX0_cancel_27 rfl ?_
    refine g_top0 eu1 ?_
    have hk12 := h.2.1
    refine gX_get (C0 := RX0) (T := TX0) (N := 15) (n := 0) (k := 2) (q := (2, true)) hC hX dX0_cancel_28 q213 rfl in_X0 (by decide) (Or.inl rfl) rfl (by decide) hk12 ?_
    show GX _ _ _ _ _ _ _ (va_rf (xFR S8 2 u1) :: _)
    refine g_iload_n hC dX0_cancel_31 rfl ?_
    obtain ⟨u13, eu13, h⟩ := h.2.2
    refine g_top1 eu13 ?_
    have hk14 := h.1
    refine gX_nq5 hX (gX_runF (n := 1) (As := [.int x1]) (rest := [.long (Int32.toInt64 (xFI S8 709 u10)), .long (Int32.toInt64 x2)]) (Cr := "java/util/ArrayList") (x := ⟨"java/util/List", "get", "(I)Ljava/lang/Object;"⟩) hC hX (mx_J2_get (cx_l C) E _ _ _ _ h.2) (lw_app (lw_4 q928 q931 q933 q73) (lw_meth q935)) (List.mem_of_getElem? (i := 2) rfl) (by decide +kernel) rfl rfl (Or.inl (Nat.le_of_ble_eq_true rfl)) ⟨Nat.le_of_ble_eq_true rfl, Nat.le_of_ble_eq_true rfl⟩ dX0_cancel_32 (Nat.zero_le _) (Nat.zero_le _) hk14 rfl (by decide) rfl) rfl rfl ?_
    intro r16 S15 h
    obtain ⟨u17, eu17, h⟩ := h
    refine g_top0 eu17 ?_
    have hk18 := h.1
    refine gX_cast (r := (RX8, TX8, 11)) (n := 7) hC hX dX0_cancel_37 q164 rfl (by decide) hk18 ?_
    refine gX_get (C0 := RX8) (T := TX8) (N := 11) (n := 7) (k := 3) (q := (703, false)) hC hX dX0_cancel_40 q815 rfl in_X8 (by decide) (Or.inl rfl) rfl (by decide) hk18 ?_
    show GX _ _ _ _ _ _ _ (.int (xFI S15 703 u17) :: _)
    refine g_i2l hC dX0_cancel_43 ?_
    refine gX_ni hX (gX_runS (As := [.long (Int32.toInt64 x2), .long (Int32.toInt64 (xFI S8 709 u10)), .long (Int32.toInt64 (xFI S15 703 u17))]) (rest := []) hC hX (mx_X0_isIn (cx_l C) E _ _ _ _ _ h.2) (lw_S q269 q270 q70 q271) hx_X0_isIn.2 rfl rfl (Or.inl (Nat.le_of_ble_eq_true rfl)) ⟨Nat.le_of_ble_eq_true rfl, Nat.le_of_ble_eq_true rfl⟩ dX0_cancel_44 (Nat.zero_le _) (Nat.zero_le _)) rfl rfl ?_
    intro r20 S19 h
    refine g_if_ne (tgt := 53) hC dX0_cancel_47 (by decide) (fun c => ?_) (fun c => ?_)
    · have h := it_n c h
      refine g_aload_nR hC dX0_cancel_53 rfl ?_
      refine g_top0 eu1 ?_
      have hk21 := h.1
      refine gX_get (C0 := RX0) (T := TX0) (N := 15) (n := 0) (k := 2) (q := (2, true)) hC hX dX0_cancel_54 q213 rfl in_X0 (by decide) (Or.inl rfl) rfl (by decide) hk21 ?_
      show GX _ _ _ _ _ _ _ (va_rf (xFR S19 2 u1) :: _)
      refine g_iload_n hC dX0_cancel_57 rfl ?_
      obtain ⟨u22, eu22, h⟩ := h.2
      refine g_top1 eu22 ?_
      have hk23 := h.1
      refine gX_nq5 hX (gX_runF (n := 1) (As := [.int x1]) (rest := []) (Cr := "java/util/ArrayList") (x := ⟨"java/util/List", "get", "(I)Ljava/lang/Object;"⟩) hC hX (mx_J2_get (cx_l C) E _ _ _ _ h.2) (lw_app (lw_4 q928 q931 q933 q73) (lw_meth q935)) (List.mem_of_getElem? (i := 2) rfl) (by decide +kernel) rfl rfl (Or.inl (Nat.le_of_ble_eq_true rfl)) ⟨Nat.le_of_ble_eq_true rfl, Nat.le_of_ble_eq_true rfl⟩ dX0_cancel_58 (Nat.zero_le _) (Nat.zero_le _) hk23 rfl (by decide) rfl) rfl rfl ?_
      intro r25 S24 h
      obtain ⟨u26, eu26, h⟩ := h
      refine g_top0 eu26 ?_
      have hk27 := h.1
      refine gX_cast (r := (RX8, TX8, 11)) (n := 7) hC hX dX0_cancel_63 q164 rfl (by decide) hk27 ?_
      refine gX_getN (C0 := RX8) (T := TX8) (N := 11) (n := 7) (k := 10) (q := (710, false)) hC hX dX0_cancel_66 q835 rfl in_X8 (by decide) rfl rfl (by decide) hk27 ?_
      show GX _ _ _ _ _ _ _ (.int (xFI S24 710 u26) :: _)
      refine g_ldc (v := -1000000) hC dX0_cancel_69 q944 ?_
      refine g_icmp_eq (tgt := 78) hC dX0_cancel_71 (by decide) (fun c => ?_) (fun c => ?_)
      · have h := it_p c h.2
        refine g_aload_nR hC dX0_cancel_78 rfl ?_
        refine g_top0 eu1 ?_
        have hk28 := h.1
        refine gX_get (C0 := RX0) (T := TX0) (N := 15) (n := 0) (k := 2) (q := (2, true)) hC hX dX0_cancel_79 q213 rfl in_X0 (by decide) (Or.inl rfl) rfl (by decide) hk28 ?_
        show GX _ _ _ _ _ _ _ (va_rf (xFR S24 2 u1) :: _)
        refine g_iload_n hC dX0_cancel_82 rfl ?_
        obtain ⟨u29, eu29, h⟩ := h.2
        refine g_top1 eu29 ?_
        have hk30 := h.1
        refine gX_nq5 hX (gX_runF (n := 1) (As := [.int x1]) (rest := []) (Cr := "java/util/ArrayList") (x := ⟨"java/util/List", "get", "(I)Ljava/lang/Object;"⟩) hC hX (mx_J2_get (cx_l C) E _ _ _ _ h.2) (lw_app (lw_4 q928 q931 q933 q73) (lw_meth q935)) (List.mem_of_getElem? (i := 2) rfl) (by decide +kernel) rfl rfl (Or.inl (Nat.le_of_ble_eq_true rfl)) ⟨Nat.le_of_ble_eq_true rfl, Nat.le_of_ble_eq_true rfl⟩ dX0_cancel_83 (Nat.zero_le _) (Nat.zero_le _) hk30 rfl (by decide) rfl) rfl rfl ?_
        intro r32 S31 h
        obtain ⟨u33, eu33, h⟩ := h
        refine g_top0 eu33 ?_
        have hk34 := h.1
        refine gX_cast (r := (RX8, TX8, 11)) (n := 7) hC hX dX0_cancel_88 q164 rfl (by decide) hk34 ?_
        refine g_iload_n hC dX0_cancel_91 rfl ?_
        refine gX_putIN (C0 := RX8) (T := TX8) (ty0 := tyX8) (N := 11) (n := 7) (k := 10) (f := 710) hC hX dX0_cancel_92 q835 rfl in_X8 tyX8_ok nmX8 (by decide) (Or.inl rfl) rfl rfl rfl rfl rfl (by decide) (Or.inl (by decide)) hk34 ?_
        refine g_iconst (v := 1) hC dX0_cancel_95 (by decide) ?_
        refine gX_iret rfl hC hA hQ dX0_cancel_96 h.2
      · have h := it_n c h.2
        refine g_ldcw (v := -1000002) hC dX0_cancel_74 q945 ?_
        refine gX_iret rfl hC hA hQ dX0_cancel_77 h
    · have h := it_p c h
      refine g_ldc (v := -1000001) hC dX0_cancel_50 q273 ?_
      refine gX_iret rfl hC hA hQ dX0_cancel_52 h
theorem mx_X0_cancel (l : Launch) (E : XE) (Q : Int32 → XS → Prop) (S : XS) (x0 : Option Nat) (x1 : Int32) (x2 : Int32) (h : wx_X0_cancel Q S x0 x1 x2) : XMet E l yX0_cancel cX0_cancel 3 (some .int) ({ frames := 4, cells := 0, slots := 0, locals := 98 } : Room) [va_rf x0, .int x1, .int x2] S (fun sz => va_Qi Q (BX1 E S sz) (xA S sz)) :=
  XMet_of (rm := ({ frames := 4, cells := 0, slots := 0, locals := 98 } : Room)) (by decide) (by simp [lg_sl, va_rf_cat, cat_i, cat_l]) (L0 := [some (va_rf x0), some (.int x1), some (.int x2)]) (by simp [lx_pairs, lv_args, va_rf_cat, cat_i, cat_l, List.range_succ]) (fun sz C hC hX hl hnm hA hQ => bx_X0_cancel E C S sz Q S x0 x1 x2 hC hX hA hQ h)
