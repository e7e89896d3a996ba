/-! X0_isBooking -/
def wx_X0_isBooking (Q : Int32 → XS → Prop) (S : XS) (x0 : Option Nat) (x1 : Int32) : Prop :=
  dr x0 (fun u1 => xKD S u1 = some 0 ∧ dr (xFR S 2 u1) (fun u3 => xKD S u3 = some 16 ∧ wx_J2_size (fun r6 S5 => wx_X0_isIn (fun r8 S7 => narrow .boolean (.int r8) = .int r8 ∧ Q r8 S7) S5 (Int32.toInt64 x1) (0 : Int64) (Int32.toInt64 (r6 - (1 : Int32)))) S (some u3)))
theorem hx_X0_isBooking : yX0_isBooking.cls = RX0 ∧ yX0_isBooking.cls ≠ "java/lang/invoke/MethodHandle" ∧ yX0_isBooking.cls ≠ "java/lang/invoke/VarHandle" ∧ (parseMethodDescriptor yX0_isBooking.desc).map (fun d => d.parameters.length) = some 1 := by decide +kernel
set_option maxHeartbeats 4000000 in
set_option maxRecDepth 100000 in
theorem bx_X0_isBooking (E : XE) (C : Cx) (S0 : XS) (sz : Nat) (Q : Int32 → XS → Prop) (S : XS) (x0 : Option Nat) (x1 : Int32) (hC : COk C cX0_isBooking RX0 (some .boolean) 2 59 2) (hX : XOk E C) (hA : cx_A C = xA S0 sz) (hQ : cx_Q C = MQ (cx_b C) (va_Qi Q (BX1 E S0 sz) (xA S0 sz)) (cx_a C) (cx_s C) (cx_MC C) (cx_MS C) (xA S0 sz)) (h : wx_X0_isBooking Q S x0 x1) : GX E C S 0 0 0 [some (va_rf x0), some (.int x1)] [] := by
  refine g_iload_n hC dX0_isBooking_0 rfl ?_
  refine g_i2l hC dX0_isBooking_1 ?_
  refine g_lconst (v := 0) hC dX0_isBooking_2 (by decide) ?_
  refine g_aload_nR hC dX0_isBooking_3 rfl ?_
  obtain ⟨u1, eu1, h⟩ := h
  refine g_top0 eu1 ?_
  have hk2 := h.1
  refine gX_get (C0 := RX0) (T := TX0) (N := 15) (n := 0) (k := 2) (q := (2, true)) hC hX dX0_isBooking_4 q213 rfl in_X0 (by decide) (Or.inl rfl) rfl (by decide) hk2 ?_
  show GX _ _ _ _ _ _ _ (va_rf (xFR S 2 u1) :: _)
  obtain ⟨u3, eu3, h⟩ := h.2
  refine g_top0 eu3 ?_
  have hk4 := h.1
  refine gX_ni5 hX (gX_runF (n := 0) (As := []) (rest := [.long (0 : Int64), .long (Int32.toInt64 x1)]) (Cr := "java/util/ArrayList") (x := ⟨"java/util/List", "size", "()I"⟩) hC hX (mx_J2_size (cx_l C) E _ _ _ h.2) (lw_app (lw_4 q770 q774 q776 q73) (lw_meth q778)) (List.mem_of_getElem? (i := 0) rfl) (by decide +kernel) rfl rfl (Or.inl (Nat.le_of_ble_eq_true rfl)) ⟨Nat.le_of_ble_eq_true rfl, Nat.le_of_ble_eq_true rfl⟩ dX0_isBooking_7 (Nat.zero_le _) (Nat.zero_le _) hk4 rfl (by decide) rfl) rfl rfl ?_
  intro r6 S5 h
  refine g_iconst (v := 1) hC dX0_isBooking_12 (by decide) ?_
  refine g_isub hC dX0_isBooking_13 ?_
  refine g_i2l hC dX0_isBooking_14 ?_
  refine gX_ni hX (gX_runS (As := [.long (Int32.toInt64 x1), .long (0 : Int64), .long (Int32.toInt64 (r6 - (1 : Int32)))]) (rest := []) hC hX (mx_X0_isIn (cx_l C) E _ _ _ _ _ h) (lw_S q269 q270 q70 q271) hx_X0_isIn.2 rfl rfl (Or.inl (Nat.le_of_ble_eq_true rfl)) ⟨Nat.le_of_ble_eq_true rfl, Nat.le_of_ble_eq_true rfl⟩ dX0_isBooking_15 (Nat.zero_le _) (Nat.zero_le _)) rfl rfl ?_
  intro r8 S7 h
  refine gX_zret rfl h.1 hC hA hQ dX0_isBooking_18 h.2
theorem mx_X0_isBooking (l : Launch) (E : XE) (Q : Int32 → XS → Prop) (S : XS) (x0 : Option Nat) (x1 : Int32) (h : wx_X0_isBooking Q S x0 x1) : XMet E l yX0_isBooking cX0_isBooking 2 (some .boolean) ({ frames := 2, cells := 0, slots := 0, locals := 59 } : Room) [va_rf x0, .int x1] S (fun sz => va_Qi Q (BX1 E S sz) (xA S sz)) :=
  XMet_of (rm := ({ frames := 2, cells := 0, slots := 0, locals := 59 } : Room)) (by decide) (by simp [lg_sl, va_rf_cat, cat_i, cat_l]) (L0 := [some (va_rf x0), some (.int x1)]) (by simp [lx_pairs, lv_args, va_rf_cat, cat_i, cat_l, List.range_succ]) (fun sz C hC hX hl hnm hA hQ => bx_X0_isBooking E C S sz Q S x0 x1 hC hX hA hQ h)
/-! X0_cancel -/
def wx_X0_cancel (Q : Int32 → XS → Prop) (S : XS) (x0 : Option Nat) (x1 : Int32) (x2 : Int32) : Prop :=
  dr x0 (fun u1 => xKD S u1 = some 0 ∧ wx_X0_isBooking (fun r4 S3 => (if r4 = 0 then Q (-1000001 : Int32) S3 else xKD S3 u1 = some 0 ∧ dr (xFR S3 2 u1) (fun u6 => xKD S3 u6 = some 16 ∧ wx_J2_get (fun r9 S8 => dr r9 (fun u10 => xKD S8 u10 = some 7 ∧ xKD S8 u1 = some 0 ∧ dr (xFR S8 2 u1) (fun u13 => xKD S8 u13 = some 16 ∧ wx_J2_get (fun r16 S15 => dr r16 (fun u17 => xKD S15 u17 = some 7 ∧ wx_X0_isIn (fun r20 S19 => (if r20 = 0 then Q (-1000001 : Int32) S19 else xKD S19 u1 = some 0 ∧ dr (xFR S19 2 u1) (fun u22 => xKD S19 u22 = some 16 ∧ wx_J2_get (fun r25 S24 => dr r25 (fun u26 => xKD S24 u26 = some 7 ∧ (if (xFI S24 710 u26) = (-1000000 : Int32) then xKD S24 u1 = some 0 ∧ dr (xFR S24 2 u1) (fun u29 => xKD S24 u29 = some 16 ∧ wx_J2_get (fun r32 S31 => dr r32 (fun u33 => xKD S31 u33 = some 7 ∧ Q (1 : Int32) (sFI S31 710 u33 x2))) S24 (some u29) x1) else Q (-1000002 : Int32) S24))) S19 (some u22) x1))) S15 (Int32.toInt64 x2) (Int32.toInt64 (xFI S8 709 u10)) (Int32.toInt64 (xFI S15 703 u17)))) S8 (some u13) x1))) S3 (some u6) x1))) S (some u1) x1)
theorem hx_X0_cancel : yX0_cancel.cls = RX0 ∧ yX0_cancel.cls ≠ "java/lang/invoke/MethodHandle" ∧ yX0_cancel.cls ≠ "java/lang/invoke/VarHandle" ∧ (parseMethodDescriptor yX0_cancel.desc).map (fun d => d.parameters.length) = some 2 := by decide +kernel
set_option maxHeartbeats 4000000 in
set_option maxRecDepth 100000 in
theorem bx_X0_cancel (E : XE) (C : Cx) (S0 : XS) (sz : Nat) (Q : Int32 → XS → Prop) (S : XS) (x0 : Option Nat) (x1 : Int32) (x2 : Int32) (hC : COk C cX0_cancel RX0 (some .int) 4 98 3) (hX : XOk E C) (hA : cx_A C = xA S0 sz) (hQ : cx_Q C = MQ (cx_b C) (va_Qi Q (BX1 E S0 sz) (xA S0 sz)) (cx_a C) (cx_s C) (cx_MC C) (cx_MS C) (xA S0 sz)) (h : wx_X0_cancel Q S x0 x1 x2) : GX E C S 0 0 0 [some (va_rf x0), some (.int x1), some (.int x2)] [] := by
  refine g_aload_nR hC dX0_cancel_0 rfl ?_
  refine g_iload_n hC dX0_cancel_1 rfl ?_
  obtain ⟨u1, eu1, h⟩ := h
  refine g_top1 eu1 ?_
  have hk2 := h.1
  refine gX_ni hX (gX_runV (As := [.int x1]) (rest := []) (Cr := RX0) hC hX (mx_X0_isBooking (cx_l C) E _ _ _ _ h.2) (lw_V q923 q925 qs16 q70 q926) hx_X0_isBooking rfl rfl (Or.inl (Nat.le_of_ble_eq_true rfl)) ⟨Nat.le_of_ble_eq_true rfl, Nat.le_of_ble_eq_true rfl⟩ dX0_cancel_2 (Nat.zero_le _) (Nat.zero_le _) hk2 rfl (by decide) rfl) rfl rfl ?_
  intro r4 S3 h
  refine g_if_eq (tgt := 50) hC dX0_cancel_5 (by decide) (fun c => ?_) (fun c => ?_)
  · have h := it_p c h
    refine g_ldc (v := -1000001) hC dX0_cancel_50 q273 ?_
    refine gX_iret rfl hC hA hQ dX0_cancel_52 h
  · have h := it_n c h
    refine g_iload_n hC dX0_cancel_8 rfl ?_
    refine g_i2l hC dX0_cancel_9 ?_
    refine g_aload_nR hC dX0_cancel_10 rfl ?_
    refine g_top0 eu1 ?_
    have hk5 := h.1
    refine gX_get (C0 := RX0) (T := TX0) (N := 15) (n := 0) (k := 2) (q := (2, true)) hC hX dX0_cancel_11 q213 rfl in_X0 (by decide) (Or.inl rfl) rfl (by decide) hk5 ?_
    show GX _ _ _ _ _ _ _ (va_rf (xFR S3 2 u1) :: _)
    refine g_iload_n hC dX0_cancel_14 rfl ?_
    obtain ⟨u6, eu6, h⟩ := h.2
    refine g_top1 eu6 ?_
    have hk7 := h.1
    refine gX_nq5 hX (gX_runF (n := 1) (As := [.int x1]) (rest := [.long (Int32.toInt64 x2)]) (Cr := "java/util/ArrayList") (x := ⟨"java/util/List", "get", "(I)Ljava/lang/Object;"⟩) hC hX (mx_J2_get (cx_l C) E _ _ _ _ h.2) (lw_app (lw_4 q928 q931 q933 q73) (lw_meth q935)) (List.mem_of_getElem? (i := 2) rfl) (by decide +kernel) rfl rfl (Or.inl (Nat.le_of_ble_eq_true rfl)) ⟨Nat.le_of_ble_eq_true rfl, Nat.le_of_ble_eq_true rfl⟩ dX0_cancel_15 (Nat.zero_le _) (Nat.zero_le _) hk7 rfl (by decide) rfl) rfl rfl ?_
    intro r9 S8 h
    obtain ⟨u10, eu10, h⟩ := h
    refine g_top0 eu10 ?_
    have hk11 := h.1
    refine gX_cast (r := (RX8, TX8, 11)) (n := 7) hC hX dX0_cancel_20 q164 rfl (by decide) hk11 ?_
    refine gX_get (C0 := RX8) (T := TX8) (N := 11) (n := 7) (k := 9) (q := (709, false)) hC hX dX0_cancel_23 q833 rfl in_X8 (by decide) (Or.inl rfl) rfl (by decide) hk11 ?_
    show GX _ _ _ _ _ _ _ (.int (xFI S8 709 u10) :: _)
    refine g_i2l hC dX0_cancel_26 ?_
    refine g_aload_nR hC dX0_cancel_27 rfl ?_
    refine g_top0 eu1 ?_
    have hk12 := h.2.1
    refine gX_get (C0 := RX0) (T := TX0) (N := 15) (n := 0) (k := 2) (q := (2, true)) hC hX dX0_cancel_28 q213 rfl in_X0 (by decide) (Or.inl rfl) rfl (by decide) hk12 ?_
    show GX _ _ _ _ _ _ _ (va_rf (xFR S8 2 u1) :: _)
    refine g_iload_n hC dX0_cancel_31 rfl ?_
    obtain ⟨u13, eu13, h⟩ := h.2.2
    refine g_top1 eu13 ?_
    have hk14 := h.1
    refine gX_nq5 hX (gX_runF (n := 1) (As := [.int x1]) (rest := [.long (Int32.toInt64 (xFI S8 709 u10)), .long (Int32.toInt64 x2)]) (Cr := "java/util/ArrayList") (x := ⟨"java/util/List", "get", "(I)Ljava/lang/Object;"⟩) hC hX (mx_J2_get (cx_l C) E _ _ _ _ h.2) (lw_app (lw_4 q928 q931 q933 q73) (lw_meth q935)) (List.mem_of_getElem? (i := 2) rfl) (by decide +kernel) rfl rfl (Or.inl (Nat.le_of_ble_eq_true rfl)) ⟨Nat.le_of_ble_eq_true rfl, Nat.le_of_ble_eq_true rfl⟩ dX0_cancel_32 (Nat.zero_le _) (Nat.zero_le _) hk14 rfl (by decide) rfl) rfl rfl ?_
    intro r16 S15 h
    obtain ⟨u17, eu17, h⟩ := h
    refine g_top0 eu17 ?_
    have hk18 := h.1
    refine gX_cast (r := (RX8, TX8, 11)) (n := 7) hC hX dX0_cancel_37 q164 rfl (by decide) hk18 ?_
    refine gX_get (C0 := RX8) (T := TX8) (N := 11) (n := 7) (k := 3) (q := (703, false)) hC hX dX0_cancel_40 q815 rfl in_X8 (by decide) (Or.inl rfl) rfl (by decide) hk18 ?_
    show GX _ _ _ _ _ _ _ (.int (xFI S15 703 u17) :: _)
    refine g_i2l hC dX0_cancel_43 ?_
    refine gX_ni hX (gX_runS (As := [.long (Int32.toInt64 x2), .long (Int32.toInt64 (xFI S8 709 u10)), .long (Int32.toInt64 (xFI S15 703 u17))]) (rest := []) hC hX (mx_X0_isIn (cx_l C) E _ _ _ _ _ h.2) (lw_S q269 q270 q70 q271) hx_X0_isIn.2 rfl rfl (Or.inl (Nat.le_of_ble_eq_true rfl)) ⟨Nat.le_of_ble_eq_true rfl, Nat.le_of_ble_eq_true rfl⟩ dX0_cancel_44 (Nat.zero_le _) (Nat.zero_le _)) rfl rfl ?_
    intro r20 S19 h
    refine g_if_ne (tgt := 53) hC dX0_cancel_47 (by decide) (fun c => ?_) (fun c => ?_)
    · have h := it_n c h
      refine g_aload_nR hC dX0_cancel_53 rfl ?_
      refine g_top0 eu1 ?_
      have hk21 := h.1
      refine gX_get (C0 := RX0) (T := TX0) (N := 15) (n := 0) (k := 2) (q := (2, true)) hC hX dX0_cancel_54 q213 rfl in_X0 (by decide) (Or.inl rfl) rfl (by decide) hk21 ?_
      show GX _ _ _ _ _ _ _ (va_rf (xFR S19 2 u1) :: _)
      refine g_iload_n hC dX0_cancel_57 rfl ?_
      obtain ⟨u22, eu22, h⟩ := h.2
      refine g_top1 eu22 ?_
      have hk23 := h.1
      refine gX_nq5 hX (gX_runF (n := 1) (As := [.int x1]) (rest := []) (Cr := "java/util/ArrayList") (x := ⟨"java/util/List", "get", "(I)Ljava/lang/Object;"⟩) hC hX (mx_J2_get (cx_l C) E _ _ _ _ h.2) (lw_app (lw_4 q928 q931 q933 q73) (lw_meth q935)) (List.mem_of_getElem? (i := 2) rfl) (by decide +kernel) rfl rfl (Or.inl (Nat.le_of_ble_eq_true rfl)) ⟨Nat.le_of_ble_eq_true rfl, Nat.le_of_ble_eq_true rfl⟩ dX0_cancel_58 (Nat.zero_le _) (Nat.zero_le _) hk23 rfl (by decide) rfl) rfl rfl ?_
      intro r25 S24 h
      obtain ⟨u26, eu26, h⟩ := h
      refine g_top0 eu26 ?_
      have hk27 := h.1
      refine gX_cast (r := (RX8, TX8, 11)) (n := 7) hC hX dX0_cancel_63 q164 rfl (by decide) hk27 ?_
      refine gX_getN (C0 := RX8) (T := TX8) (N := 11) (n := 7) (k := 10) (q := (710, false)) hC hX dX0_cancel_66 q835 rfl in_X8 (by decide) rfl rfl (by decide) hk27 ?_
      show GX _ _ _ _ _ _ _ (.int (xFI S24 710 u26) :: _)
      refine g_ldc (v := -1000000) hC dX0_cancel_69 q944 ?_
      refine g_icmp_eq (tgt := 78) hC dX0_cancel_71 (by decide) (fun c => ?_) (fun c => ?_)
      · have h := it_p c h.2
        refine g_aload_nR hC dX0_cancel_78 rfl ?_
        refine g_top0 eu1 ?_
        have hk28 := h.1
        refine gX_get (C0 := RX0) (T := TX0) (N := 15) (n := 0) (k := 2) (q := (2, true)) hC hX dX0_cancel_79 q213 rfl in_X0 (by decide) (Or.inl rfl) rfl (by decide) hk28 ?_
        show GX _ _ _ _ _ _ _ (va_rf (xFR S24 2 u1) :: _)
        refine g_iload_n hC dX0_cancel_82 rfl ?_
        obtain ⟨u29, eu29, h⟩ := h.2
        refine g_top1 eu29 ?_
        have hk30 := h.1
        refine gX_nq5 hX (gX_runF (n := 1) (As := [.int x1]) (rest := []) (Cr := "java/util/ArrayList") (x := ⟨"java/util/List", "get", "(I)Ljava/lang/Object;"⟩) hC hX (mx_J2_get (cx_l C) E _ _ _ _ h.2) (lw_app (lw_4 q928 q931 q933 q73) (lw_meth q935)) (List.mem_of_getElem? (i := 2) rfl) (by decide +kernel) rfl rfl (Or.inl (Nat.le_of_ble_eq_true rfl)) ⟨Nat.le_of_ble_eq_true rfl, Nat.le_of_ble_eq_true rfl⟩ dX0_cancel_83 (Nat.zero_le _) (Nat.zero_le _) hk30 rfl (by decide) rfl) rfl rfl ?_
        intro r32 S31 h
        obtain ⟨u33, eu33, h⟩ := h
        refine g_top0 eu33 ?_
        have hk34 := h.1
        refine gX_cast (r := (RX8, TX8, 11)) (n := 7) hC hX dX0_cancel_88 q164 rfl (by decide) hk34 ?_
        refine g_iload_n hC dX0_cancel_91 rfl ?_
        refine gX_putIN (C0 := RX8) (T := TX8) (ty0 := tyX8) (N := 11) (n := 7) (k := 10) (f := 710) hC hX dX0_cancel_92 q835 rfl in_X8 tyX8_ok nmX8 (by decide) (Or.inl rfl) rfl rfl rfl rfl rfl (by decide) (Or.inl (by decide)) hk34 ?_
        refine g_iconst (v := 1) hC dX0_cancel_95 (by decide) ?_
        refine gX_iret rfl hC hA hQ dX0_cancel_96 h.2
      · have h := it_n c h.2
        refine g_ldcw (v := -1000002) hC dX0_cancel_74 q945 ?_
        refine gX_iret rfl hC hA hQ dX0_cancel_77 h
    · have h := it_p c h
      refine g_ldc (v := -1000001) hC dX0_cancel_50 q273 ?_
      refine gX_iret rfl hC hA hQ dX0_cancel_52 h
theorem mx_X0_cancel (l : Launch) (E : XE) (Q : Int32 → XS → Prop) (S : XS) (x0 : Option Nat) (x1 : Int32) (x2 : Int32) (h : wx_X0_cancel Q S x0 x1 x2) : XMet E l yX0_cancel cX0_cancel 3 (some .int) ({ frames := 4, cells := 0, slots := 0, locals := 98 } : Room) [va_rf x0, .int x1, .int x2] S (fun sz => va_Qi Q (BX1 E S sz) (xA S sz)) :=
  XMet_of (rm := ({ frames := 4, cells := 0, slots := 0, locals := 98 } : Room)) (by decide) (by simp [lg_sl, va_rf_cat, cat_i, cat_l]) (L0 := [some (va_rf x0), some (.int x1), some (.int x2)]) (by simp [lx_pairs, lv_args, va_rf_cat, cat_i, cat_l, List.range_succ]) (fun sz C hC hX hl hnm hA hQ => bx_X0_cancel E C S sz Q S x0 x1 x2 hC hX hA hQ h)
/-! X0_price -/
def wx_X0_price (Q : Int32 → XS → Prop) (S : XS) (x0 : Option Nat) (x1 : Option Nat) : Prop :=
  dr x0 (fun u1 => xKD S u1 = some 0 ∧ dr x1 (fun u3 => xKD S u3 = some 7 ∧ dr (xFR S 1 u1) (fun u5 => xKD S u5 = some 104 ∧ vp_in (xFI S 701 u3) (xLN S u5) ∧ dr (xAR S u5 (Int32.toNatClampNeg (xFI S 701 u3))) (fun u7 => xKD S u7 = some 2 ∧ dr (xFR S 205 u7) (fun u9 => xKD S u9 = some 100 ∧ vp_in (xFI S 707 u3) (xLN S u9) ∧ (if (xFI S 710 u3) = (-1000000 : Int32) then Q (((xFI S 705 u3) - (xFI S 704 u3)) * (xAI S u9 (Int32.toNatClampNeg (xFI S 707 u3)))) S else (if (xFI S 202 u7) ≤ ((xFI S 703 u3) - (xFI S 710 u3)) then Q (0 : Int32) S else Q (((((xFI S 705 u3) - (xFI S 704 u3)) * (xAI S u9 (Int32.toNatClampNeg (xFI S 707 u3)))) * (xFI S 203 u7)) / (100 : Int32)) S)))))))
theorem hx_X0_price : yX0_price.cls = RX0 ∧ yX0_price.cls ≠ "java/lang/invoke/MethodHandle" ∧ yX0_price.cls ≠ "java/lang/invoke/VarHandle" ∧ (parseMethodDescriptor yX0_price.desc).map (fun d => d.parameters.length) = some 1 := by decide +kernel
set_option maxHeartbeats 4000000 in
set_option maxRecDepth 100000 in
theorem bx_X0_price (E : XE) (C : Cx) (S0 : XS) (sz : Nat) (Q : Int32 → XS → Prop) (S : XS) (x0 : Option Nat) (x1 : Option Nat) (hC : COk C cX0_price RX0 (some .int) 1 34 4) (hX : XOk E C) (hA : cx_A C = xA S0 sz) (hQ : cx_Q C = MQ (cx_b C) (va_Qi Q (BX1 E S0 sz) (xA S0 sz)) (cx_a C) (cx_s C) (cx_MC C) (cx_MS C) (xA S0 sz)) (h : wx_X0_price Q S x0 x1) : GX E C S 0 0 0 [some (va_rf x0), some (va_rf x1), none, none] [] := by
  refine g_aload_nR hC dX0_price_0 rfl ?_
  obtain ⟨u1, eu1, h⟩ := h
  refine g_top0 eu1 ?_
  have hk2 := h.1
  refine gX_get (C0 := RX0) (T := TX0) (N := 15) (n := 0) (k := 1) (q := (1, true)) hC hX dX0_price_1 q211 rfl in_X0 (by decide) (Or.inl rfl) rfl (by decide) hk2 ?_
  show GX _ _ _ _ _ _ _ (va_rf (xFR S 1 u1) :: _)
  refine g_aload_nR hC dX0_price_4 rfl ?_
  obtain ⟨u3, eu3, h⟩ := h.2
  refine g_top0 eu3 ?_
  have hk4 := h.1
  refine gX_get (C0 := RX8) (T := TX8) (N := 11) (n := 7) (k := 1) (q := (701, false)) hC hX dX0_price_5 q808 rfl in_X8 (by decide) (Or.inl rfl) rfl (by decide) hk4 ?_
  show GX _ _ _ _ _ _ _ (.int (xFI S 701 u3) :: _)
  obtain ⟨u5, eu5, h⟩ := h.2
  refine g_top1 eu5 ?_
  have hk6 := h.1
  refine gX_aald (n := 104) hC hX dX0_price_8 (by decide) hk6 h.2.1 ?_
  refine g_astore_nR hC dX0_price_9 rfl (by decide) (lx_okR (j := 1) rfl) rfl ?_
  refine g_sub [false, true, true, false] rfl ?_
  refine g_aload_nR hC dX0_price_10 rfl ?_
  refine g_top0 eu3 ?_
  refine gX_get (C0 := RX8) (T := TX8) (N := 11) (n := 7) (k := 5) (q := (705, false)) hC hX dX0_price_11 q821 rfl in_X8 (by decide) (Or.inl rfl) rfl (by decide) hk4 ?_
  show GX _ _ _ _ _ _ _ (.int (xFI S 705 u3) :: _)
  refine g_aload_nR hC dX0_price_14 rfl ?_
  refine g_top0 eu3 ?_
  refine gX_get (C0 := RX8) (T := TX8) (N := 11) (n := 7) (k := 4) (q := (704, false)) hC hX dX0_price_15 q818 rfl in_X8 (by decide) (Or.inl rfl) rfl (by decide) hk4 ?_
  show GX _ _ _ _ _ _ _ (.int (xFI S 704 u3) :: _)
  refine g_isub hC dX0_price_18 ?_
  refine g_aload_nR hC dX0_price_19 rfl ?_
  obtain ⟨u7, eu7, h⟩ := h.2.2
  refine g_top0 eu7 ?_
  have hk8 := h.1
  refine gX_getN (C0 := RX2) (T := TX2) (N := 7) (n := 2) (k := 5) (q := (205, true)) hC hX dX0_price_20 q190 rfl in_X2 (by decide) rfl rfl (by decide) hk8 ?_
  show GX _ _ _ _ _ _ _ (va_rf (xFR S 205 u7) :: _)
  refine g_aload_nR hC dX0_price_23 rfl ?_
  refine g_top0 eu3 ?_
  refine gX_get (C0 := RX8) (T := TX8) (N := 11) (n := 7) (k := 7) (q := (707, false)) hC hX dX0_price_24 q827 rfl in_X8 (by decide) (Or.inl rfl) rfl (by decide) hk4 ?_
  show GX _ _ _ _ _ _ _ (.int (xFI S 707 u3) :: _)
  obtain ⟨u9, eu9, h⟩ := h.2
  refine g_top1 eu9 ?_
  have hk10 := h.1
  refine gX_iald hC hX dX0_price_27 hk10 h.2.1 ?_
  refine g_imul hC dX0_price_28 ?_
  refine g_istore_n hC dX0_price_29 rfl (by decide) (lx_okR (j := 2) rfl) rfl ?_
  refine g_aload_nR hC dX0_price_30 rfl ?_
  refine g_top0 eu3 ?_
  refine gX_getN (C0 := RX8) (T := TX8) (N := 11) (n := 7) (k := 10) (q := (710, false)) hC hX dX0_price_31 q835 rfl in_X8 (by decide) rfl rfl (by decide) hk4 ?_
  show GX _ _ _ _ _ _ _ (.int (xFI S 710 u3) :: _)
  refine g_ldc (v := -1000000) hC dX0_price_34 q944 ?_
  refine g_icmp_ne (tgt := 43) hC dX0_price_36 (by decide) (fun c => ?_) (fun c => ?_)
  · have h := it_n c h.2.2
    refine g_aload_nR hC dX0_price_43 rfl ?_
    refine g_top0 eu3 ?_
    refine gX_get (C0 := RX8) (T := TX8) (N := 11) (n := 7) (k := 3) (q := (703, false)) hC hX dX0_price_44 q815 rfl in_X8 (by decide) (Or.inl rfl) rfl (by decide) hk4 ?_
    show GX _ _ _ _ _ _ _ (.int (xFI S 703 u3) :: _)
    refine g_aload_nR hC dX0_price_47 rfl ?_
    refine g_top0 eu3 ?_
    refine gX_getN (C0 := RX8) (T := TX8) (N := 11) (n := 7) (k := 10) (q := (710, false)) hC hX dX0_price_48 q835 rfl in_X8 (by decide) rfl rfl (by decide) hk4 ?_
    show GX _ _ _ _ _ _ _ (.int (xFI S 710 u3) :: _)
    refine g_isub hC dX0_price_51 ?_
    refine g_aload_nR hC dX0_price_52 rfl ?_
    refine g_top0 eu7 ?_
    refine gX_getN (C0 := RX2) (T := TX2) (N := 7) (n := 2) (k := 2) (q := (202, false)) hC hX dX0_price_53 q180 rfl in_X2 (by decide) rfl rfl (by decide) hk8 ?_
    show GX _ _ _ _ _ _ _ (.int (xFI S 202 u7) :: _)
    refine g_icmp_ge (tgt := 71) hC dX0_price_56 (by decide) (fun c => ?_) (fun c => ?_)
    · have h := it_p c h
      refine g_iconst (v := 0) hC dX0_price_71 (by decide) ?_
      refine gX_iret rfl hC hA hQ dX0_price_72 h
    · have h := it_n c h
      refine g_iload_n hC dX0_price_59 rfl ?_
      refine g_aload_nR hC dX0_price_60 rfl ?_
      refine g_top0 eu7 ?_
      refine gX_getN (C0 := RX2) (T := TX2) (N := 7) (n := 2) (k := 3) (q := (203, false)) hC hX dX0_price_61 q183 rfl in_X2 (by decide) rfl rfl (by decide) hk8 ?_
      show GX _ _ _ _ _ _ _ (.int (xFI S 203 u7) :: _)
      refine g_imul hC dX0_price_64 ?_
      refine g_bipush (v := 100) hC dX0_price_65 (by decide) ?_
      refine g_idiv hC dX0_price_67 (by decide) ?_
      refine g_goto (tgt := 72) hC dX0_price_68 (by decide) ?_
      refine gX_iret rfl hC hA hQ dX0_price_72 h
  · have h := it_p c h.2.2
    refine g_iload_n hC dX0_price_39 rfl ?_
    refine g_goto (tgt := 72) hC dX0_price_40 (by decide) ?_
    refine gX_iret rfl hC hA hQ dX0_price_72 h
theorem mx_X0_price (l : Launch) (E : XE) (Q : Int32 → XS → Prop) (S : XS) (x0 : Option Nat) (x1 : Option Nat) (h : wx_X0_price Q S x0 x1) : XMet E l yX0_price cX0_price 4 (some .int) ({ frames := 1, cells := 0, slots := 0, locals := 34 } : Room) [va_rf x0, va_rf x1] S (fun sz => va_Qi Q (BX1 E S sz) (xA S sz)) :=
  XMet_of (rm := ({ frames := 1, cells := 0, slots := 0, locals := 34 } : Room)) (by decide) (by simp [lg_sl, va_rf_cat, cat_i, cat_l]) (L0 := [some (va_rf x0), some (va_rf x1), none, none]) (by simp [lx_pairs, lv_args, va_rf_cat, cat_i, cat_l, List.range_succ]) (fun sz C hC hX hl hnm hA hQ => bx_X0_price E C S sz Q S x0 x1 hC hX hA hQ h)
/-! X0_told -/
def wx_X0_told (Q : Int32 → XS → Prop) (S : XS) (x0 : Option Nat) (x1 : Int32) (x2 : Int32) : Prop :=
  dr x0 (fun u1 => xKD S u1 = some 0 ∧ wx_X0_isBooking (fun r4 S3 => (if r4 = 0 then Q (-1000001 : Int32) S3 else xKD S3 u1 = some 0 ∧ dr (xFR S3 2 u1) (fun u6 => xKD S3 u6 = some 16 ∧ wx_J2_get (fun r9 S8 => dr r9 (fun u10 => xKD S8 u10 = some 7 ∧ (if x2 = (0 : Int32) then Q (xFI S8 701 u10) S8 else (if x2 = (1 : Int32) then Q (xFI S8 702 u10) S8 else (if x2 = (2 : Int32) then Q (xFI S8 703 u10) S8 else (if x2 = (3 : Int32) then Q (xFI S8 704 u10) S8 else (if x2 = (4 : Int32) then Q (xFI S8 705 u10) S8 else (if x2 = (5 : Int32) then Q (xFI S8 706 u10) S8 else (if x2 = (6 : Int32) then Q (xFI S8 707 u10) S8 else (if x2 = (7 : Int32) then (if (xFI S8 708 u10) = 0 then Q (0 : Int32) S8 else Q (1 : Int32) S8) else (if x2 = (8 : Int32) then Q (xFI S8 709 u10) S8 else (if x2 = (9 : Int32) then Q (xFI S8 710 u10) S8 else (if x2 = (10 : Int32) then xKD S8 u1 = some 0 ∧ wx_X0_price (fun r14 S13 => Q r14 S13) S8 (some u1) (some u10) else Q (-1000001 : Int32) S8))))))))))))) S3 (some u6) x1))) S (some u1) x1)
theorem hx_X0_told : yX0_told.cls = RX0 ∧ yX0_told.cls ≠ "java/lang/invoke/MethodHandle" ∧ yX0_told.cls ≠ "java/lang/invoke/VarHandle" ∧ (parseMethodDescriptor yX0_told.desc).map (fun d => d.parameters.length) = some 2 := by decide +kernel
set_option maxHeartbeats 4000000 in
set_option maxRecDepth 100000 in
theorem bx_X0_told (E : XE) (C : Cx) (S0 : XS) (sz : Nat) (Q : Int32 → XS → Prop) (S : XS) (x0 : Option Nat) (x1 : Int32) (x2 : Int32) (hC : COk C cX0_told RX0 (some .int) 4 98 4) (hX : XOk E C) (hA : cx_A C = xA S0 sz) (hQ : cx_Q C = MQ (cx_b C) (va_Qi Q (BX1 E S0 sz) (xA S0 sz)) (cx_a C) (cx_s C) (cx_MC C) (cx_MS C) (xA S0 sz)) (h : wx_X0_told Q S x0 x1 x2) : GX E C S 0 0 0 [some (va_rf x0), some (.int x1), some (.int x2), none] [] := by
  refine g_aload_nR hC dX0_told_0 rfl ?_
  refine g_iload_n hC dX0_told_1 rfl ?_
  obtain ⟨u1, eu1, h⟩ := h
  refine g_top1 eu1 ?_
  have hk2 := h.1
  refine gX_ni hX (gX_runV (As := [.int x1]) (rest := []) (Cr := RX0) hC hX (mx_X0_isBooking (cx_l C) E _ _ _ _ h.2) (lw_V q923 q925 qs16 q70 q926) hx_X0_isBooking rfl rfl (Or.inl (Nat.le_of_ble_eq_true rfl)) ⟨Nat.le_of_ble_eq_true rfl, Nat.le_of_ble_eq_true rfl⟩ dX0_told_2 (Nat.zero_le _) (Nat.zero_le _) hk2 rfl (by decide) rfl) rfl rfl ?_
  intro r4 S3 h
  refine g_if_ne (tgt := 11) hC dX0_told_5 (by decide) (fun c => ?_) (fun c => ?_)
  · have h := it_n c h
    refine g_aload_nR hC dX0_told_11 rfl ?_
    refine g_top0 eu1 ?_
    have hk5 := h.1
    refine gX_get (C0 := RX0) (T := TX0) (N := 15) (n := 0) (k := 2) (q := (2, true)) hC hX dX0_told_12 q213 rfl in_X0 (by decide) (Or.inl rfl) rfl (by decide) hk5 ?_
    show GX _ _ _ _ _ _ _ (va_rf (xFR S3 2 u1) :: _)
    refine g_iload_n hC dX0_told_15 rfl ?_
    obtain ⟨u6, eu6, h⟩ := h.2
    refine g_top1 eu6 ?_
    have hk7 := h.1
    refine gX_nq5 hX (gX_runF (n := 1) (As := [.int x1]) (rest := []) (Cr := "java/util/ArrayList") (x := ⟨"java/util/List", "get", "(I)Ljava/lang/Object;"⟩) hC hX (mx_J2_get (cx_l C) E _ _ _ _ h.2) (lw_app (lw_4 q928 q931 q933 q73) (lw_meth q935)) (List.mem_of_getElem? (i := 2) rfl) (by decide +kernel) rfl rfl (Or.inl (Nat.le_of_ble_eq_true rfl)) ⟨Nat.le_of_ble_eq_true rfl, Nat.le_of_ble_eq_true rfl⟩ dX0_told_16 (Nat.zero_le _) (Nat.zero_le _) hk7 rfl (by decide) rfl) rfl rfl ?_
    intro r9 S8 h
    obtain ⟨u10, eu10, h⟩ := h
    refine g_top0 eu10 ?_
    have hk11 := h.1
    refine gX_cast (r := (RX8, TX8, 11)) (n := 7) hC hX dX0_told_21 q164 rfl (by decide) hk11 ?_
    refine g_astore_nR hC dX0_told_24 rfl (by decide) rfl rfl ?_
    refine g_sub [true, false, true, true] rfl ?_
    refine g_iload_n hC dX0_told_25 rfl ?_
    rcases Decidable.em (x2 = (0 : Int32)) with c0 | c0
    · have h := it_p c0 h.2
      refine g_tin (v := 0) (tgt := 84) hC dX0_told_26 c0 (by decide) (by decide) rfl (by decide) ?_
      refine g_aload_nR hC dX0_told_84 rfl ?_
      refine gX_get (C0 := RX8) (T := TX8) (N := 11) (n := 7) (k := 1) (q := (701, false)) hC hX dX0_told_85 q808 rfl in_X8 (by decide) (Or.inl rfl) rfl (by decide) hk11 ?_
      show GX _ _ _ _ _ _ _ (.int (xFI S8 701 u10) :: _)
      refine gX_iret rfl hC hA hQ dX0_told_88 h
    have h := it_n c0 h.2
    rcases Decidable.em (x2 = (1 : Int32)) with c1 | c1
    · have h := it_p c1 h
      refine g_tin (v := 1) (tgt := 89) hC dX0_told_26 c1 (by decide) (by decide) rfl (by decide) ?_
      refine g_aload_nR hC dX0_told_89 rfl ?_
      refine gX_get (C0 := RX8) (T := TX8) (N := 11) (n := 7) (k := 2) (q := (702, false)) hC hX dX0_told_90 q811 rfl in_X8 (by decide) (Or.inl rfl) rfl (by decide) hk11 ?_
      show GX _ _ _ _ _ _ _ (.int (xFI S8 702 u10) :: _)
      refine gX_iret rfl hC hA hQ dX0_told_93 h
    have h := it_n c1 h
    rcases Decidable.em (x2 = (2 : Int32)) with c2 | c2
    · have h := it_p c2 h
      refine g_tin (v := 2) (tgt := 94) hC dX0_told_26 c2 (by decide) (by decide) rfl (by decide) ?_
      refine g_aload_nR hC dX0_told_94 rfl ?_
      refine gX_get (C0 := RX8) (T := TX8) (N := 11) (n := 7) (k := 3) (q := (703, false)) hC hX dX0_told_95 q815 rfl in_X8 (by decide) (Or.inl rfl) rfl (by decide) hk11 ?_
      show GX _ _ _ _ _ _ _ (.int (xFI S8 703 u10) :: _)
      refine gX_iret rfl hC hA hQ dX0_told_98 h
    have h := it_n c2 h
    rcases Decidable.em (x2 = (3 : Int32)) with c3 | c3
    · have h := it_p c3 h
      refine g_tin (v := 3) (tgt := 99) hC dX0_told_26 c3 (by decide) (by decide) rfl (by decide) ?_
      refine g_aload_nR hC dX0_told_99 rfl ?_
      refine gX_get (C0 := RX8) (T := TX8) (N := 11) (n := 7) (k := 4) (q := (704, false)) hC hX dX0_told_100 q818 rfl in_X8 (by decide) (Or.inl rfl) rfl (by decide) hk11 ?_
      show GX _ _ _ _ _ _ _ (.int (xFI S8 704 u10) :: _)
      refine gX_iret rfl hC hA hQ dX0_told_103 h
    have h := it_n c3 h
    rcases Decidable.em (x2 = (4 : Int32)) with c4 | c4
    · have h := it_p c4 h
      refine g_tin (v := 4) (tgt := 104) hC dX0_told_26 c4 (by decide) (by decide) rfl (by decide) ?_
      refine g_aload_nR hC dX0_told_104 rfl ?_
      refine gX_get (C0 := RX8) (T := TX8) (N := 11) (n := 7) (k := 5) (q := (705, false)) hC hX dX0_told_105 q821 rfl in_X8 (by decide) (Or.inl rfl) rfl (by decide) hk11 ?_
      show GX _ _ _ _ _ _ _ (.int (xFI S8 705 u10) :: _)
      refine gX_iret rfl hC hA hQ dX0_told_108 h
    have h := it_n c4 h
    rcases Decidable.em (x2 = (5 : Int32)) with c5 | c5
    · have h := it_p c5 h
      refine g_tin (v := 5) (tgt := 109) hC dX0_told_26 c5 (by decide) (by decide) rfl (by decide) ?_
      refine g_aload_nR hC dX0_told_109 rfl ?_
      refine gX_get (C0 := RX8) (T := TX8) (N := 11) (n := 7) (k := 6) (q := (706, false)) hC hX dX0_told_110 q825 rfl in_X8 (by decide) (Or.inl rfl) rfl (by decide) hk11 ?_
      show GX _ _ _ _ _ _ _ (.int (xFI S8 706 u10) :: _)
      refine gX_iret rfl hC hA hQ dX0_told_113 h
    have h := it_n c5 h
    rcases Decidable.em (x2 = (6 : Int32)) with c6 | c6
    · have h := it_p c6 h
      refine g_tin (v := 6) (tgt := 114) hC dX0_told_26 c6 (by decide) (by decide) rfl (by decide) ?_
      refine g_aload_nR hC dX0_told_114 rfl ?_
      refine gX_get (C0 := RX8) (T := TX8) (N := 11) (n := 7) (k := 7) (q := (707, false)) hC hX dX0_told_115 q827 rfl in_X8 (by decide) (Or.inl rfl) rfl (by decide) hk11 ?_
      show GX _ _ _ _ _ _ _ (.int (xFI S8 707 u10) :: _)
      refine gX_iret rfl hC hA hQ dX0_told_118 h
    have h := it_n c6 h
    rcases Decidable.em (x2 = (7 : Int32)) with c7 | c7
    · have h := it_p c7 h
      refine g_tin (v := 7) (tgt := 119) hC dX0_told_26 c7 (by decide) (by decide) rfl (by decide) ?_
      refine g_aload_nR hC dX0_told_119 rfl ?_
      refine gX_get (C0 := RX8) (T := TX8) (N := 11) (n := 7) (k := 8) (q := (708, false)) hC hX dX0_told_120 q831 rfl in_X8 (by decide) (Or.inl rfl) rfl (by decide) hk11 ?_
      show GX _ _ _ _ _ _ _ (.int (xFI S8 708 u10) :: _)
      refine g_if_eq (tgt := 130) hC dX0_told_123 (by decide) (fun c => ?_) (fun c => ?_)
      · have h := it_p c h
        refine g_iconst (v := 0) hC dX0_told_130 (by decide) ?_
        refine gX_iret rfl hC hA hQ dX0_told_131 h
      · have h := it_n c h
        refine g_iconst (v := 1) hC dX0_told_126 (by decide) ?_
        refine g_goto (tgt := 131) hC dX0_told_127 (by decide) ?_
        refine gX_iret rfl hC hA hQ dX0_told_131 h
    have h := it_n c7 h
    rcases Decidable.em (x2 = (8 : Int32)) with c8 | c8
    · have h := it_p c8 h
      refine g_tin (v := 8) (tgt := 132) hC dX0_told_26 c8 (by decide) (by decide) rfl (by decide) ?_
      refine g_aload_nR hC dX0_told_132 rfl ?_
      refine gX_get (C0 := RX8) (T := TX8) (N := 11) (n := 7) (k := 9) (q := (709, false)) hC hX dX0_told_133 q833 rfl in_X8 (by decide) (Or.inl rfl) rfl (by decide) hk11 ?_
      show GX _ _ _ _ _ _ _ (.int (xFI S8 709 u10) :: _)
      refine gX_iret rfl hC hA hQ dX0_told_136 h
    have h := it_n c8 h
    rcases Decidable.em (x2 = (9 : Int32)) with c9 | c9
    · have h := it_p c9 h
      refine g_tin (v := 9) (tgt := 137) hC dX0_told_26 c9 (by decide) (by decide) rfl (by decide) ?_
      refine g_aload_nR hC dX0_told_137 rfl ?_
      refine gX_getN (C0 := RX8) (T := TX8) (N := 11) (n := 7) (k := 10) (q := (710, false)) hC hX dX0_told_138 q835 rfl in_X8 (by decide) rfl rfl (by decide) hk11 ?_
      show GX _ _ _ _ _ _ _ (.int (xFI S8 710 u10) :: _)
      refine gX_iret rfl hC hA hQ dX0_told_141 h
    have h := it_n c9 h
    rcases Decidable.em (x2 = (10 : Int32)) with c10 | c10
    · have h := it_p c10 h
      refine g_tin (v := 10) (tgt := 142) hC dX0_told_26 c10 (by decide) (by decide) rfl (by decide) ?_
      refine g_aload_nR hC dX0_told_142 rfl ?_
      refine g_aload_nR hC dX0_told_143 rfl ?_
      refine g_top1 eu1 ?_
      have hk12 := h.1
      refine gX_ni hX (gX_runV (As := [va_rf (some u10)]) (rest := []) (Cr := RX0) hC hX (mx_X0_price (cx_l C) E _ _ _ _ h.2) (lw_V q950 q952 qs17 q70 q953) hx_X0_price rfl rfl (Or.inl (Nat.le_of_ble_eq_true rfl)) ⟨Nat.le_of_ble_eq_true rfl, Nat.le_of_ble_eq_true rfl⟩ dX0_told_144 (Nat.zero_le _) (Nat.zero_le _) hk12 rfl (by decide) rfl) rfl rfl ?_
      intro r14 S13 h
      refine gX_iret rfl hC hA hQ dX0_told_147 h
    have h := it_n c10 h
    refine g_tout (tgt := 148) hC dX0_told_26 (sw_out 0 10 (by decide) (fun v hv => ?_)) (by decide) ?_
    · exact sw_no11 c0 c1 c2 c3 c4 c5 c6 c7 c8 c9 c10 v hv
    refine g_ldc (v := -1000001) hC dX0_told_148 q273 ?_
    refine gX_iret rfl hC hA hQ dX0_told_150 h
  · have h := it_p c h
    refine g_ldc (v := -1000001) hC dX0_told_8 q273 ?_
    refine gX_iret rfl hC hA hQ dX0_told_10 h
theorem mx_X0_told (l : Launch) (E : XE) (Q : Int32 → XS → Prop) (S : XS) (x0 : Option Nat) (x1 : Int32) (x2 : Int32) (h : wx_X0_told Q S x0 x1 x2) : XMet E l yX0_told cX0_told 4 (some .int) ({ frames := 4, cells := 0, slots := 0, locals := 98 } : Room) [va_rf x0, .int x1, .int x2] S (fun sz => va_Qi Q (BX1 E S sz) (xA S sz)) :=
  XMet_of (rm := ({ frames := 4, cells := 0, slots := 0, locals := 98 } : Room)) (by decide) (by simp [lg_sl, va_rf_cat, cat_i, cat_l]) (L0 := [some (va_rf x0), some (.int x1), some (.int x2), none]) (by simp [lx_pairs, lv_args, va_rf_cat, cat_i, cat_l, List.range_succ]) (fun sz C hC hX hl hnm hA hQ => bx_X0_told E C S sz Q S x0 x1 x2 hC hX hA hQ h)
/-! X0_isAt -/
def wx_X0_isAt (Q : Int32 → XS → Prop) (S : XS) (x0 : Option Nat) (x1 : Option Nat) (x2 : Int32) (x3 : Int32) (x4 : Int32) : Prop :=
  dr x1 (fun u1 => xKD S u1 = some 7 ∧ (if (xFI S 701 u1) = x2 then (if (xFI S 702 u1) = x3 then (if (xFI S 703 u1) = x4 then Q (1 : Int32) S else Q (0 : Int32) S) else Q (0 : Int32) S) else Q (0 : Int32) S))
theorem hx_X0_isAt : yX0_isAt.cls = RX0 ∧ yX0_isAt.cls ≠ "java/lang/invoke/MethodHandle" ∧ yX0_isAt.cls ≠ "java/lang/invoke/VarHandle" ∧ (parseMethodDescriptor yX0_isAt.desc).map (fun d => d.parameters.length) = some 4 := by decide +kernel
set_option maxHeartbeats 4000000 in
set_option maxRecDepth 100000 in
theorem bx_X0_isAt (E : XE) (C : Cx) (S0 : XS) (sz : Nat) (Q : Int32 → XS → Prop) (S : XS) (x0 : Option Nat) (x1 : Option Nat) (x2 : Int32) (x3 : Int32) (x4 : Int32) (hC : COk C cX0_isAt RX0 (some .boolean) 1 34 5) (hX : XOk E C) (hA : cx_A C = xA S0 sz) (hQ : cx_Q C = MQ (cx_b C) (va_Qi Q (BX1 E S0 sz) (xA S0 sz)) (cx_a C) (cx_s C) (cx_MC C) (cx_MS C) (xA S0 sz)) (h : wx_X0_isAt Q S x0 x1 x2 x3 x4) : GX E C S 0 0 0 [some (va_rf x0), some (va_rf x1), some (.int x2), some (.int x3), some (.int x4)] [] := by
  refine g_aload_nR hC dX0_isAt_0 rfl ?_
  obtain ⟨u1, eu1, h⟩ := h
  refine g_top0 eu1 ?_
  have hk2 := h.1
  refine gX_get (C0 := RX8) (T := TX8) (N := 11) (n := 7) (k := 1) (q := (701, false)) hC hX dX0_isAt_1 q808 rfl in_X8 (by decide) (Or.inl rfl) rfl (by decide) hk2 ?_
  show GX _ _ _ _ _ _ _ (.int (xFI S 701 u1) :: _)
  refine g_iload_n hC dX0_isAt_4 rfl ?_
  refine g_icmp_ne (tgt := 29) hC dX0_isAt_5 (by decide) (fun c => ?_) (fun c => ?_)
  · have h := it_n c h.2
    refine g_iconst (v := 0) hC dX0_isAt_29 (by decide) ?_
    refine gX_zret rfl rfl hC hA hQ dX0_isAt_30 h
  · have h := it_p c h.2
    refine g_aload_nR hC dX0_isAt_8 rfl ?_
    refine g_top0 eu1 ?_
    refine gX_get (C0 := RX8) (T := TX8) (N := 11) (n := 7) (k := 2) (q := (702, false)) hC hX dX0_isAt_9 q811 rfl in_X8 (by decide) (Or.inl rfl) rfl (by decide) hk2 ?_
    show GX _ _ _ _ _ _ _ (.int (xFI S 702 u1) :: _)
    refine g_iload_n hC dX0_isAt_12 rfl ?_
    refine g_icmp_ne (tgt := 29) hC dX0_isAt_13 (by decide) (fun c => ?_) (fun c => ?_)
    · have h := it_n c h
      refine g_iconst (v := 0) hC dX0_isAt_29 (by decide) ?_
      refine gX_zret rfl rfl hC hA hQ dX0_isAt_30 h
    · have h := it_p c h
      refine g_aload_nR hC dX0_isAt_16 rfl ?_
      refine g_top0 eu1 ?_
      refine gX_get (C0 := RX8) (T := TX8) (N := 11) (n := 7) (k := 3) (q := (703, false)) hC hX dX0_isAt_17 q815 rfl in_X8 (by decide) (Or.inl rfl) rfl (by decide) hk2 ?_
      show GX _ _ _ _ _ _ _ (.int (xFI S 703 u1) :: _)
      refine g_iload hC dX0_isAt_20 rfl ?_
      refine g_icmp_ne (tgt := 29) hC dX0_isAt_22 (by decide) (fun c => ?_) (fun c => ?_)
      · have h := it_n c h
        refine g_iconst (v := 0) hC dX0_isAt_29 (by decide) ?_
        refine gX_zret rfl rfl hC hA hQ dX0_isAt_30 h
      · have h := it_p c h
        refine g_iconst (v := 1) hC dX0_isAt_25 (by decide) ?_
        refine g_goto (tgt := 30) hC dX0_isAt_26 (by decide) ?_
        refine gX_zret rfl rfl hC hA hQ dX0_isAt_30 h
theorem mx_X0_isAt (l : Launch) (E : XE) (Q : Int32 → XS → Prop) (S : XS) (x0 : Option Nat) (x1 : Option Nat) (x2 : Int32) (x3 : Int32) (x4 : Int32) (h : wx_X0_isAt Q S x0 x1 x2 x3 x4) : XMet E l yX0_isAt cX0_isAt 5 (some .boolean) ({ frames := 1, cells := 0, slots := 0, locals := 34 } : Room) [va_rf x0, va_rf x1, .int x2, .int x3, .int x4] S (fun sz => va_Qi Q (BX1 E S sz) (xA S sz)) :=
  XMet_of (rm := ({ frames := 1, cells := 0, slots := 0, locals := 34 } : Room)) (by decide) (by simp [lg_sl, va_rf_cat, cat_i, cat_l]) (L0 := [some (va_rf x0), some (va_rf x1), some (.int x2), some (.int x3), some (.int x4)]) (by simp [lx_pairs, lv_args, va_rf_cat, cat_i, cat_l, List.range_succ]) (fun sz C hC hX hl hnm hA hQ => bx_X0_isAt E C S sz Q S x0 x1 x2 x3 x4 hC hX hA hQ h)
/-! X8_isAgainst -/
def wx_X8_isAgainst_14 (Q : Int32 → XS → Prop) (S : XS) (a0 : Option Nat) (a1 : Int32) (a2 : Int32) (s0 : Int32) : Prop :=
  dr a0 (fun u3 => xKD S u3 = some 7 ∧ (if (a2 + s0) ≤ (xFI S 704 u3) then Q (0 : Int32) S else (if ((xFI S 705 u3) + s0) ≤ a1 then Q (0 : Int32) S else Q (1 : Int32) S)))
def wx_X8_isAgainst (Q : Int32 → XS → Prop) (S : XS) (x0 : Option Nat) (x1 : Int32) (x2 : Int32) (x3 : Int32) (x4 : Int32) : Prop :=
  dr x0 (fun u1 => xKD S u1 = some 7 ∧ (if (xFI S 707 u1) = x3 then wx_X8_isAgainst_14 Q S x0 x1 x2 (0 : Int32) else wx_X8_isAgainst_14 Q S x0 x1 x2 x4))
theorem hx_X8_isAgainst : yX8_isAgainst.cls = RX8 ∧ yX8_isAgainst.cls ≠ "java/lang/invoke/MethodHandle" ∧ yX8_isAgainst.cls ≠ "java/lang/invoke/VarHandle" ∧ (parseMethodDescriptor yX8_isAgainst.desc).map (fun d => d.parameters.length) = some 4 := by decide +kernel
set_option maxHeartbeats 4000000 in
set_option maxRecDepth 100000 in
theorem bx_X8_isAgainst (E : XE) (C : Cx) (S0 : XS) (sz : Nat) (Q : Int32 → XS → Prop) (S : XS) (x0 : Option Nat) (x1 : Int32) (x2 : Int32) (x3 : Int32) (x4 : Int32) (hC : COk C cX8_isAgainst RX8 (some .boolean) 1 34 6) (hX : XOk E C) (hA : cx_A C = xA S0 sz) (hQ : cx_Q C = MQ (cx_b C) (va_Qi Q (BX1 E S0 sz) (xA S0 sz)) (cx_a C) (cx_s C) (cx_MC C) (cx_MS C) (xA S0 sz)) (h : wx_X8_isAgainst Q S x0 x1 x2 x3 x4) : GX E C S 0 0 0 [some (va_rf x0), some (.int x1), some (.int x2), some (.int x3), some (.int x4), none] [] := by
  have s_14 : ∀ (S : XS) (a0 : Option Nat) (a1 : Int32) (a2 : Int32) (s0 : Int32), wx_X8_isAgainst_14 Q  S a0 a1 a2 s0 → GX E C S 0 0 14 [some (va_rf a0), some (.int a1), some (.int a2), none, none, none] [.int s0] := by
    intro  S a0 a1 a2 s0 h
    refine g_istore hC dX8_isAgainst_14 (by decide) rfl rfl ?_
    refine g_aload_nR hC dX8_isAgainst_16 rfl ?_
    obtain ⟨u3, eu3, h⟩ := h
    refine g_top0 eu3 ?_
    have hk4 := h.1
    refine gX_get (C0 := RX8) (T := TX8) (N := 11) (n := 7) (k := 4) (q := (704, false)) hC hX dX8_isAgainst_17 q816 rfl in_X8 (by decide) (Or.inl rfl) rfl (by decide) hk4 ?_
    show GX _ _ _ _ _ _ _ (.int (xFI S 704 u3) :: _)
    refine g_iload_n hC dX8_isAgainst_20 rfl ?_
    refine g_iload hC dX8_isAgainst_21 rfl ?_
    refine g_iadd hC dX8_isAgainst_23 ?_
    refine g_icmp_ge (tgt := 42) hC dX8_isAgainst_24 (by decide) (fun c => ?_) (fun c => ?_)
    · have h := it_p c h.2
      refine g_iconst (v := 0) hC dX8_isAgainst_42 (by decide) ?_
      refine gX_zret rfl rfl hC hA hQ dX8_isAgainst_43 h
    · have h := it_n c h.2
      refine g_iload_n hC dX8_isAgainst_27 rfl ?_
      refine g_aload_nR hC dX8_isAgainst_28 rfl ?_
      refine g_top0 eu3 ?_
      refine gX_get (C0 := RX8) (T := TX8) (N := 11) (n := 7) (k := 5) (q := (705, false)) hC hX dX8_isAgainst_29 q819 rfl in_X8 (by decide) (Or.inl rfl) rfl (by decide) hk4 ?_
      show GX _ _ _ _ _ _ _ (.int (xFI S 705 u3) :: _)
      refine g_iload hC dX8_isAgainst_32 rfl ?_
      refine g_iadd hC dX8_isAgainst_34 ?_
      refine g_icmp_ge (tgt := 42) hC dX8_isAgainst_35 (by decide) (fun c => ?_) (fun c => ?_)
      · have h := it_p c h
        refine g_iconst (v := 0) hC dX8_isAgainst_42 (by decide) ?_
        refine gX_zret rfl rfl hC hA hQ dX8_isAgainst_43 h
      · have h := it_n c h
        refine g_iconst (v := 1) hC dX8_isAgainst_38 (by decide) ?_
        refine g_goto (tgt := 43) hC dX8_isAgainst_39 (by decide) ?_
        refine gX_zret rfl rfl hC hA hQ dX8_isAgainst_43 h
  refine g_aload_nR hC dX8_isAgainst_0 rfl ?_
  obtain ⟨u1, eu1, h⟩ := h
  refine g_top0 eu1 ?_
  have hk2 := h.1
  refine gX_get (C0 := RX8) (T := TX8) (N := 11) (n := 7) (k := 7) (q := (707, false)) hC hX dX8_isAgainst_1 q826 rfl in_X8 (by decide) (Or.inl rfl) rfl (by decide) hk2 ?_
  show GX _ _ _ _ _ _ _ (.int (xFI S 707 u1) :: _)
  refine g_iload_n hC dX8_isAgainst_4 rfl ?_
  refine g_icmp_ne (tgt := 12) hC dX8_isAgainst_5 (by decide) (fun c => ?_) (fun c => ?_)
  · have h := it_n c h.2
    refine g_iload hC dX8_isAgainst_12 rfl ?_
    refine g_sub [true, true, true, false, false, false] rfl ?_
    exact s_14 S x0 x1 x2 x4 h
  · have h := it_p c h.2
    refine g_iconst (v := 0) hC dX8_isAgainst_8 (by decide) ?_
    refine g_goto (tgt := 14) hC dX8_isAgainst_9 (by decide) ?_
    refine g_sub [true, true, true, false, false, false] rfl ?_
    exact s_14 S x0 x1 x2 (0 : Int32) h
theorem mx_X8_isAgainst (l : Launch) (E : XE) (Q : Int32 → XS → Prop) (S : XS) (x0 : Option Nat) (x1 : Int32) (x2 : Int32) (x3 : Int32) (x4 : Int32) (h : wx_X8_isAgainst Q S x0 x1 x2 x3 x4) : XMet E l yX8_isAgainst cX8_isAgainst 6 (some .boolean) ({ frames := 1, cells := 0, slots := 0, locals := 34 } : Room) [va_rf x0, .int x1, .int x2, .int x3, .int x4] S (fun sz => va_Qi Q (BX1 E S sz) (xA S sz)) :=
  XMet_of (rm := ({ frames := 1, cells := 0, slots := 0, locals := 34 } : Room)) (by decide) (by simp [lg_sl, va_rf_cat, cat_i, cat_l]) (L0 := [some (va_rf x0), some (.int x1), some (.int x2), some (.int x3), some (.int x4), none]) (by simp [lx_pairs, lv_args, va_rf_cat, cat_i, cat_l, List.range_succ]) (fun sz C hC hX hl hnm hA hQ => bx_X8_isAgainst E C S sz Q S x0 x1 x2 x3 x4 hC hX hA hQ h)
/-! X0_isClash -/
def wx_X0_isClash (Q : Int32 → XS → Prop) (S : XS) (x0 : Option Nat) (x1 : Option Nat) (x2 : Option Nat) : Prop :=
  dr x2 (fun u1 => xKD S u1 = some 7 ∧ dr x0 (fun u3 => xKD S u3 = some 0 ∧ wx_X0_isAt (fun r6 S5 => (if r6 = 0 then Q (0 : Int32) S5 else xKD S5 u1 = some 7 ∧ xKD S5 u3 = some 0 ∧ dr x1 (fun u9 => xKD S5 u9 = some 7 ∧ dr (xFR S5 1 u3) (fun u11 => xKD S5 u11 = some 104 ∧ vp_in (xFI S5 701 u9) (xLN S5 u11) ∧ dr (xAR S5 u11 (Int32.toNatClampNeg (xFI S5 701 u9))) (fun u13 => xKD S5 u13 = some 2 ∧ wx_X8_isAgainst (fun r16 S15 => (if r16 = 0 then Q (0 : Int32) S15 else Q (1 : Int32) S15)) S5 (some u9) (xFI S5 704 u1) (xFI S5 705 u1) (xFI S5 707 u1) (xFI S5 200 u13)))))) S (some u3) x1 (xFI S 701 u1) (xFI S 702 u1) (xFI S 703 u1)))
theorem hx_X0_isClash : yX0_isClash.cls = RX0 ∧ yX0_isClash.cls ≠ "java/lang/invoke/MethodHandle" ∧ yX0_isClash.cls ≠ "java/lang/invoke/VarHandle" ∧ (parseMethodDescriptor yX0_isClash.desc).map (fun d => d.parameters.length) = some 2 := by decide +kernel
set_option maxHeartbeats 4000000 in
set_option maxRecDepth 100000 in
theorem bx_X0_isClash (E : XE) (C : Cx) (S0 : XS) (sz : Nat) (Q : Int32 → XS → Prop) (S : XS) (x0 : Option Nat) (x1 : Option Nat) (x2 : Option Nat) (hC : COk C cX0_isClash RX0 (some .boolean) 2 59 3) (hX : XOk E C) (hA : cx_A C = xA S0 sz) (hQ : cx_Q C = MQ (cx_b C) (va_Qi Q (BX1 E S0 sz) (xA S0 sz)) (cx_a C) (cx_s C) (cx_MC C) (cx_MS C) (xA S0 sz)) (h : wx_X0_isClash Q S x0 x1 x2) : GX E C S 0 0 0 [some (va_rf x0), some (va_rf x1), some (va_rf x2)] [] := by
  refine g_aload_nR hC dX0_isClash_0 rfl ?_
  refine g_aload_nR hC dX0_isClash_1 rfl ?_
  refine g_aload_nR hC dX0_isClash_2 rfl ?_
  obtain ⟨u1, eu1, h⟩ := h
  refine g_top0 eu1 ?_
  have hk2 := h.1
  refine gX_get (C0 := RX8) (T := TX8) (N := 11) (n := 7) (k := 1) (q := (701, false)) hC hX dX0_isClash_3 q808 rfl in_X8 (by decide) (Or.inl rfl) rfl (by decide) hk2 ?_
  show GX _ _ _ _ _ _ _ (.int (xFI S 701 u1) :: _)
  refine g_aload_nR hC dX0_isClash_6 rfl ?_
  refine g_top0 eu1 ?_
  refine gX_get (C0 := RX8) (T := TX8) (N := 11) (n := 7) (k := 2) (q := (702, false)) hC hX dX0_isClash_7 q811 rfl in_X8 (by decide) (Or.inl rfl) rfl (by decide) hk2 ?_
  show GX _ _ _ _ _ _ _ (.int (xFI S 702 u1) :: _)
  refine g_aload_nR hC dX0_isClash_10 rfl ?_
  refine g_top0 eu1 ?_
  refine gX_get (C0 := RX8) (T := TX8) (N := 11) (n := 7) (k := 3) (q := (703, false)) hC hX dX0_isClash_11 q815 rfl in_X8 (by decide) (Or.inl rfl) rfl (by decide) hk2 ?_
  show GX _ _ _ _ _ _ _ (.int (xFI S 703 u1) :: _)
  obtain ⟨u3, eu3, h⟩ := h.2
  refine g_top4 eu3 ?_
  have hk4 := h.1
  refine gX_ni hX (gX_runV (As := [va_rf x1, .int (xFI S 701 u1), .int (xFI S 702 u1), .int (xFI S 703 u1)]) (rest := []) (Cr := RX0) hC hX (mx_X0_isAt (cx_l C) E _ _ _ _ _ _ _ h.2) (lw_V q962 q964 qs19 q70 q965) hx_X0_isAt rfl rfl (Or.inl (Nat.le_of_ble_eq_true rfl)) ⟨Nat.le_of_ble_eq_true rfl, Nat.le_of_ble_eq_true rfl⟩ dX0_isClash_14 (Nat.zero_le _) (Nat.zero_le _) hk4 rfl (by decide) rfl) rfl rfl ?_
  intro r6 S5 h
  refine g_if_eq (tgt := 55) hC dX0_isClash_17 (by decide) (fun c => ?_) (fun c => ?_)
  · have h := it_p c h
    refine g_iconst (v := 0) hC dX0_isClash_55 (by decide) ?_
    refine gX_zret rfl rfl hC hA hQ dX0_isClash_56 h
  · have h := it_n c h
    refine g_aload_nR hC dX0_isClash_20 rfl ?_
    refine g_aload_nR hC dX0_isClash_21 rfl ?_
    refine g_top0 eu1 ?_
    have hk7 := h.1
    refine gX_get (C0 := RX8) (T := TX8) (N := 11) (n := 7) (k := 4) (q := (704, false)) hC hX dX0_isClash_22 q818 rfl in_X8 (by decide) (Or.inl rfl) rfl (by decide) hk7 ?_
    show GX _ _ _ _ _ _ _ (.int (xFI S5 704 u1) :: _)
    refine g_aload_nR hC dX0_isClash_25 rfl ?_
    refine g_top0 eu1 ?_
    refine gX_get (C0 := RX8) (T := TX8) (N := 11) (n := 7) (k := 5) (q := (705, false)) hC hX dX0_isClash_26 q821 rfl in_X8 (by decide) (Or.inl rfl) rfl (by decide) hk7 ?_
    show GX _ _ _ _ _ _ _ (.int (xFI S5 705 u1) :: _)
    refine g_aload_nR hC dX0_isClash_29 rfl ?_
    refine g_top0 eu1 ?_
    refine gX_get (C0 := RX8) (T := TX8) (N := 11) (n := 7) (k := 7) (q := (707, false)) hC hX dX0_isClash_30 q827 rfl in_X8 (by decide) (Or.inl rfl) rfl (by decide) hk7 ?_
    show GX _ _ _ _ _ _ _ (.int (xFI S5 707 u1) :: _)
    refine g_aload_nR hC dX0_isClash_33 rfl ?_
    refine g_top0 eu3 ?_
    have hk8 := h.2.1
    refine gX_get (C0 := RX0) (T := TX0) (N := 15) (n := 0) (k := 1) (q := (1, true)) hC hX dX0_isClash_34 q211 rfl in_X0 (by decide) (Or.inl rfl) rfl (by decide) hk8 ?_
    show GX _ _ _ _ _ _ _ (va_rf (xFR S5 1 u3) :: _)
    refine g_aload_nR hC dX0_isClash_37 rfl ?_
    obtain ⟨u9, eu9, h⟩ := h.2.2
    refine g_top0 eu9 ?_
    have hk10 := h.1
    refine gX_get (C0 := RX8) (T := TX8) (N := 11) (n := 7) (k := 1) (q := (701, false)) hC hX dX0_isClash_38 q808 rfl in_X8 (by decide) (Or.inl rfl) rfl (by decide) hk10 ?_
    show GX _ _ _ _ _ _ _ (.int (xFI S5 701 u9) :: _)
    obtain ⟨u11, eu11, h⟩ := h.2
    refine g_top1 eu11 ?_
    have hk12 := h.1
    refine gX_aald (n := 104) hC hX dX0_isClash_41 (by decide) hk12 h.2.1 ?_
    obtain ⟨u13, eu13, h⟩ := h.2.2
    refine g_top0 eu13 ?_
    have hk14 := h.1
    refine gX_getN (C0 := RX2) (T := TX2) (N := 7) (n := 2) (k := 0) (q := (200, false)) hC hX dX0_isClash_42 q174 rfl in_X2 (by decide) rfl rfl (by decide) hk14 ?_
    show GX _ _ _ _ _ _ _ (.int (xFI S5 200 u13) :: _)
    refine g_top4 eu9 ?_
    refine gX_ni hX (gX_runV (As := [.int (xFI S5 704 u1), .int (xFI S5 705 u1), .int (xFI S5 707 u1), .int (xFI S5 200 u13)]) (rest := []) (Cr := RX8) hC hX (mx_X8_isAgainst (cx_l C) E _ _ _ _ _ _ _ h.2) (lw_V q966 q967 q968 q96 q969) hx_X8_isAgainst rfl rfl (Or.inl (Nat.le_of_ble_eq_true rfl)) ⟨Nat.le_of_ble_eq_true rfl, Nat.le_of_ble_eq_true rfl⟩ dX0_isClash_45 (Nat.zero_le _) (Nat.zero_le _) hk10 rfl (by decide) rfl) rfl rfl ?_
    intro r16 S15 h
    refine g_if_eq (tgt := 55) hC dX0_isClash_48 (by decide) (fun c => ?_) (fun c => ?_)
    · have h := it_p c h
      refine g_iconst (v := 0) hC dX0_isClash_55 (by decide) ?_
      refine gX_zret rfl rfl hC hA hQ dX0_isClash_56 h
    · have h := it_n c h
      refine g_iconst (v := 1) hC dX0_isClash_51 (by decide) ?_
      refine g_goto (tgt := 56) hC dX0_isClash_52 (by decide) ?_
      refine gX_zret rfl rfl hC hA hQ dX0_isClash_56 h
theorem mx_X0_isClash (l : Launch) (E : XE) (Q : Int32 → XS → Prop) (S : XS) (x0 : Option Nat) (x1 : Option Nat) (x2 : Option Nat) (h : wx_X0_isClash Q S x0 x1 x2) : XMet E l yX0_isClash cX0_isClash 3 (some .boolean) ({ frames := 2, cells := 0, slots := 0, locals := 59 } : Room) [va_rf x0, va_rf x1, va_rf x2] S (fun sz => va_Qi Q (BX1 E S sz) (xA S sz)) :=
  XMet_of (rm := ({ frames := 2, cells := 0, slots := 0, locals := 59 } : Room)) (by decide) (by simp [lg_sl, va_rf_cat, cat_i, cat_l]) (L0 := [some (va_rf x0), some (va_rf x1), some (va_rf x2)]) (by simp [lx_pairs, lv_args, va_rf_cat, cat_i, cat_l, List.range_succ]) (fun sz C hC hX hl hnm hA hQ => bx_X0_isClash E C S sz Q S x0 x1 x2 hC hX hA hQ h)
/-! X0_clash -/
def wx_X0_clash (Q : Int32 → XS → Prop) (S : XS) (x0 : Option Nat) (x1 : Int32) (x2 : Int32) : Prop :=
  dr x0 (fun u1 => xKD S u1 = some 0 ∧ wx_X0_isBooking (fun r4 S3 => (if r4 = 0 then Q (-1000001 : Int32) S3 else xKD S3 u1 = some 0 ∧ wx_X0_isBooking (fun r7 S6 => (if r7 = 0 then Q (-1000001 : Int32) S6 else (if x1 = x2 then Q (-1000001 : Int32) S6 else xKD S6 u1 = some 0 ∧ dr (xFR S6 2 u1) (fun u9 => xKD S6 u9 = some 16 ∧ wx_J2_get (fun r12 S11 => dr r12 (fun u13 => xKD S11 u13 = some 7 ∧ xKD S11 u1 = some 0 ∧ dr (xFR S11 2 u1) (fun u16 => xKD S11 u16 = some 16 ∧ wx_J2_get (fun r19 S18 => dr r19 (fun u20 => xKD S18 u20 = some 7 ∧ xKD S18 u1 = some 0 ∧ wx_X0_isClash (fun r24 S23 => (if r24 = 0 then Q (0 : Int32) S23 else Q (1 : Int32) S23)) S18 (some u1) (some u13) (some u20))) S11 (some u16) x2))) S6 (some u9) x1)))) S3 (some u1) x2)) S (some u1) x1)
theorem hx_X0_clash : yX0_clash.cls = RX0 ∧ yX0_clash.cls ≠ "java/lang/invoke/MethodHandle" ∧ yX0_clash.cls ≠ "java/lang/invoke/VarHandle" ∧ (parseMethodDescriptor yX0_clash.desc).map (fun d => d.parameters.length) = some 2 := by decide +kernel
set_option maxHeartbeats 4000000 in
set_option maxRecDepth 100000 in
theorem bx_X0_clash (E : XE) (C : Cx) (S0 : XS) (sz : Nat) (Q : Int32 → XS → Prop) (S : XS) (x0 : Option Nat) (x1 : Int32) (x2 : Int32) (hC : COk C cX0_clash RX0 (some .int) 4 98 3) (hX : XOk E C) (hA : cx_A C = xA S0 sz) (hQ : cx_Q C = MQ (cx_b C) (va_Qi Q (BX1 E S0 sz) (xA S0 sz)) (cx_a C) (cx_s C) (cx_MC C) (cx_MS C) (xA S0 sz)) (h : wx_X0_clash Q S x0 x1 x2) : GX E C S 0 0 0 [some (va_rf x0), some (.int x1), some (.int x2)] [] := by
  refine g_aload_nR hC dX0_clash_0 rfl ?_
  refine g_iload_n hC dX0_clash_1 rfl ?_
  obtain ⟨u1, eu1, h⟩ := h
  refine g_top1 eu1 ?_
  have hk2 := h.1
  refine gX_ni hX (gX_runV (As := [.int x1]) (rest := []) (Cr := RX0) hC hX (mx_X0_isBooking (cx_l C) E _ _ _ _ h.2) (lw_V q923 q925 qs16 q70 q926) hx_X0_isBooking rfl rfl (Or.inl (Nat.le_of_ble_eq_true rfl)) ⟨Nat.le_of_ble_eq_true rfl, Nat.le_of_ble_eq_true rfl⟩ dX0_clash_2 (Nat.zero_le _) (Nat.zero_le _) hk2 rfl (by decide) rfl) rfl rfl ?_
  intro r4 S3 h
  refine g_if_eq (tgt := 21) hC dX0_clash_5 (by decide) (fun c => ?_) (fun c => ?_)
  · have h := it_p c h
    refine g_ldc (v := -1000001) hC dX0_clash_21 q273 ?_
    refine gX_iret rfl hC hA hQ dX0_clash_23 h
  · have h := it_n c h
    refine g_aload_nR hC dX0_clash_8 rfl ?_
    refine g_iload_n hC dX0_clash_9 rfl ?_
    refine g_top1 eu1 ?_
    have hk5 := h.1
    refine gX_ni hX (gX_runV (As := [.int x2]) (rest := []) (Cr := RX0) hC hX (mx_X0_isBooking (cx_l C) E _ _ _ _ h.2) (lw_V q923 q925 qs16 q70 q926) hx_X0_isBooking rfl rfl (Or.inl (Nat.le_of_ble_eq_true rfl)) ⟨Nat.le_of_ble_eq_true rfl, Nat.le_of_ble_eq_true rfl⟩ dX0_clash_10 (Nat.zero_le _) (Nat.zero_le _) hk5 rfl (by decide) rfl) rfl rfl ?_
    intro r7 S6 h
    refine g_if_eq (tgt := 21) hC dX0_clash_13 (by decide) (fun c => ?_) (fun c => ?_)
    · have h := it_p c h
      refine g_ldc (v := -1000001) hC dX0_clash_21 q273 ?_
      refine gX_iret rfl hC hA hQ dX0_clash_23 h
    · have h := it_n c h
      refine g_iload_n hC dX0_clash_16 rfl ?_
      refine g_iload_n hC dX0_clash_17 rfl ?_
      refine g_icmp_ne (tgt := 24) hC dX0_clash_18 (by decide) (fun c => ?_) (fun c => ?_)
      · have h := it_n c h
        refine g_aload_nR hC dX0_clash_24 rfl ?_
        refine g_aload_nR hC dX0_clash_25 rfl ?_
        refine g_top0 eu1 ?_
        have hk8 := h.1
        refine gX_get (C0 := RX0) (T := TX0) (N := 15) (n := 0) (k := 2) (q := (2, true)) hC hX dX0_clash_26 q213 rfl in_X0 (by decide) (Or.inl rfl) rfl (by decide) hk8 ?_
        show GX _ _ _ _ _ _ _ (va_rf (xFR S6 2 u1) :: _)
        refine g_iload_n hC dX0_clash_29 rfl ?_
        obtain ⟨u9, eu9, h⟩ := h.2
        refine g_top1 eu9 ?_
        have hk10 := h.1
        refine gX_nq5 hX (gX_runF (n := 1) (As := [.int x1]) (rest := [va_rf x0]) (Cr := "java/util/ArrayList") (x := ⟨"java/util/List", "get", "(I)Ljava/lang/Object;"⟩) hC hX (mx_J2_get (cx_l C) E _ _ _ _ h.2) (lw_app (lw_4 q928 q931 q933 q73) (lw_meth q935)) (List.mem_of_getElem? (i := 2) rfl) (by decide +kernel) rfl rfl (Or.inl (Nat.le_of_ble_eq_true rfl)) ⟨Nat.le_of_ble_eq_true rfl, Nat.le_of_ble_eq_true rfl⟩ dX0_clash_30 (Nat.zero_le _) (Nat.zero_le _) hk10 rfl (by decide) rfl) rfl rfl ?_
        intro r12 S11 h
        obtain ⟨u13, eu13, h⟩ := h
        refine g_top0 eu13 ?_
        have hk14 := h.1
        refine gX_cast (r := (RX8, TX8, 11)) (n := 7) hC hX dX0_clash_35 q164 rfl (by decide) hk14 ?_
        refine g_aload_nR hC dX0_clash_38 rfl ?_
        refine g_top0 eu1 ?_
        have hk15 := h.2.1
        refine gX_get (C0 := RX0) (T := TX0) (N := 15) (n := 0) (k := 2) (q := (2, true)) hC hX dX0_clash_39 q213 rfl in_X0 (by decide) (Or.inl rfl) rfl (by decide) hk15 ?_
        show GX _ _ _ _ _ _ _ (va_rf (xFR S11 2 u1) :: _)
        refine g_iload_n hC dX0_clash_42 rfl ?_
        obtain ⟨u16, eu16, h⟩ := h.2.2
        refine g_top1 eu16 ?_
        have hk17 := h.1
        refine gX_nq5 hX (gX_runF (n := 1) (As := [.int x2]) (rest := [va_rf (some u13), va_rf x0]) (Cr := "java/util/ArrayList") (x := ⟨"java/util/List", "get", "(I)Ljava/lang/Object;"⟩) hC hX (mx_J2_get (cx_l C) E _ _ _ _ h.2) (lw_app (lw_4 q928 q931 q933 q73) (lw_meth q935)) (List.mem_of_getElem? (i := 2) rfl) (by decide +kernel) rfl rfl (Or.inl (Nat.le_of_ble_eq_true rfl)) ⟨Nat.le_of_ble_eq_true rfl, Nat.le_of_ble_eq_true rfl⟩ dX0_clash_43 (Nat.zero_le _) (Nat.zero_le _) hk17 rfl (by decide) rfl) rfl rfl ?_
        intro r19 S18 h
        obtain ⟨u20, eu20, h⟩ := h
        refine g_top0 eu20 ?_
        have hk21 := h.1
        refine gX_cast (r := (RX8, TX8, 11)) (n := 7) hC hX dX0_clash_48 q164 rfl (by decide) hk21 ?_
        refine g_top2 eu1 ?_
        have hk22 := h.2.1
        refine gX_ni hX (gX_runV (As := [va_rf (some u13), va_rf (some u20)]) (rest := []) (Cr := RX0) hC hX (mx_X0_isClash (cx_l C) E _ _ _ _ _ h.2.2) (lw_V q958 q960 qs18 q70 q961) hx_X0_isClash rfl rfl (Or.inl (Nat.le_of_ble_eq_true rfl)) ⟨Nat.le_of_ble_eq_true rfl, Nat.le_of_ble_eq_true rfl⟩ dX0_clash_51 (Nat.zero_le _) (Nat.zero_le _) hk22 rfl (by decide) rfl) rfl rfl ?_
        intro r24 S23 h
        refine g_if_eq (tgt := 61) hC dX0_clash_54 (by decide) (fun c => ?_) (fun c => ?_)
        · have h := it_p c h
          refine g_iconst (v := 0) hC dX0_clash_61 (by decide) ?_
          refine gX_iret rfl hC hA hQ dX0_clash_62 h
        · have h := it_n c h
          refine g_iconst (v := 1) hC dX0_clash_57 (by decide) ?_
          refine g_goto (tgt := 62) hC dX0_clash_58 (by decide) ?_
          refine gX_iret rfl hC hA hQ dX0_clash_62 h
      · have h := it_p c h
        refine g_ldc (v := -1000001) hC dX0_clash_21 q273 ?_
        refine gX_iret rfl hC hA hQ dX0_clash_23 h
theorem mx_X0_clash (l : Launch) (E : XE) (Q : Int32 → XS → Prop) (S : XS) (x0 : Option Nat) (x1 : Int32) (x2 : Int32) (h : wx_X0_clash Q S x0 x1 x2) : XMet E l yX0_clash cX0_clash 3 (some .int) ({ frames := 4, cells := 0, slots := 0, locals := 98 } : Room) [va_rf x0, .int x1, .int x2] S (fun sz => va_Qi Q (BX1 E S sz) (xA S sz)) :=
  XMet_of (rm := ({ frames := 4, cells := 0, slots := 0, locals := 98 } : Room)) (by decide) (by simp [lg_sl, va_rf_cat, cat_i, cat_l]) (L0 := [some (va_rf x0), some (.int x1), some (.int x2)]) (by simp [lx_pairs, lv_args, va_rf_cat, cat_i, cat_l, List.range_succ]) (fun sz C hC hX hl hnm hA hQ => bx_X0_clash E C S sz Q S x0 x1 x2 hC hX hA hQ h)
/-! X8_isThere -/
def wx_X8_isThere (Q : Int32 → XS → Prop) (S : XS) (x0 : Option Nat) (x1 : Int32) : Prop :=
  dr x0 (fun u1 => xKD S u1 = some 7 ∧ (if x1 < (xFI S 709 u1) then Q (0 : Int32) S else (if (xFI S 710 u1) = (-1000000 : Int32) then Q (1 : Int32) S else (if (xFI S 710 u1) ≤ x1 then Q (0 : Int32) S else Q (1 : Int32) S))))
theorem hx_X8_isThere : yX8_isThere.cls = RX8 ∧ yX8_isThere.cls ≠ "java/lang/invoke/MethodHandle" ∧ yX8_isThere.cls ≠ "java/lang/invoke/VarHandle" ∧ (parseMethodDescriptor yX8_isThere.desc).map (fun d => d.parameters.length) = some 1 := by decide +kernel
set_option maxHeartbeats 4000000 in
set_option maxRecDepth 100000 in
theorem bx_X8_isThere (E : XE) (C : Cx) (S0 : XS) (sz : Nat) (Q : Int32 → XS → Prop) (S : XS) (x0 : Option Nat) (x1 : Int32) (hC : COk C cX8_isThere RX8 (some .boolean) 1 34 2) (hX : XOk E C) (hA : cx_A C = xA S0 sz) (hQ : cx_Q C = MQ (cx_b C) (va_Qi Q (BX1 E S0 sz) (xA S0 sz)) (cx_a C) (cx_s C) (cx_MC C) (cx_MS C) (xA S0 sz)) (h : wx_X8_isThere Q S x0 x1) : GX E C S 0 0 0 [some (va_rf x0), some (.int x1)] [] := by
  refine g_aload_nR hC dX8_isThere_0 rfl ?_
  obtain ⟨u1, eu1, h⟩ := h
  refine g_top0 eu1 ?_
  have hk2 := h.1
  refine gX_get (C0 := RX8) (T := TX8) (N := 11) (n := 7) (k := 9) (q := (709, false)) hC hX dX8_isThere_1 q832 rfl in_X8 (by decide) (Or.inl rfl) rfl (by decide) hk2 ?_
  show GX _ _ _ _ _ _ _ (.int (xFI S 709 u1) :: _)
  refine g_iload_n hC dX8_isThere_4 rfl ?_
  refine g_icmp_gt (tgt := 29) hC dX8_isThere_5 (by decide) (fun c => ?_) (fun c => ?_)
  · have h := it_p c h.2
    refine g_iconst (v := 0) hC dX8_isThere_29 (by decide) ?_
    refine gX_zret rfl rfl hC hA hQ dX8_isThere_30 h
  · have h := it_n c h.2
    refine g_aload_nR hC dX8_isThere_8 rfl ?_
    refine g_top0 eu1 ?_
    refine gX_get (C0 := RX8) (T := TX8) (N := 11) (n := 7) (k := 10) (q := (710, false)) hC hX dX8_isThere_9 q834 rfl in_X8 (by decide) (Or.inl rfl) rfl (by decide) hk2 ?_
    show GX _ _ _ _ _ _ _ (.int (xFI S 710 u1) :: _)
    refine g_ldc (v := -1000000) hC dX8_isThere_12 q804 ?_
    refine g_icmp_eq (tgt := 25) hC dX8_isThere_14 (by decide) (fun c => ?_) (fun c => ?_)
    · have h := it_p c h
      refine g_iconst (v := 1) hC dX8_isThere_25 (by decide) ?_
      refine g_goto (tgt := 30) hC dX8_isThere_26 (by decide) ?_
      refine gX_zret rfl rfl hC hA hQ dX8_isThere_30 h
    · have h := it_n c h
      refine g_aload_nR hC dX8_isThere_17 rfl ?_
      refine g_top0 eu1 ?_
      refine gX_get (C0 := RX8) (T := TX8) (N := 11) (n := 7) (k := 10) (q := (710, false)) hC hX dX8_isThere_18 q834 rfl in_X8 (by decide) (Or.inl rfl) rfl (by decide) hk2 ?_
      show GX _ _ _ _ _ _ _ (.int (xFI S 710 u1) :: _)
      refine g_iload_n hC dX8_isThere_21 rfl ?_
      refine g_icmp_le (tgt := 29) hC dX8_isThere_22 (by decide) (fun c => ?_) (fun c => ?_)
      · have h := it_p c h
        refine g_iconst (v := 0) hC dX8_isThere_29 (by decide) ?_
        refine gX_zret rfl rfl hC hA hQ dX8_isThere_30 h
      · have h := it_n c h
        refine g_iconst (v := 1) hC dX8_isThere_25 (by decide) ?_
        refine g_goto (tgt := 30) hC dX8_isThere_26 (by decide) ?_
        refine gX_zret rfl rfl hC hA hQ dX8_isThere_30 h
theorem mx_X8_isThere (l : Launch) (E : XE) (Q : Int32 → XS → Prop) (S : XS) (x0 : Option Nat) (x1 : Int32) (h : wx_X8_isThere Q S x0 x1) : XMet E l yX8_isThere cX8_isThere 2 (some .boolean) ({ frames := 1, cells := 0, slots := 0, locals := 34 } : Room) [va_rf x0, .int x1] S (fun sz => va_Qi Q (BX1 E S sz) (xA S sz)) :=
  XMet_of (rm := ({ frames := 1, cells := 0, slots := 0, locals := 34 } : Room)) (by decide) (by simp [lg_sl, va_rf_cat, cat_i, cat_l]) (L0 := [some (va_rf x0), some (.int x1)]) (by simp [lx_pairs, lv_args, va_rf_cat, cat_i, cat_l, List.range_succ]) (fun sz C hC hX hl hnm hA hQ => bx_X8_isThere E C S sz Q S x0 x1 hC hX hA hQ h)
/-! X0_isAhead -/
def wx_X0_isAhead (Q : Int32 → XS → Prop) (S : XS) (x0 : Option Nat) (x1 : Option Nat) (x2 : Option Nat) : Prop :=
  dr x0 (fun u1 => xKD S u1 = some 0 ∧ dr x1 (fun u3 => xKD S u3 = some 7 ∧ dr (xFR S 1 u1) (fun u5 => xKD S u5 = some 104 ∧ vp_in (xFI S 701 u3) (xLN S u5) ∧ dr (xAR S u5 (Int32.toNatClampNeg (xFI S 701 u3))) (fun u7 => xKD S u7 = some 2 ∧ dr (xFR S 206 u7) (fun u9 => xKD S u9 = some 100 ∧ vp_in (xFI S 707 u3) (xLN S u9) ∧ dr x2 (fun u11 => xKD S u11 = some 7 ∧ vp_in (xFI S 701 u11) (xLN S u5) ∧ dr (xAR S u5 (Int32.toNatClampNeg (xFI S 701 u11))) (fun u13 => xKD S u13 = some 2 ∧ dr (xFR S 206 u13) (fun u15 => xKD S u15 = some 100 ∧ vp_in (xFI S 707 u11) (xLN S u15) ∧ (if (xAI S u9 (Int32.toNatClampNeg (xFI S 707 u3))) = (xAI S u15 (Int32.toNatClampNeg (xFI S 707 u11))) then (if (xFI S 709 u11) ≤ (xFI S 709 u3) then Q (0 : Int32) S else Q (1 : Int32) S) else (if (xAI S u15 (Int32.toNatClampNeg (xFI S 707 u11))) ≤ (xAI S u9 (Int32.toNatClampNeg (xFI S 707 u3))) then Q (0 : Int32) S else Q (1 : Int32) S))))))))))
theorem hx_X0_isAhead : yX0_isAhead.cls = RX0 ∧ yX0_isAhead.cls ≠ "java/lang/invoke/MethodHandle" ∧ yX0_isAhead.cls ≠ "java/lang/invoke/VarHandle" ∧ (parseMethodDescriptor yX0_isAhead.desc).map (fun d => d.parameters.length) = some 2 := by decide +kernel
set_option maxHeartbeats 4000000 in
set_option maxRecDepth 100000 in
theorem bx_X0_isAhead (E : XE) (C : Cx) (S0 : XS) (sz : Nat) (Q : Int32 → XS → Prop) (S : XS) (x0 : Option Nat) (x1 : Option Nat) (x2 : Option Nat) (hC : COk C cX0_isAhead RX0 (some .boolean) 1 34 5) (hX : XOk E C) (hA : cx_A C = xA S0 sz) (hQ : cx_Q C = MQ (cx_b C) (va_Qi Q (BX1 E S0 sz) (xA S0 sz)) (cx_a C) (cx_s C) (cx_MC C) (cx_MS C) (xA S0 sz)) (h : wx_X0_isAhead Q S x0 x1 x2) : GX E C S 0 0 0 [some (va_rf x0), some (va_rf x1), some (va_rf x2), none, none] [] := by
  refine g_aload_nR hC dX0_isAhead_0 rfl ?_
  obtain ⟨u1, eu1, h⟩ := h
  refine g_top0 eu1 ?_
  have hk2 := h.1
  refine gX_get (C0 := RX0) (T := TX0) (N := 15) (n := 0) (k := 1) (q := (1, true)) hC hX dX0_isAhead_1 q211 rfl in_X0 (by decide) (Or.inl rfl) rfl (by decide) hk2 ?_
  show GX _ _ _ _ _ _ _ (va_rf (xFR S 1 u1) :: _)
  refine g_aload_nR hC dX0_isAhead_4 rfl ?_
  obtain ⟨u3, eu3, h⟩ := h.2
  refine g_top0 eu3 ?_
  have hk4 := h.1
  refine gX_get (C0 := RX8) (T := TX8) (N := 11) (n := 7) (k := 1) (q := (701, false)) hC hX dX0_isAhead_5 q808 rfl in_X8 (by decide) (Or.inl rfl) rfl (by decide) hk4 ?_
  show GX _ _ _ _ _ _ _ (.int (xFI S 701 u3) :: _)
  obtain ⟨u5, eu5, h⟩ := h.2
  refine g_top1 eu5 ?_
  have hk6 := h.1
  refine gX_aald (n := 104) hC hX dX0_isAhead_8 (by decide) hk6 h.2.1 ?_
  obtain ⟨u7, eu7, h⟩ := h.2.2
  refine g_top0 eu7 ?_
  have hk8 := h.1
  refine gX_getN (C0 := RX2) (T := TX2) (N := 7) (n := 2) (k := 6) (q := (206, true)) hC hX dX0_isAhead_9 q192 rfl in_X2 (by decide) rfl rfl (by decide) hk8 ?_
  show GX _ _ _ _ _ _ _ (va_rf (xFR S 206 u7) :: _)
  refine g_aload_nR hC dX0_isAhead_12 rfl ?_
  refine g_top0 eu3 ?_
  refine gX_get (C0 := RX8) (T := TX8) (N := 11) (n := 7) (k := 7) (q := (707, false)) hC hX dX0_isAhead_13 q827 rfl in_X8 (by decide) (Or.inl rfl) rfl (by decide) hk4 ?_
  show GX _ _ _ _ _ _ _ (.int (xFI S 707 u3) :: _)
  obtain ⟨u9, eu9, h⟩ := h.2
  refine g_top1 eu9 ?_
  have hk10 := h.1
  refine gX_iald hC hX dX0_isAhead_16 hk10 h.2.1 ?_
  refine g_istore_n hC dX0_isAhead_17 rfl (by decide) (lx_okR (j := 2) rfl) rfl ?_
  refine g_aload_nR hC dX0_isAhead_18 rfl ?_
  refine g_top0 eu1 ?_
  refine gX_get (C0 := RX0) (T := TX0) (N := 15) (n := 0) (k := 1) (q := (1, true)) hC hX dX0_isAhead_19 q211 rfl in_X0 (by decide) (Or.inl rfl) rfl (by decide) hk2 ?_
  show GX _ _ _ _ _ _ _ (va_rf (xFR S 1 u1) :: _)
  refine g_aload_nR hC dX0_isAhead_22 rfl ?_
  obtain ⟨u11, eu11, h⟩ := h.2.2
  refine g_top0 eu11 ?_
  have hk12 := h.1
  refine gX_get (C0 := RX8) (T := TX8) (N := 11) (n := 7) (k := 1) (q := (701, false)) hC hX dX0_isAhead_23 q808 rfl in_X8 (by decide) (Or.inl rfl) rfl (by decide) hk12 ?_
  show GX _ _ _ _ _ _ _ (.int (xFI S 701 u11) :: _)
  refine g_top1 eu5 ?_
  refine gX_aald (n := 104) hC hX dX0_isAhead_26 (by decide) hk6 h.2.1 ?_
  obtain ⟨u13, eu13, h⟩ := h.2.2
  refine g_top0 eu13 ?_
  have hk14 := h.1
  refine gX_getN (C0 := RX2) (T := TX2) (N := 7) (n := 2) (k := 6) (q := (206, true)) hC hX dX0_isAhead_27 q192 rfl in_X2 (by decide) rfl rfl (by decide) hk14 ?_
  show GX _ _ _ _ _ _ _ (va_rf (xFR S 206 u13) :: _)
  refine g_aload_nR hC dX0_isAhead_30 rfl ?_
  refine g_top0 eu11 ?_
  refine gX_get (C0 := RX8) (T := TX8) (N := 11) (n := 7) (k := 7) (q := (707, false)) hC hX dX0_isAhead_31 q827 rfl in_X8 (by decide) (Or.inl rfl) rfl (by decide) hk12 ?_
  show GX _ _ _ _ _ _ _ (.int (xFI S 707 u11) :: _)
  obtain ⟨u15, eu15, h⟩ := h.2
  refine g_top1 eu15 ?_
  have hk16 := h.1
  refine gX_iald hC hX dX0_isAhead_34 hk16 h.2.1 ?_
  refine g_istore hC dX0_isAhead_35 (by decide) rfl rfl ?_
  refine g_sub [false, true, true, true, true] rfl ?_
  refine g_iload_n hC dX0_isAhead_37 rfl ?_
  refine g_iload hC dX0_isAhead_38 rfl ?_
  refine g_icmp_eq (tgt := 57) hC dX0_isAhead_40 (by decide) (fun c => ?_) (fun c => ?_)
  · have h := it_p c h.2.2
    refine g_aload_nR hC dX0_isAhead_57 rfl ?_
    refine g_top0 eu3 ?_
    refine gX_get (C0 := RX8) (T := TX8) (N := 11) (n := 7) (k := 9) (q := (709, false)) hC hX dX0_isAhead_58 q833 rfl in_X8 (by decide) (Or.inl rfl) rfl (by decide) hk4 ?_
    show GX _ _ _ _ _ _ _ (.int (xFI S 709 u3) :: _)
    refine g_aload_nR hC dX0_isAhead_61 rfl ?_
    refine g_top0 eu11 ?_
    refine gX_get (C0 := RX8) (T := TX8) (N := 11) (n := 7) (k := 9) (q := (709, false)) hC hX dX0_isAhead_62 q833 rfl in_X8 (by decide) (Or.inl rfl) rfl (by decide) hk12 ?_
    show GX _ _ _ _ _ _ _ (.int (xFI S 709 u11) :: _)
    refine g_icmp_ge (tgt := 72) hC dX0_isAhead_65 (by decide) (fun c => ?_) (fun c => ?_)
    · have h := it_p c h
      refine g_iconst (v := 0) hC dX0_isAhead_72 (by decide) ?_
      refine gX_zret rfl rfl hC hA hQ dX0_isAhead_73 h
    · have h := it_n c h
      refine g_iconst (v := 1) hC dX0_isAhead_68 (by decide) ?_
      refine g_goto (tgt := 73) hC dX0_isAhead_69 (by decide) ?_
      refine gX_zret rfl rfl hC hA hQ dX0_isAhead_73 h
  · have h := it_n c h.2.2
    refine g_iload_n hC dX0_isAhead_43 rfl ?_
    refine g_iload hC dX0_isAhead_44 rfl ?_
    refine g_icmp_ge (tgt := 53) hC dX0_isAhead_46 (by decide) (fun c => ?_) (fun c => ?_)
    · have h := it_p c h
      refine g_iconst (v := 0) hC dX0_isAhead_53 (by decide) ?_
      refine g_goto (tgt := 73) hC dX0_isAhead_54 (by decide) ?_
      refine gX_zret rfl rfl hC hA hQ dX0_isAhead_73 h
    · have h := it_n c h
      refine g_iconst (v := 1) hC dX0_isAhead_49 (by decide) ?_
      refine g_goto (tgt := 73) hC dX0_isAhead_50 (by decide) ?_
      refine gX_zret rfl rfl hC hA hQ dX0_isAhead_73 h
theorem mx_X0_isAhead (l : Launch) (E : XE) (Q : Int32 → XS → Prop) (S : XS) (x0 : Option Nat) (x1 : Option Nat) (x2 : Option Nat) (h : wx_X0_isAhead Q S x0 x1 x2) : XMet E l yX0_isAhead cX0_isAhead 5 (some .boolean) ({ frames := 1, cells := 0, slots := 0, locals := 34 } : Room) [va_rf x0, va_rf x1, va_rf x2] S (fun sz => va_Qi Q (BX1 E S sz) (xA S sz)) :=
  XMet_of (rm := ({ frames := 1, cells := 0, slots := 0, locals := 34 } : Room)) (by decide) (by simp [lg_sl, va_rf_cat, cat_i, cat_l]) (L0 := [some (va_rf x0), some (va_rf x1), some (va_rf x2), none, none]) (by simp [lx_pairs, lv_args, va_rf_cat, cat_i, cat_l, List.range_succ]) (fun sz C hC hX hl hnm hA hQ => bx_X0_isAhead E C S sz Q S x0 x1 x2 hC hX hA hQ h)
/-! X0_mayHold -/
def wx_X0_mayHold_113 (Q : Int32 → XS → Prop) (K31 : XS → Option Nat → Option Nat → Int32 → Int32 → Int32 → Prop) (S : XS) (a0 : Option Nat) (a1 : Option Nat) (a2 : Int32) (a3 : Int32) (a4 : Int32) : Prop :=
  K31 S a0 a1 a2 a3 (a4 + (1 : Int32))
def wx_X0_mayHold_111 (Q : Int32 → XS → Prop) (K31 : XS → Option Nat → Option Nat → Int32 → Int32 → Int32 → Prop) (S : XS) (a0 : Option Nat) (a1 : Option Nat) (a2 : Int32) (a4 : Int32) (s0 : Int32) (s1 : Int32) : Prop :=
  wx_X0_mayHold_113 Q K31 S a0 a1 a2 (s0 + s1) a4
def wx_X0_mayHold_110 (Q : Int32 → XS → Prop) (K31 : XS → Option Nat → Option Nat → Int32 → Int32 → Int32 → Prop) (S : XS) (a0 : Option Nat) (a1 : Option Nat) (a2 : Int32) (a4 : Int32) (s0 : Int32) : Prop :=
  wx_X0_mayHold_111 Q K31 S a0 a1 a2 a4 s0 (0 : Int32)
def wx_X0_mayHold_31 (Q : Int32 → XS → Prop) : Nat → XS → Option Nat → Option Nat → Int32 → Int32 → Int32 → Prop
  | 0, _, _, _, _, _, _ => False
  | n + 1, S, a0, a1, a2, a3, a4 => dr a0 (fun u11 => xKD S u11 = some 0 ∧ dr (xFR S 2 u11) (fun u13 => xKD S u13 = some 16 ∧ wx_J2_size (fun r16 S15 => (if r16 ≤ a4 then dr a1 (fun u17 => xKD S15 u17 = some 7 ∧ (if (xFI S15 708 u17) = 0 then Q (1 : Int32) S15 else xKD S15 u11 = some 0 ∧ dr (xFR S15 1 u11) (fun u20 => xKD S15 u20 = some 104 ∧ vp_in (xFI S15 701 u17) (xLN S15 u20) ∧ dr (xAR S15 u20 (Int32.toNatClampNeg (xFI S15 701 u17))) (fun u22 => xKD S15 u22 = some 2 ∧ (if (xFI S15 201 u22) ≤ a3 then Q (0 : Int32) S15 else Q (1 : Int32) S15))))) else (if ((a2 >>> (a4 &&& 31)) &&& (1 : Int32)) = 0 then wx_X0_mayHold_113 Q (wx_X0_mayHold_31 Q n) S15 a0 a1 a2 a3 a4 else xKD S15 u11 = some 0 ∧ dr (xFR S15 2 u11) (fun u25 => xKD S15 u25 = some 16 ∧ wx_J2_get (fun r28 S27 => dr r28 (fun u29 => xKD S27 u29 = some 7 ∧ xKD S27 u11 = some 0 ∧ wx_X0_isClash (fun r33 S32 => (if r33 = 0 then xKD S32 u29 = some 7 ∧ dr a1 (fun u35 => xKD S32 u35 = some 7 ∧ (if (xFI S32 701 u29) = (xFI S32 701 u35) then (if (xFI S32 708 u29) = 0 then wx_X0_mayHold_110 Q (wx_X0_mayHold_31 Q n) S32 a0 a1 a2 a4 a3 else wx_X0_mayHold_111 Q (wx_X0_mayHold_31 Q n) S32 a0 a1 a2 a4 a3 (1 : Int32)) else wx_X0_mayHold_110 Q (wx_X0_mayHold_31 Q n) S32 a0 a1 a2 a4 a3)) else Q (0 : Int32) S32)) S27 (some u11) a1 (some u29))) S15 (some u25) a4)))) S (some u13)))
def wx_X0_mayHold (Q : Int32 → XS → Prop) (S : XS) (x0 : Option Nat) (x1 : Option Nat) (x2 : Int32) : Prop :=
  dr x1 (fun u1 => xKD S u1 = some 7 ∧ dr x0 (fun u3 => xKD S u3 = some 0 ∧ dr (xFR S 1 u3) (fun u5 => xKD S u5 = some 104 ∧ vp_in (xFI S 701 u1) (xLN S u5) ∧ dr (xAR S u5 (Int32.toNatClampNeg (xFI S 701 u1))) (fun u7 => xKD S u7 = some 2 ∧ dr (xFR S 204 u7) (fun u9 => xKD S u9 = some 100 ∧ vp_in (xFI S 702 u1) (xLN S u9) ∧ (if (xFI S 706 u1) ≤ (xAI S u9 (Int32.toNatClampNeg (xFI S 702 u1))) then ∃ n37, wx_X0_mayHold_31 Q n37 S x0 x1 x2 (0 : Int32) (0 : Int32) else Q (0 : Int32) S))))))
theorem hx_X0_mayHold : yX0_mayHold.cls = RX0 ∧ yX0_mayHold.cls ≠ "java/lang/invoke/MethodHandle" ∧ yX0_mayHold.cls ≠ "java/lang/invoke/VarHandle" ∧ (parseMethodDescriptor yX0_mayHold.desc).map (fun d => d.parameters.length) = some 2 := by decide +kernel
set_option maxHeartbeats 4000000 in
set_option maxRecDepth 100000 in
theorem bx_X0_mayHold (E : XE) (C : Cx) (S0 : XS) (sz : Nat) (Q : Int32 → XS → Prop) (S : XS) (x0 : Option Nat) (x1 : Option Nat) (x2 : Int32) (hC : COk C cX0_mayHold RX0 (some .boolean) 4 98 6) (hX : XOk E C) (hA : cx_A C = xA S0 sz) (hQ : cx_Q C = MQ (cx_b C) (va_Qi Q (BX1 E S0 sz) (xA S0 sz)) (cx_a C) (cx_s C) (cx_MC C) (cx_MS C) (xA S0 sz)) (h : wx_X0_mayHold Q S x0 x1 x2) : GX E C S 0 0 0 [some (va_rf x0), some (va_rf x1), some (.int x2), none, none, none] [] := by
  have s_113 : ∀ (K31 : XS → Option Nat → Option Nat → Int32 → Int32 → Int32 → Prop) (hK31 : ∀ (S : XS) (b0 : Option Nat) (b1 : Option Nat) (b2 : Int32) (b3 : Int32) (b4 : Int32), K31 S b0 b1 b2 b3 b4 → GX E C S 0 0 31 [some (va_rf b0), some (va_rf b1), some (.int b2), some (.int b3), some (.int b4), none] []) (S : XS) (a0 : Option Nat) (a1 : Option Nat) (a2 : Int32) (a3 : Int32) (a4 : Int32), wx_X0_mayHold_113 Q K31 S a0 a1 a2 a3 a4 → GX E C S 0 0 113 [some (va_rf a0), some (va_rf a1), some (.int a2), some (.int a3), some (.int a4), none] [] := by
    intro K31 hK31 S a0 a1 a2 a3 a4 h
    refine g_iinc (v := (a4 + (1 : Int32))) hC dX0_mayHold_113 rfl rfl (by decide) rfl rfl ?_
    refine g_goto (tgt := 31) hC dX0_mayHold_116 (by decide) ?_
    exact hK31 S a0 a1 a2 a3 (a4 + (1 : Int32)) h
  have s_111 : ∀ (K31 : XS → Option Nat → Option Nat → Int32 → Int32 → Int32 → Prop) (hK31 : ∀ (S : XS) (b0 : Option Nat) (b1 : Option Nat) (b2 : Int32) (b3 : Int32) (b4 : Int32), K31 S b0 b1 b2 b3 b4 → GX E C S 0 0 31 [some (va_rf b0), some (va_rf b1), some (.int b2), some (.int b3), some (.int b4), none] []) (S : XS) (a0 : Option Nat) (a1 : Option Nat) (a2 : Int32) (a4 : Int32) (s0 : Int32) (s1 : Int32), wx_X0_mayHold_111 Q K31 S a0 a1 a2 a4 s0 s1 → GX E C S 0 0 111 [some (va_rf a0), some (va_rf a1), some (.int a2), none, some (.int a4), none] [.int s1, .int s0] := by
    intro K31 hK31 S a0 a1 a2 a4 s0 s1 h
    refine g_iadd hC dX0_mayHold_111 ?_
    refine g_istore_n hC dX0_mayHold_112 rfl (by decide) rfl rfl ?_
    exact s_113 K31 hK31 S a0 a1 a2 (s0 + s1) a4 h
  have s_110 : ∀ (K31 : XS → Option Nat → Option Nat → Int32 → Int32 → Int32 → Prop) (hK31 : ∀ (S : XS) (b0 : Option Nat) (b1 : Option Nat) (b2 : Int32) (b3 : Int32) (b4 : Int32), K31 S b0 b1 b2 b3 b4 → GX E C S 0 0 31 [some (va_rf b0), some (va_rf b1), some (.int b2), some (.int b3), some (.int b4), none] []) (S : XS) (a0 : Option Nat) (a1 : Option Nat) (a2 : Int32) (a4 : Int32) (s0 : Int32), wx_X0_mayHold_110 Q K31 S a0 a1 a2 a4 s0 → GX E C S 0 0 110 [some (va_rf a0), some (va_rf a1), some (.int a2), none, some (.int a4), none] [.int s0] := by
    intro K31 hK31 S a0 a1 a2 a4 s0 h
    refine g_iconst (v := 0) hC dX0_mayHold_110 (by decide) ?_
    exact s_111 K31 hK31 S a0 a1 a2 a4 s0 (0 : Int32) h
  have s_31 : ∀ (n : Nat) (S : XS) (a0 : Option Nat) (a1 : Option Nat) (a2 : Int32) (a3 : Int32) (a4 : Int32), wx_X0_mayHold_31 Q  n S a0 a1 a2 a3 a4 → GX E C S 0 0 31 [some (va_rf a0), some (va_rf a1), some (.int a2), some (.int a3), some (.int a4), none] [] := by
    intro  n
    induction n with
    | zero =>
      intro S a0 a1 a2 a3 a4 h
      exact False.elim h
    | succ n ih =>
      intro S a0 a1 a2 a3 a4 h
      refine g_iload hC dX0_mayHold_31 rfl ?_
      refine g_aload_nR hC dX0_mayHold_33 rfl ?_
      obtain ⟨u11, eu11, h⟩ := h
      refine g_top0 eu11 ?_
      have hk12 := h.1
      refine gX_get (C0 := RX0) (T := TX0) (N := 15) (n := 0) (k := 2) (q := (2, true)) hC hX dX0_mayHold_34 q213 rfl in_X0 (by decide) (Or.inl rfl) rfl (by decide) hk12 ?_
      show GX _ _ _ _ _ _ _ (va_rf (xFR S 2 u11) :: _)
      obtain ⟨u13, eu13, h⟩ := h.2
      refine g_top0 eu13 ?_
      have hk14 := h.1
      refine gX_ni5 hX (gX_runF (n := 0) (As := []) (rest := [.int a4]) (Cr := "java/util/ArrayList") (x := ⟨"java/util/List", "size", "()I"⟩) hC hX (mx_J2_size (cx_l C) E _ _ _ h.2) (lw_app (lw_4 q770 q774 q776 q73) (lw_meth q778)) (List.mem_of_getElem? (i := 0) rfl) (by decide +kernel) rfl rfl (Or.inl (Nat.le_of_ble_eq_true rfl)) ⟨Nat.le_of_ble_eq_true rfl, Nat.le_of_ble_eq_true rfl⟩ dX0_mayHold_37 (Nat.zero_le _) (Nat.zero_le _) hk14 rfl (by decide) rfl) rfl rfl ?_
      intro r16 S15 h
      refine g_icmp_ge (tgt := 119) hC dX0_mayHold_42 (by decide) (fun c => ?_) (fun c => ?_)
      · have h := it_p c h
        refine g_aload_nR hC dX0_mayHold_119 rfl ?_
        obtain ⟨u17, eu17, h⟩ := h
        refine g_top0 eu17 ?_
        have hk18 := h.1
        refine gX_get (C0 := RX8) (T := TX8) (N := 11) (n := 7) (k := 8) (q := (708, false)) hC hX dX0_mayHold_120 q831 rfl in_X8 (by decide) (Or.inl rfl) rfl (by decide) hk18 ?_
        show GX _ _ _ _ _ _ _ (.int (xFI S15 708 u17) :: _)
        refine g_if_eq (tgt := 142) hC dX0_mayHold_123 (by decide) (fun c => ?_) (fun c => ?_)
        · have h := it_p c h.2
          refine g_iconst (v := 1) hC dX0_mayHold_142 (by decide) ?_
          refine g_goto (tgt := 147) hC dX0_mayHold_143 (by decide) ?_
          refine gX_zret rfl rfl hC hA hQ dX0_mayHold_147 h
        · have h := it_n c h.2
          refine g_iload_n hC dX0_mayHold_126 rfl ?_
          refine g_aload_nR hC dX0_mayHold_127 rfl ?_
          refine g_top0 eu11 ?_
          have hk19 := h.1
          refine gX_get (C0 := RX0) (T := TX0) (N := 15) (n := 0) (k := 1) (q := (1, true)) hC hX dX0_mayHold_128 q211 rfl in_X0 (by decide) (Or.inl rfl) rfl (by decide) hk19 ?_
          show GX _ _ _ _ _ _ _ (va_rf (xFR S15 1 u11) :: _)
          refine g_aload_nR hC dX0_mayHold_131 rfl ?_
          refine g_top0 eu17 ?_
          refine gX_get (C0 := RX8) (T := TX8) (N := 11) (n := 7) (k := 1) (q := (701, false)) hC hX dX0_mayHold_132 q808 rfl in_X8 (by decide) (Or.inl rfl) rfl (by decide) hk18 ?_
          show GX _ _ _ _ _ _ _ (.int (xFI S15 701 u17) :: _)
          obtain ⟨u20, eu20, h⟩ := h.2
          refine g_top1 eu20 ?_
          have hk21 := h.1
          refine gX_aald (n := 104) hC hX dX0_mayHold_135 (by decide) hk21 h.2.1 ?_
          obtain ⟨u22, eu22, h⟩ := h.2.2
          refine g_top0 eu22 ?_
          have hk23 := h.1
          refine gX_getN (C0 := RX2) (T := TX2) (N := 7) (n := 2) (k := 1) (q := (201, false)) hC hX dX0_mayHold_136 q177 rfl in_X2 (by decide) rfl rfl (by decide) hk23 ?_
          show GX _ _ _ _ _ _ _ (.int (xFI S15 201 u22) :: _)
          refine g_icmp_ge (tgt := 146) hC dX0_mayHold_139 (by decide) (fun c => ?_) (fun c => ?_)
          · have h := it_p c h.2
            refine g_iconst (v := 0) hC dX0_mayHold_146 (by decide) ?_
            refine gX_zret rfl rfl hC hA hQ dX0_mayHold_147 h
          · have h := it_n c h.2
            refine g_iconst (v := 1) hC dX0_mayHold_142 (by decide) ?_
            refine g_goto (tgt := 147) hC dX0_mayHold_143 (by decide) ?_
            refine gX_zret rfl rfl hC hA hQ dX0_mayHold_147 h
      · have h := it_n c h
        refine g_iload_n hC dX0_mayHold_45 rfl ?_
        refine g_iload hC dX0_mayHold_46 rfl ?_
        refine g_ishr hC dX0_mayHold_48 ?_
        refine g_iconst (v := 1) hC dX0_mayHold_49 (by decide) ?_
        refine g_iand hC dX0_mayHold_50 ?_
        refine g_if_ne (tgt := 57) hC dX0_mayHold_51 (by decide) (fun c => ?_) (fun c => ?_)
        · have h := it_n c h
          refine g_aload_nR hC dX0_mayHold_57 rfl ?_
          refine g_top0 eu11 ?_
          have hk24 := h.1
          refine gX_get (C0 := RX0) (T := TX0) (N := 15) (n := 0) (k := 2) (q := (2, true)) hC hX dX0_mayHold_58 q213 rfl in_X0 (by decide) (Or.inl rfl) rfl (by decide) hk24 ?_
          show GX _ _ _ _ _ _ _ (va_rf (xFR S15 2 u11) :: _)
          refine g_iload hC dX0_mayHold_61 rfl ?_
          obtain ⟨u25, eu25, h⟩ := h.2
          refine g_top1 eu25 ?_
          have hk26 := h.1
          refine gX_nq5 hX (gX_runF (n := 1) (As := [.int a4]) (rest := []) (Cr := "java/util/ArrayList") (x := ⟨"java/util/List", "get", "(I)Ljava/lang/Object;"⟩) hC hX (mx_J2_get (cx_l C) E _ _ _ _ h.2) (lw_app (lw_4 q928 q931 q933 q73) (lw_meth q935)) (List.mem_of_getElem? (i := 2) rfl) (by decide +kernel) rfl rfl (Or.inl (Nat.le_of_ble_eq_true rfl)) ⟨Nat.le_of_ble_eq_true rfl, Nat.le_of_ble_eq_true rfl⟩ dX0_mayHold_63 (Nat.zero_le _) (Nat.zero_le _) hk26 rfl (by decide) rfl) rfl rfl ?_
          intro r28 S27 h
          obtain ⟨u29, eu29, h⟩ := h
          refine g_top0 eu29 ?_
          have hk30 := h.1
          refine gX_cast (r := (RX8, TX8, 11)) (n := 7) hC hX dX0_mayHold_68 q164 rfl (by decide) hk30 ?_
          refine g_astoreR hC dX0_mayHold_71 (by decide) rfl rfl ?_
          refine g_aload_nR hC dX0_mayHold_73 rfl ?_
          refine g_aload_nR hC dX0_mayHold_74 rfl ?_
          refine g_aloadR hC dX0_mayHold_75 rfl ?_
          refine g_top2 eu11 ?_
          have hk31 := h.2.1
          refine gX_ni hX (gX_runV (As := [va_rf a1, va_rf (some u29)]) (rest := []) (Cr := RX0) hC hX (mx_X0_isClash (cx_l C) E _ _ _ _ _ h.2.2) (lw_V q958 q960 qs18 q70 q961) hx_X0_isClash rfl rfl (Or.inl (Nat.le_of_ble_eq_true rfl)) ⟨Nat.le_of_ble_eq_true rfl, Nat.le_of_ble_eq_true rfl⟩ dX0_mayHold_77 (Nat.zero_le _) (Nat.zero_le _) hk31 rfl (by decide) rfl) rfl rfl ?_
          intro r33 S32 h
          refine g_if_eq (tgt := 85) hC dX0_mayHold_80 (by decide) (fun c => ?_) (fun c => ?_)
          · have h := it_p c h
            refine g_iload_n hC dX0_mayHold_85 rfl ?_
            refine g_aloadR hC dX0_mayHold_86 rfl ?_
            have hk34 := h.1
            refine gX_get (C0 := RX8) (T := TX8) (N := 11) (n := 7) (k := 1) (q := (701, false)) hC hX dX0_mayHold_88 q808 rfl in_X8 (by decide) (Or.inl rfl) rfl (by decide) hk34 ?_
            show GX _ _ _ _ _ _ _ (.int (xFI S32 701 u29) :: _)
            refine g_aload_nR hC dX0_mayHold_91 rfl ?_
            obtain ⟨u35, eu35, h⟩ := h.2
            refine g_top0 eu35 ?_
            have hk36 := h.1
            refine gX_get (C0 := RX8) (T := TX8) (N := 11) (n := 7) (k := 1) (q := (701, false)) hC hX dX0_mayHold_92 q808 rfl in_X8 (by decide) (Or.inl rfl) rfl (by decide) hk36 ?_
            show GX _ _ _ _ _ _ _ (.int (xFI S32 701 u35) :: _)
            refine g_icmp_ne (tgt := 110) hC dX0_mayHold_95 (by decide) (fun c => ?_) (fun c => ?_)
            · have h := it_n c h.2
              refine g_sub [true, true, true, false, true, false] rfl ?_
              exact s_110 (wx_X0_mayHold_31 Q n) ih S32 a0 a1 a2 a4 a3 h
            · have h := it_p c h.2
              refine g_aloadR hC dX0_mayHold_98 rfl ?_
              refine gX_get (C0 := RX8) (T := TX8) (N := 11) (n := 7) (k := 8) (q := (708, false)) hC hX dX0_mayHold_100 q831 rfl in_X8 (by decide) (Or.inl rfl) rfl (by decide) hk34 ?_
              show GX _ _ _ _ _ _ _ (.int (xFI S32 708 u29) :: _)
              refine g_if_eq (tgt := 110) hC dX0_mayHold_103 (by decide) (fun c => ?_) (fun c => ?_)
              · have h := it_p c h
                refine g_sub [true, true, true, false, true, false] rfl ?_
                exact s_110 (wx_X0_mayHold_31 Q n) ih S32 a0 a1 a2 a4 a3 h
              · have h := it_n c h
                refine g_iconst (v := 1) hC dX0_mayHold_106 (by decide) ?_
                refine g_goto (tgt := 111) hC dX0_mayHold_107 (by decide) ?_
                refine g_sub [true, true, true, false, true, false] rfl ?_
                exact s_111 (wx_X0_mayHold_31 Q n) ih S32 a0 a1 a2 a4 a3 (1 : Int32) h
          · have h := it_n c h
            refine g_iconst (v := 0) hC dX0_mayHold_83 (by decide) ?_
            refine gX_zret rfl rfl hC hA hQ dX0_mayHold_84 h
        · have h := it_p c h
          refine g_goto (tgt := 113) hC dX0_mayHold_54 (by decide) ?_
          exact s_113 (wx_X0_mayHold_31 Q n) ih S15 a0 a1 a2 a3 a4 h
  refine g_aload_nR hC dX0_mayHold_0 rfl ?_
  obtain ⟨u1, eu1, h⟩ := h
  refine g_top0 eu1 ?_
  have hk2 := h.1
  refine gX_get (C0 := RX8) (T := TX8) (N := 11) (n := 7) (k := 6) (q := (706, false)) hC hX dX0_mayHold_1 q825 rfl in_X8 (by decide) (Or.inl rfl) rfl (by decide) hk2 ?_
  show GX _ _ _ _ _ _ _ (.int (xFI S 706 u1) :: _)
  refine g_aload_nR hC dX0_mayHold_4 rfl ?_
  obtain ⟨u3, eu3, h⟩ := h.2
  refine g_top0 eu3 ?_
  have hk4 := h.1
  refine gX_get (C0 := RX0) (T := TX0) (N := 15) (n := 0) (k := 1) (q := (1, true)) hC hX dX0_mayHold_5 q211 rfl in_X0 (by decide) (Or.inl rfl) rfl (by decide) hk4 ?_
  show GX _ _ _ _ _ _ _ (va_rf (xFR S 1 u3) :: _)
  refine g_aload_nR hC dX0_mayHold_8 rfl ?_
  refine g_top0 eu1 ?_
  refine gX_get (C0 := RX8) (T := TX8) (N := 11) (n := 7) (k := 1) (q := (701, false)) hC hX dX0_mayHold_9 q808 rfl in_X8 (by decide) (Or.inl rfl) rfl (by decide) hk2 ?_
  show GX _ _ _ _ _ _ _ (.int (xFI S 701 u1) :: _)
  obtain ⟨u5, eu5, h⟩ := h.2
  refine g_top1 eu5 ?_
  have hk6 := h.1
  refine gX_aald (n := 104) hC hX dX0_mayHold_12 (by decide) hk6 h.2.1 ?_
  obtain ⟨u7, eu7, h⟩ := h.2.2
  refine g_top0 eu7 ?_
  have hk8 := h.1
  refine gX_getN (C0 := RX2) (T := TX2) (N := 7) (n := 2) (k := 4) (q := (204, true)) hC hX dX0_mayHold_13 q187 rfl in_X2 (by decide) rfl rfl (by decide) hk8 ?_
  show GX _ _ _ _ _ _ _ (va_rf (xFR S 204 u7) :: _)
  refine g_aload_nR hC dX0_mayHold_16 rfl ?_
  refine g_top0 eu1 ?_
  refine gX_get (C0 := RX8) (T := TX8) (N := 11) (n := 7) (k := 2) (q := (702, false)) hC hX dX0_mayHold_17 q811 rfl in_X8 (by decide) (Or.inl rfl) rfl (by decide) hk2 ?_
  show GX _ _ _ _ _ _ _ (.int (xFI S 702 u1) :: _)
  obtain ⟨u9, eu9, h⟩ := h.2
  refine g_top1 eu9 ?_
  have hk10 := h.1
  refine gX_iald hC hX dX0_mayHold_20 hk10 h.2.1 ?_
  refine g_icmp_le (tgt := 26) hC dX0_mayHold_21 (by decide) (fun c => ?_) (fun c => ?_)
  · have h := it_p c h.2.2
    refine g_iconst (v := 0) hC dX0_mayHold_26 (by decide) ?_
    refine g_istore_n hC dX0_mayHold_27 rfl (by decide) rfl rfl ?_
    refine g_iconst (v := 0) hC dX0_mayHold_28 (by decide) ?_
    refine g_istore hC dX0_mayHold_29 (by decide) rfl rfl ?_
    obtain ⟨n0, h0⟩ := h
    exact s_31 n0 S x0 x1 x2 (0 : Int32) (0 : Int32) h0
  · have h := it_n c h.2.2
    refine g_iconst (v := 0) hC dX0_mayHold_24 (by decide) ?_
    refine gX_zret rfl rfl hC hA hQ dX0_mayHold_25 h
theorem mx_X0_mayHold (l : Launch) (E : XE) (Q : Int32 → XS → Prop) (S : XS) (x0 : Option Nat) (x1 : Option Nat) (x2 : Int32) (h : wx_X0_mayHold Q S x0 x1 x2) : XMet E l yX0_mayHold cX0_mayHold 6 (some .boolean) ({ frames := 4, cells := 0, slots := 0, locals := 98 } : Room) [va_rf x0, va_rf x1, .int x2] S (fun sz => va_Qi Q (BX1 E S sz) (xA S sz)) :=
  XMet_of (rm := ({ frames := 4, cells := 0, slots := 0, locals := 98 } : Room)) (by decide) (by simp [lg_sl, va_rf_cat, cat_i, cat_l]) (L0 := [some (va_rf x0), some (va_rf x1), some (.int x2), none, none, none]) (by simp [lx_pairs, lv_args, va_rf_cat, cat_i, cat_l, List.range_succ]) (fun sz C hC hX hl hnm hA hQ => bx_X0_mayHold E C S sz Q S x0 x1 x2 hC hX hA hQ h)
/-! X0_held -/
def wx_X0_held_151 (Q : Int32 → XS → Prop) (K115 : XS → Option Nat → Int32 → Int32 → Int32 → Prop) (S : XS) (a0 : Option Nat) (a2 : Int32) (a3 : Int32) (a4 : Int32) : Prop :=
  K115 S a0 a2 a3 (a4 + (1 : Int32))
def wx_X0_held_115 (Q : Int32 → XS → Prop) : Nat → XS → Option Nat → Int32 → Int32 → Int32 → Prop
  | 0, _, _, _, _, _ => False
  | n + 1, S, a0, a2, a3, a4 => (if a2 ≤ a4 then Q a3 S else dr a0 (fun u7 => xKD S u7 = some 0 ∧ dr (xFR S 13 u7) (fun u9 => xKD S u9 = some 103 ∧ vp_in a4 (xLN S u9) ∧ wx_X0_mayHold (fun r12 S11 => (if r12 = 0 then wx_X0_held_151 Q (wx_X0_held_115 Q n) S11 a0 a2 a3 a4 else xKD S11 u7 = some 0 ∧ dr (xFR S11 13 u7) (fun u14 => xKD S11 u14 = some 103 ∧ vp_in a4 (xLN S11 u14) ∧ dr (xAR S11 u14 (Int32.toNatClampNeg a4)) (fun u16 => xKD S11 u16 = some 7 ∧ wx_X0_held_151 Q (wx_X0_held_115 Q n) S11 a0 a2 (a3 ||| ((1 : Int32) <<< ((xFI S11 700 u16) &&& 31))) a4)))) S (some u7) (xAR S u9 (Int32.toNatClampNeg a4)) a3)))
def wx_X0_held_104 (Q : Int32 → XS → Prop) (K4 : XS → Option Nat → Int32 → Int32 → Int32 → Prop) (S : XS) (a0 : Option Nat) (a1 : Int32) (a2 : Int32) (a3 : Int32) : Prop :=
  K4 S a0 a1 a2 (a3 + (1 : Int32))
def wx_X0_held_95 (Q : Int32 → XS → Prop) (K4 : XS → Option Nat → Int32 → Int32 → Int32 → Prop) (S : XS) (a0 : Option Nat) (a1 : Int32) (a2 : Int32) (a3 : Int32) (a4 : Option Nat) (a5 : Int32) : Prop :=
  dr a0 (fun u28 => xKD S u28 = some 0 ∧ dr (xFR S 13 u28) (fun u30 => xKD S u30 = some 103 ∧ dr a4 (fun u32 => xRO S u30 = false ∧ vp_in a5 (xLN S u30) ∧ xKD S u32 = some 7 ∧ wx_X0_held_104 Q K4 (sAR S u30 (Int32.toNatClampNeg a5) (some u32)) a0 a1 a2 a3)))
def wx_X0_held_50 (Q : Int32 → XS → Prop) (K4 : XS → Option Nat → Int32 → Int32 → Int32 → Prop) : Nat → XS → Option Nat → Int32 → Int32 → Int32 → Option Nat → Int32 → Prop
  | 0, _, _, _, _, _, _, _ => False
  | n + 1, S, a0, a1, a2, a3, a4, a5 => (if a5 ≤ 0 then wx_X0_held_95 Q K4 S a0 a1 a2 a3 a4 a5 else dr a0 (fun u34 => xKD S u34 = some 0 ∧ dr (xFR S 13 u34) (fun u36 => xKD S u36 = some 103 ∧ vp_in (a5 - (1 : Int32)) (xLN S u36) ∧ wx_X0_isAhead (fun r39 S38 => (if r39 = 0 then wx_X0_held_95 Q K4 S38 a0 a1 a2 a3 a4 a5 else xKD S38 u34 = some 0 ∧ dr (xFR S38 13 u34) (fun u41 => xKD S38 u41 = some 103 ∧ vp_in (a5 - (1 : Int32)) (xLN S38 u41) ∧ dr (xAR S38 u41 (Int32.toNatClampNeg (a5 - (1 : Int32)))) (fun u43 => xRO S38 u41 = false ∧ vp_in a5 (xLN S38 u41) ∧ xKD S38 u43 = some 7 ∧ wx_X0_held_50 Q K4 n (sAR S38 u41 (Int32.toNatClampNeg a5) (some u43)) a0 a1 a2 a3 a4 (a5 + (-1 : Int32)))))) S (some u34) a4 (xAR S u36 (Int32.toNatClampNeg (a5 - (1 : Int32)))))))
def wx_X0_held_4 (Q : Int32 → XS → Prop) : Nat → XS → Option Nat → Int32 → Int32 → Int32 → Prop
  | 0, _, _, _, _, _ => False
  | n + 1, S, a0, a1, a2, a3 => dr a0 (fun u1 => xKD S u1 = some 0 ∧ dr (xFR S 2 u1) (fun u3 => xKD S u3 = some 16 ∧ wx_J2_size (fun r6 S5 => (if r6 ≤ a3 then ∃ n18, wx_X0_held_115 Q n18 S5 a0 a2 (0 : Int32) (0 : Int32) else xKD S5 u1 = some 0 ∧ dr (xFR S5 2 u1) (fun u20 => xKD S5 u20 = some 16 ∧ wx_J2_get (fun r23 S22 => dr r23 (fun u24 => xKD S22 u24 = some 7 ∧ wx_X8_isThere (fun r27 S26 => (if r27 = 0 then wx_X0_held_104 Q (wx_X0_held_4 Q n) S26 a0 a1 a2 a3 else ∃ n45, wx_X0_held_50 Q (wx_X0_held_4 Q n) n45 S26 a0 a1 (a2 + (1 : Int32)) a3 (some u24) a2)) S22 (some u24) a1)) S5 (some u20) a3))) S (some u3)))
def wx_X0_held (Q : Int32 → XS → Prop) (S : XS) (x0 : Option Nat) (x1 : Int32) : Prop :=
  ∃ n46, wx_X0_held_4 Q n46 S x0 x1 (0 : Int32) (0 : Int32)
theorem hx_X0_held : yX0_held.cls = RX0 ∧ yX0_held.cls ≠ "java/lang/invoke/MethodHandle" ∧ yX0_held.cls ≠ "java/lang/invoke/VarHandle" ∧ (parseMethodDescriptor yX0_held.desc).map (fun d => d.parameters.length) = some 1 := by decide +kernel
set_option maxHeartbeats 4000000 in
set_option maxRecDepth 100000 in
theorem bx_X0_held (E : XE) (C : Cx) (S0 : XS) (sz : Nat) (Q : Int32 → XS → Prop) (S : XS) (x0 : Option Nat) (x1 : Int32) (hC : COk C cX0_held RX0 (some .int) 5 123 6) (hX : XOk E C) (hA : cx_A C = xA S0 sz) (hQ : cx_Q C = MQ (cx_b C) (va_Qi Q (BX1 E S0 sz) (xA S0 sz)) (cx_a C) (cx_s C) (cx_MC C) (cx_MS C) (xA S0 sz)) (h : wx_X0_held Q S x0 x1) : GX E C S 0 0 0 [some (va_rf x0), some (.int x1), none, none, none, none] [] := by
  have s_151 : ∀ (K115 : XS → Option Nat → Int32 → Int32 → Int32 → Prop) (hK115 : ∀ (S : XS) (b0 : Option Nat) (b2 : Int32) (b3 : Int32) (b4 : Int32), K115 S b0 b2 b3 b4 → GX E C S 0 0 115 [some (va_rf b0), none, some (.int b2), some (.int b3), some (.int b4), none] []) (S : XS) (a0 : Option Nat) (a2 : Int32) (a3 : Int32) (a4 : Int32), wx_X0_held_151 Q K115 S a0 a2 a3 a4 → GX E C S 0 0 151 [some (va_rf a0), none, some (.int a2), some (.int a3), some (.int a4), none] [] := by
    intro K115 hK115 S a0 a2 a3 a4 h
    refine g_iinc (v := (a4 + (1 : Int32))) hC dX0_held_151 rfl rfl (by decide) rfl rfl ?_
    refine g_goto (tgt := 115) hC dX0_held_154 (by decide) ?_
    exact hK115 S a0 a2 a3 (a4 + (1 : Int32)) h
  have s_115 : ∀ (n : Nat) (S : XS) (a0 : Option Nat) (a2 : Int32) (a3 : Int32) (a4 : Int32), wx_X0_held_115 Q  n S a0 a2 a3 a4 → GX E C S 0 0 115 [some (va_rf a0), none, some (.int a2), some (.int a3), some (.int a4), none] [] := by
    intro  n
    induction n with
    | zero =>
      intro S a0 a2 a3 a4 h
      exact False.elim h
    | succ n ih =>
      intro S a0 a2 a3 a4 h
      refine g_iload hC dX0_held_115 rfl ?_
      refine g_iload_n hC dX0_held_117 rfl ?_
      refine g_icmp_ge (tgt := 157) hC dX0_held_118 (by decide) (fun c => ?_) (fun c => ?_)
      · have h := it_p c h
        refine g_iload_n hC dX0_held_157 rfl ?_
        refine gX_iret rfl hC hA hQ dX0_held_158 h
      · have h := it_n c h
        refine g_aload_nR hC dX0_held_121 rfl ?_
        refine g_aload_nR hC dX0_held_122 rfl ?_
        obtain ⟨u7, eu7, h⟩ := h
        refine g_top0 eu7 ?_
        have hk8 := h.1
        refine gX_get (C0 := RX0) (T := TX0) (N := 15) (n := 0) (k := 13) (q := (13, true)) hC hX dX0_held_123 q227 rfl in_X0 (by decide) (Or.inl rfl) rfl (by decide) hk8 ?_
        show GX _ _ _ _ _ _ _ (va_rf (xFR S 13 u7) :: _)
        refine g_iload hC dX0_held_126 rfl ?_
        obtain ⟨u9, eu9, h⟩ := h.2
        refine g_top1 eu9 ?_
        have hk10 := h.1
        refine gX_aald (n := 103) hC hX dX0_held_128 (by decide) hk10 h.2.1 ?_
        refine g_iload_n hC dX0_held_129 rfl ?_
        refine g_top2 eu7 ?_
        refine gX_ni hX (gX_runV (As := [va_rf (xAR S u9 (Int32.toNatClampNeg a4)), .int a3]) (rest := []) (Cr := RX0) hC hX (mx_X0_mayHold (cx_l C) E _ _ _ _ _ h.2.2) (lw_V q986 q988 qs22 q70 q989) hx_X0_mayHold rfl rfl (Or.inl (Nat.le_of_ble_eq_true rfl)) ⟨Nat.le_of_ble_eq_true rfl, Nat.le_of_ble_eq_true rfl⟩ dX0_held_130 (Nat.zero_le _) (Nat.zero_le _) hk8 rfl (by decide) rfl) rfl rfl ?_
        intro r12 S11 h
        refine g_if_eq (tgt := 151) hC dX0_held_133 (by decide) (fun c => ?_) (fun c => ?_)
        · have h := it_p c h
          exact s_151 (wx_X0_held_115 Q n) ih S11 a0 a2 a3 a4 h
        · have h := it_n c h
          refine g_iload_n hC dX0_held_136 rfl ?_
          refine g_iconst (v := 1) hC dX0_held_137 (by decide) ?_
          refine g_aload_nR hC dX0_held_138 rfl ?_
          refine g_top0 eu7 ?_
          have hk13 := h.1
          refine gX_get (C0 := RX0) (T := TX0) (N := 15) (n := 0) (k := 13) (q := (13, true)) hC hX dX0_held_139 q227 rfl in_X0 (by decide) (Or.inl rfl) rfl (by decide) hk13 ?_
          show GX _ _ _ _ _ _ _ (va_rf (xFR S11 13 u7) :: _)
          refine g_iload hC dX0_held_142 rfl ?_
          obtain ⟨u14, eu14, h⟩ := h.2
          refine g_top1 eu14 ?_
          have hk15 := h.1
          refine gX_aald (n := 103) hC hX dX0_held_144 (by decide) hk15 h.2.1 ?_
          obtain ⟨u16, eu16, h⟩ := h.2.2
          refine g_top0 eu16 ?_
          have hk17 := h.1
          refine gX_get (C0 := RX8) (T := TX8) (N := 11) (n := 7) (k := 0) (q := (700, false)) hC hX dX0_held_145 q806 rfl in_X8 (by decide) (Or.inl rfl) rfl (by decide) hk17 ?_
          show GX _ _ _ _ _ _ _ (.int (xFI S11 700 u16) :: _)
          refine g_ishl hC dX0_held_148 ?_
          refine g_ior hC dX0_held_149 ?_
          refine g_istore_n hC dX0_held_150 rfl (by decide) rfl rfl ?_
          exact s_151 (wx_X0_held_115 Q n) ih S11 a0 a2 (a3 ||| ((1 : Int32) <<< ((xFI S11 700 u16) &&& 31))) a4 h.2
  have s_104 : ∀ (K4 : XS → Option Nat → Int32 → Int32 → Int32 → Prop) (hK4 : ∀ (S : XS) (b0 : Option Nat) (b1 : Int32) (b2 : Int32) (b3 : Int32), K4 S b0 b1 b2 b3 → GX E C S 0 0 4 [some (va_rf b0), some (.int b1), some (.int b2), some (.int b3), none, none] []) (S : XS) (a0 : Option Nat) (a1 : Int32) (a2 : Int32) (a3 : Int32), wx_X0_held_104 Q K4 S a0 a1 a2 a3 → GX E C S 0 0 104 [some (va_rf a0), some (.int a1), some (.int a2), some (.int a3), none, none] [] := by
    intro K4 hK4 S a0 a1 a2 a3 h
    refine g_iinc (v := (a3 + (1 : Int32))) hC dX0_held_104 rfl rfl (by decide) rfl rfl ?_
    refine g_goto (tgt := 4) hC dX0_held_107 (by decide) ?_
    exact hK4 S a0 a1 a2 (a3 + (1 : Int32)) h
  have s_95 : ∀ (K4 : XS → Option Nat → Int32 → Int32 → Int32 → Prop) (hK4 : ∀ (S : XS) (b0 : Option Nat) (b1 : Int32) (b2 : Int32) (b3 : Int32), K4 S b0 b1 b2 b3 → GX E C S 0 0 4 [some (va_rf b0), some (.int b1), some (.int b2), some (.int b3), none, none] []) (S : XS) (a0 : Option Nat) (a1 : Int32) (a2 : Int32) (a3 : Int32) (a4 : Option Nat) (a5 : Int32), wx_X0_held_95 Q K4 S a0 a1 a2 a3 a4 a5 → GX E C S 0 0 95 [some (va_rf a0), some (.int a1), some (.int a2), some (.int a3), some (va_rf a4), some (.int a5)] [] := by
    intro K4 hK4 S a0 a1 a2 a3 a4 a5 h
    refine g_aload_nR hC dX0_held_95 rfl ?_
    obtain ⟨u28, eu28, h⟩ := h
    refine g_top0 eu28 ?_
    have hk29 := h.1
    refine gX_get (C0 := RX0) (T := TX0) (N := 15) (n := 0) (k := 13) (q := (13, true)) hC hX dX0_held_96 q227 rfl in_X0 (by decide) (Or.inl rfl) rfl (by decide) hk29 ?_
    show GX _ _ _ _ _ _ _ (va_rf (xFR S 13 u28) :: _)
    refine g_iload hC dX0_held_99 rfl ?_
    refine g_aloadR hC dX0_held_101 rfl ?_
    obtain ⟨u30, eu30, h⟩ := h.2
    refine g_top2 eu30 ?_
    have hk31 := h.1
    obtain ⟨u32, eu32, h⟩ := h.2
    refine g_top0 eu32 ?_
    have hk33 := h.2.2.1
    refine gX_aast (n := 103) (nv := 7) hC hX dX0_held_103 (by decide) hk31 h.1 h.2.1 hk33 rfl (by decide) rfl ?_
    refine g_sub [true, true, true, true, false, false] rfl ?_
    exact s_104 K4 hK4 (sAR S u30 (Int32.toNatClampNeg a5) (some u32)) a0 a1 a2 a3 h.2.2.2
  have s_50 : ∀ (K4 : XS → Option Nat → Int32 → Int32 → Int32 → Prop) (hK4 : ∀ (S : XS) (b0 : Option Nat) (b1 : Int32) (b2 : Int32) (b3 : Int32), K4 S b0 b1 b2 b3 → GX E C S 0 0 4 [some (va_rf b0), some (.int b1), some (.int b2), some (.int b3), none, none] []) (n : Nat) (S : XS) (a0 : Option Nat) (a1 : Int32) (a2 : Int32) (a3 : Int32) (a4 : Option Nat) (a5 : Int32), wx_X0_held_50 Q K4 n S a0 a1 a2 a3 a4 a5 → GX E C S 0 0 50 [some (va_rf a0), some (.int a1), some (.int a2), some (.int a3), some (va_rf a4), some (.int a5)] [] := by
    intro K4 hK4 n
    induction n with
    | zero =>
      intro S a0 a1 a2 a3 a4 a5 h
      exact False.elim h
    | succ n ih =>
      intro S a0 a1 a2 a3 a4 a5 h
      refine g_iload hC dX0_held_50 rfl ?_
      refine g_if_le (tgt := 95) hC dX0_held_52 (by decide) (fun c => ?_) (fun c => ?_)
      · have h := it_p c h
        exact s_95 K4 hK4 S a0 a1 a2 a3 a4 a5 h
      · have h := it_n c h
        refine g_aload_nR hC dX0_held_55 rfl ?_
        refine g_aloadR hC dX0_held_56 rfl ?_
        refine g_aload_nR hC dX0_held_58 rfl ?_
        obtain ⟨u34, eu34, h⟩ := h
        refine g_top0 eu34 ?_
        have hk35 := h.1
        refine gX_get (C0 := RX0) (T := TX0) (N := 15) (n := 0) (k := 13) (q := (13, true)) hC hX dX0_held_59 q227 rfl in_X0 (by decide) (Or.inl rfl) rfl (by decide) hk35 ?_
        show GX _ _ _ _ _ _ _ (va_rf (xFR S 13 u34) :: _)
        refine g_iload hC dX0_held_62 rfl ?_
        refine g_iconst (v := 1) hC dX0_held_64 (by decide) ?_
        refine g_isub hC dX0_held_65 ?_
        obtain ⟨u36, eu36, h⟩ := h.2
        refine g_top1 eu36 ?_
        have hk37 := h.1
        refine gX_aald (n := 103) hC hX dX0_held_66 (by decide) hk37 h.2.1 ?_
        refine g_top2 eu34 ?_
        refine gX_ni hX (gX_runV (As := [va_rf a4, va_rf (xAR S u36 (Int32.toNatClampNeg (a5 - (1 : Int32))))]) (rest := []) (Cr := RX0) hC hX (mx_X0_isAhead (cx_l C) E _ _ _ _ _ h.2.2) (lw_V q982 q984 qs21 q70 q985) hx_X0_isAhead rfl rfl (Or.inl (Nat.le_of_ble_eq_true rfl)) ⟨Nat.le_of_ble_eq_true rfl, Nat.le_of_ble_eq_true rfl⟩ dX0_held_67 (Nat.zero_le _) (Nat.zero_le _) hk35 rfl (by decide) rfl) rfl rfl ?_
        intro r39 S38 h
        refine g_if_eq (tgt := 95) hC dX0_held_70 (by decide) (fun c => ?_) (fun c => ?_)
        · have h := it_p c h
          exact s_95 K4 hK4 S38 a0 a1 a2 a3 a4 a5 h
        · have h := it_n c h
          refine g_aload_nR hC dX0_held_73 rfl ?_
          refine g_top0 eu34 ?_
          have hk40 := h.1
          refine gX_get (C0 := RX0) (T := TX0) (N := 15) (n := 0) (k := 13) (q := (13, true)) hC hX dX0_held_74 q227 rfl in_X0 (by decide) (Or.inl rfl) rfl (by decide) hk40 ?_
          show GX _ _ _ _ _ _ _ (va_rf (xFR S38 13 u34) :: _)
          refine g_iload hC dX0_held_77 rfl ?_
          refine g_aload_nR hC dX0_held_79 rfl ?_
          refine g_top0 eu34 ?_
          refine gX_get (C0 := RX0) (T := TX0) (N := 15) (n := 0) (k := 13) (q := (13, true)) hC hX dX0_held_80 q227 rfl in_X0 (by decide) (Or.inl rfl) rfl (by decide) hk40 ?_
          show GX _ _ _ _ _ _ _ (va_rf (xFR S38 13 u34) :: _)
          refine g_iload hC dX0_held_83 rfl ?_
          refine g_iconst (v := 1) hC dX0_held_85 (by decide) ?_
          refine g_isub hC dX0_held_86 ?_
          obtain ⟨u41, eu41, h⟩ := h.2
          refine g_top1 eu41 ?_
          have hk42 := h.1
          refine gX_aald (n := 103) hC hX dX0_held_87 (by decide) hk42 h.2.1 ?_
          refine g_top2 eu41 ?_
          obtain ⟨u43, eu43, h⟩ := h.2.2
          refine g_top0 eu43 ?_
          have hk44 := h.2.2.1
          refine gX_aast (n := 103) (nv := 7) hC hX dX0_held_88 (by decide) hk42 h.1 h.2.1 hk44 rfl (by decide) rfl ?_
          refine g_iinc (v := (a5 + (-1 : Int32))) hC dX0_held_89 rfl rfl (by decide) (lx_okR (j := 4) rfl) rfl ?_
          refine g_goto (tgt := 50) hC dX0_held_92 (by decide) ?_
          exact ih (sAR S38 u41 (Int32.toNatClampNeg a5) (some u43)) a0 a1 a2 a3 a4 (a5 + (-1 : Int32)) h.2.2.2
  have s_4 : ∀ (n : Nat) (S : XS) (a0 : Option Nat) (a1 : Int32) (a2 : Int32) (a3 : Int32), wx_X0_held_4 Q  n S a0 a1 a2 a3 → GX E C S 0 0 4 [some (va_rf a0), some (.int a1), some (.int a2), some (.int a3), none, none] [] := by
    intro  n
    induction n with
    | zero =>
      intro S a0 a1 a2 a3 h
      exact False.elim h
    | succ n ih =>
      intro S a0 a1 a2 a3 h
      refine g_iload_n hC dX0_held_4 rfl ?_
      refine g_aload_nR hC dX0_held_5 rfl ?_
      obtain ⟨u1, eu1, h⟩ := h
      refine g_top0 eu1 ?_
      have hk2 := h.1
      refine gX_get (C0 := RX0) (T := TX0) (N := 15) (n := 0) (k := 2) (q := (2, true)) hC hX dX0_held_6 q213 rfl in_X0 (by decide) (Or.inl rfl) rfl (by decide) hk2 ?_
      show GX _ _ _ _ _ _ _ (va_rf (xFR S 2 u1) :: _)
      obtain ⟨u3, eu3, h⟩ := h.2
      refine g_top0 eu3 ?_
      have hk4 := h.1
      refine gX_ni5 hX (gX_runF (n := 0) (As := []) (rest := [.int a3]) (Cr := "java/util/ArrayList") (x := ⟨"java/util/List", "size", "()I"⟩) hC hX (mx_J2_size (cx_l C) E _ _ _ h.2) (lw_app (lw_4 q770 q774 q776 q73) (lw_meth q778)) (List.mem_of_getElem? (i := 0) rfl) (by decide +kernel) rfl rfl (Or.inl (Nat.le_of_ble_eq_true rfl)) ⟨Nat.le_of_ble_eq_true rfl, Nat.le_of_ble_eq_true rfl⟩ dX0_held_9 (Nat.zero_le _) (Nat.zero_le _) hk4 rfl (by decide) rfl) rfl rfl ?_
      intro r6 S5 h
      refine g_icmp_ge (tgt := 110) hC dX0_held_14 (by decide) (fun c => ?_) (fun c => ?_)
      · have h := it_p c h
        refine g_iconst (v := 0) hC dX0_held_110 (by decide) ?_
        refine g_istore_n hC dX0_held_111 rfl (by decide) rfl rfl ?_
        refine g_sub [true, false, true, true, false, false] rfl ?_
        refine g_iconst (v := 0) hC dX0_held_112 (by decide) ?_
        refine g_istore hC dX0_held_113 (by decide) rfl rfl ?_
        obtain ⟨n0, h0⟩ := h
        exact s_115 n0 S5 a0 a2 (0 : Int32) (0 : Int32) h0
      · have h := it_n c h
        refine g_aload_nR hC dX0_held_17 rfl ?_
        refine g_top0 eu1 ?_
        have hk19 := h.1
        refine gX_get (C0 := RX0) (T := TX0) (N := 15) (n := 0) (k := 2) (q := (2, true)) hC hX dX0_held_18 q213 rfl in_X0 (by decide) (Or.inl rfl) rfl (by decide) hk19 ?_
        show GX _ _ _ _ _ _ _ (va_rf (xFR S5 2 u1) :: _)
        refine g_iload_n hC dX0_held_21 rfl ?_
        obtain ⟨u20, eu20, h⟩ := h.2
        refine g_top1 eu20 ?_
        have hk21 := h.1
        refine gX_nq5 hX (gX_runF (n := 1) (As := [.int a3]) (rest := []) (Cr := "java/util/ArrayList") (x := ⟨"java/util/List", "get", "(I)Ljava/lang/Object;"⟩) hC hX (mx_J2_get (cx_l C) E _ _ _ _ h.2) (lw_app (lw_4 q928 q931 q933 q73) (lw_meth q935)) (List.mem_of_getElem? (i := 2) rfl) (by decide +kernel) rfl rfl (Or.inl (Nat.le_of_ble_eq_true rfl)) ⟨Nat.le_of_ble_eq_true rfl, Nat.le_of_ble_eq_true rfl⟩ dX0_held_22 (Nat.zero_le _) (Nat.zero_le _) hk21 rfl (by decide) rfl) rfl rfl ?_
        intro r23 S22 h
        obtain ⟨u24, eu24, h⟩ := h
        refine g_top0 eu24 ?_
        have hk25 := h.1
        refine gX_cast (r := (RX8, TX8, 11)) (n := 7) hC hX dX0_held_27 q164 rfl (by decide) hk25 ?_
        refine g_astoreR hC dX0_held_30 (by decide) rfl rfl ?_
        refine g_aloadR hC dX0_held_32 rfl ?_
        refine g_iload_n hC dX0_held_34 rfl ?_
        refine gX_ni hX (gX_runV (As := [.int a1]) (rest := []) (Cr := RX8) hC hX (mx_X8_isThere (cx_l C) E _ _ _ _ h.2) (lw_V q978 q979 q980 q96 q981) hx_X8_isThere rfl rfl (Or.inl (Nat.le_of_ble_eq_true rfl)) ⟨Nat.le_of_ble_eq_true rfl, Nat.le_of_ble_eq_true rfl⟩ dX0_held_35 (Nat.zero_le _) (Nat.zero_le _) hk25 rfl (by decide) rfl) rfl rfl ?_
        intro r27 S26 h
        refine g_if_ne (tgt := 44) hC dX0_held_38 (by decide) (fun c => ?_) (fun c => ?_)
        · have h := it_n c h
          refine g_iload_n hC dX0_held_44 rfl ?_
          refine g_iinc (v := (a2 + (1 : Int32))) hC dX0_held_45 rfl rfl (by decide) rfl rfl ?_
          refine g_istore hC dX0_held_48 (by decide) (lx_okR (j := 4) rfl) rfl ?_
          obtain ⟨n0, h0⟩ := h
          exact s_50 (wx_X0_held_4 Q n) ih n0 S26 a0 a1 (a2 + (1 : Int32)) a3 (some u24) a2 h0
        · have h := it_p c h
          refine g_goto (tgt := 104) hC dX0_held_41 (by decide) ?_
          refine g_sub [true, true, true, true, false, false] rfl ?_
          exact s_104 (wx_X0_held_4 Q n) ih S26 a0 a1 a2 a3 h
  refine g_iconst (v := 0) hC dX0_held_0 (by decide) ?_
  refine g_istore_n hC dX0_held_1 rfl (by decide) rfl rfl ?_
  refine g_iconst (v := 0) hC dX0_held_2 (by decide) ?_
  refine g_istore_n hC dX0_held_3 rfl (by decide) rfl rfl ?_
  obtain ⟨n0, h0⟩ := h
  exact s_4 n0 S x0 x1 (0 : Int32) (0 : Int32) h0
theorem mx_X0_held (l : Launch) (E : XE) (Q : Int32 → XS → Prop) (S : XS) (x0 : Option Nat) (x1 : Int32) (h : wx_X0_held Q S x0 x1) : XMet E l yX0_held cX0_held 6 (some .int) ({ frames := 5, cells := 0, slots := 0, locals := 123 } : Room) [va_rf x0, .int x1] S (fun sz => va_Qi Q (BX1 E S sz) (xA S sz)) :=
  XMet_of (rm := ({ frames := 5, cells := 0, slots := 0, locals := 123 } : Room)) (by decide) (by simp [lg_sl, va_rf_cat, cat_i, cat_l]) (L0 := [some (va_rf x0), some (.int x1), none, none, none, none]) (by simp [lx_pairs, lv_args, va_rf_cat, cat_i, cat_l, List.range_succ]) (fun sz C hC hX hl hnm hA hQ => bx_X0_held E C S sz Q S x0 x1 hC hX hA hQ h)
