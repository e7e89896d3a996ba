/-! D_X0_445 -/
def wa_kind (Q : Int32 → XS → Prop) (S : XS) (b : Nat) : Prop :=
  (xKD S b = some 11 ∧ wx_X12_kind Q S (some b) ) ∨ (xKD S b = some 12 ∧ wx_X13_kind Q S (some b) ) ∨ (xKD S b = some 13 ∧ wx_X14_kind Q S (some b) ) ∨ (xKD S b = some 14 ∧ wx_X15_kind Q S (some b) ) ∨ (xKD S b = some 15 ∧ wx_X16_kind Q S (some b) )
theorem rd_X0_445 {E : XE} {C : Cx} {S : XS} {mc ms pc : Nat} {L : List (Option Value)} {st : List Value} {cc : ByteArray} {ret : Option FieldType} {rf rl nL : Nat} {rest : List Value} {Q : Int32 → XS → Prop} {b : Nat} (hC : COk C cc "VillageHalls" ret rf rl nL) (hX : XOk E C) (h : wa_kind Q S b ) (hst : st = ([] : List Value).reverse ++ va_rf (some b) :: rest) (hcat : rest.length ≤ 4 ∨ rest.length ≤ 8 ∧ ∀ v ∈ rest, v.category = 1) (hR : 2 ≤ rf ∧ 54 ≤ rl) (d : decode cc pc = .ok (.invokevirtual 445, 3)) : XRun E C S mc ms pc L st rest 0 0 (fun sz => va_Qi Q (BX1 E S sz) (xA S sz) (va_rf (some b) :: []).toArray) := by
  rcases h with h | h | h | h | h
  · exact gX_runV (n := 0) (As := []) (rest := rest) (Cr := RX12) hC hX (mx_X12_kind (cx_l C) E _ _ _ h.2) (lw_V q1371 q1372 q1373 q103 q1387) (by decide +kernel) rfl hst hcat (by refine ⟨?_, ?_⟩ <;> dsimp only <;> omega) d (Nat.zero_le _) (Nat.zero_le _) h.1 rfl (by decide) rfl
  · exact gX_runO (n := 0) (As := []) (rest := rest) (x := ⟨"VillageHalls$AsBooking", "kind", "()I"⟩) (owner := "VillageHalls$AsBooking") (Cr := "VillageHalls$AsGone") hC hX (mx_X13_kind (cx_l C) E _ _ _ h.2) (lw_app (lw_6 q1371 q1374 q1372 q1378 q1379 q104) (lw_meth q1380)) q1387 (by decide +kernel) rfl hst hcat (by refine ⟨?_, ?_⟩ <;> dsimp only <;> omega) d (Nat.zero_le _) (Nat.zero_le _) h.1 rfl (by decide) rfl
  · exact gX_runO (n := 0) (As := []) (rest := rest) (x := ⟨"VillageHalls$AsBooking", "kind", "()I"⟩) (owner := "VillageHalls$AsBooking") (Cr := "VillageHalls$AsHeld") hC hX (mx_X14_kind (cx_l C) E _ _ _ h.2) (lw_app (lw_6 q1371 q1374 q1372 q1381 q1382 q105) (lw_meth q1383)) q1387 (by decide +kernel) rfl hst hcat (by refine ⟨?_, ?_⟩ <;> dsimp only <;> omega) d (Nat.zero_le _) (Nat.zero_le _) h.1 rfl (by decide) rfl
  · exact gX_runO (n := 0) (As := []) (rest := rest) (x := ⟨"VillageHalls$AsBooking", "kind", "()I"⟩) (owner := "VillageHalls$AsBooking") (Cr := "VillageHalls$AsFirm") hC hX (mx_X15_kind (cx_l C) E _ _ _ h.2) (lw_app (lw_6 q1371 q1374 q1372 q1375 q1376 q106) (lw_meth q1377)) q1387 (by decide +kernel) rfl hst hcat (by refine ⟨?_, ?_⟩ <;> dsimp only <;> omega) d (Nat.zero_le _) (Nat.zero_le _) h.1 rfl (by decide) rfl
  · exact gX_runO (n := 0) (As := []) (rest := rest) (x := ⟨"VillageHalls$AsBooking", "kind", "()I"⟩) (owner := "VillageHalls$AsBooking") (Cr := "VillageHalls$AsOut") hC hX (mx_X16_kind (cx_l C) E _ _ _ h.2) (lw_app (lw_6 q1371 q1374 q1372 q1384 q1385 q107) (lw_meth q1386)) q1387 (by decide +kernel) rfl hst hcat (by refine ⟨?_, ?_⟩ <;> dsimp only <;> omega) d (Nat.zero_le _) (Nat.zero_le _) h.1 rfl (by decide) rfl
/-! X0_kind -/
def wx_X0_kind (Q : Int32 → XS → Prop) (mc ms : Nat) (S : XS) (x0 : Option Nat) (x1 : Int32) : Prop :=
  dr x0 (fun u1 => xKD S u1 = some 0 ∧ wx_X0_isBooking (fun r4 S3 => (if r4 = 0 then Q (-1000001 : Int32) S3 else xKD S3 u1 = some 0 ∧ (∃ k6 n7, k6 ≤ mc ∧ n7 ≤ ms ∧ wx_X0_asked (fun r9 S8 => dr r9 (fun u10 => wa_kind (fun r12 S11 => Q r12 S11) S8 u10 )) k6 n7 S3 (some u1) x1))) S (some u1) x1)
theorem hx_X0_kind : yX0_kind.cls = RX0 ∧ yX0_kind.cls ≠ "java/lang/invoke/MethodHandle" ∧ yX0_kind.cls ≠ "java/lang/invoke/VarHandle" ∧ (parseMethodDescriptor yX0_kind.desc).map (fun d => d.parameters.length) = some 1 := by decide +kernel
set_option maxHeartbeats 4000000 in
set_option maxRecDepth 100000 in
theorem bx_X0_kind (E : XE) (C : Cx) (S0 : XS) (sz : Nat) (Q : Int32 → XS → Prop) (mc ms : Nat) (S : XS) (x0 : Option Nat) (x1 : Int32) (hC : COk C cX0_kind RX0 (some .int) 7 170 2) (hX : XOk E C) (hA : cx_A C = xA S0 sz) (hQ : cx_Q C = MQ (cx_b C) (va_Qi Q (BX1 E S0 sz) (xA S0 sz)) (cx_a C) (cx_s C) (cx_MC C) (cx_MS C) (xA S0 sz)) (h : wx_X0_kind Q mc ms S x0 x1) : GX E C S mc ms 0 [some (va_rf x0), some (.int x1)] [] := by
  refine g_aload_nR hC dX0_kind_0 rfl ?_
  refine g_iload_n hC dX0_kind_1 rfl ?_
  obtain ⟨u1, eu1, h⟩ := h
  refine g_top1 eu1 ?_
  have hk2 := h.1
  refine gX_ni hX (gX_runV (As := [.int x1]) (rest := []) (Cr := RX0) hC hX (mx_X0_isBooking (cx_l C) E _ _ _ _ h.2) (lw_V q923 q925 qs16 q70 q926) hx_X0_isBooking rfl rfl (Or.inl (Nat.le_of_ble_eq_true rfl)) ⟨Nat.le_of_ble_eq_true rfl, Nat.le_of_ble_eq_true rfl⟩ dX0_kind_2 (Nat.zero_le _) (Nat.zero_le _) hk2 rfl (by decide) rfl) rfl rfl ?_
  intro r4 S3 h
  refine g_if_eq (tgt := 19) hC dX0_kind_5 (by decide) (fun c => ?_) (fun c => ?_)
  · have h := it_p c h
    refine g_ldc (v := -1000001) hC dX0_kind_19 q273 ?_
    refine gX_iret rfl hC hA hQ dX0_kind_21 h
  · have h := it_n c h
    refine g_aload_nR hC dX0_kind_8 rfl ?_
    refine g_iload_n hC dX0_kind_9 rfl ?_
    refine g_top1 eu1 ?_
    have hk5 := h.1
    obtain ⟨k6, n7, hk6, hn7, h⟩ := h.2
    refine gX_cq hX (gX_runV (As := [.int x1]) (rest := []) (Cr := RX0) hC hX (mx_X0_asked (cx_l C) E k6 n7 _ _ _ _ h) (lw_V q1318 q1320 qs35 q70 q1321) hx_X0_asked rfl rfl (Or.inl (Nat.le_of_ble_eq_true rfl)) ⟨Nat.le_of_ble_eq_true rfl, Nat.le_of_ble_eq_true rfl⟩ dX0_kind_10 hk6 hn7 hk5 rfl (by decide) rfl) hk6 hn7 ?_
    intro r9 S8 h
    obtain ⟨u10, eu10, h⟩ := h
    refine g_top0 eu10 ?_
    refine gX_ni hX (rd_X0_445 (rest := []) hC hX h rfl (Or.inl (Nat.le_of_ble_eq_true rfl)) ⟨Nat.le_of_ble_eq_true rfl, Nat.le_of_ble_eq_true rfl⟩ dX0_kind_13) rfl rfl ?_
    intro r12 S11 h
    refine g_goto (tgt := 21) hC dX0_kind_16 (by decide) ?_
    refine gX_iret rfl hC hA hQ dX0_kind_21 h
theorem mx_X0_kind (l : Launch) (E : XE) (mc ms : Nat) (Q : Int32 → XS → Prop) (S : XS) (x0 : Option Nat) (x1 : Int32) (h : wx_X0_kind Q mc ms S x0 x1) : XMet E l yX0_kind cX0_kind 2 (some .int) ({ frames := 7, cells := mc, slots := ms, locals := 170 } : Room) [va_rf x0, .int x1] S (fun sz => va_Qi Q (BX1 E S sz) (xA S sz)) :=
  XMet_of (rm := ({ frames := 7, cells := mc, slots := ms, locals := 170 } : Room)) (by decide) (by simp [lg_sl, va_rf_cat, cat_i, cat_l]) (L0 := [some (va_rf x0), some (.int x1)]) (by simp [lx_pairs, lv_args, va_rf_cat, cat_i, cat_l, List.range_succ]) (fun sz C hC hX hl hnm hA hQ => bx_X0_kind E C S sz Q mc ms S x0 x1 hC hX hA hQ h)
/-! X1_begins -/
def wx_X1_begins (Q : XS → Prop) (S : XS) (x0 : Option Nat) (x1 : Int32) : Prop :=
  dr x0 (fun u1 => xKD S u1 = some 1 ∧ (if (16 : Int32) ≤ (xFI S 101 u1) then Q S else dr (xFR S 100 u1) (fun u3 => xKD (sFI S 101 u1 ((xFI S 101 u1) + (1 : Int32))) u3 = some 100 ∧ vp_in (xFI S 101 u1) (xLN (sFI S 101 u1 ((xFI S 101 u1) + (1 : Int32))) u3) ∧ Q (sAI (sFI S 101 u1 ((xFI S 101 u1) + (1 : Int32))) u3 (Int32.toNatClampNeg (xFI S 101 u1)) x1))))
theorem hx_X1_begins : yX1_begins.cls = RX1 ∧ yX1_begins.cls ≠ "java/lang/invoke/MethodHandle" ∧ yX1_begins.cls ≠ "java/lang/invoke/VarHandle" ∧ (parseMethodDescriptor yX1_begins.desc).map (fun d => d.parameters.length) = some 1 := by decide +kernel
set_option maxHeartbeats 4000000 in
set_option maxRecDepth 100000 in
theorem bx_X1_begins (E : XE) (C : Cx) (S0 : XS) (sz : Nat) (Q : XS → Prop) (S : XS) (x0 : Option Nat) (x1 : Int32) (hC : COk C cX1_begins RX1 none 1 34 2) (hX : XOk E C) (hA : cx_A C = xA S0 sz) (hQ : cx_Q C = MQ (cx_b C) (va_Qv Q (BX1 E S0 sz) (xA S0 sz)) (cx_a C) (cx_s C) (cx_MC C) (cx_MS C) (xA S0 sz)) (h : wx_X1_begins Q S x0 x1) : GX E C S 0 0 0 [some (va_rf x0), some (.int x1)] [] := by
  refine g_aload_nR hC dX1_begins_0 rfl ?_
  obtain ⟨u1, eu1, h⟩ := h
  refine g_top0 eu1 ?_
  have hk2 := h.1
  refine gX_get (C0 := RX1) (T := TX1) (N := 2) (n := 1) (k := 1) (q := (101, false)) hC hX dX1_begins_1 q155 rfl in_X1 (by decide) (Or.inl rfl) rfl (by decide) hk2 ?_
  show GX _ _ _ _ _ _ _ (.int (xFI S 101 u1) :: _)
  refine g_bipush (v := 16) hC dX1_begins_4 (by decide) ?_
  refine g_icmp_ge (tgt := 26) hC dX1_begins_6 (by decide) (fun c => ?_) (fun c => ?_)
  · have h := it_p c h.2
    refine gX_vret hC hA hQ rfl dX1_begins_26 h
  · have h := it_n c h.2
    refine g_aload_nR hC dX1_begins_9 rfl ?_
    refine g_top0 eu1 ?_
    refine gX_get (C0 := RX1) (T := TX1) (N := 2) (n := 1) (k := 0) (q := (100, true)) hC hX dX1_begins_10 q153 rfl in_X1 (by decide) (Or.inl rfl) rfl (by decide) hk2 ?_
    show GX _ _ _ _ _ _ _ (va_rf (xFR S 100 u1) :: _)
    refine g_aload_nR hC dX1_begins_13 rfl ?_
    refine g_dup hC dX1_begins_14 (va_rf_cat _) ?_
    refine g_top0 eu1 ?_
    refine gX_get (C0 := RX1) (T := TX1) (N := 2) (n := 1) (k := 1) (q := (101, false)) hC hX dX1_begins_15 q155 rfl in_X1 (by decide) (Or.inl rfl) rfl (by decide) hk2 ?_
    show GX _ _ _ _ _ _ _ (.int (xFI S 101 u1) :: _)
    refine g_dup_x1 hC dX1_begins_18 rfl (va_rf_cat _) ?_
    refine g_iconst (v := 1) hC dX1_begins_19 (by decide) ?_
    refine g_iadd hC dX1_begins_20 ?_
    refine g_top1 eu1 ?_
    refine gX_putI (C0 := RX1) (T := TX1) (ty0 := tyX1) (N := 2) (n := 1) (k := 1) (f := 101) hC hX dX1_begins_21 q155 rfl in_X1 tyX1_ok nmX1 (by decide) (Or.inl rfl) rfl rfl rfl rfl rfl (by decide) (Or.inl (by decide)) hk2 ?_
    refine g_iload_n hC dX1_begins_24 rfl ?_
    obtain ⟨u3, eu3, h⟩ := h
    refine g_top2 eu3 ?_
    have hk4 := h.1
    refine gX_iast hC hX dX1_begins_25 hk4 h.2.1 ?_
    refine gX_vret hC hA hQ rfl dX1_begins_26 h.2.2
theorem mx_X1_begins (l : Launch) (E : XE) (Q : XS → Prop) (S : XS) (x0 : Option Nat) (x1 : Int32) (h : wx_X1_begins Q S x0 x1) : XMet E l yX1_begins cX1_begins 2 none ({ frames := 1, cells := 0, slots := 0, locals := 34 } : Room) [va_rf x0, .int x1] S (fun sz => va_Qv Q (BX1 E S sz) (xA S sz)) :=
  XMet_of (rm := ({ frames := 1, cells := 0, slots := 0, locals := 34 } : Room)) (by decide) (by simp [lg_sl, va_rf_cat, cat_i, cat_l]) (L0 := [some (va_rf x0), some (.int x1)]) (by simp [lx_pairs, lv_args, va_rf_cat, cat_i, cat_l, List.range_succ]) (fun sz C hC hX hl hnm hA hQ => bx_X1_begins E C S sz Q S x0 x1 hC hX hA hQ h)
/-! X12_size -/
def wx_X12_size (Q : Int32 → XS → Prop) (S : XS) (x0 : Option Nat) (x1 : Option Nat) : Prop :=
  dr x1 (fun u1 => xKD S u1 = some 1 ∧ wx_X1_begins (fun S3 => dr x0 (fun u5 => xAs S3 u5 ∧ dr (xFR S3 1100 u5) (fun u6 => xKD S3 u6 = some 7 ∧ Q (xFI S3 706 u6) S3))) S (some u1) (10 : Int32))
theorem hx_X12_size : yX12_size.cls = RX12 ∧ yX12_size.cls ≠ "java/lang/invoke/MethodHandle" ∧ yX12_size.cls ≠ "java/lang/invoke/VarHandle" ∧ (parseMethodDescriptor yX12_size.desc).map (fun d => d.parameters.length) = some 1 := by decide +kernel
set_option maxHeartbeats 4000000 in
set_option maxRecDepth 100000 in
theorem bx_X12_size (E : XE) (C : Cx) (S0 : XS) (sz : Nat) (Q : Int32 → XS → Prop) (S : XS) (x0 : Option Nat) (x1 : Option Nat) (hC : COk C cX12_size RX12 (some .int) 2 55 2) (hX : XOk E C) (hA : cx_A C = xA S0 sz) (hQ : cx_Q C = MQ (cx_b C) (va_Qi Q (BX1 E S0 sz) (xA S0 sz)) (cx_a C) (cx_s C) (cx_MC C) (cx_MS C) (xA S0 sz)) (h : wx_X12_size Q S x0 x1) : GX E C S 0 0 0 [some (va_rf x0), some (va_rf x1)] [] := by
  refine g_aload_nR hC dX12_size_0 rfl ?_
  refine g_bipush (v := 10) hC dX12_size_1 (by decide) ?_
  obtain ⟨u1, eu1, h⟩ := h
  refine g_top1 eu1 ?_
  have hk2 := h.1
  refine gX_nv hX (gX_runV (As := [.int (10 : Int32)]) (rest := []) (Cr := RX1) hC hX (mx_X1_begins (cx_l C) E _ _ _ _ h.2) (lw_V q1427 q1418 q1419 q74 q1420) hx_X1_begins rfl rfl (Or.inl (Nat.le_of_ble_eq_true rfl)) ⟨Nat.le_of_ble_eq_true rfl, Nat.le_of_ble_eq_true rfl⟩ dX12_size_3 (Nat.zero_le _) (Nat.zero_le _) hk2 rfl (by decide) rfl) rfl rfl ?_
  intro S3 h
  refine g_aload_nR hC dX12_size_6 rfl ?_
  obtain ⟨u5, eu5, h⟩ := h
  refine g_top0 eu5 ?_
  refine gX_it hC hX dX12_size_7 q1331 (Or.inl rfl) h.1 ?_
  obtain ⟨u6, eu6, h⟩ := h.2
  refine g_top0 eu6 ?_
  have hk7 := h.1
  refine gX_get (C0 := RX8) (T := TX8) (N := 11) (n := 7) (k := 6) (q := (706, false)) hC hX dX12_size_10 q823 rfl in_X8 (by decide) (Or.inl rfl) rfl (by decide) hk7 ?_
  show GX _ _ _ _ _ _ _ (.int (xFI S3 706 u6) :: _)
  refine gX_iret rfl hC hA hQ dX12_size_13 h.2
theorem mx_X12_size (l : Launch) (E : XE) (Q : Int32 → XS → Prop) (S : XS) (x0 : Option Nat) (x1 : Option Nat) (h : wx_X12_size Q S x0 x1) : XMet E l yX12_size cX12_size 2 (some .int) ({ frames := 2, cells := 0, slots := 0, locals := 55 } : Room) [va_rf x0, va_rf x1] S (fun sz => va_Qi Q (BX1 E S sz) (xA S sz)) :=
  XMet_of (rm := ({ frames := 2, cells := 0, slots := 0, locals := 55 } : Room)) (by decide) (by simp [lg_sl, va_rf_cat, cat_i, cat_l]) (L0 := [some (va_rf x0), some (va_rf x1)]) (by simp [lx_pairs, lv_args, va_rf_cat, cat_i, cat_l, List.range_succ]) (fun sz C hC hX hl hnm hA hQ => bx_X12_size E C S sz Q S x0 x1 hC hX hA hQ h)
/-! X12_use -/
def wx_X12_use (Q : Int32 → XS → Prop) (S : XS) (x0 : Option Nat) : Prop :=
  dr x0 (fun u1 => xAs S u1 ∧ dr (xFR S 1100 u1) (fun u2 => xKD S u2 = some 7 ∧ Q (xFI S 707 u2) S))
theorem hx_X12_use : yX12_use.cls = RX12 ∧ yX12_use.cls ≠ "java/lang/invoke/MethodHandle" ∧ yX12_use.cls ≠ "java/lang/invoke/VarHandle" ∧ (parseMethodDescriptor yX12_use.desc).map (fun d => d.parameters.length) = some 0 := by decide +kernel
set_option maxHeartbeats 4000000 in
set_option maxRecDepth 100000 in
theorem bx_X12_use (E : XE) (C : Cx) (S0 : XS) (sz : Nat) (Q : Int32 → XS → Prop) (S : XS) (x0 : Option Nat) (hC : COk C cX12_use RX12 (some .int) 1 34 1) (hX : XOk E C) (hA : cx_A C = xA S0 sz) (hQ : cx_Q C = MQ (cx_b C) (va_Qi Q (BX1 E S0 sz) (xA S0 sz)) (cx_a C) (cx_s C) (cx_MC C) (cx_MS C) (xA S0 sz)) (h : wx_X12_use Q S x0) : GX E C S 0 0 0 [some (va_rf x0)] [] := by
  refine g_aload_nR hC dX12_use_0 rfl ?_
  obtain ⟨u1, eu1, h⟩ := h
  refine g_top0 eu1 ?_
  refine gX_it hC hX dX12_use_1 q1331 (Or.inl rfl) h.1 ?_
  obtain ⟨u2, eu2, h⟩ := h.2
  refine g_top0 eu2 ?_
  have hk3 := h.1
  refine gX_get (C0 := RX8) (T := TX8) (N := 11) (n := 7) (k := 7) (q := (707, false)) hC hX dX12_use_4 q828 rfl in_X8 (by decide) (Or.inl rfl) rfl (by decide) hk3 ?_
  show GX _ _ _ _ _ _ _ (.int (xFI S 707 u2) :: _)
  refine gX_iret rfl hC hA hQ dX12_use_7 h.2
theorem mx_X12_use (l : Launch) (E : XE) (Q : Int32 → XS → Prop) (S : XS) (x0 : Option Nat) (h : wx_X12_use Q S x0) : XMet E l yX12_use cX12_use 1 (some .int) ({ frames := 1, cells := 0, slots := 0, locals := 34 } : Room) [va_rf x0] S (fun sz => va_Qi Q (BX1 E S sz) (xA S sz)) :=
  XMet_of (rm := ({ frames := 1, cells := 0, slots := 0, locals := 34 } : Room)) (by decide) (by simp [lg_sl, va_rf_cat, cat_i, cat_l]) (L0 := [some (va_rf x0)]) (by simp [lx_pairs, lv_args, va_rf_cat, cat_i, cat_l, List.range_succ]) (fun sz C hC hX hl hnm hA hQ => bx_X12_use E C S sz Q S x0 hC hX hA hQ h)
/-! D_X17_7 -/
def wa_use (Q : Int32 → XS → Prop) (S : XS) (b : Nat) : Prop :=
  (xKD S b = some 11 ∧ wx_X12_use Q S (some b) ) ∨ (xKD S b = some 12 ∧ wx_X12_use Q S (some b) ) ∨ (xKD S b = some 13 ∧ wx_X12_use Q S (some b) ) ∨ (xKD S b = some 14 ∧ wx_X12_use Q S (some b) ) ∨ (xKD S b = some 15 ∧ wx_X12_use Q S (some b) )
theorem rd_X17_7 {E : XE} {C : Cx} {S : XS} {mc ms pc : Nat} {L : List (Option Value)} {st : List Value} {cc : ByteArray} {ret : Option FieldType} {rf rl nL cnt : Nat} {rest : List Value} {Q : Int32 → XS → Prop} {b : Nat} (hC : COk C cc "VillageHalls$Marked" ret rf rl nL) (hX : XOk E C) (h : wa_use Q S b ) (hst : st = ([] : List Value).reverse ++ va_rf (some b) :: rest) (hcat : rest.length ≤ 4 ∨ rest.length ≤ 8 ∧ ∀ v ∈ rest, v.category = 1) (hR : 2 ≤ rf ∧ 54 ≤ rl) (d : decode cc pc = .ok (.invokeinterface 7 cnt, 5)) : XRun5 E C S mc ms pc L st rest 0 0 (fun sz => va_Qi Q (BX1 E S sz) (xA S sz) (va_rf (some b) :: []).toArray) := by
  rcases h with h | h | h | h | h
  · exact gX_runF (n := 0) (As := []) (rest := rest) (x := ⟨"VillageHalls$Marked", "use", "()I"⟩) (Cr := "VillageHalls$AsBooking") hC hX (mx_X12_use (cx_l C) E _ _ _ h.2) (lw_app (lw_4 q1440 q1444 q1446 q103) (lw_meth q1448)) (List.mem_of_getElem? (i := 4) rfl) (by decide +kernel) rfl hst hcat (by refine ⟨?_, ?_⟩ <;> dsimp only <;> omega) d (Nat.zero_le _) (Nat.zero_le _) h.1 rfl (by decide) rfl
  · exact gX_runF (n := 0) (As := []) (rest := rest) (x := ⟨"VillageHalls$Marked", "use", "()I"⟩) (Cr := "VillageHalls$AsGone") hC hX (mx_X12_use (cx_l C) E _ _ _ h.2) (lw_app (lw_4 q1440 q1453 q1446 q103) (lw_meth q1448)) (List.mem_of_getElem? (i := 5) rfl) (by decide +kernel) rfl hst hcat (by refine ⟨?_, ?_⟩ <;> dsimp only <;> omega) d (Nat.zero_le _) (Nat.zero_le _) h.1 rfl (by decide) rfl
  · exact gX_runF (n := 0) (As := []) (rest := rest) (x := ⟨"VillageHalls$Marked", "use", "()I"⟩) (Cr := "VillageHalls$AsHeld") hC hX (mx_X12_use (cx_l C) E _ _ _ h.2) (lw_app (lw_4 q1440 q1456 q1446 q103) (lw_meth q1448)) (List.mem_of_getElem? (i := 6) rfl) (by decide +kernel) rfl hst hcat (by refine ⟨?_, ?_⟩ <;> dsimp only <;> omega) d (Nat.zero_le _) (Nat.zero_le _) h.1 rfl (by decide) rfl
  · exact gX_runF (n := 0) (As := []) (rest := rest) (x := ⟨"VillageHalls$Marked", "use", "()I"⟩) (Cr := "VillageHalls$AsFirm") hC hX (mx_X12_use (cx_l C) E _ _ _ h.2) (lw_app (lw_4 q1440 q1450 q1446 q103) (lw_meth q1448)) (List.mem_of_getElem? (i := 7) rfl) (by decide +kernel) rfl hst hcat (by refine ⟨?_, ?_⟩ <;> dsimp only <;> omega) d (Nat.zero_le _) (Nat.zero_le _) h.1 rfl (by decide) rfl
  · exact gX_runF (n := 0) (As := []) (rest := rest) (x := ⟨"VillageHalls$Marked", "use", "()I"⟩) (Cr := "VillageHalls$AsOut") hC hX (mx_X12_use (cx_l C) E _ _ _ h.2) (lw_app (lw_4 q1440 q1459 q1446 q103) (lw_meth q1448)) (List.mem_of_getElem? (i := 8) rfl) (by decide +kernel) rfl hst hcat (by refine ⟨?_, ?_⟩ <;> dsimp only <;> omega) d (Nat.zero_le _) (Nat.zero_le _) h.1 rfl (by decide) rfl
/-! X17_mark -/
def wx_X17_mark (Q : Int32 → XS → Prop) (S : XS) (x0 : Option Nat) (x1 : Option Nat) : Prop :=
  dr x1 (fun u1 => xKD S u1 = some 1 ∧ wx_X1_begins (fun S3 => dr x0 (fun u5 => wa_use (fun r7 S6 => Q r7 S6) S3 u5 )) S (some u1) (20 : Int32))
theorem hx_X17_mark : yX17_mark.cls = RX17 ∧ yX17_mark.cls ≠ "java/lang/invoke/MethodHandle" ∧ yX17_mark.cls ≠ "java/lang/invoke/VarHandle" ∧ (parseMethodDescriptor yX17_mark.desc).map (fun d => d.parameters.length) = some 1 := by decide +kernel
set_option maxHeartbeats 4000000 in
set_option maxRecDepth 100000 in
theorem bx_X17_mark (E : XE) (C : Cx) (S0 : XS) (sz : Nat) (Q : Int32 → XS → Prop) (S : XS) (x0 : Option Nat) (x1 : Option Nat) (hC : COk C cX17_mark RX17 (some .int) 2 55 2) (hX : XOk E C) (hA : cx_A C = xA S0 sz) (hQ : cx_Q C = MQ (cx_b C) (va_Qi Q (BX1 E S0 sz) (xA S0 sz)) (cx_a C) (cx_s C) (cx_MC C) (cx_MS C) (xA S0 sz)) (h : wx_X17_mark Q S x0 x1) : GX E C S 0 0 0 [some (va_rf x0), some (va_rf x1)] [] := by
  refine g_aload_nR hC dX17_mark_0 rfl ?_
  refine g_bipush (v := 20) hC dX17_mark_1 (by decide) ?_
  obtain ⟨u1, eu1, h⟩ := h
  refine g_top1 eu1 ?_
  have hk2 := h.1
  refine gX_nv hX (gX_runV (As := [.int (20 : Int32)]) (rest := []) (Cr := RX1) hC hX (mx_X1_begins (cx_l C) E _ _ _ _ h.2) (lw_V q1438 q1418 q1419 q74 q1420) hx_X1_begins rfl rfl (Or.inl (Nat.le_of_ble_eq_true rfl)) ⟨Nat.le_of_ble_eq_true rfl, Nat.le_of_ble_eq_true rfl⟩ dX17_mark_3 (Nat.zero_le _) (Nat.zero_le _) hk2 rfl (by decide) rfl) rfl rfl ?_
  intro S3 h
  refine g_aload_nR hC dX17_mark_6 rfl ?_
  obtain ⟨u5, eu5, h⟩ := h
  refine g_top0 eu5 ?_
  refine gX_ni5 hX (rd_X17_7 (rest := []) hC hX h rfl (Or.inl (Nat.le_of_ble_eq_true rfl)) ⟨Nat.le_of_ble_eq_true rfl, Nat.le_of_ble_eq_true rfl⟩ dX17_mark_7) rfl rfl ?_
  intro r7 S6 h
  refine gX_iret rfl hC hA hQ dX17_mark_12 h
theorem mx_X17_mark (l : Launch) (E : XE) (Q : Int32 → XS → Prop) (S : XS) (x0 : Option Nat) (x1 : Option Nat) (h : wx_X17_mark Q S x0 x1) : XMet E l yX17_mark cX17_mark 2 (some .int) ({ frames := 2, cells := 0, slots := 0, locals := 55 } : Room) [va_rf x0, va_rf x1] S (fun sz => va_Qi Q (BX1 E S sz) (xA S sz)) :=
  XMet_of (rm := ({ frames := 2, cells := 0, slots := 0, locals := 55 } : Room)) (by decide) (by simp [lg_sl, va_rf_cat, cat_i, cat_l]) (L0 := [some (va_rf x0), some (va_rf x1)]) (by simp [lx_pairs, lv_args, va_rf_cat, cat_i, cat_l, List.range_succ]) (fun sz C hC hX hl hnm hA hQ => bx_X17_mark E C S sz Q S x0 x1 hC hX hA hQ h)
/-! D_X13_19 -/
def wa_mark12 (Q : Int32 → XS → Prop) (S : XS) (b : Nat) (y0 : Option Nat) : Prop :=
  (xKD S b = some 12 ∧ wx_X17_mark Q S (some b) y0)
theorem rd_X13_19 {E : XE} {C : Cx} {S : XS} {mc ms pc : Nat} {L : List (Option Value)} {st : List Value} {cc : ByteArray} {ret : Option FieldType} {rf rl nL : Nat} {rest : List Value} {Q : Int32 → XS → Prop} {b : Nat} {y0 : Option Nat} (hC : COk C cc "VillageHalls$AsGone" ret rf rl nL) (hX : XOk E C) (h : wa_mark12 Q S b y0) (hst : st = ([va_rf y0] : List Value).reverse ++ va_rf (some b) :: rest) (hcat : rest.length ≤ 4 ∨ rest.length ≤ 8 ∧ ∀ v ∈ rest, v.category = 1) (hR : 3 ≤ rf ∧ 76 ≤ rl) (d : decode cc pc = .ok (.invokevirtual 19, 3)) : XRun E C S mc ms pc L st rest 0 0 (fun sz => va_Qi Q (BX1 E S sz) (xA S sz) (va_rf (some b) :: [va_rf y0]).toArray) := by
  exact gX_runDV (n := 1) (As := [va_rf y0]) (rest := rest) (x := ⟨"VillageHalls$AsGone", "mark", "(LVillageHalls$Trail;)I"⟩) (owner := "VillageHalls$Marked") (Cr := "VillageHalls$AsGone") hC hX (mx_X17_mark (cx_l C) E _ _ _ _ h.2) q1437 q2002 q1435 (xdef_at 0 rfl) (xdef_at 1 rfl) q1435 q1437 (xdef_at 6 rfl) (by decide +kernel) rfl hst hcat (by refine ⟨?_, ?_⟩ <;> dsimp only <;> omega) d (Nat.zero_le _) (Nat.zero_le _) h.1 rfl (by decide) rfl
/-! X13_size -/
def wx_X13_size (Q : Int32 → XS → Prop) (S : XS) (x0 : Option Nat) (x1 : Option Nat) : Prop :=
  dr x1 (fun u1 => xKD S u1 = some 1 ∧ wx_X1_begins (fun S3 => dr x0 (fun u5 => xAs S3 u5 ∧ wx_X12_size (fun r12 S11 => wa_mark12 (fun r14 S13 => Q (r12 - r14) S13) S11 u5 x1) S3 (some u5) x1)) S (some u1) (13 : Int32))
theorem hx_X13_size : yX13_size.cls = RX13 ∧ yX13_size.cls ≠ "java/lang/invoke/MethodHandle" ∧ yX13_size.cls ≠ "java/lang/invoke/VarHandle" ∧ (parseMethodDescriptor yX13_size.desc).map (fun d => d.parameters.length) = some 1 := by decide +kernel
set_option maxHeartbeats 4000000 in
set_option maxRecDepth 100000 in
theorem bx_X13_size (E : XE) (C : Cx) (S0 : XS) (sz : Nat) (Q : Int32 → XS → Prop) (S : XS) (x0 : Option Nat) (x1 : Option Nat) (hC : COk C cX13_size RX13 (some .int) 3 76 2) (hX : XOk E C) (hA : cx_A C = xA S0 sz) (hQ : cx_Q C = MQ (cx_b C) (va_Qi Q (BX1 E S0 sz) (xA S0 sz)) (cx_a C) (cx_s C) (cx_MC C) (cx_MS C) (xA S0 sz)) (h : wx_X13_size Q S x0 x1) : GX E C S 0 0 0 [some (va_rf x0), some (va_rf x1)] [] := by
  refine g_aload_nR hC dX13_size_0 rfl ?_
  refine g_bipush (v := 13) hC dX13_size_1 (by decide) ?_
  obtain ⟨u1, eu1, h⟩ := h
  refine g_top1 eu1 ?_
  have hk2 := h.1
  refine gX_nv hX (gX_runV (As := [.int (13 : Int32)]) (rest := []) (Cr := RX1) hC hX (mx_X1_begins (cx_l C) E _ _ _ _ h.2) (lw_V q1431 q1418 q1419 q74 q1420) hx_X1_begins rfl rfl (Or.inl (Nat.le_of_ble_eq_true rfl)) ⟨Nat.le_of_ble_eq_true rfl, Nat.le_of_ble_eq_true rfl⟩ dX13_size_3 (Nat.zero_le _) (Nat.zero_le _) hk2 rfl (by decide) rfl) rfl rfl ?_
  intro S3 h
  refine g_aload_nR hC dX13_size_6 rfl ?_
  refine g_aload_nR hC dX13_size_7 rfl ?_
  obtain ⟨u5, eu5, h⟩ := h
  refine g_top1 eu5 ?_
  obtain ⟨m6, r7, e8, e9, e10⟩ := xAs_spec h.1
  refine gX_ni hX (gX_runSU (n := 1) (As := [va_rf x1]) (rest := []) hC hX (mx_X12_size (cx_l C) E _ _ _ _ h.2) (lw_app (lw_5 q1432 q1413 q1337 q1411 q103) (lw_meth q1426)) (by decide +kernel) rfl rfl (Or.inl (Nat.le_of_ble_eq_true rfl)) ⟨Nat.le_of_ble_eq_true rfl, Nat.le_of_ble_eq_true rfl⟩ dX13_size_8 (Nat.zero_le _) (Nat.zero_le _) e8 e9 e10 rfl) rfl rfl ?_
  intro r12 S11 h
  refine g_aload_nR hC dX13_size_11 rfl ?_
  refine g_aload_nR hC dX13_size_12 rfl ?_
  refine g_top1 eu5 ?_
  refine gX_ni hX (rd_X13_19 (rest := [.int r12]) hC hX h rfl (Or.inl (Nat.le_of_ble_eq_true rfl)) ⟨Nat.le_of_ble_eq_true rfl, Nat.le_of_ble_eq_true rfl⟩ dX13_size_13) rfl rfl ?_
  intro r14 S13 h
  refine g_isub hC dX13_size_16 ?_
  refine gX_iret rfl hC hA hQ dX13_size_17 h
theorem mx_X13_size (l : Launch) (E : XE) (Q : Int32 → XS → Prop) (S : XS) (x0 : Option Nat) (x1 : Option Nat) (h : wx_X13_size Q S x0 x1) : XMet E l yX13_size cX13_size 2 (some .int) ({ frames := 3, cells := 0, slots := 0, locals := 76 } : Room) [va_rf x0, va_rf x1] S (fun sz => va_Qi Q (BX1 E S sz) (xA S sz)) :=
  XMet_of (rm := ({ frames := 3, cells := 0, slots := 0, locals := 76 } : Room)) (by decide) (by simp [lg_sl, va_rf_cat, cat_i, cat_l]) (L0 := [some (va_rf x0), some (va_rf x1)]) (by simp [lx_pairs, lv_args, va_rf_cat, cat_i, cat_l, List.range_succ]) (fun sz C hC hX hl hnm hA hQ => bx_X13_size E C S sz Q S x0 x1 hC hX hA hQ h)
/-! X14_size -/
def wx_X14_size (Q : Int32 → XS → Prop) (S : XS) (x0 : Option Nat) (x1 : Option Nat) : Prop :=
  dr x1 (fun u1 => xKD S u1 = some 1 ∧ wx_X1_begins (fun S3 => dr x0 (fun u5 => xAs S3 u5 ∧ wx_X12_size (fun r12 S11 => (xKD S11 u5 = some 13 ∨ xKD S11 u5 = some 14) ∧ Q (r12 + (xFI S11 1300 u5)) S11) S3 (some u5) x1)) S (some u1) (11 : Int32))
theorem hx_X14_size : yX14_size.cls = RX14 ∧ yX14_size.cls ≠ "java/lang/invoke/MethodHandle" ∧ yX14_size.cls ≠ "java/lang/invoke/VarHandle" ∧ (parseMethodDescriptor yX14_size.desc).map (fun d => d.parameters.length) = some 1 := by decide +kernel
set_option maxHeartbeats 4000000 in
set_option maxRecDepth 100000 in
theorem bx_X14_size (E : XE) (C : Cx) (S0 : XS) (sz : Nat) (Q : Int32 → XS → Prop) (S : XS) (x0 : Option Nat) (x1 : Option Nat) (hC : COk C cX14_size RX14 (some .int) 3 76 2) (hX : XOk E C) (hA : cx_A C = xA S0 sz) (hQ : cx_Q C = MQ (cx_b C) (va_Qi Q (BX1 E S0 sz) (xA S0 sz)) (cx_a C) (cx_s C) (cx_MC C) (cx_MS C) (xA S0 sz)) (h : wx_X14_size Q S x0 x1) : GX E C S 0 0 0 [some (va_rf x0), some (va_rf x1)] [] := by
  refine g_aload_nR hC dX14_size_0 rfl ?_
  refine g_bipush (v := 11) hC dX14_size_1 (by decide) ?_
  obtain ⟨u1, eu1, h⟩ := h
  refine g_top1 eu1 ?_
  have hk2 := h.1
  refine gX_nv hX (gX_runV (As := [.int (11 : Int32)]) (rest := []) (Cr := RX1) hC hX (mx_X1_begins (cx_l C) E _ _ _ _ h.2) (lw_V q1424 q1418 q1419 q74 q1420) hx_X1_begins rfl rfl (Or.inl (Nat.le_of_ble_eq_true rfl)) ⟨Nat.le_of_ble_eq_true rfl, Nat.le_of_ble_eq_true rfl⟩ dX14_size_3 (Nat.zero_le _) (Nat.zero_le _) hk2 rfl (by decide) rfl) rfl rfl ?_
  intro S3 h
  refine g_aload_nR hC dX14_size_6 rfl ?_
  refine g_aload_nR hC dX14_size_7 rfl ?_
  obtain ⟨u5, eu5, h⟩ := h
  refine g_top1 eu5 ?_
  obtain ⟨m6, r7, e8, e9, e10⟩ := xAs_spec h.1
  refine gX_ni hX (gX_runSU (n := 1) (As := [va_rf x1]) (rest := []) hC hX (mx_X12_size (cx_l C) E _ _ _ _ h.2) (lw_app (lw_5 q1425 q1413 q1357 q1411 q103) (lw_meth q1426)) (by decide +kernel) rfl rfl (Or.inl (Nat.le_of_ble_eq_true rfl)) ⟨Nat.le_of_ble_eq_true rfl, Nat.le_of_ble_eq_true rfl⟩ dX14_size_8 (Nat.zero_le _) (Nat.zero_le _) e8 e9 e10 rfl) rfl rfl ?_
  intro r12 S11 h
  refine g_aload_nR hC dX14_size_11 rfl ?_
  refine g_top0 eu5 ?_
  refine gX_heldprice hC hX dX14_size_12 q1347 h.1 ?_
  refine g_iadd hC dX14_size_15 ?_
  refine gX_iret rfl hC hA hQ dX14_size_16 h.2
theorem mx_X14_size (l : Launch) (E : XE) (Q : Int32 → XS → Prop) (S : XS) (x0 : Option Nat) (x1 : Option Nat) (h : wx_X14_size Q S x0 x1) : XMet E l yX14_size cX14_size 2 (some .int) ({ frames := 3, cells := 0, slots := 0, locals := 76 } : Room) [va_rf x0, va_rf x1] S (fun sz => va_Qi Q (BX1 E S sz) (xA S sz)) :=
  XMet_of (rm := ({ frames := 3, cells := 0, slots := 0, locals := 76 } : Room)) (by decide) (by simp [lg_sl, va_rf_cat, cat_i, cat_l]) (L0 := [some (va_rf x0), some (va_rf x1)]) (by simp [lx_pairs, lv_args, va_rf_cat, cat_i, cat_l, List.range_succ]) (fun sz C hC hX hl hnm hA hQ => bx_X14_size E C S sz Q S x0 x1 hC hX hA hQ h)
/-! X15_size -/
def wx_X15_size (Q : Int32 → XS → Prop) (S : XS) (x0 : Option Nat) (x1 : Option Nat) : Prop :=
  dr x1 (fun u1 => xKD S u1 = some 1 ∧ wx_X1_begins (fun S3 => dr x0 (fun u5 => xAs S3 u5 ∧ wx_X14_size (fun r12 S11 => Q ((2 : Int32) * r12) S11) S3 (some u5) x1)) S (some u1) (12 : Int32))
theorem hx_X15_size : yX15_size.cls = RX15 ∧ yX15_size.cls ≠ "java/lang/invoke/MethodHandle" ∧ yX15_size.cls ≠ "java/lang/invoke/VarHandle" ∧ (parseMethodDescriptor yX15_size.desc).map (fun d => d.parameters.length) = some 1 := by decide +kernel
set_option maxHeartbeats 4000000 in
set_option maxRecDepth 100000 in
theorem bx_X15_size (E : XE) (C : Cx) (S0 : XS) (sz : Nat) (Q : Int32 → XS → Prop) (S : XS) (x0 : Option Nat) (x1 : Option Nat) (hC : COk C cX15_size RX15 (some .int) 4 97 2) (hX : XOk E C) (hA : cx_A C = xA S0 sz) (hQ : cx_Q C = MQ (cx_b C) (va_Qi Q (BX1 E S0 sz) (xA S0 sz)) (cx_a C) (cx_s C) (cx_MC C) (cx_MS C) (xA S0 sz)) (h : wx_X15_size Q S x0 x1) : GX E C S 0 0 0 [some (va_rf x0), some (va_rf x1)] [] := by
  refine g_aload_nR hC dX15_size_0 rfl ?_
  refine g_bipush (v := 12) hC dX15_size_1 (by decide) ?_
  obtain ⟨u1, eu1, h⟩ := h
  refine g_top1 eu1 ?_
  have hk2 := h.1
  refine gX_nv hX (gX_runV (As := [.int (12 : Int32)]) (rest := []) (Cr := RX1) hC hX (mx_X1_begins (cx_l C) E _ _ _ _ h.2) (lw_V q1417 q1418 q1419 q74 q1420) hx_X1_begins rfl rfl (Or.inl (Nat.le_of_ble_eq_true rfl)) ⟨Nat.le_of_ble_eq_true rfl, Nat.le_of_ble_eq_true rfl⟩ dX15_size_3 (Nat.zero_le _) (Nat.zero_le _) hk2 rfl (by decide) rfl) rfl rfl ?_
  intro S3 h
  refine g_iconst (v := 2) hC dX15_size_6 (by decide) ?_
  refine g_aload_nR hC dX15_size_7 rfl ?_
  refine g_aload_nR hC dX15_size_8 rfl ?_
  obtain ⟨u5, eu5, h⟩ := h
  refine g_top1 eu5 ?_
  obtain ⟨m6, r7, e8, e9, e10⟩ := xAs_spec h.1
  refine gX_ni hX (gX_runSU (n := 1) (As := [va_rf x1]) (rest := [.int (2 : Int32)]) hC hX (mx_X14_size (cx_l C) E _ _ _ _ h.2) (lw_app (lw_5 q1421 q1998 q1351 q1422 q105) (lw_meth q1423)) (by decide +kernel) rfl rfl (Or.inl (Nat.le_of_ble_eq_true rfl)) ⟨Nat.le_of_ble_eq_true rfl, Nat.le_of_ble_eq_true rfl⟩ dX15_size_9 (Nat.zero_le _) (Nat.zero_le _) e8 e9 e10 rfl) rfl rfl ?_
  intro r12 S11 h
  refine g_imul hC dX15_size_12 ?_
  refine gX_iret rfl hC hA hQ dX15_size_13 h
theorem mx_X15_size (l : Launch) (E : XE) (Q : Int32 → XS → Prop) (S : XS) (x0 : Option Nat) (x1 : Option Nat) (h : wx_X15_size Q S x0 x1) : XMet E l yX15_size cX15_size 2 (some .int) ({ frames := 4, cells := 0, slots := 0, locals := 97 } : Room) [va_rf x0, va_rf x1] S (fun sz => va_Qi Q (BX1 E S sz) (xA S sz)) :=
  XMet_of (rm := ({ frames := 4, cells := 0, slots := 0, locals := 97 } : Room)) (by decide) (by simp [lg_sl, va_rf_cat, cat_i, cat_l]) (L0 := [some (va_rf x0), some (va_rf x1)]) (by simp [lx_pairs, lv_args, va_rf_cat, cat_i, cat_l, List.range_succ]) (fun sz C hC hX hl hnm hA hQ => bx_X15_size E C S sz Q S x0 x1 hC hX hA hQ h)
/-! X14_mark -/
def wx_X14_mark (Q : Int32 → XS → Prop) (S : XS) (x0 : Option Nat) (x1 : Option Nat) : Prop :=
  dr x1 (fun u1 => xKD S u1 = some 1 ∧ wx_X1_begins (fun S3 => dr x0 (fun u5 => xAs S3 u5 ∧ wx_X17_mark (fun r12 S11 => xAs S11 u5 ∧ dr (xFR S11 1100 u5) (fun u13 => xKD S11 u13 = some 7 ∧ Q (r12 + (xFI S11 703 u13)) S11)) S3 (some u5) x1)) S (some u1) (21 : Int32))
theorem hx_X14_mark : yX14_mark.cls = RX14 ∧ yX14_mark.cls ≠ "java/lang/invoke/MethodHandle" ∧ yX14_mark.cls ≠ "java/lang/invoke/VarHandle" ∧ (parseMethodDescriptor yX14_mark.desc).map (fun d => d.parameters.length) = some 1 := by decide +kernel
set_option maxHeartbeats 4000000 in
set_option maxRecDepth 100000 in
theorem bx_X14_mark (E : XE) (C : Cx) (S0 : XS) (sz : Nat) (Q : Int32 → XS → Prop) (S : XS) (x0 : Option Nat) (x1 : Option Nat) (hC : COk C cX14_mark RX14 (some .int) 3 76 2) (hX : XOk E C) (hA : cx_A C = xA S0 sz) (hQ : cx_Q C = MQ (cx_b C) (va_Qi Q (BX1 E S0 sz) (xA S0 sz)) (cx_a C) (cx_s C) (cx_MC C) (cx_MS C) (xA S0 sz)) (h : wx_X14_mark Q S x0 x1) : GX E C S 0 0 0 [some (va_rf x0), some (va_rf x1)] [] := by
  refine g_aload_nR hC dX14_mark_0 rfl ?_
  refine g_bipush (v := 21) hC dX14_mark_1 (by decide) ?_
  obtain ⟨u1, eu1, h⟩ := h
  refine g_top1 eu1 ?_
  have hk2 := h.1
  refine gX_nv hX (gX_runV (As := [.int (21 : Int32)]) (rest := []) (Cr := RX1) hC hX (mx_X1_begins (cx_l C) E _ _ _ _ h.2) (lw_V q1424 q1418 q1419 q74 q1420) hx_X1_begins rfl rfl (Or.inl (Nat.le_of_ble_eq_true rfl)) ⟨Nat.le_of_ble_eq_true rfl, Nat.le_of_ble_eq_true rfl⟩ dX14_mark_3 (Nat.zero_le _) (Nat.zero_le _) hk2 rfl (by decide) rfl) rfl rfl ?_
  intro S3 h
  refine g_aload_nR hC dX14_mark_6 rfl ?_
  refine g_aload_nR hC dX14_mark_7 rfl ?_
  obtain ⟨u5, eu5, h⟩ := h
  refine g_top1 eu5 ?_
  obtain ⟨m6, r7, e8, e9, e10⟩ := xAs_spec h.1
  refine gX_ni hX (gX_runDS (n := 1) (As := [va_rf x1]) (rest := []) (x := ⟨"VillageHalls$AsBooking", "mark", "(LVillageHalls$Trail;)I"⟩) (owner := "VillageHalls$Marked") hC hX (mx_X17_mark (cx_l C) E _ _ _ _ h.2) q1437 q2002 q1435 (xdef_at 4 rfl) (xdef_at 3 rfl) q1435 q1437 (xdef_at 7 rfl) q1357 rfl (by decide) (by decide +kernel) rfl rfl (Or.inl (Nat.le_of_ble_eq_true rfl)) ⟨Nat.le_of_ble_eq_true rfl, Nat.le_of_ble_eq_true rfl⟩ dX14_mark_8 (Nat.zero_le _) (Nat.zero_le _) e8 e9 e10 rfl) rfl rfl ?_
  intro r12 S11 h
  refine g_aload_nR hC dX14_mark_11 rfl ?_
  refine g_top0 eu5 ?_
  refine gX_it hC hX dX14_mark_12 q1332 (Or.inr q1333) h.1 ?_
  obtain ⟨u13, eu13, h⟩ := h.2
  refine g_top0 eu13 ?_
  have hk14 := h.1
  refine gX_get (C0 := RX8) (T := TX8) (N := 11) (n := 7) (k := 3) (q := (703, false)) hC hX dX14_mark_15 q813 rfl in_X8 (by decide) (Or.inl rfl) rfl (by decide) hk14 ?_
  show GX _ _ _ _ _ _ _ (.int (xFI S11 703 u13) :: _)
  refine g_iadd hC dX14_mark_18 ?_
  refine gX_iret rfl hC hA hQ dX14_mark_19 h.2
theorem mx_X14_mark (l : Launch) (E : XE) (Q : Int32 → XS → Prop) (S : XS) (x0 : Option Nat) (x1 : Option Nat) (h : wx_X14_mark Q S x0 x1) : XMet E l yX14_mark cX14_mark 2 (some .int) ({ frames := 3, cells := 0, slots := 0, locals := 76 } : Room) [va_rf x0, va_rf x1] S (fun sz => va_Qi Q (BX1 E S sz) (xA S sz)) :=
  XMet_of (rm := ({ frames := 3, cells := 0, slots := 0, locals := 76 } : Room)) (by decide) (by simp [lg_sl, va_rf_cat, cat_i, cat_l]) (L0 := [some (va_rf x0), some (va_rf x1)]) (by simp [lx_pairs, lv_args, va_rf_cat, cat_i, cat_l, List.range_succ]) (fun sz C hC hX hl hnm hA hQ => bx_X14_mark E C S sz Q S x0 x1 hC hX hA hQ h)
/-! X15_mark -/
def wx_X15_mark (Q : Int32 → XS → Prop) (S : XS) (x0 : Option Nat) (x1 : Option Nat) : Prop :=
  dr x1 (fun u1 => xKD S u1 = some 1 ∧ wx_X1_begins (fun S3 => dr x0 (fun u5 => xAs S3 u5 ∧ wx_X14_mark (fun r12 S11 => xKD S11 u5 = some 14 ∧ wx_X15_size (fun r15 S14 => Q (r12 + r15) S14) S11 (some u5) x1) S3 (some u5) x1)) S (some u1) (22 : Int32))
theorem hx_X15_mark : yX15_mark.cls = RX15 ∧ yX15_mark.cls ≠ "java/lang/invoke/MethodHandle" ∧ yX15_mark.cls ≠ "java/lang/invoke/VarHandle" ∧ (parseMethodDescriptor yX15_mark.desc).map (fun d => d.parameters.length) = some 1 := by decide +kernel
set_option maxHeartbeats 4000000 in
set_option maxRecDepth 100000 in
theorem bx_X15_mark (E : XE) (C : Cx) (S0 : XS) (sz : Nat) (Q : Int32 → XS → Prop) (S : XS) (x0 : Option Nat) (x1 : Option Nat) (hC : COk C cX15_mark RX15 (some .int) 5 118 2) (hX : XOk E C) (hA : cx_A C = xA S0 sz) (hQ : cx_Q C = MQ (cx_b C) (va_Qi Q (BX1 E S0 sz) (xA S0 sz)) (cx_a C) (cx_s C) (cx_MC C) (cx_MS C) (xA S0 sz)) (h : wx_X15_mark Q S x0 x1) : GX E C S 0 0 0 [some (va_rf x0), some (va_rf x1)] [] := by
  refine g_aload_nR hC dX15_mark_0 rfl ?_
  refine g_bipush (v := 22) hC dX15_mark_1 (by decide) ?_
  obtain ⟨u1, eu1, h⟩ := h
  refine g_top1 eu1 ?_
  have hk2 := h.1
  refine gX_nv hX (gX_runV (As := [.int (22 : Int32)]) (rest := []) (Cr := RX1) hC hX (mx_X1_begins (cx_l C) E _ _ _ _ h.2) (lw_V q1417 q1418 q1419 q74 q1420) hx_X1_begins rfl rfl (Or.inl (Nat.le_of_ble_eq_true rfl)) ⟨Nat.le_of_ble_eq_true rfl, Nat.le_of_ble_eq_true rfl⟩ dX15_mark_3 (Nat.zero_le _) (Nat.zero_le _) hk2 rfl (by decide) rfl) rfl rfl ?_
  intro S3 h
  refine g_aload_nR hC dX15_mark_6 rfl ?_
  refine g_aload_nR hC dX15_mark_7 rfl ?_
  obtain ⟨u5, eu5, h⟩ := h
  refine g_top1 eu5 ?_
  obtain ⟨m6, r7, e8, e9, e10⟩ := xAs_spec h.1
  refine gX_ni hX (gX_runSU (n := 1) (As := [va_rf x1]) (rest := []) hC hX (mx_X14_mark (cx_l C) E _ _ _ _ h.2) (lw_app (lw_5 q1467 q1999 q1351 q1468 q105) (lw_meth q1469)) (by decide +kernel) rfl rfl (Or.inl (Nat.le_of_ble_eq_true rfl)) ⟨Nat.le_of_ble_eq_true rfl, Nat.le_of_ble_eq_true rfl⟩ dX15_mark_8 (Nat.zero_le _) (Nat.zero_le _) e8 e9 e10 rfl) rfl rfl ?_
  intro r12 S11 h
  refine g_aload_nR hC dX15_mark_11 rfl ?_
  refine g_aload_nR hC dX15_mark_12 rfl ?_
  refine g_top1 eu5 ?_
  have hk13 := h.1
  refine gX_ni hX (gX_runV (As := [va_rf x1]) (rest := [.int r12]) (Cr := RX15) hC hX (mx_X15_size (cx_l C) E _ _ _ _ h.2) (lw_V q1470 q1415 q2000 q106 q1416) hx_X15_size rfl rfl (Or.inl (Nat.le_of_ble_eq_true rfl)) ⟨Nat.le_of_ble_eq_true rfl, Nat.le_of_ble_eq_true rfl⟩ dX15_mark_13 (Nat.zero_le _) (Nat.zero_le _) hk13 rfl (by decide) rfl) rfl rfl ?_
  intro r15 S14 h
  refine g_iadd hC dX15_mark_16 ?_
  refine gX_iret rfl hC hA hQ dX15_mark_17 h
theorem mx_X15_mark (l : Launch) (E : XE) (Q : Int32 → XS → Prop) (S : XS) (x0 : Option Nat) (x1 : Option Nat) (h : wx_X15_mark Q S x0 x1) : XMet E l yX15_mark cX15_mark 2 (some .int) ({ frames := 5, cells := 0, slots := 0, locals := 118 } : Room) [va_rf x0, va_rf x1] S (fun sz => va_Qi Q (BX1 E S sz) (xA S sz)) :=
  XMet_of (rm := ({ frames := 5, cells := 0, slots := 0, locals := 118 } : Room)) (by decide) (by simp [lg_sl, va_rf_cat, cat_i, cat_l]) (L0 := [some (va_rf x0), some (va_rf x1)]) (by simp [lx_pairs, lv_args, va_rf_cat, cat_i, cat_l, List.range_succ]) (fun sz C hC hX hl hnm hA hQ => bx_X15_mark E C S sz Q S x0 x1 hC hX hA hQ h)
/-! D_X16_19 -/
def wa_size15 (Q : Int32 → XS → Prop) (S : XS) (b : Nat) (y0 : Option Nat) : Prop :=
  (xKD S b = some 15 ∧ wx_X12_size Q S (some b) y0)
theorem rd_X16_19 {E : XE} {C : Cx} {S : XS} {mc ms pc : Nat} {L : List (Option Value)} {st : List Value} {cc : ByteArray} {ret : Option FieldType} {rf rl nL : Nat} {rest : List Value} {Q : Int32 → XS → Prop} {b : Nat} {y0 : Option Nat} (hC : COk C cc "VillageHalls$AsOut" ret rf rl nL) (hX : XOk E C) (h : wa_size15 Q S b y0) (hst : st = ([va_rf y0] : List Value).reverse ++ va_rf (some b) :: rest) (hcat : rest.length ≤ 4 ∨ rest.length ≤ 8 ∧ ∀ v ∈ rest, v.category = 1) (hR : 3 ≤ rf ∧ 76 ≤ rl) (d : decode cc pc = .ok (.invokevirtual 19, 3)) : XRun E C S mc ms pc L st rest 0 0 (fun sz => va_Qi Q (BX1 E S sz) (xA S sz) (va_rf (some b) :: [va_rf y0]).toArray) := by
  exact gX_runU (n := 1) (As := [va_rf y0]) (rest := rest) (x := ⟨"VillageHalls$AsOut", "size", "(LVillageHalls$Trail;)I"⟩) (owner := "VillageHalls$AsBooking") (Cr := "VillageHalls$AsOut") hC hX (mx_X12_size (cx_l C) E _ _ _ _ h.2) (lw_app (lw_5 q1476 q1477 q1479 q1411 q103) (lw_meth q1426)) rfl (by decide +kernel) rfl hst hcat (by refine ⟨?_, ?_⟩ <;> dsimp only <;> omega) d (Nat.zero_le _) (Nat.zero_le _) h.1 rfl (by decide) rfl
/-! X16_mark -/
def wx_X16_mark (Q : Int32 → XS → Prop) (S : XS) (x0 : Option Nat) (x1 : Option Nat) : Prop :=
  dr x1 (fun u1 => xKD S u1 = some 1 ∧ wx_X1_begins (fun S3 => dr x0 (fun u5 => xAs S3 u5 ∧ wx_X17_mark (fun r12 S11 => wa_size15 (fun r14 S13 => Q (r12 + r14) S13) S11 u5 x1) S3 (some u5) x1)) S (some u1) (23 : Int32))
theorem hx_X16_mark : yX16_mark.cls = RX16 ∧ yX16_mark.cls ≠ "java/lang/invoke/MethodHandle" ∧ yX16_mark.cls ≠ "java/lang/invoke/VarHandle" ∧ (parseMethodDescriptor yX16_mark.desc).map (fun d => d.parameters.length) = some 1 := by decide +kernel
set_option maxHeartbeats 4000000 in
set_option maxRecDepth 100000 in
theorem bx_X16_mark (E : XE) (C : Cx) (S0 : XS) (sz : Nat) (Q : Int32 → XS → Prop) (S : XS) (x0 : Option Nat) (x1 : Option Nat) (hC : COk C cX16_mark RX16 (some .int) 3 76 2) (hX : XOk E C) (hA : cx_A C = xA S0 sz) (hQ : cx_Q C = MQ (cx_b C) (va_Qi Q (BX1 E S0 sz) (xA S0 sz)) (cx_a C) (cx_s C) (cx_MC C) (cx_MS C) (xA S0 sz)) (h : wx_X16_mark Q S x0 x1) : GX E C S 0 0 0 [some (va_rf x0), some (va_rf x1)] [] := by
  refine g_aload_nR hC dX16_mark_0 rfl ?_
  refine g_bipush (v := 23) hC dX16_mark_1 (by decide) ?_
  obtain ⟨u1, eu1, h⟩ := h
  refine g_top1 eu1 ?_
  have hk2 := h.1
  refine gX_nv hX (gX_runV (As := [.int (23 : Int32)]) (rest := []) (Cr := RX1) hC hX (mx_X1_begins (cx_l C) E _ _ _ _ h.2) (lw_V q1475 q1418 q1419 q74 q1420) hx_X1_begins rfl rfl (Or.inl (Nat.le_of_ble_eq_true rfl)) ⟨Nat.le_of_ble_eq_true rfl, Nat.le_of_ble_eq_true rfl⟩ dX16_mark_3 (Nat.zero_le _) (Nat.zero_le _) hk2 rfl (by decide) rfl) rfl rfl ?_
  intro S3 h
  refine g_aload_nR hC dX16_mark_6 rfl ?_
  refine g_aload_nR hC dX16_mark_7 rfl ?_
  obtain ⟨u5, eu5, h⟩ := h
  refine g_top1 eu5 ?_
  obtain ⟨m6, r7, e8, e9, e10⟩ := xAs_spec h.1
  refine gX_ni hX (gX_runDS (n := 1) (As := [va_rf x1]) (rest := []) (x := ⟨"VillageHalls$AsBooking", "mark", "(LVillageHalls$Trail;)I"⟩) (owner := "VillageHalls$Marked") hC hX (mx_X17_mark (cx_l C) E _ _ _ _ h.2) q1437 q2002 q1435 (xdef_at 5 rfl) (xdef_at 3 rfl) q1435 q1437 (xdef_at 7 rfl) q1365 rfl (by decide) (by decide +kernel) rfl rfl (Or.inl (Nat.le_of_ble_eq_true rfl)) ⟨Nat.le_of_ble_eq_true rfl, Nat.le_of_ble_eq_true rfl⟩ dX16_mark_8 (Nat.zero_le _) (Nat.zero_le _) e8 e9 e10 rfl) rfl rfl ?_
  intro r12 S11 h
  refine g_aload_nR hC dX16_mark_11 rfl ?_
  refine g_aload_nR hC dX16_mark_12 rfl ?_
  refine g_top1 eu5 ?_
  refine gX_ni hX (rd_X16_19 (rest := [.int r12]) hC hX h rfl (Or.inl (Nat.le_of_ble_eq_true rfl)) ⟨Nat.le_of_ble_eq_true rfl, Nat.le_of_ble_eq_true rfl⟩ dX16_mark_13) rfl rfl ?_
  intro r14 S13 h
  refine g_iadd hC dX16_mark_16 ?_
  refine gX_iret rfl hC hA hQ dX16_mark_17 h
theorem mx_X16_mark (l : Launch) (E : XE) (Q : Int32 → XS → Prop) (S : XS) (x0 : Option Nat) (x1 : Option Nat) (h : wx_X16_mark Q S x0 x1) : XMet E l yX16_mark cX16_mark 2 (some .int) ({ frames := 3, cells := 0, slots := 0, locals := 76 } : Room) [va_rf x0, va_rf x1] S (fun sz => va_Qi Q (BX1 E S sz) (xA S sz)) :=
  XMet_of (rm := ({ frames := 3, cells := 0, slots := 0, locals := 76 } : Room)) (by decide) (by simp [lg_sl, va_rf_cat, cat_i, cat_l]) (L0 := [some (va_rf x0), some (va_rf x1)]) (by simp [lx_pairs, lv_args, va_rf_cat, cat_i, cat_l, List.range_succ]) (fun sz C hC hX hl hnm hA hQ => bx_X16_mark E C S sz Q S x0 x1 hC hX hA hQ h)
/-! D_X0_453 -/
def wa_size (Q : Int32 → XS → Prop) (S : XS) (b : Nat) (y0 : Option Nat) : Prop :=
  (xKD S b = some 11 ∧ wx_X12_size Q S (some b) y0) ∨ (xKD S b = some 12 ∧ wx_X13_size Q S (some b) y0) ∨ (xKD S b = some 13 ∧ wx_X14_size Q S (some b) y0) ∨ (xKD S b = some 14 ∧ wx_X15_size Q S (some b) y0) ∨ (xKD S b = some 15 ∧ wx_X12_size Q S (some b) y0)
theorem rd_X0_453 {E : XE} {C : Cx} {S : XS} {mc ms pc : Nat} {L : List (Option Value)} {st : List Value} {cc : ByteArray} {ret : Option FieldType} {rf rl nL : Nat} {rest : List Value} {Q : Int32 → XS → Prop} {b : Nat} {y0 : Option Nat} (hC : COk C cc "VillageHalls" ret rf rl nL) (hX : XOk E C) (h : wa_size Q S b y0) (hst : st = ([va_rf y0] : List Value).reverse ++ va_rf (some b) :: rest) (hcat : rest.length ≤ 4 ∨ rest.length ≤ 8 ∧ ∀ v ∈ rest, v.category = 1) (hR : 5 ≤ rf ∧ 118 ≤ rl) (d : decode cc pc = .ok (.invokevirtual 453, 3)) : XRun E C S mc ms pc L st rest 0 0 (fun sz => va_Qi Q (BX1 E S sz) (xA S sz) (va_rf (some b) :: [va_rf y0]).toArray) := by
  rcases h with h | h | h | h | h
  · exact gX_runV (n := 1) (As := [va_rf y0]) (rest := rest) (Cr := RX12) hC hX (mx_X12_size (cx_l C) E _ _ _ _ h.2) (lw_V q1410 q1411 q1412 q103 q1426) (by decide +kernel) rfl hst hcat (by refine ⟨?_, ?_⟩ <;> dsimp only <;> omega) d (Nat.zero_le _) (Nat.zero_le _) h.1 rfl (by decide) rfl
  · exact gX_runO (n := 1) (As := [va_rf y0]) (rest := rest) (x := ⟨"VillageHalls$AsBooking", "size", "(LVillageHalls$Trail;)I"⟩) (owner := "VillageHalls$AsBooking") (Cr := "VillageHalls$AsGone") hC hX (mx_X13_size (cx_l C) E _ _ _ _ h.2) (lw_app (lw_6 q1410 q1413 q1411 q1428 q1429 q104) (lw_meth q1430)) q1426 (by decide +kernel) rfl hst hcat (by refine ⟨?_, ?_⟩ <;> dsimp only <;> omega) d (Nat.zero_le _) (Nat.zero_le _) h.1 rfl (by decide) rfl
  · exact gX_runO (n := 1) (As := [va_rf y0]) (rest := rest) (x := ⟨"VillageHalls$AsBooking", "size", "(LVillageHalls$Trail;)I"⟩) (owner := "VillageHalls$AsBooking") (Cr := "VillageHalls$AsHeld") hC hX (mx_X14_size (cx_l C) E _ _ _ _ h.2) (lw_app (lw_6 q1410 q1413 q1411 q1461 q1422 q105) (lw_meth q1423)) q1426 (by decide +kernel) rfl hst hcat (by refine ⟨?_, ?_⟩ <;> dsimp only <;> omega) d (Nat.zero_le _) (Nat.zero_le _) h.1 rfl (by decide) rfl
  · exact gX_runO (n := 1) (As := [va_rf y0]) (rest := rest) (x := ⟨"VillageHalls$AsBooking", "size", "(LVillageHalls$Trail;)I"⟩) (owner := "VillageHalls$AsBooking") (Cr := "VillageHalls$AsFirm") hC hX (mx_X15_size (cx_l C) E _ _ _ _ h.2) (lw_app (lw_6 q1410 q1413 q1411 q1414 q1415 q106) (lw_meth q1416)) q1426 (by decide +kernel) rfl hst hcat (by refine ⟨?_, ?_⟩ <;> dsimp only <;> omega) d (Nat.zero_le _) (Nat.zero_le _) h.1 rfl (by decide) rfl
  · exact gX_runU (n := 1) (As := [va_rf y0]) (rest := rest) (x := ⟨"VillageHalls$AsBooking", "size", "(LVillageHalls$Trail;)I"⟩) (owner := "VillageHalls$AsBooking") (Cr := "VillageHalls$AsOut") hC hX (mx_X12_size (cx_l C) E _ _ _ _ h.2) (lw_app (lw_5 q1410 q1413 q1462 q1411 q103) (lw_meth q1426)) rfl (by decide +kernel) rfl hst hcat (by refine ⟨?_, ?_⟩ <;> dsimp only <;> omega) d (Nat.zero_le _) (Nat.zero_le _) h.1 rfl (by decide) rfl
/-! D_X0_456 -/
def wa_mark (Q : Int32 → XS → Prop) (S : XS) (b : Nat) (y0 : Option Nat) : Prop :=
  (xKD S b = some 11 ∧ wx_X17_mark Q S (some b) y0) ∨ (xKD S b = some 12 ∧ wx_X17_mark Q S (some b) y0) ∨ (xKD S b = some 13 ∧ wx_X14_mark Q S (some b) y0) ∨ (xKD S b = some 14 ∧ wx_X15_mark Q S (some b) y0) ∨ (xKD S b = some 15 ∧ wx_X16_mark Q S (some b) y0)
theorem rd_X0_456 {E : XE} {C : Cx} {S : XS} {mc ms pc : Nat} {L : List (Option Value)} {st : List Value} {cc : ByteArray} {ret : Option FieldType} {rf rl nL : Nat} {rest : List Value} {Q : Int32 → XS → Prop} {b : Nat} {y0 : Option Nat} (hC : COk C cc "VillageHalls" ret rf rl nL) (hX : XOk E C) (h : wa_mark Q S b y0) (hst : st = ([va_rf y0] : List Value).reverse ++ va_rf (some b) :: rest) (hcat : rest.length ≤ 4 ∨ rest.length ≤ 8 ∧ ∀ v ∈ rest, v.category = 1) (hR : 6 ≤ rf ∧ 139 ≤ rl) (d : decode cc pc = .ok (.invokevirtual 456, 3)) : XRun E C S mc ms pc L st rest 0 0 (fun sz => va_Qi Q (BX1 E S sz) (xA S sz) (va_rf (some b) :: [va_rf y0]).toArray) := by
  rcases h with h | h | h | h | h
  · exact gX_runDV (n := 1) (As := [va_rf y0]) (rest := rest) (x := ⟨"VillageHalls$AsBooking", "mark", "(LVillageHalls$Trail;)I"⟩) (owner := "VillageHalls$Marked") (Cr := "VillageHalls$AsBooking") hC hX (mx_X17_mark (cx_l C) E _ _ _ _ h.2) q1437 q2002 q1435 (xdef_at 2 rfl) (xdef_at 3 rfl) q1435 q1437 (xdef_at 7 rfl) (by decide +kernel) rfl hst hcat (by refine ⟨?_, ?_⟩ <;> dsimp only <;> omega) d (Nat.zero_le _) (Nat.zero_le _) h.1 rfl (by decide) rfl
  · exact gX_runDV (n := 1) (As := [va_rf y0]) (rest := rest) (x := ⟨"VillageHalls$AsBooking", "mark", "(LVillageHalls$Trail;)I"⟩) (owner := "VillageHalls$Marked") (Cr := "VillageHalls$AsGone") hC hX (mx_X17_mark (cx_l C) E _ _ _ _ h.2) q1437 q2002 q1435 (xdef_at 2 rfl) (xdef_at 3 rfl) q1435 q1437 (xdef_at 8 rfl) (by decide +kernel) rfl hst hcat (by refine ⟨?_, ?_⟩ <;> dsimp only <;> omega) d (Nat.zero_le _) (Nat.zero_le _) h.1 rfl (by decide) rfl
  · exact gX_runDC (n := 1) (As := [va_rf y0]) (rest := rest) (x := ⟨"VillageHalls$AsBooking", "mark", "(LVillageHalls$Trail;)I"⟩) (owner := "VillageHalls$Marked") (Cr := "VillageHalls$AsHeld") hC hX (mx_X14_mark (cx_l C) E _ _ _ _ h.2) q1469 q105 q1468 (xdef_at 2 rfl) (xdef_at 3 rfl) q1435 q1437 q1471 (by decide +kernel) rfl hst hcat (by refine ⟨?_, ?_⟩ <;> dsimp only <;> omega) d (Nat.zero_le _) (Nat.zero_le _) h.1 rfl (by decide) rfl
  · exact gX_runDC (n := 1) (As := [va_rf y0]) (rest := rest) (x := ⟨"VillageHalls$AsBooking", "mark", "(LVillageHalls$Trail;)I"⟩) (owner := "VillageHalls$Marked") (Cr := "VillageHalls$AsFirm") hC hX (mx_X15_mark (cx_l C) E _ _ _ _ h.2) q1466 q106 q1465 (xdef_at 2 rfl) (xdef_at 3 rfl) q1435 q1437 q1464 (by decide +kernel) rfl hst hcat (by refine ⟨?_, ?_⟩ <;> dsimp only <;> omega) d (Nat.zero_le _) (Nat.zero_le _) h.1 rfl (by decide) rfl
  · exact gX_runDC (n := 1) (As := [va_rf y0]) (rest := rest) (x := ⟨"VillageHalls$AsBooking", "mark", "(LVillageHalls$Trail;)I"⟩) (owner := "VillageHalls$Marked") (Cr := "VillageHalls$AsOut") hC hX (mx_X16_mark (cx_l C) E _ _ _ _ h.2) q1474 q107 q1473 (xdef_at 2 rfl) (xdef_at 3 rfl) q1435 q1437 q1472 (by decide +kernel) rfl hst hcat (by refine ⟨?_, ?_⟩ <;> dsimp only <;> omega) d (Nat.zero_le _) (Nat.zero_le _) h.1 rfl (by decide) rfl
/-! X0_ask -/
def wx_X0_ask (Q : Int32 → XS → Prop) (mc ms : Nat) (S : XS) (x0 : Option Nat) (x1 : Int32) (x2 : Int32) : Prop :=
  dr x0 (fun u1 => xKD S u1 = some 0 ∧ wx_X0_isBooking (fun r4 S3 => (if r4 = 0 then Q (-1000001 : Int32) S3 else wx_X0_isIn (fun r6 S5 => (if r6 = 0 then Q (-1000001 : Int32) S5 else 1 ≤ mc ∧ 2 ≤ ms ∧ (∀ q7 : Nat, xKD S5 q7 = none → (∃ k10 n11, k10 ≤ (mc - 1) ∧ n11 ≤ (ms - 2) ∧ wx_X1_init (fun S12 => xKD S12 u1 = some 0 ∧ (∃ k15 n16, k15 ≤ ((mc - 1) - k10) ∧ n16 ≤ ((ms - 2) - n11) ∧ wx_X0_asked (fun r18 S17 => (if x2 = 0 then xKD S17 u1 = some 0 ∧ dr r18 (fun u24 => wa_size (fun r26 S25 => Q r26 S25) S17 u24 (xFR S17 11 u1)) else xKD S17 u1 = some 0 ∧ dr r18 (fun u20 => wa_mark (fun r22 S21 => Q r22 S21) S17 u20 (xFR S17 11 u1)))) k15 n16 (sFR S12 11 u1 (some q7)) (some u1) x1)) k10 n11 (sNew S5 q7 1) (some q7))))) S3 (Int32.toInt64 x2) (0 : Int64) (1 : Int64))) S (some u1) x1)
theorem hx_X0_ask : yX0_ask.cls = RX0 ∧ yX0_ask.cls ≠ "java/lang/invoke/MethodHandle" ∧ yX0_ask.cls ≠ "java/lang/invoke/VarHandle" ∧ (parseMethodDescriptor yX0_ask.desc).map (fun d => d.parameters.length) = some 2 := by decide +kernel
set_option maxHeartbeats 4000000 in
set_option maxRecDepth 100000 in
theorem bx_X0_ask (E : XE) (C : Cx) (S0 : XS) (sz : Nat) (Q : Int32 → XS → Prop) (mc ms : Nat) (S : XS) (x0 : Option Nat) (x1 : Int32) (x2 : Int32) (hC : COk C cX0_ask RX0 (some .int) 7 170 4) (hX : XOk E C) (hA : cx_A C = xA S0 sz) (hQ : cx_Q C = MQ (cx_b C) (va_Qi Q (BX1 E S0 sz) (xA S0 sz)) (cx_a C) (cx_s C) (cx_MC C) (cx_MS C) (xA S0 sz)) (h : wx_X0_ask Q mc ms S x0 x1 x2) : GX E C S mc ms 0 [some (va_rf x0), some (.int x1), some (.int x2), none] [] := by
  refine g_aload_nR hC dX0_ask_0 rfl ?_
  refine g_iload_n hC dX0_ask_1 rfl ?_
  obtain ⟨u1, eu1, h⟩ := h
  refine g_top1 eu1 ?_
  have hk2 := h.1
  refine gX_ni hX (gX_runV (As := [.int x1]) (rest := []) (Cr := RX0) hC hX (mx_X0_isBooking (cx_l C) E _ _ _ _ h.2) (lw_V q923 q925 qs16 q70 q926) hx_X0_isBooking rfl rfl (Or.inl (Nat.le_of_ble_eq_true rfl)) ⟨Nat.le_of_ble_eq_true rfl, Nat.le_of_ble_eq_true rfl⟩ dX0_ask_2 (Nat.zero_le _) (Nat.zero_le _) hk2 rfl (by decide) rfl) rfl rfl ?_
  intro r4 S3 h
  refine g_if_eq (tgt := 18) hC dX0_ask_5 (by decide) (fun c => ?_) (fun c => ?_)
  · have h := it_p c h
    refine g_ldc (v := -1000001) hC dX0_ask_18 q273 ?_
    refine gX_iret rfl hC hA hQ dX0_ask_20 h
  · have h := it_n c h
    refine g_iload_n hC dX0_ask_8 rfl ?_
    refine g_i2l hC dX0_ask_9 ?_
    refine g_lconst (v := 0) hC dX0_ask_10 (by decide) ?_
    refine g_lconst (v := 1) hC dX0_ask_11 (by decide) ?_
    refine gX_ni hX (gX_runS (As := [.long (Int32.toInt64 x2), .long (0 : Int64), .long (1 : Int64)]) (rest := []) hC hX (mx_X0_isIn (cx_l C) E _ _ _ _ _ h) (lw_S q269 q270 q70 q271) hx_X0_isIn.2 rfl rfl (Or.inl (Nat.le_of_ble_eq_true rfl)) ⟨Nat.le_of_ble_eq_true rfl, Nat.le_of_ble_eq_true rfl⟩ dX0_ask_12 (Nat.zero_le _) (Nat.zero_le _)) rfl rfl ?_
    intro r6 S5 h
    refine g_if_ne (tgt := 21) hC dX0_ask_15 (by decide) (fun c => ?_) (fun c => ?_)
    · have h := it_n c h
      refine g_aload_nR hC dX0_ask_21 rfl ?_
      refine gX_new (C0 := RX1) (T := TX1) (ty0 := tyX1) (N := 2) (n := 1) hC hX dX0_ask_22 q147 q148 q74 rfl in_X1 tyX1_ok (by decide) dv_X1 h.1 h.2.1 ?_
      intro q7 hq8
      have h := h.2.2 q7 hq8
      have hk9 : xKD (sNew S5 q7 1) q7 = some 1 := kd_self
      refine g_dup hC dX0_ask_25 (va_rf_cat _) ?_
      obtain ⟨k10, n11, hk10, hn11, h⟩ := h
      refine gX_cv hX (gX_runIN (As := []) (rest := [va_rf (some q7), va_rf x0]) hC hX (mx_X1_init (cx_l C) E k10 n11 _ _ _ h) q151 q149 q74 q150 rfl hx_X1_init.2 rfl rfl (Or.inl (Nat.le_of_ble_eq_true rfl)) ⟨Nat.le_of_ble_eq_true rfl, Nat.le_of_ble_eq_true rfl⟩ dX0_ask_26 hk10 hn11) hk10 hn11 ?_
      intro S12 h
      refine g_top1 eu1 ?_
      have hk14 := h.1
      refine gX_putR (C0 := RX0) (T := TX0) (ty0 := tyX0) (N := 15) (n := 0) (k := 11) (f := 11) hC hX dX0_ask_29 q225 rfl in_X0 tyX0_ok nmX0 (by decide) (Or.inl rfl) rfl rfl (narrow_rf (Or.inl ⟨_, rfl⟩) _) (fits_rf (Or.inl ⟨_, rfl⟩) _) rfl (by decide) (Or.inl (by decide)) hk14 ?_
      refine g_aload_nR hC dX0_ask_32 rfl ?_
      refine g_iload_n hC dX0_ask_33 rfl ?_
      refine g_top1 eu1 ?_
      obtain ⟨k15, n16, hk15, hn16, h⟩ := h.2
      refine gX_cq hX (gX_runV (As := [.int x1]) (rest := []) (Cr := RX0) hC hX (mx_X0_asked (cx_l C) E k15 n16 _ _ _ _ h) (lw_V q1318 q1320 qs35 q70 q1321) hx_X0_asked rfl rfl (Or.inl (Nat.le_of_ble_eq_true rfl)) ⟨Nat.le_of_ble_eq_true rfl, Nat.le_of_ble_eq_true rfl⟩ dX0_ask_34 hk15 hn16 hk14 rfl (by decide) rfl) hk15 hn16 ?_
      intro r18 S17 h
      refine g_astore_nR hC dX0_ask_37 rfl (by decide) rfl rfl ?_
      refine g_sub [true, false, true, true] rfl ?_
      refine g_iload_n hC dX0_ask_38 rfl ?_
      refine g_if_ne (tgt := 53) hC dX0_ask_39 (by decide) (fun c => ?_) (fun c => ?_)
      · have h := it_n c h
        refine g_aload_nR hC dX0_ask_53 rfl ?_
        refine g_aload_nR hC dX0_ask_54 rfl ?_
        refine g_top0 eu1 ?_
        have hk19 := h.1
        refine gX_get (C0 := RX0) (T := TX0) (N := 15) (n := 0) (k := 11) (q := (11, true)) hC hX dX0_ask_55 q225 rfl in_X0 (by decide) (Or.inl rfl) rfl (by decide) hk19 ?_
        show GX _ _ _ _ _ _ _ (va_rf (xFR S17 11 u1) :: _)
        obtain ⟨u20, eu20, h⟩ := h.2
        refine g_top1 eu20 ?_
        refine gX_ni hX (rd_X0_456 (rest := []) hC hX h rfl (Or.inl (Nat.le_of_ble_eq_true rfl)) ⟨Nat.le_of_ble_eq_true rfl, Nat.le_of_ble_eq_true rfl⟩ dX0_ask_58) rfl rfl ?_
        intro r22 S21 h
        refine gX_iret rfl hC hA hQ dX0_ask_61 h
      · have h := it_p c h
        refine g_aload_nR hC dX0_ask_42 rfl ?_
        refine g_aload_nR hC dX0_ask_43 rfl ?_
        refine g_top0 eu1 ?_
        have hk23 := h.1
        refine gX_get (C0 := RX0) (T := TX0) (N := 15) (n := 0) (k := 11) (q := (11, true)) hC hX dX0_ask_44 q225 rfl in_X0 (by decide) (Or.inl rfl) rfl (by decide) hk23 ?_
        show GX _ _ _ _ _ _ _ (va_rf (xFR S17 11 u1) :: _)
        obtain ⟨u24, eu24, h⟩ := h.2
        refine g_top1 eu24 ?_
        refine gX_ni hX (rd_X0_453 (rest := []) hC hX h rfl (Or.inl (Nat.le_of_ble_eq_true rfl)) ⟨Nat.le_of_ble_eq_true rfl, Nat.le_of_ble_eq_true rfl⟩ dX0_ask_47) rfl rfl ?_
        intro r26 S25 h
        refine g_goto (tgt := 61) hC dX0_ask_50 (by decide) ?_
        refine gX_iret rfl hC hA hQ dX0_ask_61 h
    · have h := it_p c h
      refine g_ldc (v := -1000001) hC dX0_ask_18 q273 ?_
      refine gX_iret rfl hC hA hQ dX0_ask_20 h
theorem mx_X0_ask (l : Launch) (E : XE) (mc ms : Nat) (Q : Int32 → XS → Prop) (S : XS) (x0 : Option Nat) (x1 : Int32) (x2 : Int32) (h : wx_X0_ask Q mc ms S x0 x1 x2) : XMet E l yX0_ask cX0_ask 4 (some .int) ({ frames := 7, cells := mc, slots := ms, locals := 170 } : Room) [va_rf x0, .int x1, .int x2] S (fun sz => va_Qi Q (BX1 E S sz) (xA S sz)) :=
  XMet_of (rm := ({ frames := 7, cells := mc, slots := ms, locals := 170 } : Room)) (by decide) (by simp [lg_sl, va_rf_cat, cat_i, cat_l]) (L0 := [some (va_rf x0), some (.int x1), some (.int x2), none]) (by simp [lx_pairs, lv_args, va_rf_cat, cat_i, cat_l, List.range_succ]) (fun sz C hC hX hl hnm hA hQ => bx_X0_ask E C S sz Q mc ms S x0 x1 x2 hC hX hA hQ h)
/-! X0_trace -/
def wx_X0_trace (Q : Int32 → XS → Prop) (S : XS) (x0 : Option Nat) (x1 : Int32) : Prop :=
  dr x0 (fun u1 => xKD S u1 = some 0 ∧ dr (xFR S 11 u1) (fun u3 => xKD S u3 = some 1 ∧ wx_X0_isIn (fun r6 S5 => (if r6 = 0 then Q (-1000000 : Int32) S5 else xKD S5 u1 = some 0 ∧ dr (xFR S5 11 u1) (fun u8 => xKD S5 u8 = some 1 ∧ dr (xFR S5 100 u8) (fun u10 => xKD S5 u10 = some 100 ∧ vp_in x1 (xLN S5 u10) ∧ Q (xAI S5 u10 (Int32.toNatClampNeg x1)) S5)))) S (Int32.toInt64 x1) (0 : Int64) (Int32.toInt64 ((xFI S 101 u3) - (1 : Int32)))))
theorem hx_X0_trace : yX0_trace.cls = RX0 ∧ yX0_trace.cls ≠ "java/lang/invoke/MethodHandle" ∧ yX0_trace.cls ≠ "java/lang/invoke/VarHandle" ∧ (parseMethodDescriptor yX0_trace.desc).map (fun d => d.parameters.length) = some 1 := by decide +kernel
set_option maxHeartbeats 4000000 in
set_option maxRecDepth 100000 in
theorem bx_X0_trace (E : XE) (C : Cx) (S0 : XS) (sz : Nat) (Q : Int32 → XS → Prop) (S : XS) (x0 : Option Nat) (x1 : Int32) (hC : COk C cX0_trace RX0 (some .int) 2 59 2) (hX : XOk E C) (hA : cx_A C = xA S0 sz) (hQ : cx_Q C = MQ (cx_b C) (va_Qi Q (BX1 E S0 sz) (xA S0 sz)) (cx_a C) (cx_s C) (cx_MC C) (cx_MS C) (xA S0 sz)) (h : wx_X0_trace Q S x0 x1) : GX E C S 0 0 0 [some (va_rf x0), some (.int x1)] [] := by
  refine g_iload_n hC dX0_trace_0 rfl ?_
  refine g_i2l hC dX0_trace_1 ?_
  refine g_lconst (v := 0) hC dX0_trace_2 (by decide) ?_
  refine g_aload_nR hC dX0_trace_3 rfl ?_
  obtain ⟨u1, eu1, h⟩ := h
  refine g_top0 eu1 ?_
  have hk2 := h.1
  refine gX_get (C0 := RX0) (T := TX0) (N := 15) (n := 0) (k := 11) (q := (11, true)) hC hX dX0_trace_4 q225 rfl in_X0 (by decide) (Or.inl rfl) rfl (by decide) hk2 ?_
  show GX _ _ _ _ _ _ _ (va_rf (xFR S 11 u1) :: _)
  obtain ⟨u3, eu3, h⟩ := h.2
  refine g_top0 eu3 ?_
  have hk4 := h.1
  refine gX_getN (C0 := RX1) (T := TX1) (N := 2) (n := 1) (k := 1) (q := (101, false)) hC hX dX0_trace_7 q156 rfl in_X1 (by decide) rfl rfl (by decide) hk4 ?_
  show GX _ _ _ _ _ _ _ (.int (xFI S 101 u3) :: _)
  refine g_iconst (v := 1) hC dX0_trace_10 (by decide) ?_
  refine g_isub hC dX0_trace_11 ?_
  refine g_i2l hC dX0_trace_12 ?_
  refine gX_ni hX (gX_runS (As := [.long (Int32.toInt64 x1), .long (0 : Int64), .long (Int32.toInt64 ((xFI S 101 u3) - (1 : Int32)))]) (rest := []) hC hX (mx_X0_isIn (cx_l C) E _ _ _ _ _ h.2) (lw_S q269 q270 q70 q271) hx_X0_isIn.2 rfl rfl (Or.inl (Nat.le_of_ble_eq_true rfl)) ⟨Nat.le_of_ble_eq_true rfl, Nat.le_of_ble_eq_true rfl⟩ dX0_trace_13 (Nat.zero_le _) (Nat.zero_le _)) rfl rfl ?_
  intro r6 S5 h
  refine g_if_eq (tgt := 31) hC dX0_trace_16 (by decide) (fun c => ?_) (fun c => ?_)
  · have h := it_p c h
    refine g_ldc (v := -1000000) hC dX0_trace_31 q944 ?_
    refine gX_iret rfl hC hA hQ dX0_trace_33 h
  · have h := it_n c h
    refine g_aload_nR hC dX0_trace_19 rfl ?_
    refine g_top0 eu1 ?_
    have hk7 := h.1
    refine gX_get (C0 := RX0) (T := TX0) (N := 15) (n := 0) (k := 11) (q := (11, true)) hC hX dX0_trace_20 q225 rfl in_X0 (by decide) (Or.inl rfl) rfl (by decide) hk7 ?_
    show GX _ _ _ _ _ _ _ (va_rf (xFR S5 11 u1) :: _)
    obtain ⟨u8, eu8, h⟩ := h.2
    refine g_top0 eu8 ?_
    have hk9 := h.1
    refine gX_getN (C0 := RX1) (T := TX1) (N := 2) (n := 1) (k := 0) (q := (100, true)) hC hX dX0_trace_23 q154 rfl in_X1 (by decide) rfl rfl (by decide) hk9 ?_
    show GX _ _ _ _ _ _ _ (va_rf (xFR S5 100 u8) :: _)
    refine g_iload_n hC dX0_trace_26 rfl ?_
    obtain ⟨u10, eu10, h⟩ := h.2
    refine g_top1 eu10 ?_
    have hk11 := h.1
    refine gX_iald hC hX dX0_trace_27 hk11 h.2.1 ?_
    refine g_goto (tgt := 33) hC dX0_trace_28 (by decide) ?_
    refine gX_iret rfl hC hA hQ dX0_trace_33 h.2.2
theorem mx_X0_trace (l : Launch) (E : XE) (Q : Int32 → XS → Prop) (S : XS) (x0 : Option Nat) (x1 : Int32) (h : wx_X0_trace Q S x0 x1) : XMet E l yX0_trace cX0_trace 2 (some .int) ({ frames := 2, cells := 0, slots := 0, locals := 59 } : Room) [va_rf x0, .int x1] S (fun sz => va_Qi Q (BX1 E S sz) (xA S sz)) :=
  XMet_of (rm := ({ frames := 2, cells := 0, slots := 0, locals := 59 } : Room)) (by decide) (by simp [lg_sl, va_rf_cat, cat_i, cat_l]) (L0 := [some (va_rf x0), some (.int x1)]) (by simp [lx_pairs, lv_args, va_rf_cat, cat_i, cat_l, List.range_succ]) (fun sz C hC hX hl hnm hA hQ => bx_X0_trace E C S sz Q S x0 x1 hC hX hA hQ h)
/-! X0_countOf -/
def wx_X0_countOf_50 (Q : Int32 → XS → Prop) (K4 : Nat → Nat → XS → Option Nat → Int32 → Int32 → Int32 → Prop) (mc ms : Nat) (S : XS) (a0 : Option Nat) (a1 : Int32) (a3 : Int32) (s0 : Int32) (s1 : Int32) : Prop :=
  K4 mc ms S a0 a1 (s0 + s1) (a3 + (1 : Int32))
def wx_X0_countOf_45 (Q : Int32 → XS → Prop) (K4 : Nat → Nat → XS → Option Nat → Int32 → Int32 → Int32 → Prop) (mc ms : Nat) (S : XS) (a0 : Option Nat) (a1 : Int32) (a3 : Int32) (s0 : Int32) : Prop :=
  wx_X0_countOf_50 Q K4 mc ms S a0 a1 a3 s0 (1 : Int32)
def wx_X0_countOf_49 (Q : Int32 → XS → Prop) (K4 : Nat → Nat → XS → Option Nat → Int32 → Int32 → Int32 → Prop) (mc ms : Nat) (S : XS) (a0 : Option Nat) (a1 : Int32) (a3 : Int32) (s0 : Int32) : Prop :=
  wx_X0_countOf_50 Q K4 mc ms S a0 a1 a3 s0 (0 : Int32)
def wx_X0_countOf_4 (Q : Int32 → XS → Prop) : Nat → Nat → Nat → XS → Option Nat → Int32 → Int32 → Int32 → Prop
  | 0, _, _, _, _, _, _, _ => False
  | n + 1, mc, ms, S, a0, a1, a2, a3 => dr a0 (fun u1 => xKD S u1 = some 0 ∧ dr (xFR S 2 u1) (fun u3 => xKD S u3 = some 16 ∧ wx_J2_size (fun r6 S5 => (if r6 ≤ a3 then Q a2 S5 else xKD S5 u1 = some 0 ∧ (∃ k8 n9, k8 ≤ mc ∧ n9 ≤ ms ∧ wx_X0_asked (fun r11 S10 => dr r11 (fun u12 => wa_kind (fun r14 S13 => (if r14 = a1 then wx_X0_countOf_45 Q (wx_X0_countOf_4 Q n) (mc - k8) (ms - n9) S13 a0 a1 a3 a2 else (if a1 = (1 : Int32) then (if r14 = (2 : Int32) then wx_X0_countOf_45 Q (wx_X0_countOf_4 Q n) (mc - k8) (ms - n9) S13 a0 a1 a3 a2 else wx_X0_countOf_49 Q (wx_X0_countOf_4 Q n) (mc - k8) (ms - n9) S13 a0 a1 a3 a2) else wx_X0_countOf_49 Q (wx_X0_countOf_4 Q n) (mc - k8) (ms - n9) S13 a0 a1 a3 a2))) S10 u12 )) k8 n9 S5 (some u1) a3))) S (some u3)))
def wx_X0_countOf (Q : Int32 → XS → Prop) (mc ms : Nat) (S : XS) (x0 : Option Nat) (x1 : Int32) : Prop :=
  ∃ n15, wx_X0_countOf_4 Q n15 mc ms S x0 x1 (0 : Int32) (0 : Int32)
theorem hx_X0_countOf : yX0_countOf.cls = RX0 ∧ yX0_countOf.cls ≠ "java/lang/invoke/MethodHandle" ∧ yX0_countOf.cls ≠ "java/lang/invoke/VarHandle" ∧ (parseMethodDescriptor yX0_countOf.desc).map (fun d => d.parameters.length) = some 1 := by decide +kernel
set_option maxHeartbeats 4000000 in
set_option maxRecDepth 100000 in
theorem bx_X0_countOf (E : XE) (C : Cx) (S0 : XS) (sz : Nat) (Q : Int32 → XS → Prop) (mc ms : Nat) (S : XS) (x0 : Option Nat) (x1 : Int32) (hC : COk C cX0_countOf RX0 (some .int) 7 170 5) (hX : XOk E C) (hA : cx_A C = xA S0 sz) (hQ : cx_Q C = MQ (cx_b C) (va_Qi Q (BX1 E S0 sz) (xA S0 sz)) (cx_a C) (cx_s C) (cx_MC C) (cx_MS C) (xA S0 sz)) (h : wx_X0_countOf Q mc ms S x0 x1) : GX E C S mc ms 0 [some (va_rf x0), some (.int x1), none, none, none] [] := by
  have s_50 : ∀ (K4 : Nat → Nat → XS → Option Nat → Int32 → Int32 → Int32 → Prop) (hK4 : ∀ (mc ms : Nat) (S : XS) (b0 : Option Nat) (b1 : Int32) (b2 : Int32) (b3 : Int32), K4 mc ms S b0 b1 b2 b3 → GX E C S mc ms 4 [some (va_rf b0), some (.int b1), some (.int b2), some (.int b3), none] []) (mc ms : Nat) (S : XS) (a0 : Option Nat) (a1 : Int32) (a3 : Int32) (s0 : Int32) (s1 : Int32), wx_X0_countOf_50 Q K4 mc ms S a0 a1 a3 s0 s1 → GX E C S mc ms 50 [some (va_rf a0), some (.int a1), none, some (.int a3), none] [.int s1, .int s0] := by
    intro K4 hK4 mc ms S a0 a1 a3 s0 s1 h
    refine g_iadd hC dX0_countOf_50 ?_
    refine g_istore_n hC dX0_countOf_51 rfl (by decide) rfl rfl ?_
    refine g_iinc (v := (a3 + (1 : Int32))) hC dX0_countOf_52 rfl rfl (by decide) rfl rfl ?_
    refine g_goto (tgt := 4) hC dX0_countOf_55 (by decide) ?_
    exact hK4 mc ms S a0 a1 (s0 + s1) (a3 + (1 : Int32)) h
  have s_45 : ∀ (K4 : Nat → Nat → XS → Option Nat → Int32 → Int32 → Int32 → Prop) (hK4 : ∀ (mc ms : Nat) (S : XS) (b0 : Option Nat) (b1 : Int32) (b2 : Int32) (b3 : Int32), K4 mc ms S b0 b1 b2 b3 → GX E C S mc ms 4 [some (va_rf b0), some (.int b1), some (.int b2), some (.int b3), none] []) (mc ms : Nat) (S : XS) (a0 : Option Nat) (a1 : Int32) (a3 : Int32) (s0 : Int32), wx_X0_countOf_45 Q K4 mc ms S a0 a1 a3 s0 → GX E C S mc ms 45 [some (va_rf a0), some (.int a1), none, some (.int a3), none] [.int s0] := by
    intro K4 hK4 mc ms S a0 a1 a3 s0 h
    refine g_iconst (v := 1) hC dX0_countOf_45 (by decide) ?_
    refine g_goto (tgt := 50) hC dX0_countOf_46 (by decide) ?_
    exact s_50 K4 hK4 mc ms S a0 a1 a3 s0 (1 : Int32) h
  have s_49 : ∀ (K4 : Nat → Nat → XS → Option Nat → Int32 → Int32 → Int32 → Prop) (hK4 : ∀ (mc ms : Nat) (S : XS) (b0 : Option Nat) (b1 : Int32) (b2 : Int32) (b3 : Int32), K4 mc ms S b0 b1 b2 b3 → GX E C S mc ms 4 [some (va_rf b0), some (.int b1), some (.int b2), some (.int b3), none] []) (mc ms : Nat) (S : XS) (a0 : Option Nat) (a1 : Int32) (a3 : Int32) (s0 : Int32), wx_X0_countOf_49 Q K4 mc ms S a0 a1 a3 s0 → GX E C S mc ms 49 [some (va_rf a0), some (.int a1), none, some (.int a3), none] [.int s0] := by
    intro K4 hK4 mc ms S a0 a1 a3 s0 h
    refine g_iconst (v := 0) hC dX0_countOf_49 (by decide) ?_
    exact s_50 K4 hK4 mc ms S a0 a1 a3 s0 (0 : Int32) h
  have s_4 : ∀ (n : Nat) (mc ms : Nat) (S : XS) (a0 : Option Nat) (a1 : Int32) (a2 : Int32) (a3 : Int32), wx_X0_countOf_4 Q  n mc ms S a0 a1 a2 a3 → GX E C S mc ms 4 [some (va_rf a0), some (.int a1), some (.int a2), some (.int a3), none] [] := by
    intro  n
    induction n with
    | zero =>
      intro mc ms S a0 a1 a2 a3 h
      exact False.elim h
    | succ n ih =>
      intro mc ms S a0 a1 a2 a3 h
      refine g_iload_n hC dX0_countOf_4 rfl ?_
      refine g_aload_nR hC dX0_countOf_5 rfl ?_
      obtain ⟨u1, eu1, h⟩ := h
      refine g_top0 eu1 ?_
      have hk2 := h.1
      refine gX_get (C0 := RX0) (T := TX0) (N := 15) (n := 0) (k := 2) (q := (2, true)) hC hX dX0_countOf_6 q213 rfl in_X0 (by decide) (Or.inl rfl) rfl (by decide) hk2 ?_
      show GX _ _ _ _ _ _ _ (va_rf (xFR S 2 u1) :: _)
      obtain ⟨u3, eu3, h⟩ := h.2
      refine g_top0 eu3 ?_
      have hk4 := h.1
      refine gX_ni5 hX (gX_runF (n := 0) (As := []) (rest := [.int a3]) (Cr := "java/util/ArrayList") (x := ⟨"java/util/List", "size", "()I"⟩) hC hX (mx_J2_size (cx_l C) E _ _ _ h.2) (lw_app (lw_4 q770 q774 q776 q73) (lw_meth q778)) (List.mem_of_getElem? (i := 0) rfl) (by decide +kernel) rfl rfl (Or.inl (Nat.le_of_ble_eq_true rfl)) ⟨Nat.le_of_ble_eq_true rfl, Nat.le_of_ble_eq_true rfl⟩ dX0_countOf_9 (Nat.zero_le _) (Nat.zero_le _) hk4 rfl (by decide) rfl) rfl rfl ?_
      intro r6 S5 h
      refine g_icmp_ge (tgt := 58) hC dX0_countOf_14 (by decide) (fun c => ?_) (fun c => ?_)
      · have h := it_p c h
        refine g_iload_n hC dX0_countOf_58 rfl ?_
        refine gX_iret rfl hC hA hQ dX0_countOf_59 h
      · have h := it_n c h
        refine g_aload_nR hC dX0_countOf_17 rfl ?_
        refine g_iload_n hC dX0_countOf_18 rfl ?_
        refine g_top1 eu1 ?_
        have hk7 := h.1
        obtain ⟨k8, n9, hk8, hn9, h⟩ := h.2
        refine gX_cq hX (gX_runV (As := [.int a3]) (rest := []) (Cr := RX0) hC hX (mx_X0_asked (cx_l C) E k8 n9 _ _ _ _ h) (lw_V q1318 q1320 qs35 q70 q1321) hx_X0_asked rfl rfl (Or.inl (Nat.le_of_ble_eq_true rfl)) ⟨Nat.le_of_ble_eq_true rfl, Nat.le_of_ble_eq_true rfl⟩ dX0_countOf_19 hk8 hn9 hk7 rfl (by decide) rfl) hk8 hn9 ?_
        intro r11 S10 h
        obtain ⟨u12, eu12, h⟩ := h
        refine g_top0 eu12 ?_
        refine gX_ni hX (rd_X0_445 (rest := []) hC hX h rfl (Or.inl (Nat.le_of_ble_eq_true rfl)) ⟨Nat.le_of_ble_eq_true rfl, Nat.le_of_ble_eq_true rfl⟩ dX0_countOf_22) rfl rfl ?_
        intro r14 S13 h
        refine g_istore hC dX0_countOf_25 (by decide) rfl rfl ?_
        refine g_iload_n hC dX0_countOf_27 rfl ?_
        refine g_iload hC dX0_countOf_28 rfl ?_
        refine g_iload_n hC dX0_countOf_30 rfl ?_
        refine g_icmp_eq (tgt := 45) hC dX0_countOf_31 (by decide) (fun c => ?_) (fun c => ?_)
        · have h := it_p c h
          refine g_sub [true, true, false, true, false] rfl ?_
          exact s_45 (wx_X0_countOf_4 Q n) ih (mc - k8) (ms - n9) S13 a0 a1 a3 a2 h
        · have h := it_n c h
          refine g_iload_n hC dX0_countOf_34 rfl ?_
          refine g_iconst (v := 1) hC dX0_countOf_35 (by decide) ?_
          refine g_icmp_ne (tgt := 49) hC dX0_countOf_36 (by decide) (fun c => ?_) (fun c => ?_)
          · have h := it_n c h
            refine g_sub [true, true, false, true, false] rfl ?_
            exact s_49 (wx_X0_countOf_4 Q n) ih (mc - k8) (ms - n9) S13 a0 a1 a3 a2 h
          · have h := it_p c h
            refine g_iload hC dX0_countOf_39 rfl ?_
            refine g_iconst (v := 2) hC dX0_countOf_41 (by decide) ?_
            refine g_icmp_ne (tgt := 49) hC dX0_countOf_42 (by decide) (fun c => ?_) (fun c => ?_)
            · have h := it_n c h
              refine g_sub [true, true, false, true, false] rfl ?_
              exact s_49 (wx_X0_countOf_4 Q n) ih (mc - k8) (ms - n9) S13 a0 a1 a3 a2 h
            · have h := it_p c h
              refine g_sub [true, true, false, true, false] rfl ?_
              exact s_45 (wx_X0_countOf_4 Q n) ih (mc - k8) (ms - n9) S13 a0 a1 a3 a2 h
  refine g_iconst (v := 0) hC dX0_countOf_0 (by decide) ?_
  refine g_istore_n hC dX0_countOf_1 rfl (by decide) rfl rfl ?_
  refine g_iconst (v := 0) hC dX0_countOf_2 (by decide) ?_
  refine g_istore_n hC dX0_countOf_3 rfl (by decide) rfl rfl ?_
  obtain ⟨n0, h0⟩ := h
  exact s_4 n0 mc ms S x0 x1 (0 : Int32) (0 : Int32) h0
theorem mx_X0_countOf (l : Launch) (E : XE) (mc ms : Nat) (Q : Int32 → XS → Prop) (S : XS) (x0 : Option Nat) (x1 : Int32) (h : wx_X0_countOf Q mc ms S x0 x1) : XMet E l yX0_countOf cX0_countOf 5 (some .int) ({ frames := 7, cells := mc, slots := ms, locals := 170 } : Room) [va_rf x0, .int x1] S (fun sz => va_Qi Q (BX1 E S sz) (xA S sz)) :=
  XMet_of (rm := ({ frames := 7, cells := mc, slots := ms, locals := 170 } : Room)) (by decide) (by simp [lg_sl, va_rf_cat, cat_i, cat_l]) (L0 := [some (va_rf x0), some (.int x1), none, none, none]) (by simp [lx_pairs, lv_args, va_rf_cat, cat_i, cat_l, List.range_succ]) (fun sz C hC hX hl hnm hA hQ => bx_X0_countOf E C S sz Q mc ms S x0 x1 hC hX hA hQ h)
/-! X0_count -/
def wx_X0_count_77 (Q : Int32 → XS → Prop) (K56 : Nat → Nat → XS → Option Nat → Int32 → Int32 → Prop) (mc ms : Nat) (S : XS) (a0 : Option Nat) (a3 : Int32) (s0 : Int32) (s1 : Int32) : Prop :=
  K56 mc ms S a0 (s0 + s1) (a3 + (1 : Int32))
def wx_X0_count_56 (Q : Int32 → XS → Prop) : Nat → Nat → Nat → XS → Option Nat → Int32 → Int32 → Prop
  | 0, _, _, _, _, _, _ => False
  | n + 1, mc, ms, S, a0, a2, a3 => (if (8 : Int32) ≤ a3 then Q a2 S else dr a0 (fun u1 => xKD S u1 = some 0 ∧ dr (xFR S 0 u1) (fun u3 => xKD S u3 = some 105 ∧ vp_in a3 (xLN S u3) ∧ (if (xAR S u3 (Int32.toNatClampNeg a3)) = none then wx_X0_count_77 Q (wx_X0_count_56 Q n) mc ms S a0 a3 a2 (0 : Int32) else wx_X0_count_77 Q (wx_X0_count_56 Q n) mc ms S a0 a3 a2 (1 : Int32)))))
def wx_X0_count_97 (Q : Int32 → XS → Prop) (mc ms : Nat) (S : XS) (a0 : Option Nat) (a1 : Int32) : Prop :=
  dr a0 (fun u12 => xKD S u12 = some 0 ∧ (∃ k14 n15, k14 ≤ mc ∧ n15 ≤ ms ∧ wx_X0_countOf (fun r17 S16 => Q r17 S16) k14 n15 S (some u12) (a1 - (1 : Int32))))
def wx_X0_count (Q : Int32 → XS → Prop) (mc ms : Nat) (S : XS) (x0 : Option Nat) (x1 : Int32) : Prop :=
  (if x1 = (0 : Int32) then ∃ n5, wx_X0_count_56 Q n5 mc ms S x0 (0 : Int32) (0 : Int32) else (if x1 = (1 : Int32) then dr x0 (fun u6 => xKD S u6 = some 0 ∧ dr (xFR S 2 u6) (fun u8 => xKD S u8 = some 16 ∧ wx_J2_size (fun r11 S10 => Q r11 S10) S (some u8))) else (if x1 = (2 : Int32) then wx_X0_count_97 Q mc ms S x0 x1 else (if x1 = (3 : Int32) then wx_X0_count_97 Q mc ms S x0 x1 else (if x1 = (4 : Int32) then wx_X0_count_97 Q mc ms S x0 x1 else (if x1 = (5 : Int32) then wx_X0_count_97 Q mc ms S x0 x1 else (if x1 = (6 : Int32) then dr x0 (fun u18 => xKD S u18 = some 0 ∧ dr (xFR S 3 u18) (fun u20 => xKD S u20 = some 16 ∧ wx_J2_size (fun r23 S22 => Q r23 S22) S (some u20))) else (if x1 = (7 : Int32) then dr x0 (fun u24 => xKD S u24 = some 0 ∧ dr (xFR S 6 u24) (fun u26 => xKD S u26 = some 16 ∧ wx_J2_size (fun r29 S28 => Q r29 S28) S (some u26))) else (if x1 = (8 : Int32) then dr x0 (fun u30 => xKD S u30 = some 0 ∧ Q (xFI S 8 u30) S) else Q (-1000001 : Int32) S)))))))))
theorem hx_X0_count : yX0_count.cls = RX0 ∧ yX0_count.cls ≠ "java/lang/invoke/MethodHandle" ∧ yX0_count.cls ≠ "java/lang/invoke/VarHandle" ∧ (parseMethodDescriptor yX0_count.desc).map (fun d => d.parameters.length) = some 1 := by decide +kernel
set_option maxHeartbeats 4000000 in
set_option maxRecDepth 100000 in
theorem bx_X0_count (E : XE) (C : Cx) (S0 : XS) (sz : Nat) (Q : Int32 → XS → Prop) (mc ms : Nat) (S : XS) (x0 : Option Nat) (x1 : Int32) (hC : COk C cX0_count RX0 (some .int) 8 194 4) (hX : XOk E C) (hA : cx_A C = xA S0 sz) (hQ : cx_Q C = MQ (cx_b C) (va_Qi Q (BX1 E S0 sz) (xA S0 sz)) (cx_a C) (cx_s C) (cx_MC C) (cx_MS C) (xA S0 sz)) (h : wx_X0_count Q mc ms S x0 x1) : GX E C S mc ms 0 [some (va_rf x0), some (.int x1), none, none] [] := by
  have s_77 : ∀ (K56 : Nat → Nat → XS → Option Nat → Int32 → Int32 → Prop) (hK56 : ∀ (mc ms : Nat) (S : XS) (b0 : Option Nat) (b2 : Int32) (b3 : Int32), K56 mc ms S b0 b2 b3 → GX E C S mc ms 56 [some (va_rf b0), none, some (.int b2), some (.int b3)] []) (mc ms : Nat) (S : XS) (a0 : Option Nat) (a3 : Int32) (s0 : Int32) (s1 : Int32), wx_X0_count_77 Q K56 mc ms S a0 a3 s0 s1 → GX E C S mc ms 77 [some (va_rf a0), none, none, some (.int a3)] [.int s1, .int s0] := by
    intro K56 hK56 mc ms S a0 a3 s0 s1 h
    refine g_iadd hC dX0_count_77 ?_
    refine g_istore_n hC dX0_count_78 rfl (by decide) rfl rfl ?_
    refine g_iinc (v := (a3 + (1 : Int32))) hC dX0_count_79 rfl rfl (by decide) rfl rfl ?_
    refine g_goto (tgt := 56) hC dX0_count_82 (by decide) ?_
    exact hK56 mc ms S a0 (s0 + s1) (a3 + (1 : Int32)) h
  have s_56 : ∀ (n : Nat) (mc ms : Nat) (S : XS) (a0 : Option Nat) (a2 : Int32) (a3 : Int32), wx_X0_count_56 Q  n mc ms S a0 a2 a3 → GX E C S mc ms 56 [some (va_rf a0), none, some (.int a2), some (.int a3)] [] := by
    intro  n
    induction n with
    | zero =>
      intro mc ms S a0 a2 a3 h
      exact False.elim h
    | succ n ih =>
      intro mc ms S a0 a2 a3 h
      refine g_iload_n hC dX0_count_56 rfl ?_
      refine g_bipush (v := 8) hC dX0_count_57 (by decide) ?_
      refine g_icmp_ge (tgt := 85) hC dX0_count_59 (by decide) (fun c => ?_) (fun c => ?_)
      · have h := it_p c h
        refine g_iload_n hC dX0_count_85 rfl ?_
        refine gX_iret rfl hC hA hQ dX0_count_86 h
      · have h := it_n c h
        refine g_iload_n hC dX0_count_62 rfl ?_
        refine g_aload_nR hC dX0_count_63 rfl ?_
        obtain ⟨u1, eu1, h⟩ := h
        refine g_top0 eu1 ?_
        have hk2 := h.1
        refine gX_get (C0 := RX0) (T := TX0) (N := 15) (n := 0) (k := 0) (q := (0, true)) hC hX dX0_count_64 q208 rfl in_X0 (by decide) (Or.inl rfl) rfl (by decide) hk2 ?_
        show GX _ _ _ _ _ _ _ (va_rf (xFR S 0 u1) :: _)
        refine g_iload_n hC dX0_count_67 rfl ?_
        obtain ⟨u3, eu3, h⟩ := h.2
        refine g_top1 eu3 ?_
        have hk4 := h.1
        refine gX_aald (n := 105) hC hX dX0_count_68 (by decide) hk4 h.2.1 ?_
        refine g_ifnonnullR (tgt := 76) hC dX0_count_69 (by decide) (fun c => ?_) (fun c => ?_)
        · have h := it_n c h.2.2
          refine g_iconst (v := 1) hC dX0_count_76 (by decide) ?_
          refine g_sub [true, false, false, true] rfl ?_
          exact s_77 (wx_X0_count_56 Q n) ih mc ms S a0 a3 a2 (1 : Int32) h
        · have h := it_p c h.2.2
          refine g_iconst (v := 0) hC dX0_count_72 (by decide) ?_
          refine g_goto (tgt := 77) hC dX0_count_73 (by decide) ?_
          refine g_sub [true, false, false, true] rfl ?_
          exact s_77 (wx_X0_count_56 Q n) ih mc ms S a0 a3 a2 (0 : Int32) h
  have s_97 : ∀ (mc ms : Nat) (S : XS) (a0 : Option Nat) (a1 : Int32), wx_X0_count_97 Q  mc ms S a0 a1 → GX E C S mc ms 97 [some (va_rf a0), some (.int a1), none, none] [] := by
    intro  mc ms S a0 a1 h
    refine g_aload_nR hC dX0_count_97 rfl ?_
    refine g_iload_n hC dX0_count_98 rfl ?_
    refine g_iconst (v := 1) hC dX0_count_99 (by decide) ?_
    refine g_isub hC dX0_count_100 ?_
    obtain ⟨u12, eu12, h⟩ := h
    refine g_top1 eu12 ?_
    have hk13 := h.1
    obtain ⟨k14, n15, hk14, hn15, h⟩ := h.2
    refine gX_ci hX (gX_runV (As := [.int (a1 - (1 : Int32))]) (rest := []) (Cr := RX0) hC hX (mx_X0_countOf (cx_l C) E k14 n15 _ _ _ _ h) (lw_V q1488 q1490 qs36 q70 q1491) hx_X0_countOf rfl rfl (Or.inl (Nat.le_of_ble_eq_true rfl)) ⟨Nat.le_of_ble_eq_true rfl, Nat.le_of_ble_eq_true rfl⟩ dX0_count_101 hk14 hn15 hk13 rfl (by decide) rfl) hk14 hn15 ?_
    intro r17 S16 h
    refine gX_iret rfl hC hA hQ dX0_count_104 h
  refine g_iload_n hC dX0_count_0 rfl ?_
  rcases Decidable.em (x1 = (0 : Int32)) with c0 | c0
  · have h := it_p c0 h
    refine g_tin (v := 0) (tgt := 52) hC dX0_count_1 c0 (by decide) (by decide) rfl (by decide) ?_
    refine g_iconst (v := 0) hC dX0_count_52 (by decide) ?_
    refine g_istore_n hC dX0_count_53 rfl (by decide) rfl rfl ?_
    refine g_sub [true, false, true, false] rfl ?_
    refine g_iconst (v := 0) hC dX0_count_54 (by decide) ?_
    refine g_istore_n hC dX0_count_55 rfl (by decide) rfl rfl ?_
    obtain ⟨n0, h0⟩ := h
    exact s_56 n0 mc ms S x0 (0 : Int32) (0 : Int32) h0
  have h := it_n c0 h
  rcases Decidable.em (x1 = (1 : Int32)) with c1 | c1
  · have h := it_p c1 h
    refine g_tin (v := 1) (tgt := 87) hC dX0_count_1 c1 (by decide) (by decide) rfl (by decide) ?_
    refine g_aload_nR hC dX0_count_87 rfl ?_
    obtain ⟨u6, eu6, h⟩ := h
    refine g_top0 eu6 ?_
    have hk7 := h.1
    refine gX_get (C0 := RX0) (T := TX0) (N := 15) (n := 0) (k := 2) (q := (2, true)) hC hX dX0_count_88 q213 rfl in_X0 (by decide) (Or.inl rfl) rfl (by decide) hk7 ?_
    show GX _ _ _ _ _ _ _ (va_rf (xFR S 2 u6) :: _)
    obtain ⟨u8, eu8, h⟩ := h.2
    refine g_top0 eu8 ?_
    have hk9 := h.1
    refine gX_ni5 hX (gX_runF (n := 0) (As := []) (rest := []) (Cr := "java/util/ArrayList") (x := ⟨"java/util/List", "size", "()I"⟩) hC hX (mx_J2_size (cx_l C) E _ _ _ h.2) (lw_app (lw_4 q770 q774 q776 q73) (lw_meth q778)) (List.mem_of_getElem? (i := 0) rfl) (by decide +kernel) rfl rfl (Or.inl (Nat.le_of_ble_eq_true rfl)) ⟨Nat.le_of_ble_eq_true rfl, Nat.le_of_ble_eq_true rfl⟩ dX0_count_91 (Nat.zero_le _) (Nat.zero_le _) hk9 rfl (by decide) rfl) rfl rfl ?_
    intro r11 S10 h
    refine gX_iret rfl hC hA hQ dX0_count_96 h
  have h := it_n c1 h
  rcases Decidable.em (x1 = (2 : Int32)) with c2 | c2
  · have h := it_p c2 h
    refine g_tin (v := 2) (tgt := 97) hC dX0_count_1 c2 (by decide) (by decide) rfl (by decide) ?_
    exact s_97 mc ms S x0 x1 h
  have h := it_n c2 h
  rcases Decidable.em (x1 = (3 : Int32)) with c3 | c3
  · have h := it_p c3 h
    refine g_tin (v := 3) (tgt := 97) hC dX0_count_1 c3 (by decide) (by decide) rfl (by decide) ?_
    exact s_97 mc ms S x0 x1 h
  have h := it_n c3 h
  rcases Decidable.em (x1 = (4 : Int32)) with c4 | c4
  · have h := it_p c4 h
    refine g_tin (v := 4) (tgt := 97) hC dX0_count_1 c4 (by decide) (by decide) rfl (by decide) ?_
    exact s_97 mc ms S x0 x1 h
  have h := it_n c4 h
  rcases Decidable.em (x1 = (5 : Int32)) with c5 | c5
  · have h := it_p c5 h
    refine g_tin (v := 5) (tgt := 97) hC dX0_count_1 c5 (by decide) (by decide) rfl (by decide) ?_
    exact s_97 mc ms S x0 x1 h
  have h := it_n c5 h
  rcases Decidable.em (x1 = (6 : Int32)) with c6 | c6
  · have h := it_p c6 h
    refine g_tin (v := 6) (tgt := 105) hC dX0_count_1 c6 (by decide) (by decide) rfl (by decide) ?_
    refine g_aload_nR hC dX0_count_105 rfl ?_
    obtain ⟨u18, eu18, h⟩ := h
    refine g_top0 eu18 ?_
    have hk19 := h.1
    refine gX_get (C0 := RX0) (T := TX0) (N := 15) (n := 0) (k := 3) (q := (3, true)) hC hX dX0_count_106 q214 rfl in_X0 (by decide) (Or.inl rfl) rfl (by decide) hk19 ?_
    show GX _ _ _ _ _ _ _ (va_rf (xFR S 3 u18) :: _)
    obtain ⟨u20, eu20, h⟩ := h.2
    refine g_top0 eu20 ?_
    have hk21 := h.1
    refine gX_ni5 hX (gX_runF (n := 0) (As := []) (rest := []) (Cr := "java/util/ArrayList") (x := ⟨"java/util/List", "size", "()I"⟩) hC hX (mx_J2_size (cx_l C) E _ _ _ h.2) (lw_app (lw_4 q770 q774 q776 q73) (lw_meth q778)) (List.mem_of_getElem? (i := 0) rfl) (by decide +kernel) rfl rfl (Or.inl (Nat.le_of_ble_eq_true rfl)) ⟨Nat.le_of_ble_eq_true rfl, Nat.le_of_ble_eq_true rfl⟩ dX0_count_109 (Nat.zero_le _) (Nat.zero_le _) hk21 rfl (by decide) rfl) rfl rfl ?_
    intro r23 S22 h
    refine gX_iret rfl hC hA hQ dX0_count_114 h
  have h := it_n c6 h
  rcases Decidable.em (x1 = (7 : Int32)) with c7 | c7
  · have h := it_p c7 h
    refine g_tin (v := 7) (tgt := 115) hC dX0_count_1 c7 (by decide) (by decide) rfl (by decide) ?_
    refine g_aload_nR hC dX0_count_115 rfl ?_
    obtain ⟨u24, eu24, h⟩ := h
    refine g_top0 eu24 ?_
    have hk25 := h.1
    refine gX_get (C0 := RX0) (T := TX0) (N := 15) (n := 0) (k := 6) (q := (6, true)) hC hX dX0_count_116 q217 rfl in_X0 (by decide) (Or.inl rfl) rfl (by decide) hk25 ?_
    show GX _ _ _ _ _ _ _ (va_rf (xFR S 6 u24) :: _)
    obtain ⟨u26, eu26, h⟩ := h.2
    refine g_top0 eu26 ?_
    have hk27 := h.1
    refine gX_ni5 hX (gX_runF (n := 0) (As := []) (rest := []) (Cr := "java/util/ArrayList") (x := ⟨"java/util/List", "size", "()I"⟩) hC hX (mx_J2_size (cx_l C) E _ _ _ h.2) (lw_app (lw_4 q770 q774 q776 q73) (lw_meth q778)) (List.mem_of_getElem? (i := 0) rfl) (by decide +kernel) rfl rfl (Or.inl (Nat.le_of_ble_eq_true rfl)) ⟨Nat.le_of_ble_eq_true rfl, Nat.le_of_ble_eq_true rfl⟩ dX0_count_119 (Nat.zero_le _) (Nat.zero_le _) hk27 rfl (by decide) rfl) rfl rfl ?_
    intro r29 S28 h
    refine gX_iret rfl hC hA hQ dX0_count_124 h
  have h := it_n c7 h
  rcases Decidable.em (x1 = (8 : Int32)) with c8 | c8
  · have h := it_p c8 h
    refine g_tin (v := 8) (tgt := 125) hC dX0_count_1 c8 (by decide) (by decide) rfl (by decide) ?_
    refine g_aload_nR hC dX0_count_125 rfl ?_
    obtain ⟨u30, eu30, h⟩ := h
    refine g_top0 eu30 ?_
    have hk31 := h.1
    refine gX_get (C0 := RX0) (T := TX0) (N := 15) (n := 0) (k := 8) (q := (8, false)) hC hX dX0_count_126 q221 rfl in_X0 (by decide) (Or.inl rfl) rfl (by decide) hk31 ?_
    show GX _ _ _ _ _ _ _ (.int (xFI S 8 u30) :: _)
    refine gX_iret rfl hC hA hQ dX0_count_129 h.2
  have h := it_n c8 h
  refine g_tout (tgt := 130) hC dX0_count_1 (sw_out 0 8 (by decide) (fun v hv => ?_)) (by decide) ?_
  · exact sw_no9 c0 c1 c2 c3 c4 c5 c6 c7 c8 v hv
  refine g_ldc (v := -1000001) hC dX0_count_130 q273 ?_
  refine gX_iret rfl hC hA hQ dX0_count_132 h
theorem mx_X0_count (l : Launch) (E : XE) (mc ms : Nat) (Q : Int32 → XS → Prop) (S : XS) (x0 : Option Nat) (x1 : Int32) (h : wx_X0_count Q mc ms S x0 x1) : XMet E l yX0_count cX0_count 4 (some .int) ({ frames := 8, cells := mc, slots := ms, locals := 194 } : Room) [va_rf x0, .int x1] S (fun sz => va_Qi Q (BX1 E S sz) (xA S sz)) :=
  XMet_of (rm := ({ frames := 8, cells := mc, slots := ms, locals := 194 } : Room)) (by decide) (by simp [lg_sl, va_rf_cat, cat_i, cat_l]) (L0 := [some (va_rf x0), some (.int x1), none, none]) (by simp [lx_pairs, lv_args, va_rf_cat, cat_i, cat_l, List.range_succ]) (fun sz C hC hX hl hnm hA hQ => bx_X0_count E C S sz Q mc ms S x0 x1 hC hX hA hQ h)
/-! X0_status -/
def wx_X0_status (Q : Int32 → XS → Prop) (S : XS) (x0 : Option Nat) : Prop :=
  dr x0 (fun u1 => xKD S u1 = some 0 ∧ Q (xFI S 12 u1) S)
theorem hx_X0_status : yX0_status.cls = RX0 ∧ yX0_status.cls ≠ "java/lang/invoke/MethodHandle" ∧ yX0_status.cls ≠ "java/lang/invoke/VarHandle" ∧ (parseMethodDescriptor yX0_status.desc).map (fun d => d.parameters.length) = some 0 := by decide +kernel
set_option maxHeartbeats 4000000 in
set_option maxRecDepth 100000 in
theorem bx_X0_status (E : XE) (C : Cx) (S0 : XS) (sz : Nat) (Q : Int32 → XS → Prop) (S : XS) (x0 : Option Nat) (hC : COk C cX0_status RX0 (some .int) 1 34 1) (hX : XOk E C) (hA : cx_A C = xA S0 sz) (hQ : cx_Q C = MQ (cx_b C) (va_Qi Q (BX1 E S0 sz) (xA S0 sz)) (cx_a C) (cx_s C) (cx_MC C) (cx_MS C) (xA S0 sz)) (h : wx_X0_status Q S x0) : GX E C S 0 0 0 [some (va_rf x0)] [] := by
  refine g_aload_nR hC dX0_status_0 rfl ?_
  obtain ⟨u1, eu1, h⟩ := h
  refine g_top0 eu1 ?_
  have hk2 := h.1
  refine gX_get (C0 := RX0) (T := TX0) (N := 15) (n := 0) (k := 12) (q := (12, false)) hC hX dX0_status_1 q226 rfl in_X0 (by decide) (Or.inl rfl) rfl (by decide) hk2 ?_
  show GX _ _ _ _ _ _ _ (.int (xFI S 12 u1) :: _)
  refine gX_iret rfl hC hA hQ dX0_status_4 h.2
theorem mx_X0_status (l : Launch) (E : XE) (Q : Int32 → XS → Prop) (S : XS) (x0 : Option Nat) (h : wx_X0_status Q S x0) : XMet E l yX0_status cX0_status 1 (some .int) ({ frames := 1, cells := 0, slots := 0, locals := 34 } : Room) [va_rf x0] S (fun sz => va_Qi Q (BX1 E S sz) (xA S sz)) :=
  XMet_of (rm := ({ frames := 1, cells := 0, slots := 0, locals := 34 } : Room)) (by decide) (by simp [lg_sl, va_rf_cat, cat_i, cat_l]) (L0 := [some (va_rf x0)]) (by simp [lx_pairs, lv_args, va_rf_cat, cat_i, cat_l, List.range_succ]) (fun sz C hC hX hl hnm hA hQ => bx_X0_status E C S sz Q S x0 hC hX hA hQ h)
