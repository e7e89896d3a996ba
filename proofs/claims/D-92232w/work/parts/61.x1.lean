/-! J2_add_2 -/
def wx_J2_add_2_11 (Q : XS → Prop) (mc ms : Nat) (S : XS) (a0 : Option Nat) (a1 : Option Nat) (a2 : Option Nat) (a3 : Int32) : Prop :=
  dr a2 (fun u3 => xKD S u3 = some 102 ∧ dr a1 (fun u5 => xRO S u3 = false ∧ vp_in a3 (xLN S u3) ∧ xOb S u5 ∧ dr a0 (fun u6 => xKD (sAR S u3 (Int32.toNatClampNeg a3) (some u5)) u6 = some 16 ∧ Q (sFI (sAR S u3 (Int32.toNatClampNeg a3) (some u5)) 1601 u6 (a3 + (1 : Int32))))))
def wx_J2_add_2 (Q : XS → Prop) (mc ms : Nat) (S : XS) (x0 : Option Nat) (x1 : Option Nat) (x2 : Option Nat) (x3 : Int32) : Prop :=
  dr x2 (fun u1 => xKD S u1 = some 102 ∧ (if x3 = (Int32.ofNat (xLN S u1)) then dr x0 (fun u8 => xKD S u8 = some 16 ∧ (∃ k10 n11, k10 ≤ mc ∧ n11 ≤ ms ∧ wx_J2_grow (fun r13 S12 => wx_J2_add_2_11 Q (mc - k10) (ms - n11) S12 x0 x1 r13 x3) k10 n11 S (some u8))) else wx_J2_add_2_11 Q mc ms S x0 x1 x2 x3))
theorem hx_J2_add_2 : yJ2_add_2.cls = RJ2 ∧ yJ2_add_2.cls ≠ "java/lang/invoke/MethodHandle" ∧ yJ2_add_2.cls ≠ "java/lang/invoke/VarHandle" ∧ (parseMethodDescriptor yJ2_add_2.desc).map (fun d => d.parameters.length) = some 3 := by decide +kernel
set_option maxHeartbeats 4000000 in
set_option maxRecDepth 100000 in
theorem bx_J2_add_2 (E : XE) (C : Cx) (S0 : XS) (sz : Nat) (Q : XS → Prop) (mc ms : Nat) (S : XS) (x0 : Option Nat) (x1 : Option Nat) (x2 : Option Nat) (x3 : Int32) (hC : COk C cJ2_add_2 RJ2 none 5 121 4) (hX : XOk E C) (hA : cx_A C = xA S0 sz) (hQ : cx_Q C = MQ (cx_b C) (va_Qv Q (BX1 E S0 sz) (xA S0 sz)) (cx_a C) (cx_s C) (cx_MC C) (cx_MS C) (xA S0 sz)) (h : wx_J2_add_2 Q mc ms S x0 x1 x2 x3) : GX E C S mc ms 0 [some (va_rf x0), some (va_rf x1), some (va_rf x2), some (.int x3)] [] := by
  have s_11 : ∀ (mc ms : Nat) (S : XS) (a0 : Option Nat) (a1 : Option Nat) (a2 : Option Nat) (a3 : Int32), wx_J2_add_2_11 Q  mc ms S a0 a1 a2 a3 → GX E C S mc ms 11 [some (va_rf a0), some (va_rf a1), some (va_rf a2), some (.int a3)] [] := by
    intro  mc ms S a0 a1 a2 a3 h
    refine g_aload_nR hC dJ2_add_2_11 rfl ?_
    refine g_iload_n hC dJ2_add_2_12 rfl ?_
    refine g_aload_nR hC dJ2_add_2_13 rfl ?_
    obtain ⟨u3, eu3, h⟩ := h
    refine g_top2 eu3 ?_
    have hk4 := h.1
    obtain ⟨u5, eu5, h⟩ := h.2
    refine g_top0 eu5 ?_
    refine gX_aastX hC hX dJ2_add_2_14 hk4 h.1 h.2.1 h.2.2.1 ?_
    refine g_aload_nR hC dJ2_add_2_15 rfl ?_
    refine g_iload_n hC dJ2_add_2_16 rfl ?_
    refine g_iconst (v := 1) hC dJ2_add_2_17 (by decide) ?_
    refine g_iadd hC dJ2_add_2_18 ?_
    obtain ⟨u6, eu6, h⟩ := h.2.2.2
    refine g_top1 eu6 ?_
    have hk7 := h.1
    refine gX_putI (C0 := RJ2) (T := TJ2) (ty0 := tyJ2) (N := 3) (n := 16) (k := 2) (f := 1601) hC hX dJ2_add_2_19 q136 rfl in_J2 tyJ2_ok nmJ2 (by decide) (Or.inl rfl) rfl rfl rfl rfl rfl (by decide) (Or.inl (by decide)) hk7 ?_
    refine gX_vret hC hA hQ rfl dJ2_add_2_22 h.2
  refine g_iload_n hC dJ2_add_2_0 rfl ?_
  refine g_aload_nR hC dJ2_add_2_1 rfl ?_
  obtain ⟨u1, eu1, h⟩ := h
  refine g_top0 eu1 ?_
  have hk2 := h.1
  refine gX_alen (n := 102) hC hX dJ2_add_2_2 (by decide) hk2 ?_
  refine g_icmp_ne (tgt := 11) hC dJ2_add_2_3 (by decide) (fun c => ?_) (fun c => ?_)
  · have h := it_n c h.2
    exact s_11 mc ms S x0 x1 x2 x3 h
  · have h := it_p c h.2
    refine g_aload_nR hC dJ2_add_2_6 rfl ?_
    obtain ⟨u8, eu8, h⟩ := h
    refine g_top0 eu8 ?_
    have hk9 := h.1
    obtain ⟨k10, n11, hk10, hn11, h⟩ := h.2
    refine gX_cq hX (gX_runV (As := []) (rest := []) (Cr := RJ2) hC hX (mx_J2_grow (cx_l C) E k10 n11 _ _ _ h) (lw_V q872 q874 qs14 q73 q875) hx_J2_grow rfl rfl (Or.inl (Nat.le_of_ble_eq_true rfl)) ⟨Nat.le_of_ble_eq_true rfl, Nat.le_of_ble_eq_true rfl⟩ dJ2_add_2_7 hk10 hn11 hk9 rfl (by decide) rfl) hk10 hn11 ?_
    intro r13 S12 h
    refine g_astore_nR hC dJ2_add_2_10 rfl (by decide) (lx_okR (j := 1) rfl) rfl ?_
    exact s_11 (mc - k10) (ms - n11) S12 x0 x1 r13 x3 h
theorem mx_J2_add_2 (l : Launch) (E : XE) (mc ms : Nat) (Q : XS → Prop) (S : XS) (x0 : Option Nat) (x1 : Option Nat) (x2 : Option Nat) (x3 : Int32) (h : wx_J2_add_2 Q mc ms S x0 x1 x2 x3) : XMet E l yJ2_add_2 cJ2_add_2 4 none ({ frames := 5, cells := mc, slots := ms, locals := 121 } : Room) [va_rf x0, va_rf x1, va_rf x2, .int x3] S (fun sz => va_Qv Q (BX1 E S sz) (xA S sz)) :=
  XMet_of (rm := ({ frames := 5, cells := mc, slots := ms, locals := 121 } : Room)) (by decide) (by simp [lg_sl, va_rf_cat, cat_i, cat_l]) (L0 := [some (va_rf x0), some (va_rf x1), some (va_rf x2), some (.int x3)]) (by simp [lx_pairs, lv_args, va_rf_cat, cat_i, cat_l, List.range_succ]) (fun sz C hC hX hl hnm hA hQ => bx_J2_add_2 E C S sz Q mc ms S x0 x1 x2 x3 hC hX hA hQ h)
/-! J2_add -/
def wx_J2_add (Q : Int32 → XS → Prop) (mc ms : Nat) (S : XS) (x0 : Option Nat) (x1 : Option Nat) : Prop :=
  dr x0 (fun u1 => xKD S u1 = some 16 ∧ (∃ k3 n4, k3 ≤ mc ∧ n4 ≤ ms ∧ wx_J2_add_2 (fun S5 => Q (1 : Int32) S5) k3 n4 (sFI S 5100 u1 ((xFI S 5100 u1) + (1 : Int32))) (some u1) x1 (xFR (sFI S 5100 u1 ((xFI S 5100 u1) + (1 : Int32))) 1600 u1) (xFI (sFI S 5100 u1 ((xFI S 5100 u1) + (1 : Int32))) 1601 u1)))
theorem hx_J2_add : yJ2_add.cls = RJ2 ∧ yJ2_add.cls ≠ "java/lang/invoke/MethodHandle" ∧ yJ2_add.cls ≠ "java/lang/invoke/VarHandle" ∧ (parseMethodDescriptor yJ2_add.desc).map (fun d => d.parameters.length) = some 1 := by decide +kernel
set_option maxHeartbeats 4000000 in
set_option maxRecDepth 100000 in
theorem bx_J2_add (E : XE) (C : Cx) (S0 : XS) (sz : Nat) (Q : Int32 → XS → Prop) (mc ms : Nat) (S : XS) (x0 : Option Nat) (x1 : Option Nat) (hC : COk C cJ2_add RJ2 (some .boolean) 6 144 2) (hX : XOk E C) (hA : cx_A C = xA S0 sz) (hQ : cx_Q C = MQ (cx_b C) (va_Qi Q (BX1 E S0 sz) (xA S0 sz)) (cx_a C) (cx_s C) (cx_MC C) (cx_MS C) (xA S0 sz)) (h : wx_J2_add Q mc ms S x0 x1) : GX E C S mc ms 0 [some (va_rf x0), some (va_rf x1)] [] := by
  refine g_aload_nR hC dJ2_add_0 rfl ?_
  refine g_dup hC dJ2_add_1 (va_rf_cat _) ?_
  obtain ⟨u1, eu1, h⟩ := h
  refine g_top0 eu1 ?_
  have hk2 := h.1
  refine gX_get (C0 := RJ2) (T := TJ2) (N := 3) (n := 16) (k := 0) (q := (5100, false)) hC hX dJ2_add_2 q138 rfl in_J2 (by decide) (Or.inr q139) rfl (by decide) hk2 ?_
  show GX _ _ _ _ _ _ _ (.int (xFI S 5100 u1) :: _)
  refine g_iconst (v := 1) hC dJ2_add_5 (by decide) ?_
  refine g_iadd hC dJ2_add_6 ?_
  refine g_top1 eu1 ?_
  refine gX_putI (C0 := RJ2) (T := TJ2) (ty0 := tyJ2) (N := 3) (n := 16) (k := 0) (f := 5100) hC hX dJ2_add_7 q138 rfl in_J2 tyJ2_ok nmJ2 (by decide) (Or.inr q139) rfl rfl rfl rfl rfl (by decide) (Or.inl (by decide)) hk2 ?_
  refine g_aload_nR hC dJ2_add_10 rfl ?_
  refine g_aload_nR hC dJ2_add_11 rfl ?_
  refine g_aload_nR hC dJ2_add_12 rfl ?_
  refine g_top0 eu1 ?_
  refine gX_get (C0 := RJ2) (T := TJ2) (N := 3) (n := 16) (k := 1) (q := (1600, true)) hC hX dJ2_add_13 q135 rfl in_J2 (by decide) (Or.inl rfl) rfl (by decide) hk2 ?_
  show GX _ _ _ _ _ _ _ (va_rf (xFR (sFI S 5100 u1 ((xFI S 5100 u1) + (1 : Int32))) 1600 u1) :: _)
  refine g_aload_nR hC dJ2_add_16 rfl ?_
  refine g_top0 eu1 ?_
  refine gX_get (C0 := RJ2) (T := TJ2) (N := 3) (n := 16) (k := 2) (q := (1601, false)) hC hX dJ2_add_17 q136 rfl in_J2 (by decide) (Or.inl rfl) rfl (by decide) hk2 ?_
  show GX _ _ _ _ _ _ _ (.int (xFI (sFI S 5100 u1 ((xFI S 5100 u1) + (1 : Int32))) 1601 u1) :: _)
  refine g_top3 eu1 ?_
  obtain ⟨k3, n4, hk3, hn4, h⟩ := h.2
  refine gX_cv hX (gX_runV (As := [va_rf x1, va_rf (xFR (sFI S 5100 u1 ((xFI S 5100 u1) + (1 : Int32))) 1600 u1), .int (xFI (sFI S 5100 u1 ((xFI S 5100 u1) + (1 : Int32))) 1601 u1)]) (rest := []) (Cr := RJ2) hC hX (mx_J2_add_2 (cx_l C) E k3 n4 _ _ _ _ _ _ h) (lw_V q868 q870 qs13 q73 q871) hx_J2_add_2 rfl rfl (Or.inl (Nat.le_of_ble_eq_true rfl)) ⟨Nat.le_of_ble_eq_true rfl, Nat.le_of_ble_eq_true rfl⟩ dJ2_add_20 hk3 hn4 hk2 rfl (by decide) rfl) hk3 hn4 ?_
  intro S5 h
  refine g_iconst (v := 1) hC dJ2_add_23 (by decide) ?_
  refine gX_zret rfl rfl hC hA hQ dJ2_add_24 h
theorem mx_J2_add (l : Launch) (E : XE) (mc ms : Nat) (Q : Int32 → XS → Prop) (S : XS) (x0 : Option Nat) (x1 : Option Nat) (h : wx_J2_add Q mc ms S x0 x1) : XMet E l yJ2_add cJ2_add 2 (some .boolean) ({ frames := 6, cells := mc, slots := ms, locals := 144 } : Room) [va_rf x0, va_rf x1] S (fun sz => va_Qi Q (BX1 E S sz) (xA S sz)) :=
  XMet_of (rm := ({ frames := 6, cells := mc, slots := ms, locals := 144 } : Room)) (by decide) (by simp [lg_sl, va_rf_cat, cat_i, cat_l]) (L0 := [some (va_rf x0), some (va_rf x1)]) (by simp [lx_pairs, lv_args, va_rf_cat, cat_i, cat_l, List.range_succ]) (fun sz C hC hX hl hnm hA hQ => bx_J2_add E C S sz Q mc ms S x0 x1 hC hX hA hQ h)
/-! J2_rangeCheckForAdd -/
def wx_J2_rangeCheckForAdd_12 (Q : XS → Prop) (S : XS) (a0 : Option Nat) (a1 : Int32) : Prop :=
  False
def wx_J2_rangeCheckForAdd (Q : XS → Prop) (S : XS) (x0 : Option Nat) (x1 : Int32) : Prop :=
  dr x0 (fun u1 => xKD S u1 = some 16 ∧ (if (xFI S 1601 u1) < x1 then wx_J2_rangeCheckForAdd_12 Q S x0 x1 else (if 0 ≤ x1 then Q S else wx_J2_rangeCheckForAdd_12 Q S x0 x1)))
theorem hx_J2_rangeCheckForAdd : yJ2_rangeCheckForAdd.cls = RJ2 ∧ yJ2_rangeCheckForAdd.cls ≠ "java/lang/invoke/MethodHandle" ∧ yJ2_rangeCheckForAdd.cls ≠ "java/lang/invoke/VarHandle" ∧ (parseMethodDescriptor yJ2_rangeCheckForAdd.desc).map (fun d => d.parameters.length) = some 1 := by decide +kernel
set_option maxHeartbeats 4000000 in
set_option maxRecDepth 100000 in
theorem bx_J2_rangeCheckForAdd (E : XE) (C : Cx) (S0 : XS) (sz : Nat) (Q : XS → Prop) (S : XS) (x0 : Option Nat) (x1 : Int32) (hC : COk C cJ2_rangeCheckForAdd RJ2 none 1 34 2) (hX : XOk E C) (hA : cx_A C = xA S0 sz) (hQ : cx_Q C = MQ (cx_b C) (va_Qv Q (BX1 E S0 sz) (xA S0 sz)) (cx_a C) (cx_s C) (cx_MC C) (cx_MS C) (xA S0 sz)) (h : wx_J2_rangeCheckForAdd Q S x0 x1) : GX E C S 0 0 0 [some (va_rf x0), some (.int x1)] [] := by
  have s_12 : ∀ (S : XS) (a0 : Option Nat) (a1 : Int32), wx_J2_rangeCheckForAdd_12 Q  S a0 a1 → GX E C S 0 0 12 [some (va_rf a0), some (.int a1)] [] := by
    intro  S a0 a1 h
    exact False.elim h
  refine g_iload_n hC dJ2_rangeCheckForAdd_0 rfl ?_
  refine g_aload_nR hC dJ2_rangeCheckForAdd_1 rfl ?_
  obtain ⟨u1, eu1, h⟩ := h
  refine g_top0 eu1 ?_
  have hk2 := h.1
  refine gX_get (C0 := RJ2) (T := TJ2) (N := 3) (n := 16) (k := 2) (q := (1601, false)) hC hX dJ2_rangeCheckForAdd_2 q136 rfl in_J2 (by decide) (Or.inl rfl) rfl (by decide) hk2 ?_
  show GX _ _ _ _ _ _ _ (.int (xFI S 1601 u1) :: _)
  refine g_icmp_gt (tgt := 12) hC dJ2_rangeCheckForAdd_5 (by decide) (fun c => ?_) (fun c => ?_)
  · have h := it_p c h.2
    exact s_12 S x0 x1 h
  · have h := it_n c h.2
    refine g_iload_n hC dJ2_rangeCheckForAdd_8 rfl ?_
    refine g_if_ge (tgt := 25) hC dJ2_rangeCheckForAdd_9 (by decide) (fun c => ?_) (fun c => ?_)
    · have h := it_p c h
      refine gX_vret hC hA hQ rfl dJ2_rangeCheckForAdd_25 h
    · have h := it_n c h
      exact s_12 S x0 x1 h
theorem mx_J2_rangeCheckForAdd (l : Launch) (E : XE) (Q : XS → Prop) (S : XS) (x0 : Option Nat) (x1 : Int32) (h : wx_J2_rangeCheckForAdd Q S x0 x1) : XMet E l yJ2_rangeCheckForAdd cJ2_rangeCheckForAdd 2 none ({ frames := 1, cells := 0, slots := 0, locals := 34 } : Room) [va_rf x0, .int x1] S (fun sz => va_Qv Q (BX1 E S sz) (xA S sz)) :=
  XMet_of (rm := ({ frames := 1, cells := 0, slots := 0, locals := 34 } : Room)) (by decide) (by simp [lg_sl, va_rf_cat, cat_i, cat_l]) (L0 := [some (va_rf x0), some (.int x1)]) (by simp [lx_pairs, lv_args, va_rf_cat, cat_i, cat_l, List.range_succ]) (fun sz C hC hX hl hnm hA hQ => bx_J2_rangeCheckForAdd E C S sz Q S x0 x1 hC hX hA hQ h)
/-! J2_add_3 -/
def wx_J2_add_3_38 (Q : XS → Prop) (mc ms : Nat) (S : XS) (a0 : Option Nat) (a1 : Int32) (a2 : Option Nat) (a3 : Int32) (a4 : Option Nat) : Prop :=
  dr a4 (fun u8 => xKD S u8 = some 102 ∧ xRO S u8 = false ∧ xRO S u8 = false ∧ ¬ a1 < 0 ∧ ¬ (a1 + (1 : Int32)) < 0 ∧ ¬ (a3 - a1) < 0 ∧ (Int32.toNatClampNeg a1) + (Int32.toNatClampNeg (a3 - a1)) ≤ xLN S u8 ∧ (Int32.toNatClampNeg (a1 + (1 : Int32))) + (Int32.toNatClampNeg (a3 - a1)) ≤ xLN S u8 ∧ (∀ j, j < (Int32.toNatClampNeg (a3 - a1)) → ∀ y, xAR S u8 ((Int32.toNatClampNeg a1) + j) = some y → xOb S y) ∧ dr a2 (fun u10 => xRO (sARf S u8 (va_cpy (xAR S u8) (xAR S u8) (Int32.toNatClampNeg a1) (Int32.toNatClampNeg (a1 + (1 : Int32))) (Int32.toNatClampNeg (a3 - a1)))) u8 = false ∧ vp_in a1 (xLN (sARf S u8 (va_cpy (xAR S u8) (xAR S u8) (Int32.toNatClampNeg a1) (Int32.toNatClampNeg (a1 + (1 : Int32))) (Int32.toNatClampNeg (a3 - a1)))) u8) ∧ xOb (sARf S u8 (va_cpy (xAR S u8) (xAR S u8) (Int32.toNatClampNeg a1) (Int32.toNatClampNeg (a1 + (1 : Int32))) (Int32.toNatClampNeg (a3 - a1)))) u10 ∧ dr a0 (fun u11 => xKD (sAR (sARf S u8 (va_cpy (xAR S u8) (xAR S u8) (Int32.toNatClampNeg a1) (Int32.toNatClampNeg (a1 + (1 : Int32))) (Int32.toNatClampNeg (a3 - a1)))) u8 (Int32.toNatClampNeg a1) (some u10)) u11 = some 16 ∧ Q (sFI (sAR (sARf S u8 (va_cpy (xAR S u8) (xAR S u8) (Int32.toNatClampNeg a1) (Int32.toNatClampNeg (a1 + (1 : Int32))) (Int32.toNatClampNeg (a3 - a1)))) u8 (Int32.toNatClampNeg a1) (some u10)) 1601 u11 (a3 + (1 : Int32))))))
def wx_J2_add_3 (Q : XS → Prop) (mc ms : Nat) (S : XS) (x0 : Option Nat) (x1 : Int32) (x2 : Option Nat) : Prop :=
  dr x0 (fun u1 => xKD S u1 = some 16 ∧ wx_J2_rangeCheckForAdd (fun S3 => xKD S3 u1 = some 16 ∧ dr (xFR (sFI S3 5100 u1 ((xFI S3 5100 u1) + (1 : Int32))) 1600 u1) (fun u6 => xKD (sFI S3 5100 u1 ((xFI S3 5100 u1) + (1 : Int32))) u6 = some 102 ∧ (if (xFI (sFI S3 5100 u1 ((xFI S3 5100 u1) + (1 : Int32))) 1601 u1) = (Int32.ofNat (xLN (sFI S3 5100 u1 ((xFI S3 5100 u1) + (1 : Int32))) u6)) then (∃ k13 n14, k13 ≤ mc ∧ n14 ≤ ms ∧ wx_J2_grow (fun r16 S15 => wx_J2_add_3_38 Q (mc - k13) (ms - n14) S15 x0 x1 x2 (xFI (sFI S3 5100 u1 ((xFI S3 5100 u1) + (1 : Int32))) 1601 u1) r16) k13 n14 (sFI S3 5100 u1 ((xFI S3 5100 u1) + (1 : Int32))) (some u1)) else wx_J2_add_3_38 Q mc ms (sFI S3 5100 u1 ((xFI S3 5100 u1) + (1 : Int32))) x0 x1 x2 (xFI (sFI S3 5100 u1 ((xFI S3 5100 u1) + (1 : Int32))) 1601 u1) (xFR (sFI S3 5100 u1 ((xFI S3 5100 u1) + (1 : Int32))) 1600 u1)))) S (some u1) x1)
theorem hx_J2_add_3 : yJ2_add_3.cls = RJ2 ∧ yJ2_add_3.cls ≠ "java/lang/invoke/MethodHandle" ∧ yJ2_add_3.cls ≠ "java/lang/invoke/VarHandle" ∧ (parseMethodDescriptor yJ2_add_3.desc).map (fun d => d.parameters.length) = some 2 := by decide +kernel
set_option maxHeartbeats 4000000 in
set_option maxRecDepth 100000 in
theorem bx_J2_add_3 (E : XE) (C : Cx) (S0 : XS) (sz : Nat) (Q : XS → Prop) (mc ms : Nat) (S : XS) (x0 : Option Nat) (x1 : Int32) (x2 : Option Nat) (hC : COk C cJ2_add_3 RJ2 none 5 121 5) (hX : XOk E C) (hA : cx_A C = xA S0 sz) (hQ : cx_Q C = MQ (cx_b C) (va_Qv Q (BX1 E S0 sz) (xA S0 sz)) (cx_a C) (cx_s C) (cx_MC C) (cx_MS C) (xA S0 sz)) (h : wx_J2_add_3 Q mc ms S x0 x1 x2) : GX E C S mc ms 0 [some (va_rf x0), some (.int x1), some (va_rf x2), none, none] [] := by
  have s_38 : ∀ (mc ms : Nat) (S : XS) (a0 : Option Nat) (a1 : Int32) (a2 : Option Nat) (a3 : Int32) (a4 : Option Nat), wx_J2_add_3_38 Q  mc ms S a0 a1 a2 a3 a4 → GX E C S mc ms 38 [some (va_rf a0), some (.int a1), some (va_rf a2), some (.int a3), some (va_rf a4)] [] := by
    intro  mc ms S a0 a1 a2 a3 a4 h
    refine g_aloadR hC dJ2_add_3_38 rfl ?_
    refine g_iload_n hC dJ2_add_3_40 rfl ?_
    refine g_aloadR hC dJ2_add_3_41 rfl ?_
    refine g_iload_n hC dJ2_add_3_43 rfl ?_
    refine g_iconst (v := 1) hC dJ2_add_3_44 (by decide) ?_
    refine g_iadd hC dJ2_add_3_45 ?_
    refine g_iload_n hC dJ2_add_3_46 rfl ?_
    refine g_iload_n hC dJ2_add_3_47 rfl ?_
    refine g_isub hC dJ2_add_3_48 ?_
    obtain ⟨u8, eu8, h⟩ := h
    refine g_top2 eu8 ?_
    refine g_top4 eu8 ?_
    have hk9 := h.1
    refine gX_acopyX hC hX dJ2_add_3_49 q1220 q418 q417 q85 hk9 hk9 h.2.1 h.2.2.1 h.2.2.2.1 h.2.2.2.2.1 h.2.2.2.2.2.1 h.2.2.2.2.2.2.1 h.2.2.2.2.2.2.2.1 h.2.2.2.2.2.2.2.2.1 (Nat.le_of_ble_eq_true rfl) (by decide) (by decide) ?_
    refine g_aloadR hC dJ2_add_3_52 rfl ?_
    refine g_iload_n hC dJ2_add_3_54 rfl ?_
    refine g_aload_nR hC dJ2_add_3_55 rfl ?_
    refine g_top2 eu8 ?_
    obtain ⟨u10, eu10, h⟩ := h.2.2.2.2.2.2.2.2.2
    refine g_top0 eu10 ?_
    refine gX_aastX hC hX dJ2_add_3_56 hk9 h.1 h.2.1 h.2.2.1 ?_
    refine g_aload_nR hC dJ2_add_3_57 rfl ?_
    refine g_iload_n hC dJ2_add_3_58 rfl ?_
    refine g_iconst (v := 1) hC dJ2_add_3_59 (by decide) ?_
    refine g_iadd hC dJ2_add_3_60 ?_
    obtain ⟨u11, eu11, h⟩ := h.2.2.2
    refine g_top1 eu11 ?_
    have hk12 := h.1
    refine gX_putI (C0 := RJ2) (T := TJ2) (ty0 := tyJ2) (N := 3) (n := 16) (k := 2) (f := 1601) hC hX dJ2_add_3_61 q136 rfl in_J2 tyJ2_ok nmJ2 (by decide) (Or.inl rfl) rfl rfl rfl rfl rfl (by decide) (Or.inl (by decide)) hk12 ?_
    refine gX_vret hC hA hQ rfl dJ2_add_3_64 h.2
  refine g_aload_nR hC dJ2_add_3_0 rfl ?_
  refine g_iload_n hC dJ2_add_3_1 rfl ?_
  obtain ⟨u1, eu1, h⟩ := h
  refine g_top1 eu1 ?_
  have hk2 := h.1
  refine gX_nv hX (gX_runV (As := [.int x1]) (rest := []) (Cr := RJ2) hC hX (mx_J2_rangeCheckForAdd (cx_l C) E _ _ _ _ h.2) (lw_V q1124 q1126 qs29 q73 q1127) hx_J2_rangeCheckForAdd rfl rfl (Or.inl (Nat.le_of_ble_eq_true rfl)) ⟨Nat.le_of_ble_eq_true rfl, Nat.le_of_ble_eq_true rfl⟩ dJ2_add_3_2 (Nat.zero_le _) (Nat.zero_le _) hk2 rfl (by decide) rfl) rfl rfl ?_
  intro S3 h
  refine g_aload_nR hC dJ2_add_3_5 rfl ?_
  refine g_dup hC dJ2_add_3_6 (va_rf_cat _) ?_
  refine g_top0 eu1 ?_
  have hk5 := h.1
  refine gX_get (C0 := RJ2) (T := TJ2) (N := 3) (n := 16) (k := 0) (q := (5100, false)) hC hX dJ2_add_3_7 q138 rfl in_J2 (by decide) (Or.inr q139) rfl (by decide) hk5 ?_
  show GX _ _ _ _ _ _ _ (.int (xFI S3 5100 u1) :: _)
  refine g_iconst (v := 1) hC dJ2_add_3_10 (by decide) ?_
  refine g_iadd hC dJ2_add_3_11 ?_
  refine g_top1 eu1 ?_
  refine gX_putI (C0 := RJ2) (T := TJ2) (ty0 := tyJ2) (N := 3) (n := 16) (k := 0) (f := 5100) hC hX dJ2_add_3_12 q138 rfl in_J2 tyJ2_ok nmJ2 (by decide) (Or.inr q139) rfl rfl rfl rfl rfl (by decide) (Or.inl (by decide)) hk5 ?_
  refine g_aload_nR hC dJ2_add_3_15 rfl ?_
  refine g_top0 eu1 ?_
  refine gX_get (C0 := RJ2) (T := TJ2) (N := 3) (n := 16) (k := 2) (q := (1601, false)) hC hX dJ2_add_3_16 q136 rfl in_J2 (by decide) (Or.inl rfl) rfl (by decide) hk5 ?_
  show GX _ _ _ _ _ _ _ (.int (xFI (sFI S3 5100 u1 ((xFI S3 5100 u1) + (1 : Int32))) 1601 u1) :: _)
  refine g_dup hC dJ2_add_3_19 rfl ?_
  refine g_istore_n hC dJ2_add_3_20 rfl (by decide) (lx_okR (j := 2) rfl) rfl ?_
  refine g_aload_nR hC dJ2_add_3_21 rfl ?_
  refine g_top0 eu1 ?_
  refine gX_get (C0 := RJ2) (T := TJ2) (N := 3) (n := 16) (k := 1) (q := (1600, true)) hC hX dJ2_add_3_22 q135 rfl in_J2 (by decide) (Or.inl rfl) rfl (by decide) hk5 ?_
  show GX _ _ _ _ _ _ _ (va_rf (xFR (sFI S3 5100 u1 ((xFI S3 5100 u1) + (1 : Int32))) 1600 u1) :: _)
  refine g_dup hC dJ2_add_3_25 (va_rf_cat _) ?_
  refine g_astoreR hC dJ2_add_3_26 (by decide) rfl rfl ?_
  obtain ⟨u6, eu6, h⟩ := h.2
  refine g_top0 eu6 ?_
  have hk7 := h.1
  refine gX_alen (n := 102) hC hX dJ2_add_3_28 (by decide) hk7 ?_
  refine g_icmp_ne (tgt := 38) hC dJ2_add_3_29 (by decide) (fun c => ?_) (fun c => ?_)
  · have h := it_n c h.2
    exact s_38 mc ms (sFI S3 5100 u1 ((xFI S3 5100 u1) + (1 : Int32))) x0 x1 x2 (xFI (sFI S3 5100 u1 ((xFI S3 5100 u1) + (1 : Int32))) 1601 u1) (xFR (sFI S3 5100 u1 ((xFI S3 5100 u1) + (1 : Int32))) 1600 u1) h
  · have h := it_p c h.2
    refine g_aload_nR hC dJ2_add_3_32 rfl ?_
    refine g_top0 eu1 ?_
    obtain ⟨k13, n14, hk13, hn14, h⟩ := h
    refine gX_cq hX (gX_runV (As := []) (rest := []) (Cr := RJ2) hC hX (mx_J2_grow (cx_l C) E k13 n14 _ _ _ h) (lw_V q872 q874 qs14 q73 q875) hx_J2_grow rfl rfl (Or.inl (Nat.le_of_ble_eq_true rfl)) ⟨Nat.le_of_ble_eq_true rfl, Nat.le_of_ble_eq_true rfl⟩ dJ2_add_3_33 hk13 hn14 hk5 rfl (by decide) rfl) hk13 hn14 ?_
    intro r16 S15 h
    refine g_astoreR hC dJ2_add_3_36 (by decide) rfl rfl ?_
    exact s_38 (mc - k13) (ms - n14) S15 x0 x1 x2 (xFI (sFI S3 5100 u1 ((xFI S3 5100 u1) + (1 : Int32))) 1601 u1) r16 h
theorem mx_J2_add_3 (l : Launch) (E : XE) (mc ms : Nat) (Q : XS → Prop) (S : XS) (x0 : Option Nat) (x1 : Int32) (x2 : Option Nat) (h : wx_J2_add_3 Q mc ms S x0 x1 x2) : XMet E l yJ2_add_3 cJ2_add_3 5 none ({ frames := 5, cells := mc, slots := ms, locals := 121 } : Room) [va_rf x0, .int x1, va_rf x2] S (fun sz => va_Qv Q (BX1 E S sz) (xA S sz)) :=
  XMet_of (rm := ({ frames := 5, cells := mc, slots := ms, locals := 121 } : Room)) (by decide) (by simp [lg_sl, va_rf_cat, cat_i, cat_l]) (L0 := [some (va_rf x0), some (.int x1), some (va_rf x2), none, none]) (by simp [lx_pairs, lv_args, va_rf_cat, cat_i, cat_l, List.range_succ]) (fun sz C hC hX hl hnm hA hQ => bx_J2_add_3 E C S sz Q mc ms S x0 x1 x2 hC hX hA hQ h)
/-! J16_checkIndex -/
def wx_J16_checkIndex_9 (Q : Int32 → XS → Prop) (S : XS) (a0 : Int32) (a1 : Int32) (a2 : Option Nat) : Prop :=
  False
def wx_J16_checkIndex (Q : Int32 → XS → Prop) (S : XS) (x0 : Int32) (x1 : Int32) (x2 : Option Nat) : Prop :=
  (if x0 < 0 then wx_J16_checkIndex_9 Q S x0 x1 x2 else (if x0 < x1 then Q x0 S else wx_J16_checkIndex_9 Q S x0 x1 x2))
theorem hx_J16_checkIndex : yJ16_checkIndex.cls = RJ16 ∧ yJ16_checkIndex.cls ≠ "java/lang/invoke/MethodHandle" ∧ yJ16_checkIndex.cls ≠ "java/lang/invoke/VarHandle" ∧ (parseMethodDescriptor yJ16_checkIndex.desc).map (fun d => d.parameters.length) = some 3 := by decide +kernel
set_option maxHeartbeats 4000000 in
set_option maxRecDepth 100000 in
theorem bx_J16_checkIndex (E : XE) (C : Cx) (S0 : XS) (sz : Nat) (Q : Int32 → XS → Prop) (S : XS) (x0 : Int32) (x1 : Int32) (x2 : Option Nat) (hC : COk C cJ16_checkIndex RJ16 (some .int) 1 34 3) (hX : XOk E C) (hA : cx_A C = xA S0 sz) (hQ : cx_Q C = MQ (cx_b C) (va_Qi Q (BX1 E S0 sz) (xA S0 sz)) (cx_a C) (cx_s C) (cx_MC C) (cx_MS C) (xA S0 sz)) (h : wx_J16_checkIndex Q S x0 x1 x2) : GX E C S 0 0 0 [some (.int x0), some (.int x1), some (va_rf x2)] [] := by
  have s_9 : ∀ (S : XS) (a0 : Int32) (a1 : Int32) (a2 : Option Nat), wx_J16_checkIndex_9 Q  S a0 a1 a2 → GX E C S 0 0 9 [some (.int a0), some (.int a1), some (va_rf a2)] [] := by
    intro  S a0 a1 a2 h
    refine g_aload_nR hC dJ16_checkIndex_9 rfl ?_
    refine g_iload_n hC dJ16_checkIndex_10 rfl ?_
    refine g_iload_n hC dJ16_checkIndex_11 rfl ?_
    exact False.elim h
  refine g_iload_n hC dJ16_checkIndex_0 rfl ?_
  refine g_if_lt (tgt := 9) hC dJ16_checkIndex_1 (by decide) (fun c => ?_) (fun c => ?_)
  · have h := it_p c h
    exact s_9 S x0 x1 x2 h
  · have h := it_n c h
    refine g_iload_n hC dJ16_checkIndex_4 rfl ?_
    refine g_iload_n hC dJ16_checkIndex_5 rfl ?_
    refine g_icmp_lt (tgt := 16) hC dJ16_checkIndex_6 (by decide) (fun c => ?_) (fun c => ?_)
    · have h := it_p c h
      refine g_iload_n hC dJ16_checkIndex_16 rfl ?_
      refine gX_iret rfl hC hA hQ dJ16_checkIndex_17 h
    · have h := it_n c h
      exact s_9 S x0 x1 x2 h
theorem mx_J16_checkIndex (l : Launch) (E : XE) (Q : Int32 → XS → Prop) (S : XS) (x0 : Int32) (x1 : Int32) (x2 : Option Nat) (h : wx_J16_checkIndex Q S x0 x1 x2) : XMet E l yJ16_checkIndex cJ16_checkIndex 3 (some .int) ({ frames := 1, cells := 0, slots := 0, locals := 34 } : Room) [.int x0, .int x1, va_rf x2] S (fun sz => va_Qi Q (BX1 E S sz) (xA S sz)) :=
  XMet_of (rm := ({ frames := 1, cells := 0, slots := 0, locals := 34 } : Room)) (by decide) (by simp [lg_sl, va_rf_cat, cat_i, cat_l]) (L0 := [some (.int x0), some (.int x1), some (va_rf x2)]) (by simp [lx_pairs, lv_args, va_rf_cat, cat_i, cat_l, List.range_succ]) (fun sz C hC hX hl hnm hA hQ => bx_J16_checkIndex E C S sz Q S x0 x1 x2 hC hX hA hQ h)
/-! J17_checkIndex -/
def wx_J17_checkIndex (Q : Int32 → XS → Prop) (S : XS) (x0 : Int32) (x1 : Int32) : Prop :=
  wx_J16_checkIndex (fun r2 S1 => Q r2 S1) S x0 x1 none
theorem hx_J17_checkIndex : yJ17_checkIndex.cls = RJ17 ∧ yJ17_checkIndex.cls ≠ "java/lang/invoke/MethodHandle" ∧ yJ17_checkIndex.cls ≠ "java/lang/invoke/VarHandle" ∧ (parseMethodDescriptor yJ17_checkIndex.desc).map (fun d => d.parameters.length) = some 2 := by decide +kernel
set_option maxHeartbeats 4000000 in
set_option maxRecDepth 100000 in
theorem bx_J17_checkIndex (E : XE) (C : Cx) (S0 : XS) (sz : Nat) (Q : Int32 → XS → Prop) (S : XS) (x0 : Int32) (x1 : Int32) (hC : COk C cJ17_checkIndex RJ17 (some .int) 2 56 2) (hX : XOk E C) (hA : cx_A C = xA S0 sz) (hQ : cx_Q C = MQ (cx_b C) (va_Qi Q (BX1 E S0 sz) (xA S0 sz)) (cx_a C) (cx_s C) (cx_MC C) (cx_MS C) (xA S0 sz)) (h : wx_J17_checkIndex Q S x0 x1) : GX E C S 0 0 0 [some (.int x0), some (.int x1)] [] := by
  refine g_iload_n hC dJ17_checkIndex_0 rfl ?_
  refine g_iload_n hC dJ17_checkIndex_1 rfl ?_
  refine g_nullR hC dJ17_checkIndex_2 ?_
  refine gX_ni hX (gX_runS (As := [.int x0, .int x1, va_rf none]) (rest := []) hC hX (mx_J16_checkIndex (cx_l C) E _ _ _ _ _ h) (lw_S q939 q611 q94 q612) hx_J16_checkIndex.2 rfl rfl (Or.inl (Nat.le_of_ble_eq_true rfl)) ⟨Nat.le_of_ble_eq_true rfl, Nat.le_of_ble_eq_true rfl⟩ dJ17_checkIndex_3 (Nat.zero_le _) (Nat.zero_le _)) rfl rfl ?_
  intro r2 S1 h
  refine gX_iret rfl hC hA hQ dJ17_checkIndex_6 h
theorem mx_J17_checkIndex (l : Launch) (E : XE) (Q : Int32 → XS → Prop) (S : XS) (x0 : Int32) (x1 : Int32) (h : wx_J17_checkIndex Q S x0 x1) : XMet E l yJ17_checkIndex cJ17_checkIndex 2 (some .int) ({ frames := 2, cells := 0, slots := 0, locals := 56 } : Room) [.int x0, .int x1] S (fun sz => va_Qi Q (BX1 E S sz) (xA S sz)) :=
  XMet_of (rm := ({ frames := 2, cells := 0, slots := 0, locals := 56 } : Room)) (by decide) (by simp [lg_sl, va_rf_cat, cat_i, cat_l]) (L0 := [some (.int x0), some (.int x1)]) (by simp [lx_pairs, lv_args, va_rf_cat, cat_i, cat_l, List.range_succ]) (fun sz C hC hX hl hnm hA hQ => bx_J17_checkIndex E C S sz Q S x0 x1 hC hX hA hQ h)
/-! J2_elementData -/
def wx_J2_elementData (Q : Option Nat → XS → Prop) (S : XS) (x0 : Option Nat) (x1 : Int32) : Prop :=
  dr x0 (fun u1 => xKD S u1 = some 16 ∧ dr (xFR S 1600 u1) (fun u3 => xKD S u3 = some 102 ∧ vp_in x1 (xLN S u3) ∧ Q (xAR S u3 (Int32.toNatClampNeg x1)) S))
theorem hx_J2_elementData : yJ2_elementData.cls = RJ2 ∧ yJ2_elementData.cls ≠ "java/lang/invoke/MethodHandle" ∧ yJ2_elementData.cls ≠ "java/lang/invoke/VarHandle" ∧ (parseMethodDescriptor yJ2_elementData.desc).map (fun d => d.parameters.length) = some 1 := by decide +kernel
set_option maxHeartbeats 4000000 in
set_option maxRecDepth 100000 in
theorem bx_J2_elementData (E : XE) (C : Cx) (S0 : XS) (sz : Nat) (Q : Option Nat → XS → Prop) (S : XS) (x0 : Option Nat) (x1 : Int32) (hC : COk C cJ2_elementData RJ2 (some (.object "java/lang/Object")) 1 34 2) (hX : XOk E C) (hA : cx_A C = xA S0 sz) (hQ : cx_Q C = MQ (cx_b C) (va_Qq Q (BX1 E S0 sz) (xA S0 sz)) (cx_a C) (cx_s C) (cx_MC C) (cx_MS C) (xA S0 sz)) (h : wx_J2_elementData Q S x0 x1) : GX E C S 0 0 0 [some (va_rf x0), some (.int x1)] [] := by
  refine g_aload_nR hC dJ2_elementData_0 rfl ?_
  obtain ⟨u1, eu1, h⟩ := h
  refine g_top0 eu1 ?_
  have hk2 := h.1
  refine gX_get (C0 := RJ2) (T := TJ2) (N := 3) (n := 16) (k := 1) (q := (1600, true)) hC hX dJ2_elementData_1 q135 rfl in_J2 (by decide) (Or.inl rfl) rfl (by decide) hk2 ?_
  show GX _ _ _ _ _ _ _ (va_rf (xFR S 1600 u1) :: _)
  refine g_iload_n hC dJ2_elementData_4 rfl ?_
  obtain ⟨u3, eu3, h⟩ := h.2
  refine g_top1 eu3 ?_
  have hk4 := h.1
  refine gX_aald (n := 102) hC hX dJ2_elementData_5 (by decide) hk4 h.2.1 ?_
  refine gX_aret hC hA hQ rfl (Or.inl ⟨_, rfl⟩) dJ2_elementData_6 h.2.2
theorem mx_J2_elementData (l : Launch) (E : XE) (Q : Option Nat → XS → Prop) (S : XS) (x0 : Option Nat) (x1 : Int32) (h : wx_J2_elementData Q S x0 x1) : XMet E l yJ2_elementData cJ2_elementData 2 (some (.object "java/lang/Object")) ({ frames := 1, cells := 0, slots := 0, locals := 34 } : Room) [va_rf x0, .int x1] S (fun sz => va_Qq Q (BX1 E S sz) (xA S sz)) :=
  XMet_of (rm := ({ frames := 1, cells := 0, slots := 0, locals := 34 } : Room)) (by decide) (by simp [lg_sl, va_rf_cat, cat_i, cat_l]) (L0 := [some (va_rf x0), some (.int x1)]) (by simp [lx_pairs, lv_args, va_rf_cat, cat_i, cat_l, List.range_succ]) (fun sz C hC hX hl hnm hA hQ => bx_J2_elementData E C S sz Q S x0 x1 hC hX hA hQ h)
/-! J2_get -/
def wx_J2_get (Q : Option Nat → XS → Prop) (S : XS) (x0 : Option Nat) (x1 : Int32) : Prop :=
  dr x0 (fun u1 => xKD S u1 = some 16 ∧ wx_J17_checkIndex (fun r4 S3 => xKD S3 u1 = some 16 ∧ wx_J2_elementData (fun r7 S6 => Q r7 S6) S3 (some u1) x1) S x1 (xFI S 1601 u1))
theorem hx_J2_get : yJ2_get.cls = RJ2 ∧ yJ2_get.cls ≠ "java/lang/invoke/MethodHandle" ∧ yJ2_get.cls ≠ "java/lang/invoke/VarHandle" ∧ (parseMethodDescriptor yJ2_get.desc).map (fun d => d.parameters.length) = some 1 := by decide +kernel
set_option maxHeartbeats 4000000 in
set_option maxRecDepth 100000 in
theorem bx_J2_get (E : XE) (C : Cx) (S0 : XS) (sz : Nat) (Q : Option Nat → XS → Prop) (S : XS) (x0 : Option Nat) (x1 : Int32) (hC : COk C cJ2_get RJ2 (some (.object "java/lang/Object")) 3 77 2) (hX : XOk E C) (hA : cx_A C = xA S0 sz) (hQ : cx_Q C = MQ (cx_b C) (va_Qq Q (BX1 E S0 sz) (xA S0 sz)) (cx_a C) (cx_s C) (cx_MC C) (cx_MS C) (xA S0 sz)) (h : wx_J2_get Q S x0 x1) : GX E C S 0 0 0 [some (va_rf x0), some (.int x1)] [] := by
  refine g_iload_n hC dJ2_get_0 rfl ?_
  refine g_aload_nR hC dJ2_get_1 rfl ?_
  obtain ⟨u1, eu1, h⟩ := h
  refine g_top0 eu1 ?_
  have hk2 := h.1
  refine gX_get (C0 := RJ2) (T := TJ2) (N := 3) (n := 16) (k := 2) (q := (1601, false)) hC hX dJ2_get_2 q136 rfl in_J2 (by decide) (Or.inl rfl) rfl (by decide) hk2 ?_
  show GX _ _ _ _ _ _ _ (.int (xFI S 1601 u1) :: _)
  refine gX_ni hX (gX_runS (As := [.int x1, .int (xFI S 1601 u1)]) (rest := []) hC hX (mx_J17_checkIndex (cx_l C) E _ _ _ _ h.2) (lw_S q936 q937 q97 q938) hx_J17_checkIndex.2 rfl rfl (Or.inl (Nat.le_of_ble_eq_true rfl)) ⟨Nat.le_of_ble_eq_true rfl, Nat.le_of_ble_eq_true rfl⟩ dJ2_get_5 (Nat.zero_le _) (Nat.zero_le _)) rfl rfl ?_
  intro r4 S3 h
  refine g_pop hC dJ2_get_8 rfl ?_
  refine g_aload_nR hC dJ2_get_9 rfl ?_
  refine g_iload_n hC dJ2_get_10 rfl ?_
  refine g_top1 eu1 ?_
  have hk5 := h.1
  refine gX_nq hX (gX_runV (As := [.int x1]) (rest := []) (Cr := RJ2) hC hX (mx_J2_elementData (cx_l C) E _ _ _ _ h.2) (lw_V q940 q941 q942 q73 q943) hx_J2_elementData rfl rfl (Or.inl (Nat.le_of_ble_eq_true rfl)) ⟨Nat.le_of_ble_eq_true rfl, Nat.le_of_ble_eq_true rfl⟩ dJ2_get_11 (Nat.zero_le _) (Nat.zero_le _) hk5 rfl (by decide) rfl) rfl rfl ?_
  intro r7 S6 h
  refine gX_aret hC hA hQ rfl (Or.inl ⟨_, rfl⟩) dJ2_get_14 h
theorem mx_J2_get (l : Launch) (E : XE) (Q : Option Nat → XS → Prop) (S : XS) (x0 : Option Nat) (x1 : Int32) (h : wx_J2_get Q S x0 x1) : XMet E l yJ2_get cJ2_get 2 (some (.object "java/lang/Object")) ({ frames := 3, cells := 0, slots := 0, locals := 77 } : Room) [va_rf x0, .int x1] S (fun sz => va_Qq Q (BX1 E S sz) (xA S sz)) :=
  XMet_of (rm := ({ frames := 3, cells := 0, slots := 0, locals := 77 } : Room)) (by decide) (by simp [lg_sl, va_rf_cat, cat_i, cat_l]) (L0 := [some (va_rf x0), some (.int x1)]) (by simp [lx_pairs, lv_args, va_rf_cat, cat_i, cat_l, List.range_succ]) (fun sz C hC hX hl hnm hA hQ => bx_J2_get E C S sz Q S x0 x1 hC hX hA hQ h)
/-! J18_bitCount -/
def wx_J18_bitCount (Q : Int32 → XS → Prop) (S : XS) (x0 : Int32) : Prop :=
  Q ((((((((x0 - ((UInt32.toInt32 (Int32.toUInt32 x0 >>> (Int32.toUInt32 (1 : Int32) &&& Int32.toUInt32 31))) &&& (1431655765 : Int32))) &&& (858993459 : Int32)) + ((UInt32.toInt32 (Int32.toUInt32 (x0 - ((UInt32.toInt32 (Int32.toUInt32 x0 >>> (Int32.toUInt32 (1 : Int32) &&& Int32.toUInt32 31))) &&& (1431655765 : Int32))) >>> (Int32.toUInt32 (2 : Int32) &&& Int32.toUInt32 31))) &&& (858993459 : Int32))) + (UInt32.toInt32 (Int32.toUInt32 (((x0 - ((UInt32.toInt32 (Int32.toUInt32 x0 >>> (Int32.toUInt32 (1 : Int32) &&& Int32.toUInt32 31))) &&& (1431655765 : Int32))) &&& (858993459 : Int32)) + ((UInt32.toInt32 (Int32.toUInt32 (x0 - ((UInt32.toInt32 (Int32.toUInt32 x0 >>> (Int32.toUInt32 (1 : Int32) &&& Int32.toUInt32 31))) &&& (1431655765 : Int32))) >>> (Int32.toUInt32 (2 : Int32) &&& Int32.toUInt32 31))) &&& (858993459 : Int32))) >>> (Int32.toUInt32 (4 : Int32) &&& Int32.toUInt32 31)))) &&& (252645135 : Int32)) + (UInt32.toInt32 (Int32.toUInt32 (((((x0 - ((UInt32.toInt32 (Int32.toUInt32 x0 >>> (Int32.toUInt32 (1 : Int32) &&& Int32.toUInt32 31))) &&& (1431655765 : Int32))) &&& (858993459 : Int32)) + ((UInt32.toInt32 (Int32.toUInt32 (x0 - ((UInt32.toInt32 (Int32.toUInt32 x0 >>> (Int32.toUInt32 (1 : Int32) &&& Int32.toUInt32 31))) &&& (1431655765 : Int32))) >>> (Int32.toUInt32 (2 : Int32) &&& Int32.toUInt32 31))) &&& (858993459 : Int32))) + (UInt32.toInt32 (Int32.toUInt32 (((x0 - ((UInt32.toInt32 (Int32.toUInt32 x0 >>> (Int32.toUInt32 (1 : Int32) &&& Int32.toUInt32 31))) &&& (1431655765 : Int32))) &&& (858993459 : Int32)) + ((UInt32.toInt32 (Int32.toUInt32 (x0 - ((UInt32.toInt32 (Int32.toUInt32 x0 >>> (Int32.toUInt32 (1 : Int32) &&& Int32.toUInt32 31))) &&& (1431655765 : Int32))) >>> (Int32.toUInt32 (2 : Int32) &&& Int32.toUInt32 31))) &&& (858993459 : Int32))) >>> (Int32.toUInt32 (4 : Int32) &&& Int32.toUInt32 31)))) &&& (252645135 : Int32)) >>> (Int32.toUInt32 (8 : Int32) &&& Int32.toUInt32 31)))) + (UInt32.toInt32 (Int32.toUInt32 ((((((x0 - ((UInt32.toInt32 (Int32.toUInt32 x0 >>> (Int32.toUInt32 (1 : Int32) &&& Int32.toUInt32 31))) &&& (1431655765 : Int32))) &&& (858993459 : Int32)) + ((UInt32.toInt32 (Int32.toUInt32 (x0 - ((UInt32.toInt32 (Int32.toUInt32 x0 >>> (Int32.toUInt32 (1 : Int32) &&& Int32.toUInt32 31))) &&& (1431655765 : Int32))) >>> (Int32.toUInt32 (2 : Int32) &&& Int32.toUInt32 31))) &&& (858993459 : Int32))) + (UInt32.toInt32 (Int32.toUInt32 (((x0 - ((UInt32.toInt32 (Int32.toUInt32 x0 >>> (Int32.toUInt32 (1 : Int32) &&& Int32.toUInt32 31))) &&& (1431655765 : Int32))) &&& (858993459 : Int32)) + ((UInt32.toInt32 (Int32.toUInt32 (x0 - ((UInt32.toInt32 (Int32.toUInt32 x0 >>> (Int32.toUInt32 (1 : Int32) &&& Int32.toUInt32 31))) &&& (1431655765 : Int32))) >>> (Int32.toUInt32 (2 : Int32) &&& Int32.toUInt32 31))) &&& (858993459 : Int32))) >>> (Int32.toUInt32 (4 : Int32) &&& Int32.toUInt32 31)))) &&& (252645135 : Int32)) + (UInt32.toInt32 (Int32.toUInt32 (((((x0 - ((UInt32.toInt32 (Int32.toUInt32 x0 >>> (Int32.toUInt32 (1 : Int32) &&& Int32.toUInt32 31))) &&& (1431655765 : Int32))) &&& (858993459 : Int32)) + ((UInt32.toInt32 (Int32.toUInt32 (x0 - ((UInt32.toInt32 (Int32.toUInt32 x0 >>> (Int32.toUInt32 (1 : Int32) &&& Int32.toUInt32 31))) &&& (1431655765 : Int32))) >>> (Int32.toUInt32 (2 : Int32) &&& Int32.toUInt32 31))) &&& (858993459 : Int32))) + (UInt32.toInt32 (Int32.toUInt32 (((x0 - ((UInt32.toInt32 (Int32.toUInt32 x0 >>> (Int32.toUInt32 (1 : Int32) &&& Int32.toUInt32 31))) &&& (1431655765 : Int32))) &&& (858993459 : Int32)) + ((UInt32.toInt32 (Int32.toUInt32 (x0 - ((UInt32.toInt32 (Int32.toUInt32 x0 >>> (Int32.toUInt32 (1 : Int32) &&& Int32.toUInt32 31))) &&& (1431655765 : Int32))) >>> (Int32.toUInt32 (2 : Int32) &&& Int32.toUInt32 31))) &&& (858993459 : Int32))) >>> (Int32.toUInt32 (4 : Int32) &&& Int32.toUInt32 31)))) &&& (252645135 : Int32)) >>> (Int32.toUInt32 (8 : Int32) &&& Int32.toUInt32 31)))) >>> (Int32.toUInt32 (16 : Int32) &&& Int32.toUInt32 31)))) &&& (63 : Int32)) S
theorem hx_J18_bitCount : yJ18_bitCount.cls = RJ18 ∧ yJ18_bitCount.cls ≠ "java/lang/invoke/MethodHandle" ∧ yJ18_bitCount.cls ≠ "java/lang/invoke/VarHandle" ∧ (parseMethodDescriptor yJ18_bitCount.desc).map (fun d => d.parameters.length) = some 1 := by decide +kernel
set_option maxHeartbeats 4000000 in
set_option maxRecDepth 100000 in
theorem bx_J18_bitCount (E : XE) (C : Cx) (S0 : XS) (sz : Nat) (Q : Int32 → XS → Prop) (S : XS) (x0 : Int32) (hC : COk C cJ18_bitCount RJ18 (some .int) 1 34 1) (hX : XOk E C) (hA : cx_A C = xA S0 sz) (hQ : cx_Q C = MQ (cx_b C) (va_Qi Q (BX1 E S0 sz) (xA S0 sz)) (cx_a C) (cx_s C) (cx_MC C) (cx_MS C) (xA S0 sz)) (h : wx_J18_bitCount Q S x0) : GX E C S 0 0 0 [some (.int x0)] [] := by
  refine g_iload_n hC dJ18_bitCount_0 rfl ?_
  refine g_iload_n hC dJ18_bitCount_1 rfl ?_
  refine g_iconst (v := 1) hC dJ18_bitCount_2 (by decide) ?_
  refine g_iushr hC dJ18_bitCount_3 ?_
  refine g_ldcw (v := 1431655765) hC dJ18_bitCount_4 q1034 ?_
  refine g_iand hC dJ18_bitCount_7 ?_
  refine g_isub hC dJ18_bitCount_8 ?_
  refine g_istore_n hC dJ18_bitCount_9 rfl (by decide) rfl rfl ?_
  refine g_iload_n hC dJ18_bitCount_10 rfl ?_
  refine g_ldcw (v := 858993459) hC dJ18_bitCount_11 q1035 ?_
  refine g_iand hC dJ18_bitCount_14 ?_
  refine g_iload_n hC dJ18_bitCount_15 rfl ?_
  refine g_iconst (v := 2) hC dJ18_bitCount_16 (by decide) ?_
  refine g_iushr hC dJ18_bitCount_17 ?_
  refine g_ldcw (v := 858993459) hC dJ18_bitCount_18 q1035 ?_
  refine g_iand hC dJ18_bitCount_21 ?_
  refine g_iadd hC dJ18_bitCount_22 ?_
  refine g_istore_n hC dJ18_bitCount_23 rfl (by decide) rfl rfl ?_
  refine g_iload_n hC dJ18_bitCount_24 rfl ?_
  refine g_iload_n hC dJ18_bitCount_25 rfl ?_
  refine g_iconst (v := 4) hC dJ18_bitCount_26 (by decide) ?_
  refine g_iushr hC dJ18_bitCount_27 ?_
  refine g_iadd hC dJ18_bitCount_28 ?_
  refine g_ldcw (v := 252645135) hC dJ18_bitCount_29 q1036 ?_
  refine g_iand hC dJ18_bitCount_32 ?_
  refine g_istore_n hC dJ18_bitCount_33 rfl (by decide) rfl rfl ?_
  refine g_iload_n hC dJ18_bitCount_34 rfl ?_
  refine g_iload_n hC dJ18_bitCount_35 rfl ?_
  refine g_bipush (v := 8) hC dJ18_bitCount_36 (by decide) ?_
  refine g_iushr hC dJ18_bitCount_38 ?_
  refine g_iadd hC dJ18_bitCount_39 ?_
  refine g_istore_n hC dJ18_bitCount_40 rfl (by decide) rfl rfl ?_
  refine g_iload_n hC dJ18_bitCount_41 rfl ?_
  refine g_iload_n hC dJ18_bitCount_42 rfl ?_
  refine g_bipush (v := 16) hC dJ18_bitCount_43 (by decide) ?_
  refine g_iushr hC dJ18_bitCount_45 ?_
  refine g_iadd hC dJ18_bitCount_46 ?_
  refine g_istore_n hC dJ18_bitCount_47 rfl (by decide) rfl rfl ?_
  refine g_iload_n hC dJ18_bitCount_48 rfl ?_
  refine g_bipush (v := 63) hC dJ18_bitCount_49 (by decide) ?_
  refine g_iand hC dJ18_bitCount_51 ?_
  refine gX_iret rfl hC hA hQ dJ18_bitCount_52 h
theorem mx_J18_bitCount (l : Launch) (E : XE) (Q : Int32 → XS → Prop) (S : XS) (x0 : Int32) (h : wx_J18_bitCount Q S x0) : XMet E l yJ18_bitCount cJ18_bitCount 1 (some .int) ({ frames := 1, cells := 0, slots := 0, locals := 34 } : Room) [.int x0] S (fun sz => va_Qi Q (BX1 E S sz) (xA S sz)) :=
  XMet_of (rm := ({ frames := 1, cells := 0, slots := 0, locals := 34 } : Room)) (by decide) (by simp [lg_sl, va_rf_cat, cat_i, cat_l]) (L0 := [some (.int x0)]) (by simp [lx_pairs, lv_args, va_rf_cat, cat_i, cat_l, List.range_succ]) (fun sz C hC hX hl hnm hA hQ => bx_J18_bitCount E C S sz Q S x0 hC hX hA hQ h)
/-! X1_init -/
def wx_X1_init (Q : XS → Prop) (mc ms : Nat) (S : XS) (x0 : Option Nat) : Prop :=
  dr x0 (fun u1 => ¬ (16 : Int32) < 0 ∧ (Int32.toNatClampNeg (16 : Int32)) ≤ 100000 ∧ 1 ≤ mc ∧ (Int32.toNatClampNeg (16 : Int32)) ≤ ms ∧ (∀ q2 : Nat, xKD S q2 = none → xKD (sNewA S q2 100 (Int32.toNatClampNeg (16 : Int32))) u1 = some 1 ∧ Q (sFR (sNewA S q2 100 (Int32.toNatClampNeg (16 : Int32))) 100 u1 (some q2))))
theorem hx_X1_init : yX1_init.cls = RX1 ∧ yX1_init.cls ≠ "java/lang/invoke/MethodHandle" ∧ yX1_init.cls ≠ "java/lang/invoke/VarHandle" ∧ (parseMethodDescriptor yX1_init.desc).map (fun d => d.parameters.length) = some 0 := by decide +kernel
set_option maxHeartbeats 4000000 in
set_option maxRecDepth 100000 in
theorem bx_X1_init (E : XE) (C : Cx) (S0 : XS) (sz : Nat) (Q : XS → Prop) (mc ms : Nat) (S : XS) (x0 : Option Nat) (hC : COk C cX1_init RX1 none 1 34 1) (hX : XOk E C) (hA : cx_A C = xA S0 sz) (hini : (cx_h C).name = "<init>") (hQ : cx_Q C = MQ (cx_b C) (va_Qv Q (BX1 E S0 sz) (xA S0 sz)) (cx_a C) (cx_s C) (cx_MC C) (cx_MS C) (xA S0 sz)) (h : wx_X1_init Q mc ms S x0) : GX E C S mc ms 0 [some (va_rf x0)] [] := by
  refine g_aload_nR hC dX1_init_0 rfl ?_
  obtain ⟨u1, eu1, h⟩ := h
  refine g_top0 eu1 ?_
  refine gX_oinit hC dX1_init_1 q152 q115 q116 (Nat.le_of_ble_eq_true rfl) (by decide) (by decide) ?_
  refine g_aload_nR hC dX1_init_4 rfl ?_
  refine g_bipush (v := 16) hC dX1_init_5 (by decide) ?_
  refine gX_newi hC hX dX1_init_7 q163 h.1 h.2.1 h.2.2.1 h.2.2.2.1 ?_
  intro q2 hq3
  have h := h.2.2.2.2 q2 hq3
  have hk4 : xKD (sNewA S q2 100 (Int32.toNatClampNeg (16 : Int32))) q2 = some 100 := kd_selfA
  refine g_top1 eu1 ?_
  have hk5 := h.1
  refine gX_putRF (C0 := RX1) (T := TX1) (ty0 := tyX1) (N := 2) (n := 1) (k := 0) (f := 100) hC hX dX1_init_9 q153 rfl in_X1 tyX1_ok nmX1 (by decide) rfl rfl hini rfl rfl (narrow_rf (Or.inr ⟨_, rfl⟩) _) (fits_rf (Or.inr ⟨_, rfl⟩) _) rfl (by decide) (Or.inl (by decide)) hk5 ?_
  refine gX_vret hC hA hQ rfl dX1_init_12 h.2
theorem mx_X1_init (l : Launch) (E : XE) (mc ms : Nat) (Q : XS → Prop) (S : XS) (x0 : Option Nat) (h : wx_X1_init Q mc ms S x0) : XMet E l yX1_init cX1_init 1 none ({ frames := 1, cells := mc, slots := ms, locals := 34 } : Room) [va_rf x0] S (fun sz => va_Qv Q (BX1 E S sz) (xA S sz)) :=
  XMet_of (rm := ({ frames := 1, cells := mc, slots := ms, locals := 34 } : Room)) (by decide) (by simp [lg_sl, va_rf_cat, cat_i, cat_l]) (L0 := [some (va_rf x0)]) (by simp [lx_pairs, lv_args, va_rf_cat, cat_i, cat_l, List.range_succ]) (fun sz C hC hX hl hnm hA hQ => bx_X1_init E C S sz Q mc ms S x0 hC hX hA hnm hQ h)
/-! X2_init -/
def wx_X2_init (Q : XS → Prop) (mc ms : Nat) (S : XS) (x0 : Option Nat) : Prop :=
  dr x0 (fun u1 => xKD S u1 = some 2 ∧ ¬ (2 : Int32) < 0 ∧ (Int32.toNatClampNeg (2 : Int32)) ≤ 100000 ∧ 1 ≤ mc ∧ (Int32.toNatClampNeg (2 : Int32)) ≤ ms ∧ (∀ q3 : Nat, xKD (sFI (sFI (sFI (sFI S 200 u1 (2 : Int32)) 201 u1 (12 : Int32)) 202 u1 (7 : Int32)) 203 u1 (50 : Int32)) q3 = none → vp_in (0 : Int32) (xLN (sNewA (sFI (sFI (sFI (sFI S 200 u1 (2 : Int32)) 201 u1 (12 : Int32)) 202 u1 (7 : Int32)) 203 u1 (50 : Int32)) q3 100 (Int32.toNatClampNeg (2 : Int32))) q3) ∧ vp_in (1 : Int32) (xLN (sAI (sNewA (sFI (sFI (sFI (sFI S 200 u1 (2 : Int32)) 201 u1 (12 : Int32)) 202 u1 (7 : Int32)) 203 u1 (50 : Int32)) q3 100 (Int32.toNatClampNeg (2 : Int32))) q3 (Int32.toNatClampNeg (0 : Int32)) (100 : Int32)) q3) ∧ (∀ S7 : XS, S7 = sAI (sAI (sNewA (sFI (sFI (sFI (sFI S 200 u1 (2 : Int32)) 201 u1 (12 : Int32)) 202 u1 (7 : Int32)) 203 u1 (50 : Int32)) q3 100 (Int32.toNatClampNeg (2 : Int32))) q3 (Int32.toNatClampNeg (0 : Int32)) (100 : Int32)) q3 (Int32.toNatClampNeg (1 : Int32)) (100 : Int32) → xKD S7 u1 = some 2 ∧ ¬ (5 : Int32) < 0 ∧ (Int32.toNatClampNeg (5 : Int32)) ≤ 100000 ∧ 1 ≤ (mc - 1) ∧ (Int32.toNatClampNeg (5 : Int32)) ≤ (ms - (Int32.toNatClampNeg (2 : Int32))) ∧ (∀ q10 : Nat, xKD (sFR S7 204 u1 (some q3)) q10 = none → vp_in (0 : Int32) (xLN (sNewA (sFR S7 204 u1 (some q3)) q10 100 (Int32.toNatClampNeg (5 : Int32))) q10) ∧ vp_in (1 : Int32) (xLN (sAI (sNewA (sFR S7 204 u1 (some q3)) q10 100 (Int32.toNatClampNeg (5 : Int32))) q10 (Int32.toNatClampNeg (0 : Int32)) (10 : Int32)) q10) ∧ vp_in (2 : Int32) (xLN (sAI (sAI (sNewA (sFR S7 204 u1 (some q3)) q10 100 (Int32.toNatClampNeg (5 : Int32))) q10 (Int32.toNatClampNeg (0 : Int32)) (10 : Int32)) q10 (Int32.toNatClampNeg (1 : Int32)) (10 : Int32)) q10) ∧ (∀ S14 : XS, S14 = sAI (sAI (sAI (sNewA (sFR S7 204 u1 (some q3)) q10 100 (Int32.toNatClampNeg (5 : Int32))) q10 (Int32.toNatClampNeg (0 : Int32)) (10 : Int32)) q10 (Int32.toNatClampNeg (1 : Int32)) (10 : Int32)) q10 (Int32.toNatClampNeg (2 : Int32)) (10 : Int32) → xKD S14 q10 = some 100 ∧ vp_in (3 : Int32) (xLN S14 q10) ∧ vp_in (4 : Int32) (xLN (sAI S14 q10 (Int32.toNatClampNeg (3 : Int32)) (10 : Int32)) q10) ∧ xKD (sAI (sAI S14 q10 (Int32.toNatClampNeg (3 : Int32)) (10 : Int32)) q10 (Int32.toNatClampNeg (4 : Int32)) (10 : Int32)) u1 = some 2 ∧ ¬ (5 : Int32) < 0 ∧ (Int32.toNatClampNeg (5 : Int32)) ≤ 100000 ∧ 1 ≤ ((mc - 1) - 1) ∧ (Int32.toNatClampNeg (5 : Int32)) ≤ ((ms - (Int32.toNatClampNeg (2 : Int32))) - (Int32.toNatClampNeg (5 : Int32))) ∧ (∀ q18 : Nat, xKD (sFR (sAI (sAI S14 q10 (Int32.toNatClampNeg (3 : Int32)) (10 : Int32)) q10 (Int32.toNatClampNeg (4 : Int32)) (10 : Int32)) 205 u1 (some q10)) q18 = none → vp_in (0 : Int32) (xLN (sNewA (sFR (sAI (sAI S14 q10 (Int32.toNatClampNeg (3 : Int32)) (10 : Int32)) q10 (Int32.toNatClampNeg (4 : Int32)) (10 : Int32)) 205 u1 (some q10)) q18 100 (Int32.toNatClampNeg (5 : Int32))) q18) ∧ (∀ S23 : XS, S23 = sAI (sNewA (sFR (sAI (sAI S14 q10 (Int32.toNatClampNeg (3 : Int32)) (10 : Int32)) q10 (Int32.toNatClampNeg (4 : Int32)) (10 : Int32)) 205 u1 (some q10)) q18 100 (Int32.toNatClampNeg (5 : Int32))) q18 (Int32.toNatClampNeg (0 : Int32)) (0 : Int32) → xKD S23 q18 = some 100 ∧ vp_in (1 : Int32) (xLN S23 q18) ∧ vp_in (2 : Int32) (xLN (sAI S23 q18 (Int32.toNatClampNeg (1 : Int32)) (1 : Int32)) q18) ∧ vp_in (3 : Int32) (xLN (sAI (sAI S23 q18 (Int32.toNatClampNeg (1 : Int32)) (1 : Int32)) q18 (Int32.toNatClampNeg (2 : Int32)) (2 : Int32)) q18) ∧ vp_in (4 : Int32) (xLN (sAI (sAI (sAI S23 q18 (Int32.toNatClampNeg (1 : Int32)) (1 : Int32)) q18 (Int32.toNatClampNeg (2 : Int32)) (2 : Int32)) q18 (Int32.toNatClampNeg (3 : Int32)) (3 : Int32)) q18) ∧ xKD (sAI (sAI (sAI (sAI S23 q18 (Int32.toNatClampNeg (1 : Int32)) (1 : Int32)) q18 (Int32.toNatClampNeg (2 : Int32)) (2 : Int32)) q18 (Int32.toNatClampNeg (3 : Int32)) (3 : Int32)) q18 (Int32.toNatClampNeg (4 : Int32)) (4 : Int32)) u1 = some 2 ∧ (∀ S27 : XS, S27 = sFR (sAI (sAI (sAI (sAI S23 q18 (Int32.toNatClampNeg (1 : Int32)) (1 : Int32)) q18 (Int32.toNatClampNeg (2 : Int32)) (2 : Int32)) q18 (Int32.toNatClampNeg (3 : Int32)) (3 : Int32)) q18 (Int32.toNatClampNeg (4 : Int32)) (4 : Int32)) 206 u1 (some q18) → Q S27))))))))
theorem hx_X2_init : yX2_init.cls = RX2 ∧ yX2_init.cls ≠ "java/lang/invoke/MethodHandle" ∧ yX2_init.cls ≠ "java/lang/invoke/VarHandle" ∧ (parseMethodDescriptor yX2_init.desc).map (fun d => d.parameters.length) = some 0 := by decide +kernel
set_option maxHeartbeats 4000000 in
set_option maxRecDepth 100000 in
theorem bx_X2_init (E : XE) (C : Cx) (S0 : XS) (sz : Nat) (Q : XS → Prop) (mc ms : Nat) (S : XS) (x0 : Option Nat) (hC : COk C cX2_init RX2 none 1 34 1) (hX : XOk E C) (hA : cx_A C = xA S0 sz) (hini : (cx_h C).name = "<init>") (hQ : cx_Q C = MQ (cx_b C) (va_Qv Q (BX1 E S0 sz) (xA S0 sz)) (cx_a C) (cx_s C) (cx_MC C) (cx_MS C) (xA S0 sz)) (h : wx_X2_init Q mc ms S x0) : GX E C S mc ms 0 [some (va_rf x0)] [] := by
  refine g_aload_nR hC dX2_init_0 rfl ?_
  obtain ⟨u1, eu1, h⟩ := h
  refine g_top0 eu1 ?_
  refine gX_oinit hC dX2_init_1 q170 q115 q116 (Nat.le_of_ble_eq_true rfl) (by decide) (by decide) ?_
  refine g_aload_nR hC dX2_init_4 rfl ?_
  refine g_iconst (v := 2) hC dX2_init_5 (by decide) ?_
  refine g_top1 eu1 ?_
  have hk2 := h.1
  refine gX_putI (C0 := RX2) (T := TX2) (ty0 := tyX2) (N := 7) (n := 2) (k := 0) (f := 200) hC hX dX2_init_6 q171 rfl in_X2 tyX2_ok nmX2 (by decide) (Or.inl rfl) rfl rfl rfl rfl rfl (by decide) (Or.inl (by decide)) hk2 ?_
  refine g_aload_nR hC dX2_init_9 rfl ?_
  refine g_bipush (v := 12) hC dX2_init_10 (by decide) ?_
  refine g_top1 eu1 ?_
  refine gX_putI (C0 := RX2) (T := TX2) (ty0 := tyX2) (N := 7) (n := 2) (k := 1) (f := 201) hC hX dX2_init_12 q175 rfl in_X2 tyX2_ok nmX2 (by decide) (Or.inl rfl) rfl rfl rfl rfl rfl (by decide) (Or.inl (by decide)) hk2 ?_
  refine g_aload_nR hC dX2_init_15 rfl ?_
  refine g_bipush (v := 7) hC dX2_init_16 (by decide) ?_
  refine g_top1 eu1 ?_
  refine gX_putI (C0 := RX2) (T := TX2) (ty0 := tyX2) (N := 7) (n := 2) (k := 2) (f := 202) hC hX dX2_init_18 q178 rfl in_X2 tyX2_ok nmX2 (by decide) (Or.inl rfl) rfl rfl rfl rfl rfl (by decide) (Or.inl (by decide)) hk2 ?_
  refine g_aload_nR hC dX2_init_21 rfl ?_
  refine g_bipush (v := 50) hC dX2_init_22 (by decide) ?_
  refine g_top1 eu1 ?_
  refine gX_putI (C0 := RX2) (T := TX2) (ty0 := tyX2) (N := 7) (n := 2) (k := 3) (f := 203) hC hX dX2_init_24 q181 rfl in_X2 tyX2_ok nmX2 (by decide) (Or.inl rfl) rfl rfl rfl rfl rfl (by decide) (Or.inl (by decide)) hk2 ?_
  refine g_aload_nR hC dX2_init_27 rfl ?_
  refine g_iconst (v := 2) hC dX2_init_28 (by decide) ?_
  refine gX_newi hC hX dX2_init_29 q163 h.2.1 h.2.2.1 h.2.2.2.1 h.2.2.2.2.1 ?_
  intro q3 hq4
  have h := h.2.2.2.2.2 q3 hq4
  have hk5 := kd_newA (q := q3) (n := 100) (k := (Int32.toNatClampNeg (2 : Int32))) hk2 hq4
  have hk6 : xKD (sNewA (sFI (sFI (sFI (sFI S 200 u1 (2 : Int32)) 201 u1 (12 : Int32)) 202 u1 (7 : Int32)) 203 u1 (50 : Int32)) q3 100 (Int32.toNatClampNeg (2 : Int32))) q3 = some 100 := kd_selfA
  refine g_dup hC dX2_init_31 (va_rf_cat _) ?_
  refine g_iconst (v := 0) hC dX2_init_32 (by decide) ?_
  refine g_bipush (v := 100) hC dX2_init_33 (by decide) ?_
  refine gX_iast hC hX dX2_init_35 hk6 h.1 ?_
  refine g_dup hC dX2_init_36 (va_rf_cat _) ?_
  refine g_iconst (v := 1) hC dX2_init_37 (by decide) ?_
  refine g_bipush (v := 100) hC dX2_init_38 (by decide) ?_
  refine gX_iast hC hX dX2_init_40 hk6 h.2.1 ?_
  obtain ⟨S7, hS8⟩ : ∃ S7 : XS, S7 = sAI (sAI (sNewA (sFI (sFI (sFI (sFI S 200 u1 (2 : Int32)) 201 u1 (12 : Int32)) 202 u1 (7 : Int32)) 203 u1 (50 : Int32)) q3 100 (Int32.toNatClampNeg (2 : Int32))) q3 (Int32.toNatClampNeg (0 : Int32)) (100 : Int32)) q3 (Int32.toNatClampNeg (1 : Int32)) (100 : Int32) := ⟨_, rfl⟩
  have h := h.2.2 S7 hS8
  refine gX_nm hS8 ?_
  refine g_top1 eu1 ?_
  have hk9 := h.1
  refine gX_putRF (C0 := RX2) (T := TX2) (ty0 := tyX2) (N := 7) (n := 2) (k := 4) (f := 204) hC hX dX2_init_41 q184 rfl in_X2 tyX2_ok nmX2 (by decide) rfl rfl hini rfl rfl (narrow_rf (Or.inr ⟨_, rfl⟩) _) (fits_rf (Or.inr ⟨_, rfl⟩) _) rfl (by decide) (Or.inl (by decide)) hk9 ?_
  refine g_aload_nR hC dX2_init_44 rfl ?_
  refine g_iconst (v := 5) hC dX2_init_45 (by decide) ?_
  refine gX_newi hC hX dX2_init_46 q163 h.2.1 h.2.2.1 h.2.2.2.1 h.2.2.2.2.1 ?_
  intro q10 hq11
  have h := h.2.2.2.2.2 q10 hq11
  have hk12 := kd_newA (q := q10) (n := 100) (k := (Int32.toNatClampNeg (5 : Int32))) hk9 hq11
  have hk13 : xKD (sNewA (sFR S7 204 u1 (some q3)) q10 100 (Int32.toNatClampNeg (5 : Int32))) q10 = some 100 := kd_selfA
  refine g_dup hC dX2_init_48 (va_rf_cat _) ?_
  refine g_iconst (v := 0) hC dX2_init_49 (by decide) ?_
  refine g_bipush (v := 10) hC dX2_init_50 (by decide) ?_
  refine gX_iast hC hX dX2_init_52 hk13 h.1 ?_
  refine g_dup hC dX2_init_53 (va_rf_cat _) ?_
  refine g_iconst (v := 1) hC dX2_init_54 (by decide) ?_
  refine g_bipush (v := 10) hC dX2_init_55 (by decide) ?_
  refine gX_iast hC hX dX2_init_57 hk13 h.2.1 ?_
  refine g_dup hC dX2_init_58 (va_rf_cat _) ?_
  refine g_iconst (v := 2) hC dX2_init_59 (by decide) ?_
  refine g_bipush (v := 10) hC dX2_init_60 (by decide) ?_
  refine gX_iast hC hX dX2_init_62 hk13 h.2.2.1 ?_
  obtain ⟨S14, hS15⟩ : ∃ S14 : XS, S14 = sAI (sAI (sAI (sNewA (sFR S7 204 u1 (some q3)) q10 100 (Int32.toNatClampNeg (5 : Int32))) q10 (Int32.toNatClampNeg (0 : Int32)) (10 : Int32)) q10 (Int32.toNatClampNeg (1 : Int32)) (10 : Int32)) q10 (Int32.toNatClampNeg (2 : Int32)) (10 : Int32) := ⟨_, rfl⟩
  have h := h.2.2.2 S14 hS15
  refine gX_nm hS15 ?_
  refine g_dup hC dX2_init_63 (va_rf_cat _) ?_
  refine g_iconst (v := 3) hC dX2_init_64 (by decide) ?_
  refine g_bipush (v := 10) hC dX2_init_65 (by decide) ?_
  have hk16 := h.1
  refine gX_iast hC hX dX2_init_67 hk16 h.2.1 ?_
  refine g_dup hC dX2_init_68 (va_rf_cat _) ?_
  refine g_iconst (v := 4) hC dX2_init_69 (by decide) ?_
  refine g_bipush (v := 10) hC dX2_init_70 (by decide) ?_
  refine gX_iast hC hX dX2_init_72 hk16 h.2.2.1 ?_
  refine g_top1 eu1 ?_
  have hk17 := h.2.2.2.1
  refine gX_putRF (C0 := RX2) (T := TX2) (ty0 := tyX2) (N := 7) (n := 2) (k := 5) (f := 205) hC hX dX2_init_73 q188 rfl in_X2 tyX2_ok nmX2 (by decide) rfl rfl hini rfl rfl (narrow_rf (Or.inr ⟨_, rfl⟩) _) (fits_rf (Or.inr ⟨_, rfl⟩) _) rfl (by decide) (Or.inl (by decide)) hk17 ?_
  refine g_aload_nR hC dX2_init_76 rfl ?_
  refine g_iconst (v := 5) hC dX2_init_77 (by decide) ?_
  refine gX_newi hC hX dX2_init_78 q163 h.2.2.2.2.1 h.2.2.2.2.2.1 h.2.2.2.2.2.2.1 h.2.2.2.2.2.2.2.1 ?_
  intro q18 hq19
  have h := h.2.2.2.2.2.2.2.2 q18 hq19
  have hk20 := kd_newA (q := q18) (n := 100) (k := (Int32.toNatClampNeg (5 : Int32))) hk16 hq19
  have hk21 := kd_newA (q := q18) (n := 100) (k := (Int32.toNatClampNeg (5 : Int32))) hk17 hq19
  have hk22 : xKD (sNewA (sFR (sAI (sAI S14 q10 (Int32.toNatClampNeg (3 : Int32)) (10 : Int32)) q10 (Int32.toNatClampNeg (4 : Int32)) (10 : Int32)) 205 u1 (some q10)) q18 100 (Int32.toNatClampNeg (5 : Int32))) q18 = some 100 := kd_selfA
  refine g_dup hC dX2_init_80 (va_rf_cat _) ?_
  refine g_iconst (v := 0) hC dX2_init_81 (by decide) ?_
  refine g_iconst (v := 0) hC dX2_init_82 (by decide) ?_
  refine gX_iast hC hX dX2_init_83 hk22 h.1 ?_
  obtain ⟨S23, hS24⟩ : ∃ S23 : XS, S23 = sAI (sNewA (sFR (sAI (sAI S14 q10 (Int32.toNatClampNeg (3 : Int32)) (10 : Int32)) q10 (Int32.toNatClampNeg (4 : Int32)) (10 : Int32)) 205 u1 (some q10)) q18 100 (Int32.toNatClampNeg (5 : Int32))) q18 (Int32.toNatClampNeg (0 : Int32)) (0 : Int32) := ⟨_, rfl⟩
  have h := h.2 S23 hS24
  refine gX_nm hS24 ?_
  refine g_dup hC dX2_init_84 (va_rf_cat _) ?_
  refine g_iconst (v := 1) hC dX2_init_85 (by decide) ?_
  refine g_iconst (v := 1) hC dX2_init_86 (by decide) ?_
  have hk25 := h.1
  refine gX_iast hC hX dX2_init_87 hk25 h.2.1 ?_
  refine g_dup hC dX2_init_88 (va_rf_cat _) ?_
  refine g_iconst (v := 2) hC dX2_init_89 (by decide) ?_
  refine g_iconst (v := 2) hC dX2_init_90 (by decide) ?_
  refine gX_iast hC hX dX2_init_91 hk25 h.2.2.1 ?_
  refine g_dup hC dX2_init_92 (va_rf_cat _) ?_
  refine g_iconst (v := 3) hC dX2_init_93 (by decide) ?_
  refine g_iconst (v := 3) hC dX2_init_94 (by decide) ?_
  refine gX_iast hC hX dX2_init_95 hk25 h.2.2.2.1 ?_
  refine g_dup hC dX2_init_96 (va_rf_cat _) ?_
  refine g_iconst (v := 4) hC dX2_init_97 (by decide) ?_
  refine g_iconst (v := 4) hC dX2_init_98 (by decide) ?_
  refine gX_iast hC hX dX2_init_99 hk25 h.2.2.2.2.1 ?_
  refine g_top1 eu1 ?_
  have hk26 := h.2.2.2.2.2.1
  refine gX_putRF (C0 := RX2) (T := TX2) (ty0 := tyX2) (N := 7) (n := 2) (k := 6) (f := 206) hC hX dX2_init_100 q191 rfl in_X2 tyX2_ok nmX2 (by decide) rfl rfl hini rfl rfl (narrow_rf (Or.inr ⟨_, rfl⟩) _) (fits_rf (Or.inr ⟨_, rfl⟩) _) rfl (by decide) (Or.inl (by decide)) hk26 ?_
  obtain ⟨S27, hS28⟩ : ∃ S27 : XS, S27 = sFR (sAI (sAI (sAI (sAI S23 q18 (Int32.toNatClampNeg (1 : Int32)) (1 : Int32)) q18 (Int32.toNatClampNeg (2 : Int32)) (2 : Int32)) q18 (Int32.toNatClampNeg (3 : Int32)) (3 : Int32)) q18 (Int32.toNatClampNeg (4 : Int32)) (4 : Int32)) 206 u1 (some q18) := ⟨_, rfl⟩
  have h := h.2.2.2.2.2.2 S27 hS28
  refine gX_nm hS28 ?_
  refine gX_vret hC hA hQ rfl dX2_init_103 h
theorem mx_X2_init (l : Launch) (E : XE) (mc ms : Nat) (Q : XS → Prop) (S : XS) (x0 : Option Nat) (h : wx_X2_init Q mc ms S x0) : XMet E l yX2_init cX2_init 1 none ({ frames := 1, cells := mc, slots := ms, locals := 34 } : Room) [va_rf x0] S (fun sz => va_Qv Q (BX1 E S sz) (xA S sz)) :=
  XMet_of (rm := ({ frames := 1, cells := mc, slots := ms, locals := 34 } : Room)) (by decide) (by simp [lg_sl, va_rf_cat, cat_i, cat_l]) (L0 := [some (va_rf x0)]) (by simp [lx_pairs, lv_args, va_rf_cat, cat_i, cat_l, List.range_succ]) (fun sz C hC hX hl hnm hA hQ => bx_X2_init E C S sz Q mc ms S x0 hC hX hA hnm hQ h)
/-! X0_init -/
def wx_X0_init_115 (Q : XS → Prop) : Nat → Nat → Nat → XS → Option Nat → Int32 → Prop
  | 0, _, _, _, _, _ => False
  | n + 1, mc, ms, S, a0, a1 => (if (4 : Int32) ≤ a1 then Q S else dr a0 (fun u71 => xKD S u71 = some 0 ∧ 1 ≤ mc ∧ 7 ≤ ms ∧ (∀ q73 : Nat, xKD S q73 = none → (∃ k77 n78, k77 ≤ (mc - 1) ∧ n78 ≤ (ms - 7) ∧ wx_X2_init (fun S79 => dr (xFR S 1 u71) (fun u81 => xKD S79 u81 = some 104 ∧ xRO S79 u81 = false ∧ vp_in a1 (xLN S79 u81) ∧ xKD S79 q73 = some 2 ∧ wx_X0_init_115 Q n ((mc - 1) - k77) ((ms - 7) - n78) (sAR S79 u81 (Int32.toNatClampNeg a1) (some q73)) a0 (a1 + (1 : Int32)))) k77 n78 (sNew S q73 2) (some q73)))))
def wx_X0_init (Q : XS → Prop) (mc ms : Nat) (S : XS) (x0 : Option Nat) : Prop :=
  dr x0 (fun u1 => ¬ (8 : Int32) < 0 ∧ (Int32.toNatClampNeg (8 : Int32)) ≤ 100000 ∧ 1 ≤ mc ∧ (Int32.toNatClampNeg (8 : Int32)) ≤ ms ∧ (∀ q2 : Nat, xKD S q2 = none → xKD (sNewA S q2 105 (Int32.toNatClampNeg (8 : Int32))) u1 = some 0 ∧ ¬ (4 : Int32) < 0 ∧ (Int32.toNatClampNeg (4 : Int32)) ≤ 100000 ∧ 1 ≤ (mc - 1) ∧ (Int32.toNatClampNeg (4 : Int32)) ≤ (ms - (Int32.toNatClampNeg (8 : Int32))) ∧ (∀ q6 : Nat, xKD (sFR (sNewA S q2 105 (Int32.toNatClampNeg (8 : Int32))) 0 u1 (some q2)) q6 = none → 1 ≤ ((mc - 1) - 1) ∧ 3 ≤ ((ms - (Int32.toNatClampNeg (8 : Int32))) - (Int32.toNatClampNeg (4 : Int32))) ∧ (∀ q11 : Nat, xKD (sFR (sNewA (sFR (sNewA S q2 105 (Int32.toNatClampNeg (8 : Int32))) 0 u1 (some q2)) q6 104 (Int32.toNatClampNeg (4 : Int32))) 1 u1 (some q6)) q11 = none → wx_J2_init (fun S17 => xKD S17 u1 = some 0 ∧ 1 ≤ (((mc - 1) - 1) - 1) ∧ 3 ≤ (((ms - (Int32.toNatClampNeg (8 : Int32))) - (Int32.toNatClampNeg (4 : Int32))) - 3) ∧ (∀ q20 : Nat, xKD (sFR S17 2 u1 (some q11)) q20 = none → wx_J2_init (fun S24 => xKD S24 u1 = some 0 ∧ 1 ≤ ((((mc - 1) - 1) - 1) - 1) ∧ 3 ≤ ((((ms - (Int32.toNatClampNeg (8 : Int32))) - (Int32.toNatClampNeg (4 : Int32))) - 3) - 3) ∧ (∀ q27 : Nat, xKD (sFR S24 3 u1 (some q20)) q27 = none → wx_J2_init (fun S31 => xKD S31 u1 = some 0 ∧ 1 ≤ (((((mc - 1) - 1) - 1) - 1) - 1) ∧ 3 ≤ (((((ms - (Int32.toNatClampNeg (8 : Int32))) - (Int32.toNatClampNeg (4 : Int32))) - 3) - 3) - 3) ∧ (∀ q34 : Nat, xKD (sFR S31 4 u1 (some q27)) q34 = none → wx_J2_init (fun S38 => xKD S38 u1 = some 0 ∧ 1 ≤ ((((((mc - 1) - 1) - 1) - 1) - 1) - 1) ∧ 3 ≤ ((((((ms - (Int32.toNatClampNeg (8 : Int32))) - (Int32.toNatClampNeg (4 : Int32))) - 3) - 3) - 3) - 3) ∧ (∀ q41 : Nat, xKD (sFR S38 5 u1 (some q34)) q41 = none → wx_J2_init (fun S45 => xKD S45 u1 = some 0 ∧ ¬ (400 : Int32) < 0 ∧ (Int32.toNatClampNeg (400 : Int32)) ≤ 100000 ∧ 1 ≤ (((((((mc - 1) - 1) - 1) - 1) - 1) - 1) - 1) ∧ (Int32.toNatClampNeg (400 : Int32)) ≤ (((((((ms - (Int32.toNatClampNeg (8 : Int32))) - (Int32.toNatClampNeg (4 : Int32))) - 3) - 3) - 3) - 3) - 3) ∧ (∀ q48 : Nat, xKD (sFR S45 6 u1 (some q41)) q48 = none → 1 ≤ ((((((((mc - 1) - 1) - 1) - 1) - 1) - 1) - 1) - 1) ∧ 2 ≤ ((((((((ms - (Int32.toNatClampNeg (8 : Int32))) - (Int32.toNatClampNeg (4 : Int32))) - 3) - 3) - 3) - 3) - 3) - (Int32.toNatClampNeg (400 : Int32))) ∧ (∀ q52 : Nat, xKD (sFR (sNewA (sFR S45 6 u1 (some q41)) q48 101 (Int32.toNatClampNeg (400 : Int32))) 7 u1 (some q48)) q52 = none → (∃ k57 n58, k57 ≤ (((((((((mc - 1) - 1) - 1) - 1) - 1) - 1) - 1) - 1) - 1) ∧ n58 ≤ (((((((((ms - (Int32.toNatClampNeg (8 : Int32))) - (Int32.toNatClampNeg (4 : Int32))) - 3) - 3) - 3) - 3) - 3) - (Int32.toNatClampNeg (400 : Int32))) - 2) ∧ wx_X1_init (fun S59 => xKD S59 u1 = some 0 ∧ ¬ (16 : Int32) < 0 ∧ (Int32.toNatClampNeg (16 : Int32)) ≤ 100000 ∧ 1 ≤ ((((((((((mc - 1) - 1) - 1) - 1) - 1) - 1) - 1) - 1) - 1) - k57) ∧ (Int32.toNatClampNeg (16 : Int32)) ≤ ((((((((((ms - (Int32.toNatClampNeg (8 : Int32))) - (Int32.toNatClampNeg (4 : Int32))) - 3) - 3) - 3) - 3) - 3) - (Int32.toNatClampNeg (400 : Int32))) - 2) - n58) ∧ (∀ q62 : Nat, xKD (sFR S59 11 u1 (some q52)) q62 = none → ¬ (16 : Int32) < 0 ∧ (Int32.toNatClampNeg (16 : Int32)) ≤ 100000 ∧ 1 ≤ (((((((((((mc - 1) - 1) - 1) - 1) - 1) - 1) - 1) - 1) - 1) - k57) - 1) ∧ (Int32.toNatClampNeg (16 : Int32)) ≤ (((((((((((ms - (Int32.toNatClampNeg (8 : Int32))) - (Int32.toNatClampNeg (4 : Int32))) - 3) - 3) - 3) - 3) - 3) - (Int32.toNatClampNeg (400 : Int32))) - 2) - n58) - (Int32.toNatClampNeg (16 : Int32))) ∧ (∀ q66 : Nat, xKD (sFR (sNewA (sFR S59 11 u1 (some q52)) q62 103 (Int32.toNatClampNeg (16 : Int32))) 13 u1 (some q62)) q66 = none → ∃ n84, wx_X0_init_115 Q n84 ((((((((((((mc - 1) - 1) - 1) - 1) - 1) - 1) - 1) - 1) - 1) - k57) - 1) - 1) ((((((((((((ms - (Int32.toNatClampNeg (8 : Int32))) - (Int32.toNatClampNeg (4 : Int32))) - 3) - 3) - 3) - 3) - 3) - (Int32.toNatClampNeg (400 : Int32))) - 2) - n58) - (Int32.toNatClampNeg (16 : Int32))) - (Int32.toNatClampNeg (16 : Int32))) (sFR (sNewA (sFR (sNewA (sFR S59 11 u1 (some q52)) q62 103 (Int32.toNatClampNeg (16 : Int32))) 13 u1 (some q62)) q66 100 (Int32.toNatClampNeg (16 : Int32))) 14 u1 (some q66)) x0 (0 : Int32)))) k57 n58 (sNew (sFR (sNewA (sFR S45 6 u1 (some q41)) q48 101 (Int32.toNatClampNeg (400 : Int32))) 7 u1 (some q48)) q52 1) (some q52))))) (sNew (sFR S38 5 u1 (some q34)) q41 16) (some q41))) (sNew (sFR S31 4 u1 (some q27)) q34 16) (some q34))) (sNew (sFR S24 3 u1 (some q20)) q27 16) (some q27))) (sNew (sFR S17 2 u1 (some q11)) q20 16) (some q20))) (sNew (sFR (sNewA (sFR (sNewA S q2 105 (Int32.toNatClampNeg (8 : Int32))) 0 u1 (some q2)) q6 104 (Int32.toNatClampNeg (4 : Int32))) 1 u1 (some q6)) q11 16) (some q11)))))
theorem hx_X0_init : yX0_init.cls = RX0 ∧ yX0_init.cls ≠ "java/lang/invoke/MethodHandle" ∧ yX0_init.cls ≠ "java/lang/invoke/VarHandle" ∧ (parseMethodDescriptor yX0_init.desc).map (fun d => d.parameters.length) = some 0 := by decide +kernel
set_option maxHeartbeats 4000000 in
set_option maxRecDepth 100000 in
theorem bx_X0_init (E : XE) (C : Cx) (S0 : XS) (sz : Nat) (Q : XS → Prop) (mc ms : Nat) (S : XS) (x0 : Option Nat) (hC : COk C cX0_init RX0 none 4 94 2) (hX : XOk E C) (hA : cx_A C = xA S0 sz) (hini : (cx_h C).name = "<init>") (hQ : cx_Q C = MQ (cx_b C) (va_Qv Q (BX1 E S0 sz) (xA S0 sz)) (cx_a C) (cx_s C) (cx_MC C) (cx_MS C) (xA S0 sz)) (h : wx_X0_init Q mc ms S x0) : GX E C S mc ms 0 [some (va_rf x0), none] [] := by
  have s_115 : ∀ (n : Nat) (mc ms : Nat) (S : XS) (a0 : Option Nat) (a1 : Int32), wx_X0_init_115 Q  n mc ms S a0 a1 → GX E C S mc ms 115 [some (va_rf a0), some (.int a1)] [] := by
    intro  n
    induction n with
    | zero =>
      intro mc ms S a0 a1 h
      exact False.elim h
    | succ n ih =>
      intro mc ms S a0 a1 h
      refine g_iload_n hC dX0_init_115 rfl ?_
      refine g_iconst (v := 4) hC dX0_init_116 (by decide) ?_
      refine g_icmp_ge (tgt := 139) hC dX0_init_117 (by decide) (fun c => ?_) (fun c => ?_)
      · have h := it_p c h
        refine gX_vret hC hA hQ rfl dX0_init_139 h
      · have h := it_n c h
        refine g_aload_nR hC dX0_init_120 rfl ?_
        obtain ⟨u71, eu71, h⟩ := h
        refine g_top0 eu71 ?_
        have hk72 := h.1
        refine gX_get (C0 := RX0) (T := TX0) (N := 15) (n := 0) (k := 1) (q := (1, true)) hC hX dX0_init_121 q211 rfl in_X0 (by decide) (Or.inl rfl) rfl (by decide) hk72 ?_
        show GX _ _ _ _ _ _ _ (va_rf (xFR S 1 u71) :: _)
        refine g_iload_n hC dX0_init_124 rfl ?_
        refine gX_new (C0 := RX2) (T := TX2) (ty0 := tyX2) (N := 7) (n := 2) hC hX dX0_init_125 q119 q166 q75 rfl in_X2 tyX2_ok (by decide) dv_X2 h.2.1 h.2.2.1 ?_
        intro q73 hq74
        have h := h.2.2.2 q73 hq74
        have hk75 := kd_new (q := q73) (n := 2) hk72 hq74
        have hk76 : xKD (sNew S q73 2) q73 = some 2 := kd_self
        refine g_dup hC dX0_init_128 (va_rf_cat _) ?_
        obtain ⟨k77, n78, hk77, hn78, h⟩ := h
        refine gX_cv hX (gX_runI (As := []) (rest := [va_rf (some q73), .int a1, va_rf (xFR S 1 u71)]) hC hX (mx_X2_init (cx_l C) E k77 n78 _ _ _ h) q169 q75 q167 q168 rfl hx_X2_init.2 rfl rfl (Or.inl (Nat.le_of_ble_eq_true rfl)) ⟨Nat.le_of_ble_eq_true rfl, Nat.le_of_ble_eq_true rfl⟩ dX0_init_129 hk77 hn78) hk77 hn78 ?_
        intro S79 h
        obtain ⟨u81, eu81, h⟩ := h
        refine g_top2 eu81 ?_
        have hk82 := h.1
        have hk83 := h.2.2.2.1
        refine gX_aast (n := 104) (nv := 2) hC hX dX0_init_132 (by decide) hk82 h.2.1 h.2.2.1 hk83 rfl (by decide) rfl ?_
        refine g_iinc (v := (a1 + (1 : Int32))) hC dX0_init_133 rfl rfl (by decide) (lx_okR (j := 0) rfl) rfl ?_
        refine g_goto (tgt := 115) hC dX0_init_136 (by decide) ?_
        exact ih ((mc - 1) - k77) ((ms - 7) - n78) (sAR S79 u81 (Int32.toNatClampNeg a1) (some q73)) a0 (a1 + (1 : Int32)) h.2.2.2.2
  refine g_aload_nR hC dX0_init_0 rfl ?_
  obtain ⟨u1, eu1, h⟩ := h
  refine g_top0 eu1 ?_
  refine gX_oinit hC dX0_init_1 q114 q115 q116 (Nat.le_of_ble_eq_true rfl) (by decide) (by decide) ?_
  refine g_aload_nR hC dX0_init_4 rfl ?_
  refine g_bipush (v := 8) hC dX0_init_5 (by decide) ?_
  refine gX_newq (n := 105) hC hX dX0_init_7 q117 (by decide) (by decide) rfl h.1 h.2.1 h.2.2.1 h.2.2.2.1 ?_
  intro q2 hq3
  have h := h.2.2.2.2 q2 hq3
  have hk4 : xKD (sNewA S q2 105 (Int32.toNatClampNeg (8 : Int32))) q2 = some 105 := kd_selfA
  refine g_top1 eu1 ?_
  have hk5 := h.1
  refine gX_putRF (C0 := RX0) (T := TX0) (ty0 := tyX0) (N := 15) (n := 0) (k := 0) (f := 0) hC hX dX0_init_10 q208 rfl in_X0 tyX0_ok nmX0 (by decide) rfl rfl hini rfl rfl (narrow_rf (Or.inr ⟨_, rfl⟩) _) (fits_rf (Or.inr ⟨_, rfl⟩) _) rfl (by decide) (Or.inl (by decide)) hk5 ?_
  refine g_aload_nR hC dX0_init_13 rfl ?_
  refine g_iconst (v := 4) hC dX0_init_14 (by decide) ?_
  refine gX_newq (n := 104) hC hX dX0_init_15 q119 (by decide) (by decide) rfl h.2.1 h.2.2.1 h.2.2.2.1 h.2.2.2.2.1 ?_
  intro q6 hq7
  have h := h.2.2.2.2.2 q6 hq7
  have hk8 := kd_newA (q := q6) (n := 104) (k := (Int32.toNatClampNeg (4 : Int32))) hk4 hq7
  have hk9 := kd_newA (q := q6) (n := 104) (k := (Int32.toNatClampNeg (4 : Int32))) hk5 hq7
  have hk10 : xKD (sNewA (sFR (sNewA S q2 105 (Int32.toNatClampNeg (8 : Int32))) 0 u1 (some q2)) q6 104 (Int32.toNatClampNeg (4 : Int32))) q6 = some 104 := kd_selfA
  refine g_top1 eu1 ?_
  refine gX_putRF (C0 := RX0) (T := TX0) (ty0 := tyX0) (N := 15) (n := 0) (k := 1) (f := 1) hC hX dX0_init_18 q211 rfl in_X0 tyX0_ok nmX0 (by decide) rfl rfl hini rfl rfl (narrow_rf (Or.inr ⟨_, rfl⟩) _) (fits_rf (Or.inr ⟨_, rfl⟩) _) rfl (by decide) (Or.inl (by decide)) hk9 ?_
  refine g_aload_nR hC dX0_init_21 rfl ?_
  refine gX_new (C0 := RJ2) (T := TJ2) (ty0 := tyJ2) (N := 3) (n := 16) hC hX dX0_init_22 q121 q122 q73 rfl in_J2 tyJ2_ok (by decide) dv_J2 h.1 h.2.1 ?_
  intro q11 hq12
  have h := h.2.2 q11 hq12
  have hk13 := kd_new (q := q11) (n := 16) hk8 hq12
  have hk14 := kd_new (q := q11) (n := 16) hk9 hq12
  have hk15 := kd_new (q := q11) (n := 16) hk10 hq12
  have hk16 : xKD (sNew (sFR (sNewA (sFR (sNewA S q2 105 (Int32.toNatClampNeg (8 : Int32))) 0 u1 (some q2)) q6 104 (Int32.toNatClampNeg (4 : Int32))) 1 u1 (some q6)) q11 16) q11 = some 16 := kd_self
  refine g_dup hC dX0_init_25 (va_rf_cat _) ?_
  refine gX_nv hX (gX_runI (As := []) (rest := [va_rf (some q11), va_rf x0]) hC hX (mx_J2_init (cx_l C) E _ _ _ h) q125 q73 q123 q124 rfl hx_J2_init.2 rfl rfl (Or.inl (Nat.le_of_ble_eq_true rfl)) ⟨Nat.le_of_ble_eq_true rfl, Nat.le_of_ble_eq_true rfl⟩ dX0_init_26 (Nat.zero_le _) (Nat.zero_le _)) rfl rfl ?_
  intro S17 h
  refine g_top1 eu1 ?_
  have hk19 := h.1
  refine gX_putRF (C0 := RX0) (T := TX0) (ty0 := tyX0) (N := 15) (n := 0) (k := 2) (f := 2) hC hX dX0_init_29 q213 rfl in_X0 tyX0_ok nmX0 (by decide) rfl rfl hini rfl rfl (narrow_rf (Or.inl ⟨_, rfl⟩) _) (fits_rf (Or.inl ⟨_, rfl⟩) _) rfl (by decide) (Or.inl (by decide)) hk19 ?_
  refine g_aload_nR hC dX0_init_32 rfl ?_
  refine gX_new (C0 := RJ2) (T := TJ2) (ty0 := tyJ2) (N := 3) (n := 16) hC hX dX0_init_33 q121 q122 q73 rfl in_J2 tyJ2_ok (by decide) dv_J2 h.2.1 h.2.2.1 ?_
  intro q20 hq21
  have h := h.2.2.2 q20 hq21
  have hk22 := kd_new (q := q20) (n := 16) hk19 hq21
  have hk23 : xKD (sNew (sFR S17 2 u1 (some q11)) q20 16) q20 = some 16 := kd_self
  refine g_dup hC dX0_init_36 (va_rf_cat _) ?_
  refine gX_nv hX (gX_runI (As := []) (rest := [va_rf (some q20), va_rf x0]) hC hX (mx_J2_init (cx_l C) E _ _ _ h) q125 q73 q123 q124 rfl hx_J2_init.2 rfl rfl (Or.inl (Nat.le_of_ble_eq_true rfl)) ⟨Nat.le_of_ble_eq_true rfl, Nat.le_of_ble_eq_true rfl⟩ dX0_init_37 (Nat.zero_le _) (Nat.zero_le _)) rfl rfl ?_
  intro S24 h
  refine g_top1 eu1 ?_
  have hk26 := h.1
  refine gX_putRF (C0 := RX0) (T := TX0) (ty0 := tyX0) (N := 15) (n := 0) (k := 3) (f := 3) hC hX dX0_init_40 q214 rfl in_X0 tyX0_ok nmX0 (by decide) rfl rfl hini rfl rfl (narrow_rf (Or.inl ⟨_, rfl⟩) _) (fits_rf (Or.inl ⟨_, rfl⟩) _) rfl (by decide) (Or.inl (by decide)) hk26 ?_
  refine g_aload_nR hC dX0_init_43 rfl ?_
  refine gX_new (C0 := RJ2) (T := TJ2) (ty0 := tyJ2) (N := 3) (n := 16) hC hX dX0_init_44 q121 q122 q73 rfl in_J2 tyJ2_ok (by decide) dv_J2 h.2.1 h.2.2.1 ?_
  intro q27 hq28
  have h := h.2.2.2 q27 hq28
  have hk29 := kd_new (q := q27) (n := 16) hk26 hq28
  have hk30 : xKD (sNew (sFR S24 3 u1 (some q20)) q27 16) q27 = some 16 := kd_self
  refine g_dup hC dX0_init_47 (va_rf_cat _) ?_
  refine gX_nv hX (gX_runI (As := []) (rest := [va_rf (some q27), va_rf x0]) hC hX (mx_J2_init (cx_l C) E _ _ _ h) q125 q73 q123 q124 rfl hx_J2_init.2 rfl rfl (Or.inl (Nat.le_of_ble_eq_true rfl)) ⟨Nat.le_of_ble_eq_true rfl, Nat.le_of_ble_eq_true rfl⟩ dX0_init_48 (Nat.zero_le _) (Nat.zero_le _)) rfl rfl ?_
  intro S31 h
  refine g_top1 eu1 ?_
  have hk33 := h.1
  refine gX_putRF (C0 := RX0) (T := TX0) (ty0 := tyX0) (N := 15) (n := 0) (k := 4) (f := 4) hC hX dX0_init_51 q215 rfl in_X0 tyX0_ok nmX0 (by decide) rfl rfl hini rfl rfl (narrow_rf (Or.inl ⟨_, rfl⟩) _) (fits_rf (Or.inl ⟨_, rfl⟩) _) rfl (by decide) (Or.inl (by decide)) hk33 ?_
  refine g_aload_nR hC dX0_init_54 rfl ?_
  refine gX_new (C0 := RJ2) (T := TJ2) (ty0 := tyJ2) (N := 3) (n := 16) hC hX dX0_init_55 q121 q122 q73 rfl in_J2 tyJ2_ok (by decide) dv_J2 h.2.1 h.2.2.1 ?_
  intro q34 hq35
  have h := h.2.2.2 q34 hq35
  have hk36 := kd_new (q := q34) (n := 16) hk33 hq35
  have hk37 : xKD (sNew (sFR S31 4 u1 (some q27)) q34 16) q34 = some 16 := kd_self
  refine g_dup hC dX0_init_58 (va_rf_cat _) ?_
  refine gX_nv hX (gX_runI (As := []) (rest := [va_rf (some q34), va_rf x0]) hC hX (mx_J2_init (cx_l C) E _ _ _ h) q125 q73 q123 q124 rfl hx_J2_init.2 rfl rfl (Or.inl (Nat.le_of_ble_eq_true rfl)) ⟨Nat.le_of_ble_eq_true rfl, Nat.le_of_ble_eq_true rfl⟩ dX0_init_59 (Nat.zero_le _) (Nat.zero_le _)) rfl rfl ?_
  intro S38 h
  refine g_top1 eu1 ?_
  have hk40 := h.1
  refine gX_putRF (C0 := RX0) (T := TX0) (ty0 := tyX0) (N := 15) (n := 0) (k := 5) (f := 5) hC hX dX0_init_62 q216 rfl in_X0 tyX0_ok nmX0 (by decide) rfl rfl hini rfl rfl (narrow_rf (Or.inl ⟨_, rfl⟩) _) (fits_rf (Or.inl ⟨_, rfl⟩) _) rfl (by decide) (Or.inl (by decide)) hk40 ?_
  refine g_aload_nR hC dX0_init_65 rfl ?_
  refine gX_new (C0 := RJ2) (T := TJ2) (ty0 := tyJ2) (N := 3) (n := 16) hC hX dX0_init_66 q121 q122 q73 rfl in_J2 tyJ2_ok (by decide) dv_J2 h.2.1 h.2.2.1 ?_
  intro q41 hq42
  have h := h.2.2.2 q41 hq42
  have hk43 := kd_new (q := q41) (n := 16) hk40 hq42
  have hk44 : xKD (sNew (sFR S38 5 u1 (some q34)) q41 16) q41 = some 16 := kd_self
  refine g_dup hC dX0_init_69 (va_rf_cat _) ?_
  refine gX_nv hX (gX_runI (As := []) (rest := [va_rf (some q41), va_rf x0]) hC hX (mx_J2_init (cx_l C) E _ _ _ h) q125 q73 q123 q124 rfl hx_J2_init.2 rfl rfl (Or.inl (Nat.le_of_ble_eq_true rfl)) ⟨Nat.le_of_ble_eq_true rfl, Nat.le_of_ble_eq_true rfl⟩ dX0_init_70 (Nat.zero_le _) (Nat.zero_le _)) rfl rfl ?_
  intro S45 h
  refine g_top1 eu1 ?_
  have hk47 := h.1
  refine gX_putRF (C0 := RX0) (T := TX0) (ty0 := tyX0) (N := 15) (n := 0) (k := 6) (f := 6) hC hX dX0_init_73 q217 rfl in_X0 tyX0_ok nmX0 (by decide) rfl rfl hini rfl rfl (narrow_rf (Or.inl ⟨_, rfl⟩) _) (fits_rf (Or.inl ⟨_, rfl⟩) _) rfl (by decide) (Or.inl (by decide)) hk47 ?_
  refine g_aload_nR hC dX0_init_76 rfl ?_
  refine g_sipush (v := 400) hC dX0_init_77 (by decide) ?_
  refine gX_newb hC hX dX0_init_80 q162 h.2.1 h.2.2.1 h.2.2.2.1 h.2.2.2.2.1 ?_
  intro q48 hq49
  have h := h.2.2.2.2.2 q48 hq49
  have hk50 := kd_newA (q := q48) (n := 101) (k := (Int32.toNatClampNeg (400 : Int32))) hk47 hq49
  have hk51 : xKD (sNewA (sFR S45 6 u1 (some q41)) q48 101 (Int32.toNatClampNeg (400 : Int32))) q48 = some 101 := kd_selfA
  refine g_top1 eu1 ?_
  refine gX_putRF (C0 := RX0) (T := TX0) (ty0 := tyX0) (N := 15) (n := 0) (k := 7) (f := 7) hC hX dX0_init_82 q219 rfl in_X0 tyX0_ok nmX0 (by decide) rfl rfl hini rfl rfl (narrow_rf (Or.inr ⟨_, rfl⟩) _) (fits_rf (Or.inr ⟨_, rfl⟩) _) rfl (by decide) (Or.inl (by decide)) hk50 ?_
  refine g_aload_nR hC dX0_init_85 rfl ?_
  refine gX_new (C0 := RX1) (T := TX1) (ty0 := tyX1) (N := 2) (n := 1) hC hX dX0_init_86 q147 q148 q74 rfl in_X1 tyX1_ok (by decide) dv_X1 h.1 h.2.1 ?_
  intro q52 hq53
  have h := h.2.2 q52 hq53
  have hk54 := kd_new (q := q52) (n := 1) hk50 hq53
  have hk55 := kd_new (q := q52) (n := 1) hk51 hq53
  have hk56 : xKD (sNew (sFR (sNewA (sFR S45 6 u1 (some q41)) q48 101 (Int32.toNatClampNeg (400 : Int32))) 7 u1 (some q48)) q52 1) q52 = some 1 := kd_self
  refine g_dup hC dX0_init_89 (va_rf_cat _) ?_
  obtain ⟨k57, n58, hk57, hn58, h⟩ := h
  refine gX_cv hX (gX_runIN (As := []) (rest := [va_rf (some q52), va_rf x0]) hC hX (mx_X1_init (cx_l C) E k57 n58 _ _ _ h) q151 q149 q74 q150 rfl hx_X1_init.2 rfl rfl (Or.inl (Nat.le_of_ble_eq_true rfl)) ⟨Nat.le_of_ble_eq_true rfl, Nat.le_of_ble_eq_true rfl⟩ dX0_init_90 hk57 hn58) hk57 hn58 ?_
  intro S59 h
  refine g_top1 eu1 ?_
  have hk61 := h.1
  refine gX_putR (C0 := RX0) (T := TX0) (ty0 := tyX0) (N := 15) (n := 0) (k := 11) (f := 11) hC hX dX0_init_93 q225 rfl in_X0 tyX0_ok nmX0 (by decide) (Or.inl rfl) rfl rfl (narrow_rf (Or.inl ⟨_, rfl⟩) _) (fits_rf (Or.inl ⟨_, rfl⟩) _) rfl (by decide) (Or.inl (by decide)) hk61 ?_
  refine g_aload_nR hC dX0_init_96 rfl ?_
  refine g_bipush (v := 16) hC dX0_init_97 (by decide) ?_
  refine gX_newq (n := 103) hC hX dX0_init_99 q164 (by decide) (by decide) rfl h.2.1 h.2.2.1 h.2.2.2.1 h.2.2.2.2.1 ?_
  intro q62 hq63
  have h := h.2.2.2.2.2 q62 hq63
  have hk64 := kd_newA (q := q62) (n := 103) (k := (Int32.toNatClampNeg (16 : Int32))) hk61 hq63
  have hk65 : xKD (sNewA (sFR S59 11 u1 (some q52)) q62 103 (Int32.toNatClampNeg (16 : Int32))) q62 = some 103 := kd_selfA
  refine g_top1 eu1 ?_
  refine gX_putRF (C0 := RX0) (T := TX0) (ty0 := tyX0) (N := 15) (n := 0) (k := 13) (f := 13) hC hX dX0_init_102 q227 rfl in_X0 tyX0_ok nmX0 (by decide) rfl rfl hini rfl rfl (narrow_rf (Or.inr ⟨_, rfl⟩) _) (fits_rf (Or.inr ⟨_, rfl⟩) _) rfl (by decide) (Or.inl (by decide)) hk64 ?_
  refine g_aload_nR hC dX0_init_105 rfl ?_
  refine g_bipush (v := 16) hC dX0_init_106 (by decide) ?_
  refine gX_newi hC hX dX0_init_108 q163 h.1 h.2.1 h.2.2.1 h.2.2.2.1 ?_
  intro q66 hq67
  have h := h.2.2.2.2 q66 hq67
  have hk68 := kd_newA (q := q66) (n := 100) (k := (Int32.toNatClampNeg (16 : Int32))) hk64 hq67
  have hk69 := kd_newA (q := q66) (n := 100) (k := (Int32.toNatClampNeg (16 : Int32))) hk65 hq67
  have hk70 : xKD (sNewA (sFR (sNewA (sFR S59 11 u1 (some q52)) q62 103 (Int32.toNatClampNeg (16 : Int32))) 13 u1 (some q62)) q66 100 (Int32.toNatClampNeg (16 : Int32))) q66 = some 100 := kd_selfA
  refine g_top1 eu1 ?_
  refine gX_putRF (C0 := RX0) (T := TX0) (ty0 := tyX0) (N := 15) (n := 0) (k := 14) (f := 14) hC hX dX0_init_110 q228 rfl in_X0 tyX0_ok nmX0 (by decide) rfl rfl hini rfl rfl (narrow_rf (Or.inr ⟨_, rfl⟩) _) (fits_rf (Or.inr ⟨_, rfl⟩) _) rfl (by decide) (Or.inl (by decide)) hk68 ?_
  refine g_iconst (v := 0) hC dX0_init_113 (by decide) ?_
  refine g_istore_n hC dX0_init_114 rfl (by decide) (lx_okR (j := 0) rfl) rfl ?_
  obtain ⟨n0, h0⟩ := h
  exact s_115 n0 ((((((((((((mc - 1) - 1) - 1) - 1) - 1) - 1) - 1) - 1) - 1) - k57) - 1) - 1) ((((((((((((ms - (Int32.toNatClampNeg (8 : Int32))) - (Int32.toNatClampNeg (4 : Int32))) - 3) - 3) - 3) - 3) - 3) - (Int32.toNatClampNeg (400 : Int32))) - 2) - n58) - (Int32.toNatClampNeg (16 : Int32))) - (Int32.toNatClampNeg (16 : Int32))) (sFR (sNewA (sFR (sNewA (sFR S59 11 u1 (some q52)) q62 103 (Int32.toNatClampNeg (16 : Int32))) 13 u1 (some q62)) q66 100 (Int32.toNatClampNeg (16 : Int32))) 14 u1 (some q66)) x0 (0 : Int32) h0
theorem mx_X0_init (l : Launch) (E : XE) (mc ms : Nat) (Q : XS → Prop) (S : XS) (x0 : Option Nat) (h : wx_X0_init Q mc ms S x0) : XMet E l yX0_init cX0_init 2 none ({ frames := 4, cells := mc, slots := ms, locals := 94 } : Room) [va_rf x0] S (fun sz => va_Qv Q (BX1 E S sz) (xA S sz)) :=
  XMet_of (rm := ({ frames := 4, cells := mc, slots := ms, locals := 94 } : Room)) (by decide) (by simp [lg_sl, va_rf_cat, cat_i, cat_l]) (L0 := [some (va_rf x0), none]) (by simp [lx_pairs, lv_args, va_rf_cat, cat_i, cat_l, List.range_succ]) (fun sz C hC hX hl hnm hA hQ => bx_X0_init E C S sz Q mc ms S x0 hC hX hA hnm hQ h)
/-! X0_isIn -/
def wx_X0_isIn (Q : Int32 → XS → Prop) (S : XS) (x0 : Int64) (x2 : Int64) (x4 : Int64) : Prop :=
  (if (lg_cmp x0 x2) < 0 then Q (0 : Int32) S else (if 0 < (lg_cmp x0 x4) then Q (0 : Int32) S else Q (1 : Int32) S))
theorem hx_X0_isIn : yX0_isIn.cls = RX0 ∧ yX0_isIn.cls ≠ "java/lang/invoke/MethodHandle" ∧ yX0_isIn.cls ≠ "java/lang/invoke/VarHandle" ∧ (parseMethodDescriptor yX0_isIn.desc).map (fun d => d.parameters.length) = some 3 := by decide +kernel
set_option maxHeartbeats 4000000 in
set_option maxRecDepth 100000 in
theorem bx_X0_isIn (E : XE) (C : Cx) (S0 : XS) (sz : Nat) (Q : Int32 → XS → Prop) (S : XS) (x0 : Int64) (x2 : Int64) (x4 : Int64) (hC : COk C cX0_isIn RX0 (some .boolean) 1 34 6) (hX : XOk E C) (hA : cx_A C = xA S0 sz) (hQ : cx_Q C = MQ (cx_b C) (va_Qi Q (BX1 E S0 sz) (xA S0 sz)) (cx_a C) (cx_s C) (cx_MC C) (cx_MS C) (xA S0 sz)) (h : wx_X0_isIn Q S x0 x2 x4) : GX E C S 0 0 0 [some (.long x0), none, some (.long x2), none, some (.long x4), none] [] := by
  refine g_lload_n hC dX0_isIn_0 rfl ?_
  refine g_lload_n hC dX0_isIn_1 rfl ?_
  refine g_lcmp hC dX0_isIn_2 ?_
  refine g_if_lt (tgt := 17) hC dX0_isIn_3 (by decide) (fun c => ?_) (fun c => ?_)
  · have h := it_p c h
    refine g_iconst (v := 0) hC dX0_isIn_17 (by decide) ?_
    refine gX_zret rfl rfl hC hA hQ dX0_isIn_18 h
  · have h := it_n c h
    refine g_lload_n hC dX0_isIn_6 rfl ?_
    refine g_lload hC dX0_isIn_7 rfl ?_
    refine g_lcmp hC dX0_isIn_9 ?_
    refine g_if_gt (tgt := 17) hC dX0_isIn_10 (by decide) (fun c => ?_) (fun c => ?_)
    · have h := it_p c h
      refine g_iconst (v := 0) hC dX0_isIn_17 (by decide) ?_
      refine gX_zret rfl rfl hC hA hQ dX0_isIn_18 h
    · have h := it_n c h
      refine g_iconst (v := 1) hC dX0_isIn_13 (by decide) ?_
      refine g_goto (tgt := 18) hC dX0_isIn_14 (by decide) ?_
      refine gX_zret rfl rfl hC hA hQ dX0_isIn_18 h
theorem mx_X0_isIn (l : Launch) (E : XE) (Q : Int32 → XS → Prop) (S : XS) (x0 : Int64) (x2 : Int64) (x4 : Int64) (h : wx_X0_isIn Q S x0 x2 x4) : XMet E l yX0_isIn cX0_isIn 6 (some .boolean) ({ frames := 1, cells := 0, slots := 0, locals := 34 } : Room) [.long x0, .long x2, .long x4] S (fun sz => va_Qi Q (BX1 E S sz) (xA S sz)) :=
  XMet_of (rm := ({ frames := 1, cells := 0, slots := 0, locals := 34 } : Room)) (by decide) (by simp [lg_sl, va_rf_cat, cat_i, cat_l]) (L0 := [some (.long x0), none, some (.long x2), none, some (.long x4), none]) (by simp [lx_pairs, lv_args, va_rf_cat, cat_i, cat_l, List.range_succ]) (fun sz C hC hX hl hnm hA hQ => bx_X0_isIn E C S sz Q S x0 x2 x4 hC hX hA hQ h)
/-! X0_isSheet -/
def wx_X0_isSheet (Q : Int32 → XS → Prop) (S : XS) (x0 : Int32) : Prop :=
  wx_X0_isIn (fun r2 S1 => narrow .boolean (.int r2) = .int r2 ∧ Q r2 S1) S (Int32.toInt64 x0) (0 : Int64) (7 : Int64)
theorem hx_X0_isSheet : yX0_isSheet.cls = RX0 ∧ yX0_isSheet.cls ≠ "java/lang/invoke/MethodHandle" ∧ yX0_isSheet.cls ≠ "java/lang/invoke/VarHandle" ∧ (parseMethodDescriptor yX0_isSheet.desc).map (fun d => d.parameters.length) = some 1 := by decide +kernel
set_option maxHeartbeats 4000000 in
set_option maxRecDepth 100000 in
theorem bx_X0_isSheet (E : XE) (C : Cx) (S0 : XS) (sz : Nat) (Q : Int32 → XS → Prop) (S : XS) (x0 : Int32) (hC : COk C cX0_isSheet RX0 (some .boolean) 2 59 1) (hX : XOk E C) (hA : cx_A C = xA S0 sz) (hQ : cx_Q C = MQ (cx_b C) (va_Qi Q (BX1 E S0 sz) (xA S0 sz)) (cx_a C) (cx_s C) (cx_MC C) (cx_MS C) (xA S0 sz)) (h : wx_X0_isSheet Q S x0) : GX E C S 0 0 0 [some (.int x0)] [] := by
  refine g_iload_n hC dX0_isSheet_0 rfl ?_
  refine g_i2l hC dX0_isSheet_1 ?_
  refine g_lconst (v := 0) hC dX0_isSheet_2 (by decide) ?_
  refine g_ldc2 (v := 7) hC dX0_isSheet_3 q268 ?_
  refine gX_ni hX (gX_runS (As := [.long (Int32.toInt64 x0), .long (0 : Int64), .long (7 : Int64)]) (rest := []) hC hX (mx_X0_isIn (cx_l C) E _ _ _ _ _ h) (lw_S q269 q270 q70 q271) hx_X0_isIn.2 rfl rfl (Or.inl (Nat.le_of_ble_eq_true rfl)) ⟨Nat.le_of_ble_eq_true rfl, Nat.le_of_ble_eq_true rfl⟩ dX0_isSheet_6 (Nat.zero_le _) (Nat.zero_le _)) rfl rfl ?_
  intro r2 S1 h
  refine gX_zret rfl h.1 hC hA hQ dX0_isSheet_9 h.2
theorem mx_X0_isSheet (l : Launch) (E : XE) (Q : Int32 → XS → Prop) (S : XS) (x0 : Int32) (h : wx_X0_isSheet Q S x0) : XMet E l yX0_isSheet cX0_isSheet 1 (some .boolean) ({ frames := 2, cells := 0, slots := 0, locals := 59 } : Room) [.int x0] S (fun sz => va_Qi Q (BX1 E S sz) (xA S sz)) :=
  XMet_of (rm := ({ frames := 2, cells := 0, slots := 0, locals := 59 } : Room)) (by decide) (by simp [lg_sl, va_rf_cat, cat_i, cat_l]) (L0 := [some (.int x0)]) (by simp [lx_pairs, lv_args, va_rf_cat, cat_i, cat_l, List.range_succ]) (fun sz C hC hX hl hnm hA hQ => bx_X0_isSheet E C S sz Q S x0 hC hX hA hQ h)
/-! X4_init -/
def wx_X4_init (Q : XS → Prop) (S : XS) (x0 : Option Nat) (x1 : Int32) : Prop :=
  dr x0 (fun u1 => wx_J4_init_k3 (fun S2 => xKD S2 u1 = some 3 ∧ Q (sFI S2 300 u1 x1)) S (some u1) none none (0 : Int32) (0 : Int32))
theorem hx_X4_init : yX4_init.cls = RX4 ∧ yX4_init.cls ≠ "java/lang/invoke/MethodHandle" ∧ yX4_init.cls ≠ "java/lang/invoke/VarHandle" ∧ (parseMethodDescriptor yX4_init.desc).map (fun d => d.parameters.length) = some 1 := by decide +kernel
set_option maxHeartbeats 4000000 in
set_option maxRecDepth 100000 in
theorem bx_X4_init (E : XE) (C : Cx) (S0 : XS) (sz : Nat) (Q : XS → Prop) (S : XS) (x0 : Option Nat) (x1 : Int32) (hC : COk C cX4_init RX4 none 3 82 2) (hX : XOk E C) (hA : cx_A C = xA S0 sz) (hini : (cx_h C).name = "<init>") (hQ : cx_Q C = MQ (cx_b C) (va_Qv Q (BX1 E S0 sz) (xA S0 sz)) (cx_a C) (cx_s C) (cx_MC C) (cx_MS C) (xA S0 sz)) (h : wx_X4_init Q S x0 x1) : GX E C S 0 0 0 [some (va_rf x0), some (.int x1)] [] := by
  refine g_aload_nR hC dX4_init_0 rfl ?_
  refine g_nullR hC dX4_init_1 ?_
  refine g_nullR hC dX4_init_2 ?_
  refine g_iconst (v := 0) hC dX4_init_3 (by decide) ?_
  refine g_iconst (v := 0) hC dX4_init_4 (by decide) ?_
  obtain ⟨u1, eu1, h⟩ := h
  refine g_top4 eu1 ?_
  refine gX_nv hX (gX_runI (As := [va_rf none, va_rf none, .int (0 : Int32), .int (0 : Int32)]) (rest := []) hC hX (mx_J4_init_k3 (cx_l C) E _ _ _ _ _ _ _ h) q322 q78 q320 q321 rfl hx_J4_init_k3.2 rfl rfl (Or.inl (Nat.le_of_ble_eq_true rfl)) ⟨Nat.le_of_ble_eq_true rfl, Nat.le_of_ble_eq_true rfl⟩ dX4_init_5 (Nat.zero_le _) (Nat.zero_le _)) rfl rfl ?_
  intro S2 h
  refine g_aload_nR hC dX4_init_8 rfl ?_
  refine g_iload_n hC dX4_init_9 rfl ?_
  refine g_top1 eu1 ?_
  have hk4 := h.1
  refine gX_putIF (C0 := RX4) (T := TX4) (ty0 := tyX4) (N := 7) (n := 3) (k := 6) (f := 300) hC hX dX4_init_10 q326 rfl in_X4 tyX4_ok nmX4 (by decide) rfl rfl hini rfl rfl rfl rfl rfl (by decide) (Or.inl (by decide)) hk4 ?_
  refine gX_vret hC hA hQ rfl dX4_init_13 h.2
theorem mx_X4_init (l : Launch) (E : XE) (Q : XS → Prop) (S : XS) (x0 : Option Nat) (x1 : Int32) (h : wx_X4_init Q S x0 x1) : XMet E l yX4_init cX4_init 2 none ({ frames := 3, cells := 0, slots := 0, locals := 82 } : Room) [va_rf x0, .int x1] S (fun sz => va_Qv Q (BX1 E S sz) (xA S sz)) :=
  XMet_of (rm := ({ frames := 3, cells := 0, slots := 0, locals := 82 } : Room)) (by decide) (by simp [lg_sl, va_rf_cat, cat_i, cat_l]) (L0 := [some (va_rf x0), some (.int x1)]) (by simp [lx_pairs, lv_args, va_rf_cat, cat_i, cat_l, List.range_succ]) (fun sz C hC hX hl hnm hA hQ => bx_X4_init E C S sz Q S x0 x1 hC hX hA hnm hQ h)
/-! X0_must -/
def wx_X0_must (Q : XS → Prop) (X : Nat → XS → Prop) (mc ms : Nat) (S : XS) (x0 : Int32) (x1 : Int32) : Prop :=
  (if x0 = 0 then 1 ≤ mc ∧ 7 ≤ ms ∧ (∀ q1 : Nat, xKD S q1 = none → wx_X4_init (fun S4 => xKD S4 q1 = some 3 ∧ X q1 S4) (sNew S q1 3) (some q1) x1) else Q S)
theorem hx_X0_must : yX0_must.cls = RX0 ∧ yX0_must.cls ≠ "java/lang/invoke/MethodHandle" ∧ yX0_must.cls ≠ "java/lang/invoke/VarHandle" ∧ (parseMethodDescriptor yX0_must.desc).map (fun d => d.parameters.length) = some 2 := by decide +kernel
set_option maxHeartbeats 4000000 in
set_option maxRecDepth 100000 in
theorem bx_X0_must (E : XE) (C : Cx) (S0 : XS) (sz : Nat) (Q : XS → Prop) (X : Nat → XS → Prop) (mc ms : Nat) (S : XS) (x0 : Int32) (x1 : Int32) (hC : COk C cX0_must RX0 none 4 103 2) (hX : XOk E C) (hT : ∀ x ∈ (cx_c C).exceptionTable.toList, False) (hA : cx_A C = xA S0 sz) (hQ : cx_Q C = vx_MQ (cx_b C) (va_Qv Q (BX1 E S0 sz) (xA S0 sz)) (XC0 E S0 sz RX4 3 X) (cx_a C) (cx_s C) (cx_MC C) (cx_MS C) (xA S0 sz)) (h : wx_X0_must Q X mc ms S x0 x1) : GX E C S mc ms 0 [some (.int x0), some (.int x1)] [] := by
  refine g_iload_n hC dX0_must_0 rfl ?_
  refine g_if_ne (tgt := 13) hC dX0_must_1 (by decide) (fun c => ?_) (fun c => ?_)
  · have h := it_n c h
    refine gX_end hQ (gX_vret (C := cx_to C _) hC hA rfl rfl dX0_must_13 h)
  · have h := it_p c h
    refine gX_new (C0 := RX4) (T := TX4) (ty0 := tyX4) (N := 7) (n := 3) hC hX dX0_must_4 q264 q277 q79 rfl in_X4 tyX4_ok (by decide) dv_X4 h.1 h.2.1 ?_
    intro q1 hq2
    have h := h.2.2 q1 hq2
    have hk3 : xKD (sNew S q1 3) q1 = some 3 := kd_self
    refine g_dup hC dX0_must_7 (va_rf_cat _) ?_
    refine g_iload_n hC dX0_must_8 rfl ?_
    refine gX_nv hX (gX_runI (As := [.int x1]) (rest := [va_rf (some q1)]) hC hX (mx_X4_init (cx_l C) E _ _ _ _ h) q319 q79 q317 q318 rfl hx_X4_init.2 rfl rfl (Or.inl (Nat.le_of_ble_eq_true rfl)) ⟨Nat.le_of_ble_eq_true rfl, Nat.le_of_ble_eq_true rfl⟩ dX0_must_9 (Nat.zero_le _) (Nat.zero_le _)) rfl rfl ?_
    intro S4 h
    have hk6 := h.1
    refine gX_athrow hC dX0_must_12 ?_
    exact gT_out (r := (RX4, TX4, 7)) hC hX hT hA hQ hk6 rfl (by decide) h.2
theorem mx_X0_must (l : Launch) (E : XE) (mc ms : Nat) (Q : XS → Prop) (X : Nat → XS → Prop) (S : XS) (x0 : Int32) (x1 : Int32) (h : wx_X0_must Q X mc ms S x0 x1) : XMetX E l yX0_must cX0_must 2 none ({ frames := 4, cells := mc, slots := ms, locals := 103 } : Room) [.int x0, .int x1] S (fun sz => va_Qv Q (BX1 E S sz) (xA S sz)) RX4 3 X :=
  XMetX_of (rm := ({ frames := 4, cells := mc, slots := ms, locals := 103 } : Room)) (by decide) (by simp [lg_sl, va_rf_cat, cat_i, cat_l]) (L0 := [some (.int x0), some (.int x1)]) (by simp [lx_pairs, lv_args, va_rf_cat, cat_i, cat_l, List.range_succ]) (fun sz C hC hX hl hnm hT hA hQ => bx_X0_must E C S sz Q X mc ms S x0 x1 hC hX hT hA hQ h)
/-! X5_init -/
def wx_X5_init (Q : XS → Prop) (mc ms : Nat) (S : XS) (x0 : Option Nat) (x1 : Int32) (x2 : Int32) : Prop :=
  dr x0 (fun u1 => xKD S u1 = some 4 ∧ ¬ x2 < 0 ∧ (Int32.toNatClampNeg x2) ≤ 100000 ∧ 1 ≤ mc ∧ (Int32.toNatClampNeg x2) ≤ ms ∧ (∀ q3 : Nat, xKD (sFI S 400 u1 x1) q3 = none → Q (sFR (sNewA (sFI S 400 u1 x1) q3 100 (Int32.toNatClampNeg x2)) 401 u1 (some q3))))
theorem hx_X5_init : yX5_init.cls = RX5 ∧ yX5_init.cls ≠ "java/lang/invoke/MethodHandle" ∧ yX5_init.cls ≠ "java/lang/invoke/VarHandle" ∧ (parseMethodDescriptor yX5_init.desc).map (fun d => d.parameters.length) = some 2 := by decide +kernel
set_option maxHeartbeats 4000000 in
set_option maxRecDepth 100000 in
theorem bx_X5_init (E : XE) (C : Cx) (S0 : XS) (sz : Nat) (Q : XS → Prop) (mc ms : Nat) (S : XS) (x0 : Option Nat) (x1 : Int32) (x2 : Int32) (hC : COk C cX5_init RX5 none 1 34 3) (hX : XOk E C) (hA : cx_A C = xA S0 sz) (hini : (cx_h C).name = "<init>") (hQ : cx_Q C = MQ (cx_b C) (va_Qv Q (BX1 E S0 sz) (xA S0 sz)) (cx_a C) (cx_s C) (cx_MC C) (cx_MS C) (xA S0 sz)) (h : wx_X5_init Q mc ms S x0 x1 x2) : GX E C S mc ms 0 [some (va_rf x0), some (.int x1), some (.int x2)] [] := by
  refine g_aload_nR hC dX5_init_0 rfl ?_
  obtain ⟨u1, eu1, h⟩ := h
  refine g_top0 eu1 ?_
  refine gX_oinit hC dX5_init_1 q347 q115 q116 (Nat.le_of_ble_eq_true rfl) (by decide) (by decide) ?_
  refine g_aload_nR hC dX5_init_4 rfl ?_
  refine g_iload_n hC dX5_init_5 rfl ?_
  refine g_top1 eu1 ?_
  have hk2 := h.1
  refine gX_putIF (C0 := RX5) (T := TX5) (ty0 := tyX5) (N := 2) (n := 4) (k := 0) (f := 400) hC hX dX5_init_6 q348 rfl in_X5 tyX5_ok nmX5 (by decide) rfl rfl hini rfl rfl rfl rfl rfl (by decide) (Or.inl (by decide)) hk2 ?_
  refine g_aload_nR hC dX5_init_9 rfl ?_
  refine g_iload_n hC dX5_init_10 rfl ?_
  refine gX_newi hC hX dX5_init_11 q163 h.2.1 h.2.2.1 h.2.2.2.1 h.2.2.2.2.1 ?_
  intro q3 hq4
  have h := h.2.2.2.2.2 q3 hq4
  have hk5 := kd_newA (q := q3) (n := 100) (k := (Int32.toNatClampNeg x2)) hk2 hq4
  have hk6 : xKD (sNewA (sFI S 400 u1 x1) q3 100 (Int32.toNatClampNeg x2)) q3 = some 100 := kd_selfA
  refine g_top1 eu1 ?_
  refine gX_putRF (C0 := RX5) (T := TX5) (ty0 := tyX5) (N := 2) (n := 4) (k := 1) (f := 401) hC hX dX5_init_13 q350 rfl in_X5 tyX5_ok nmX5 (by decide) rfl rfl hini rfl rfl (narrow_rf (Or.inr ⟨_, rfl⟩) _) (fits_rf (Or.inr ⟨_, rfl⟩) _) rfl (by decide) (Or.inl (by decide)) hk5 ?_
  refine gX_vret hC hA hQ rfl dX5_init_16 h
theorem mx_X5_init (l : Launch) (E : XE) (mc ms : Nat) (Q : XS → Prop) (S : XS) (x0 : Option Nat) (x1 : Int32) (x2 : Int32) (h : wx_X5_init Q mc ms S x0 x1 x2) : XMet E l yX5_init cX5_init 3 none ({ frames := 1, cells := mc, slots := ms, locals := 34 } : Room) [va_rf x0, .int x1, .int x2] S (fun sz => va_Qv Q (BX1 E S sz) (xA S sz)) :=
  XMet_of (rm := ({ frames := 1, cells := mc, slots := ms, locals := 34 } : Room)) (by decide) (by simp [lg_sl, va_rf_cat, cat_i, cat_l]) (L0 := [some (va_rf x0), some (.int x1), some (.int x2)]) (by simp [lx_pairs, lv_args, va_rf_cat, cat_i, cat_l, List.range_succ]) (fun sz C hC hX hl hnm hA hQ => bx_X5_init E C S sz Q mc ms S x0 x1 x2 hC hX hA hnm hQ h)
/-! X0_well -/
def wx_X0_well (Q : Int32 → XS → Prop) (S : XS) (x0 : Option Nat) (x1 : Int32) : Prop :=
  dr x0 (fun u1 => xKD S u1 = some 0 ∧ Q x1 (sFI S 12 u1 (0 : Int32)))
theorem hx_X0_well : yX0_well.cls = RX0 ∧ yX0_well.cls ≠ "java/lang/invoke/MethodHandle" ∧ yX0_well.cls ≠ "java/lang/invoke/VarHandle" ∧ (parseMethodDescriptor yX0_well.desc).map (fun d => d.parameters.length) = some 1 := by decide +kernel
set_option maxHeartbeats 4000000 in
set_option maxRecDepth 100000 in
theorem bx_X0_well (E : XE) (C : Cx) (S0 : XS) (sz : Nat) (Q : Int32 → XS → Prop) (S : XS) (x0 : Option Nat) (x1 : Int32) (hC : COk C cX0_well RX0 (some .int) 1 34 2) (hX : XOk E C) (hA : cx_A C = xA S0 sz) (hQ : cx_Q C = MQ (cx_b C) (va_Qi Q (BX1 E S0 sz) (xA S0 sz)) (cx_a C) (cx_s C) (cx_MC C) (cx_MS C) (xA S0 sz)) (h : wx_X0_well Q S x0 x1) : GX E C S 0 0 0 [some (va_rf x0), some (.int x1)] [] := by
  refine g_aload_nR hC dX0_well_0 rfl ?_
  refine g_iconst (v := 0) hC dX0_well_1 (by decide) ?_
  obtain ⟨u1, eu1, h⟩ := h
  refine g_top1 eu1 ?_
  have hk2 := h.1
  refine gX_putI (C0 := RX0) (T := TX0) (ty0 := tyX0) (N := 15) (n := 0) (k := 12) (f := 12) hC hX dX0_well_2 q226 rfl in_X0 tyX0_ok nmX0 (by decide) (Or.inl rfl) rfl rfl rfl rfl rfl (by decide) (Or.inl (by decide)) hk2 ?_
  refine g_iload_n hC dX0_well_5 rfl ?_
  refine gX_iret rfl hC hA hQ dX0_well_6 h.2
theorem mx_X0_well (l : Launch) (E : XE) (Q : Int32 → XS → Prop) (S : XS) (x0 : Option Nat) (x1 : Int32) (h : wx_X0_well Q S x0 x1) : XMet E l yX0_well cX0_well 2 (some .int) ({ frames := 1, cells := 0, slots := 0, locals := 34 } : Room) [va_rf x0, .int x1] S (fun sz => va_Qi Q (BX1 E S sz) (xA S sz)) :=
  XMet_of (rm := ({ frames := 1, cells := 0, slots := 0, locals := 34 } : Room)) (by decide) (by simp [lg_sl, va_rf_cat, cat_i, cat_l]) (L0 := [some (va_rf x0), some (.int x1)]) (by simp [lx_pairs, lv_args, va_rf_cat, cat_i, cat_l, List.range_succ]) (fun sz C hC hX hl hnm hA hQ => bx_X0_well E C S sz Q S x0 x1 hC hX hA hQ h)
/-! X0_found -/
def wx_X0_found (Q : Int32 → XS → Prop) (S : XS) (x0 : Option Nat) (x1 : Option Nat) : Prop :=
  dr x1 (fun u1 => xKD S u1 = some 3 ∧ dr x0 (fun u3 => xKD S u3 = some 0 ∧ Q ((-1000010 : Int32) - (xFI (sFI S 12 u3 (xFI S 300 u1)) 300 u1)) (sFI S 12 u3 (xFI S 300 u1))))
theorem hx_X0_found : yX0_found.cls = RX0 ∧ yX0_found.cls ≠ "java/lang/invoke/MethodHandle" ∧ yX0_found.cls ≠ "java/lang/invoke/VarHandle" ∧ (parseMethodDescriptor yX0_found.desc).map (fun d => d.parameters.length) = some 1 := by decide +kernel
set_option maxHeartbeats 4000000 in
set_option maxRecDepth 100000 in
theorem bx_X0_found (E : XE) (C : Cx) (S0 : XS) (sz : Nat) (Q : Int32 → XS → Prop) (S : XS) (x0 : Option Nat) (x1 : Option Nat) (hC : COk C cX0_found RX0 (some .int) 1 34 2) (hX : XOk E C) (hA : cx_A C = xA S0 sz) (hQ : cx_Q C = MQ (cx_b C) (va_Qi Q (BX1 E S0 sz) (xA S0 sz)) (cx_a C) (cx_s C) (cx_MC C) (cx_MS C) (xA S0 sz)) (h : wx_X0_found Q S x0 x1) : GX E C S 0 0 0 [some (va_rf x0), some (va_rf x1)] [] := by
  refine g_aload_nR hC dX0_found_0 rfl ?_
  refine g_aload_nR hC dX0_found_1 rfl ?_
  obtain ⟨u1, eu1, h⟩ := h
  refine g_top0 eu1 ?_
  have hk2 := h.1
  refine gX_get (C0 := RX4) (T := TX4) (N := 7) (n := 3) (k := 6) (q := (300, false)) hC hX dX0_found_2 q327 rfl in_X4 (by decide) (Or.inl rfl) rfl (by decide) hk2 ?_
  show GX _ _ _ _ _ _ _ (.int (xFI S 300 u1) :: _)
  obtain ⟨u3, eu3, h⟩ := h.2
  refine g_top1 eu3 ?_
  have hk4 := h.1
  refine gX_putI (C0 := RX0) (T := TX0) (ty0 := tyX0) (N := 15) (n := 0) (k := 12) (f := 12) hC hX dX0_found_5 q226 rfl in_X0 tyX0_ok nmX0 (by decide) (Or.inl rfl) rfl rfl rfl rfl rfl (by decide) (Or.inl (by decide)) hk4 ?_
  refine g_ldc (v := -1000010) hC dX0_found_8 q365 ?_
  refine g_aload_nR hC dX0_found_10 rfl ?_
  refine g_top0 eu1 ?_
  refine gX_get (C0 := RX4) (T := TX4) (N := 7) (n := 3) (k := 6) (q := (300, false)) hC hX dX0_found_11 q327 rfl in_X4 (by decide) (Or.inl rfl) rfl (by decide) hk2 ?_
  show GX _ _ _ _ _ _ _ (.int (xFI (sFI S 12 u3 (xFI S 300 u1)) 300 u1) :: _)
  refine g_isub hC dX0_found_14 ?_
  refine gX_iret rfl hC hA hQ dX0_found_15 h.2
theorem mx_X0_found (l : Launch) (E : XE) (Q : Int32 → XS → Prop) (S : XS) (x0 : Option Nat) (x1 : Option Nat) (h : wx_X0_found Q S x0 x1) : XMet E l yX0_found cX0_found 2 (some .int) ({ frames := 1, cells := 0, slots := 0, locals := 34 } : Room) [va_rf x0, va_rf x1] S (fun sz => va_Qi Q (BX1 E S sz) (xA S sz)) :=
  XMet_of (rm := ({ frames := 1, cells := 0, slots := 0, locals := 34 } : Room)) (by decide) (by simp [lg_sl, va_rf_cat, cat_i, cat_l]) (L0 := [some (va_rf x0), some (va_rf x1)]) (by simp [lx_pairs, lv_args, va_rf_cat, cat_i, cat_l, List.range_succ]) (fun sz C hC hX hl hnm hA hQ => bx_X0_found E C S sz Q S x0 x1 hC hX hA hQ h)
/-! X0_sheet -/
def wx_X0_sheet_37 (Q : Int32 → XS → Prop) (mc ms : Nat) (S : XS) (a0 : Option Nat) (a1 : Int32) (a2 : Int32) (a3 : Int32) (s0 : Int32) : Prop :=
  (∃ k5 n6, k5 ≤ mc ∧ n6 ≤ ms ∧ wx_X0_must (fun S14 => dr a0 (fun u16 => xKD S14 u16 = some 0 ∧ 1 ≤ (mc - k5) ∧ 2 ≤ (ms - n6) ∧ (∀ q18 : Nat, xKD S14 q18 = none → (∃ k22 n23, k22 ≤ ((mc - k5) - 1) ∧ n23 ≤ ((ms - n6) - 2) ∧ wx_X5_init (fun S24 => dr (xFR S14 0 u16) (fun u26 => xKD S24 u26 = some 105 ∧ xRO S24 u26 = false ∧ vp_in a1 (xLN S24 u26) ∧ xKD S24 q18 = some 4 ∧ xKD (sAR S24 u26 (Int32.toNatClampNeg a1) (some q18)) u16 = some 0 ∧ wx_X0_well (fun r31 S30 => Q r31 S30) (sAR S24 u26 (Int32.toNatClampNeg a1) (some q18)) (some u16) a3)) k22 n23 (sNew S14 q18 4) (some q18) a2 a3)))) (fun q7 S8 => dr a0 (fun u10 => xKD S8 u10 = some 0 ∧ wx_X0_found (fun r13 S12 => Q r13 S12) S8 (some u10) (some q7))) k5 n6 S s0 (4 : Int32))
def wx_X0_sheet (Q : Int32 → XS → Prop) (mc ms : Nat) (S : XS) (x0 : Option Nat) (x1 : Int32) (x2 : Int32) (x3 : Int32) : Prop :=
  wx_X0_isSheet (fun r2 S1 => (if r2 = 0 then Q (-1000001 : Int32) S1 else wx_X0_isIn (fun r4 S3 => (if r4 = 0 then Q (-1000001 : Int32) S3 else (if x3 ≤ (60 : Int32) then (if x3 < 0 then wx_X0_sheet_37 Q mc ms S3 x0 x1 x2 x3 (0 : Int32) else wx_X0_sheet_37 Q mc ms S3 x0 x1 x2 x3 (1 : Int32)) else Q (-1000001 : Int32) S3))) S1 (Int32.toInt64 x2) (0 : Int64) (2 : Int64))) S x1
theorem hx_X0_sheet : yX0_sheet.cls = RX0 ∧ yX0_sheet.cls ≠ "java/lang/invoke/MethodHandle" ∧ yX0_sheet.cls ≠ "java/lang/invoke/VarHandle" ∧ (parseMethodDescriptor yX0_sheet.desc).map (fun d => d.parameters.length) = some 3 := by decide +kernel
set_option maxHeartbeats 4000000 in
set_option maxRecDepth 100000 in
theorem bx_X0_sheet (E : XE) (C : Cx) (S0 : XS) (sz : Nat) (Q : Int32 → XS → Prop) (mc ms : Nat) (S : XS) (x0 : Option Nat) (x1 : Int32) (x2 : Int32) (x3 : Int32) (hC : COk C cX0_sheet RX0 (some .int) 5 124 5) (hX : XOk E C) (hT : (cx_c C).exceptionTable.toList = tableOf [(28, 61, 62, 130)]) (hA : cx_A C = xA S0 sz) (hQ : cx_Q C = MQ (cx_b C) (va_Qi Q (BX1 E S0 sz) (xA S0 sz)) (cx_a C) (cx_s C) (cx_MC C) (cx_MS C) (xA S0 sz)) (h : wx_X0_sheet Q mc ms S x0 x1 x2 x3) : GX E C S mc ms 0 [some (va_rf x0), some (.int x1), some (.int x2), some (.int x3), none] [] := by
  have s_37 : ∀ (mc ms : Nat) (S : XS) (a0 : Option Nat) (a1 : Int32) (a2 : Int32) (a3 : Int32) (s0 : Int32), wx_X0_sheet_37 Q  mc ms S a0 a1 a2 a3 s0 → GX E C S mc ms 37 [some (va_rf a0), some (.int a1), some (.int a2), some (.int a3), none] [.int s0] := by
    intro  mc ms S a0 a1 a2 a3 s0 h
    refine g_iconst (v := 4) hC dX0_sheet_37 (by decide) ?_
    obtain ⟨k5, n6, hk5, hn6, h⟩ := h
    refine gX_xv hX (gX_xrunS (As := [.int s0, .int (4 : Int32)]) (rest := []) hC hX (mx_X0_must (cx_l C) E k5 n6 _ _ _ _ _ h) (lw_S q274 q275 q70 q276) hx_X0_must.2 rfl rfl (Or.inl (Nat.le_of_ble_eq_true rfl)) ⟨Nat.le_of_ble_eq_true rfl, Nat.le_of_ble_eq_true rfl⟩ dX0_sheet_38 hk5 hn6) hk5 hn6 (fun q7 S8 h hk9 => ?_) ?_
    · refine gT_catch (r := (RX4, TX4, 7)) (name := "VillageHalls$Finding") hC hX hT [] (28, 61, 62, 130) [] rfl (by decide) (by decide) (by decide) q264 q278 hk9 rfl (by decide) ?_
      refine g_astoreR hC dX0_sheet_62 (by decide) rfl rfl ?_
      refine g_sub [true, false, false, false, true] rfl ?_
      refine g_aload_nR hC dX0_sheet_64 rfl ?_
      refine g_aloadR hC dX0_sheet_65 rfl ?_
      obtain ⟨u10, eu10, h⟩ := h
      refine g_top1 eu10 ?_
      have hk11 := h.1
      refine gX_ni hX (gX_runV (As := [va_rf (some q7)]) (rest := []) (Cr := RX0) hC hX (mx_X0_found (cx_l C) E _ _ _ _ h.2) (lw_V q361 q363 qs2 q70 q364) hx_X0_found rfl rfl (Or.inl (Nat.le_of_ble_eq_true rfl)) ⟨Nat.le_of_ble_eq_true rfl, Nat.le_of_ble_eq_true rfl⟩ dX0_sheet_67 (Nat.zero_le _) (Nat.zero_le _) hk11 rfl (by decide) rfl) rfl rfl ?_
      intro r13 S12 h
      refine gX_iret rfl hC hA hQ dX0_sheet_70 h
    intro S14 h
    refine g_aload_nR hC dX0_sheet_41 rfl ?_
    obtain ⟨u16, eu16, h⟩ := h
    refine g_top0 eu16 ?_
    have hk17 := h.1
    refine gX_get (C0 := RX0) (T := TX0) (N := 15) (n := 0) (k := 0) (q := (0, true)) hC hX dX0_sheet_42 q208 rfl in_X0 (by decide) (Or.inl rfl) rfl (by decide) hk17 ?_
    show GX _ _ _ _ _ _ _ (va_rf (xFR S14 0 u16) :: _)
    refine g_iload_n hC dX0_sheet_45 rfl ?_
    refine gX_new (C0 := RX5) (T := TX5) (ty0 := tyX5) (N := 2) (n := 4) hC hX dX0_sheet_46 q117 q343 q80 rfl in_X5 tyX5_ok (by decide) dv_X5 h.2.1 h.2.2.1 ?_
    intro q18 hq19
    have h := h.2.2.2 q18 hq19
    have hk20 := kd_new (q := q18) (n := 4) hk17 hq19
    have hk21 : xKD (sNew S14 q18 4) q18 = some 4 := kd_self
    refine g_dup hC dX0_sheet_49 (va_rf_cat _) ?_
    refine g_iload_n hC dX0_sheet_50 rfl ?_
    refine g_iload_n hC dX0_sheet_51 rfl ?_
    obtain ⟨k22, n23, hk22, hn23, h⟩ := h
    refine gX_cv hX (gX_runI (As := [.int a2, .int a3]) (rest := [va_rf (some q18), .int a1, va_rf (xFR S14 0 u16)]) hC hX (mx_X5_init (cx_l C) E k22 n23 _ _ _ _ _ h) q346 q80 q344 q345 rfl hx_X5_init.2 rfl rfl (Or.inl (Nat.le_of_ble_eq_true rfl)) ⟨Nat.le_of_ble_eq_true rfl, Nat.le_of_ble_eq_true rfl⟩ dX0_sheet_52 hk22 hn23) hk22 hn23 ?_
    intro S24 h
    obtain ⟨u26, eu26, h⟩ := h
    refine g_top2 eu26 ?_
    have hk27 := h.1
    have hk28 := h.2.2.2.1
    refine gX_aast (n := 105) (nv := 4) hC hX dX0_sheet_55 (by decide) hk27 h.2.1 h.2.2.1 hk28 rfl (by decide) rfl ?_
    refine g_aload_nR hC dX0_sheet_56 rfl ?_
    refine g_iload_n hC dX0_sheet_57 rfl ?_
    refine g_top1 eu16 ?_
    have hk29 := h.2.2.2.2.1
    refine gX_ni hX (gX_runV (As := [.int a3]) (rest := []) (Cr := RX0) hC hX (mx_X0_well (cx_l C) E _ _ _ _ h.2.2.2.2.2) (lw_V q357 q359 qs1 q70 q360) hx_X0_well rfl rfl (Or.inl (Nat.le_of_ble_eq_true rfl)) ⟨Nat.le_of_ble_eq_true rfl, Nat.le_of_ble_eq_true rfl⟩ dX0_sheet_58 (Nat.zero_le _) (Nat.zero_le _) hk29 rfl (by decide) rfl) rfl rfl ?_
    intro r31 S30 h
    refine gX_iret rfl hC hA hQ dX0_sheet_61 h
  refine g_iload_n hC dX0_sheet_0 rfl ?_
  refine gX_ni hX (gX_runS (As := [.int x1]) (rest := []) hC hX (mx_X0_isSheet (cx_l C) E _ _ _ h) (lw_S q265 q266 q70 q267) hx_X0_isSheet.2 rfl rfl (Or.inl (Nat.le_of_ble_eq_true rfl)) ⟨Nat.le_of_ble_eq_true rfl, Nat.le_of_ble_eq_true rfl⟩ dX0_sheet_1 (Nat.zero_le _) (Nat.zero_le _)) rfl rfl ?_
  intro r2 S1 h
  refine g_if_eq (tgt := 25) hC dX0_sheet_4 (by decide) (fun c => ?_) (fun c => ?_)
  · have h := it_p c h
    refine g_ldc (v := -1000001) hC dX0_sheet_25 q273 ?_
    refine gX_iret rfl hC hA hQ dX0_sheet_27 h
  · have h := it_n c h
    refine g_iload_n hC dX0_sheet_7 rfl ?_
    refine g_i2l hC dX0_sheet_8 ?_
    refine g_lconst (v := 0) hC dX0_sheet_9 (by decide) ?_
    refine g_ldc2 (v := 2) hC dX0_sheet_10 q272 ?_
    refine gX_ni hX (gX_runS (As := [.long (Int32.toInt64 x2), .long (0 : Int64), .long (2 : Int64)]) (rest := []) hC hX (mx_X0_isIn (cx_l C) E _ _ _ _ _ h) (lw_S q269 q270 q70 q271) hx_X0_isIn.2 rfl rfl (Or.inl (Nat.le_of_ble_eq_true rfl)) ⟨Nat.le_of_ble_eq_true rfl, Nat.le_of_ble_eq_true rfl⟩ dX0_sheet_13 (Nat.zero_le _) (Nat.zero_le _)) rfl rfl ?_
    intro r4 S3 h
    refine g_if_eq (tgt := 25) hC dX0_sheet_16 (by decide) (fun c => ?_) (fun c => ?_)
    · have h := it_p c h
      refine g_ldc (v := -1000001) hC dX0_sheet_25 q273 ?_
      refine gX_iret rfl hC hA hQ dX0_sheet_27 h
    · have h := it_n c h
      refine g_iload_n hC dX0_sheet_19 rfl ?_
      refine g_bipush (v := 60) hC dX0_sheet_20 (by decide) ?_
      refine g_icmp_le (tgt := 28) hC dX0_sheet_22 (by decide) (fun c => ?_) (fun c => ?_)
      · have h := it_p c h
        refine g_iload_n hC dX0_sheet_28 rfl ?_
        refine g_if_lt (tgt := 36) hC dX0_sheet_29 (by decide) (fun c => ?_) (fun c => ?_)
        · have h := it_p c h
          refine g_iconst (v := 0) hC dX0_sheet_36 (by decide) ?_
          exact s_37 mc ms S3 x0 x1 x2 x3 (0 : Int32) h
        · have h := it_n c h
          refine g_iconst (v := 1) hC dX0_sheet_32 (by decide) ?_
          refine g_goto (tgt := 37) hC dX0_sheet_33 (by decide) ?_
          exact s_37 mc ms S3 x0 x1 x2 x3 (1 : Int32) h
      · have h := it_n c h
        refine g_ldc (v := -1000001) hC dX0_sheet_25 q273 ?_
        refine gX_iret rfl hC hA hQ dX0_sheet_27 h
theorem mx_X0_sheet (l : Launch) (E : XE) (mc ms : Nat) (Q : Int32 → XS → Prop) (S : XS) (x0 : Option Nat) (x1 : Int32) (x2 : Int32) (x3 : Int32) (h : wx_X0_sheet Q mc ms S x0 x1 x2 x3) : XMetW E l yX0_sheet cX0_sheet 5 (some .int) [(28, 61, 62, 130)] ({ frames := 5, cells := mc, slots := ms, locals := 124 } : Room) [va_rf x0, .int x1, .int x2, .int x3] S (fun sz => va_Qi Q (BX1 E S sz) (xA S sz)) :=
  XMetW_of (rm := ({ frames := 5, cells := mc, slots := ms, locals := 124 } : Room)) (by decide) (by simp [lg_sl, va_rf_cat, cat_i, cat_l]) (L0 := [some (va_rf x0), some (.int x1), some (.int x2), some (.int x3), none]) (by simp [lx_pairs, lv_args, va_rf_cat, cat_i, cat_l, List.range_succ]) (fun sz C hC hX hl hnm hT hA hQ => bx_X0_sheet E C S sz Q mc ms S x0 x1 x2 x3 hC hX hT hA hQ h)
/-! X0_sheetAt -/
def wx_X0_sheetAt_14 (Q : Option Nat → XS → Prop) (X : Nat → XS → Prop) (mc ms : Nat) (S : XS) (a0 : Option Nat) (a1 : Int32) (s0 : Int32) : Prop :=
  (∃ k5 n6, k5 ≤ mc ∧ n6 ≤ ms ∧ wx_X0_must (fun S10 => dr a0 (fun u12 => xKD S10 u12 = some 0 ∧ dr (xFR S10 0 u12) (fun u14 => xKD S10 u14 = some 105 ∧ vp_in a1 (xLN S10 u14) ∧ Q (xAR S10 u14 (Int32.toNatClampNeg a1)) S10))) (fun q7 S8 => X q7 S8) k5 n6 S s0 (1 : Int32))
def wx_X0_sheetAt (Q : Option Nat → XS → Prop) (X : Nat → XS → Prop) (mc ms : Nat) (S : XS) (x0 : Option Nat) (x1 : Int32) : Prop :=
  dr x0 (fun u1 => xKD S u1 = some 0 ∧ dr (xFR S 0 u1) (fun u3 => xKD S u3 = some 105 ∧ vp_in x1 (xLN S u3) ∧ (if (xAR S u3 (Int32.toNatClampNeg x1)) = none then wx_X0_sheetAt_14 Q X mc ms S x0 x1 (0 : Int32) else wx_X0_sheetAt_14 Q X mc ms S x0 x1 (1 : Int32))))
theorem hx_X0_sheetAt : yX0_sheetAt.cls = RX0 ∧ yX0_sheetAt.cls ≠ "java/lang/invoke/MethodHandle" ∧ yX0_sheetAt.cls ≠ "java/lang/invoke/VarHandle" ∧ (parseMethodDescriptor yX0_sheetAt.desc).map (fun d => d.parameters.length) = some 1 := by decide +kernel
set_option maxHeartbeats 4000000 in
set_option maxRecDepth 100000 in
theorem bx_X0_sheetAt (E : XE) (C : Cx) (S0 : XS) (sz : Nat) (Q : Option Nat → XS → Prop) (X : Nat → XS → Prop) (mc ms : Nat) (S : XS) (x0 : Option Nat) (x1 : Int32) (hC : COk C cX0_sheetAt RX0 (some (.object "VillageHalls$Sheet")) 5 124 2) (hX : XOk E C) (hT : ∀ x ∈ (cx_c C).exceptionTable.toList, False) (hA : cx_A C = xA S0 sz) (hQ : cx_Q C = vx_MQ (cx_b C) (va_Qq Q (BX1 E S0 sz) (xA S0 sz)) (XC0 E S0 sz RX4 3 X) (cx_a C) (cx_s C) (cx_MC C) (cx_MS C) (xA S0 sz)) (h : wx_X0_sheetAt Q X mc ms S x0 x1) : GX E C S mc ms 0 [some (va_rf x0), some (.int x1)] [] := by
  have s_14 : ∀ (mc ms : Nat) (S : XS) (a0 : Option Nat) (a1 : Int32) (s0 : Int32), wx_X0_sheetAt_14 Q X  mc ms S a0 a1 s0 → GX E C S mc ms 14 [some (va_rf a0), some (.int a1)] [.int s0] := by
    intro  mc ms S a0 a1 s0 h
    refine g_iconst (v := 1) hC dX0_sheetAt_14 (by decide) ?_
    obtain ⟨k5, n6, hk5, hn6, h⟩ := h
    refine gX_xv hX (gX_xrunS (As := [.int s0, .int (1 : Int32)]) (rest := []) hC hX (mx_X0_must (cx_l C) E k5 n6 _ _ _ _ _ h) (lw_S q274 q275 q70 q276) hx_X0_must.2 rfl rfl (Or.inl (Nat.le_of_ble_eq_true rfl)) ⟨Nat.le_of_ble_eq_true rfl, Nat.le_of_ble_eq_true rfl⟩ dX0_sheetAt_15 hk5 hn6) hk5 hn6 (fun q7 S8 h hk9 => ?_) ?_
    · exact gT_out (r := (RX4, TX4, 7)) hC hX hT hA hQ hk9 rfl (by decide) h
    intro S10 h
    refine g_aload_nR hC dX0_sheetAt_18 rfl ?_
    obtain ⟨u12, eu12, h⟩ := h
    refine g_top0 eu12 ?_
    have hk13 := h.1
    refine gX_get (C0 := RX0) (T := TX0) (N := 15) (n := 0) (k := 0) (q := (0, true)) hC hX dX0_sheetAt_19 q208 rfl in_X0 (by decide) (Or.inl rfl) rfl (by decide) hk13 ?_
    show GX _ _ _ _ _ _ _ (va_rf (xFR S10 0 u12) :: _)
    refine g_iload_n hC dX0_sheetAt_22 rfl ?_
    obtain ⟨u14, eu14, h⟩ := h.2
    refine g_top1 eu14 ?_
    have hk15 := h.1
    refine gX_aald (n := 105) hC hX dX0_sheetAt_23 (by decide) hk15 h.2.1 ?_
    refine gX_end hQ (gX_aret (C := cx_to C _) hC hA rfl rfl (Or.inl ⟨_, rfl⟩) dX0_sheetAt_24 h.2.2)
  refine g_aload_nR hC dX0_sheetAt_0 rfl ?_
  obtain ⟨u1, eu1, h⟩ := h
  refine g_top0 eu1 ?_
  have hk2 := h.1
  refine gX_get (C0 := RX0) (T := TX0) (N := 15) (n := 0) (k := 0) (q := (0, true)) hC hX dX0_sheetAt_1 q208 rfl in_X0 (by decide) (Or.inl rfl) rfl (by decide) hk2 ?_
  show GX _ _ _ _ _ _ _ (va_rf (xFR S 0 u1) :: _)
  refine g_iload_n hC dX0_sheetAt_4 rfl ?_
  obtain ⟨u3, eu3, h⟩ := h.2
  refine g_top1 eu3 ?_
  have hk4 := h.1
  refine gX_aald (n := 105) hC hX dX0_sheetAt_5 (by decide) hk4 h.2.1 ?_
  refine g_ifnullR (tgt := 13) hC dX0_sheetAt_6 (by decide) (fun c => ?_) (fun c => ?_)
  · have h := it_p c h.2.2
    refine g_iconst (v := 0) hC dX0_sheetAt_13 (by decide) ?_
    exact s_14 mc ms S x0 x1 (0 : Int32) h
  · have h := it_n c h.2.2
    refine g_iconst (v := 1) hC dX0_sheetAt_9 (by decide) ?_
    refine g_goto (tgt := 14) hC dX0_sheetAt_10 (by decide) ?_
    exact s_14 mc ms S x0 x1 (1 : Int32) h
theorem mx_X0_sheetAt (l : Launch) (E : XE) (mc ms : Nat) (Q : Option Nat → XS → Prop) (X : Nat → XS → Prop) (S : XS) (x0 : Option Nat) (x1 : Int32) (h : wx_X0_sheetAt Q X mc ms S x0 x1) : XMetX E l yX0_sheetAt cX0_sheetAt 2 (some (.object "VillageHalls$Sheet")) ({ frames := 5, cells := mc, slots := ms, locals := 124 } : Room) [va_rf x0, .int x1] S (fun sz => va_Qq Q (BX1 E S sz) (xA S sz)) RX4 3 X :=
  XMetX_of (rm := ({ frames := 5, cells := mc, slots := ms, locals := 124 } : Room)) (by decide) (by simp [lg_sl, va_rf_cat, cat_i, cat_l]) (L0 := [some (va_rf x0), some (.int x1)]) (by simp [lx_pairs, lv_args, va_rf_cat, cat_i, cat_l, List.range_succ]) (fun sz C hC hX hl hnm hT hA hQ => bx_X0_sheetAt E C S sz Q X mc ms S x0 x1 hC hX hT hA hQ h)
/-! X5_cut -/
def wx_X5_cut (Q : Int32 → XS → Prop) (S : XS) (x0 : Option Nat) (x1 : Int32) : Prop :=
  dr x0 (fun u1 => xKD S u1 = some 4 ∧ (if (xFI S 400 u1) = 0 then Q (Int8.toInt32 (Int32.toInt8 x1)) S else (if (xFI S 400 u1) = (1 : Int32) then Q (Int16.toInt32 (Int32.toInt16 x1)) S else Q x1 S)))
theorem hx_X5_cut : yX5_cut.cls = RX5 ∧ yX5_cut.cls ≠ "java/lang/invoke/MethodHandle" ∧ yX5_cut.cls ≠ "java/lang/invoke/VarHandle" ∧ (parseMethodDescriptor yX5_cut.desc).map (fun d => d.parameters.length) = some 1 := by decide +kernel
set_option maxHeartbeats 4000000 in
set_option maxRecDepth 100000 in
theorem bx_X5_cut (E : XE) (C : Cx) (S0 : XS) (sz : Nat) (Q : Int32 → XS → Prop) (S : XS) (x0 : Option Nat) (x1 : Int32) (hC : COk C cX5_cut RX5 (some .int) 1 34 2) (hX : XOk E C) (hA : cx_A C = xA S0 sz) (hQ : cx_Q C = MQ (cx_b C) (va_Qi Q (BX1 E S0 sz) (xA S0 sz)) (cx_a C) (cx_s C) (cx_MC C) (cx_MS C) (xA S0 sz)) (h : wx_X5_cut Q S x0 x1) : GX E C S 0 0 0 [some (va_rf x0), some (.int x1)] [] := by
  refine g_aload_nR hC dX5_cut_0 rfl ?_
  obtain ⟨u1, eu1, h⟩ := h
  refine g_top0 eu1 ?_
  have hk2 := h.1
  refine gX_get (C0 := RX5) (T := TX5) (N := 2) (n := 4) (k := 0) (q := (400, false)) hC hX dX5_cut_1 q348 rfl in_X5 (by decide) (Or.inl rfl) rfl (by decide) hk2 ?_
  show GX _ _ _ _ _ _ _ (.int (xFI S 400 u1) :: _)
  refine g_if_ne (tgt := 12) hC dX5_cut_4 (by decide) (fun c => ?_) (fun c => ?_)
  · have h := it_n c h.2
    refine g_aload_nR hC dX5_cut_12 rfl ?_
    refine g_top0 eu1 ?_
    refine gX_get (C0 := RX5) (T := TX5) (N := 2) (n := 4) (k := 0) (q := (400, false)) hC hX dX5_cut_13 q348 rfl in_X5 (by decide) (Or.inl rfl) rfl (by decide) hk2 ?_
    show GX _ _ _ _ _ _ _ (.int (xFI S 400 u1) :: _)
    refine g_iconst (v := 1) hC dX5_cut_16 (by decide) ?_
    refine g_icmp_ne (tgt := 25) hC dX5_cut_17 (by decide) (fun c => ?_) (fun c => ?_)
    · have h := it_n c h
      refine g_iload_n hC dX5_cut_25 rfl ?_
      refine gX_iret rfl hC hA hQ dX5_cut_26 h
    · have h := it_p c h
      refine g_iload_n hC dX5_cut_20 rfl ?_
      refine g_i2s hC dX5_cut_21 ?_
      refine g_goto (tgt := 26) hC dX5_cut_22 (by decide) ?_
      refine gX_iret rfl hC hA hQ dX5_cut_26 h
  · have h := it_p c h.2
    refine g_iload_n hC dX5_cut_7 rfl ?_
    refine g_i2b hC dX5_cut_8 ?_
    refine g_goto (tgt := 26) hC dX5_cut_9 (by decide) ?_
    refine gX_iret rfl hC hA hQ dX5_cut_26 h
theorem mx_X5_cut (l : Launch) (E : XE) (Q : Int32 → XS → Prop) (S : XS) (x0 : Option Nat) (x1 : Int32) (h : wx_X5_cut Q S x0 x1) : XMet E l yX5_cut cX5_cut 2 (some .int) ({ frames := 1, cells := 0, slots := 0, locals := 34 } : Room) [va_rf x0, .int x1] S (fun sz => va_Qi Q (BX1 E S sz) (xA S sz)) :=
  XMet_of (rm := ({ frames := 1, cells := 0, slots := 0, locals := 34 } : Room)) (by decide) (by simp [lg_sl, va_rf_cat, cat_i, cat_l]) (L0 := [some (va_rf x0), some (.int x1)]) (by simp [lx_pairs, lv_args, va_rf_cat, cat_i, cat_l, List.range_succ]) (fun sz C hC hX hl hnm hA hQ => bx_X5_cut E C S sz Q S x0 x1 hC hX hA hQ h)
/-! X0_set -/
def wx_X0_set_61 (Q : Int32 → XS → Prop) (mc ms : Nat) (S : XS) (a0 : Option Nat) (s0 : Option Nat) : Prop :=
  dr a0 (fun u10 => xKD S u10 = some 0 ∧ wx_X0_found (fun r13 S12 => Q r13 S12) S (some u10) s0)
def wx_X0_set (Q : Int32 → XS → Prop) (mc ms : Nat) (S : XS) (x0 : Option Nat) (x1 : Int32) (x2 : Int32) (x3 : Int32) : Prop :=
  wx_X0_isSheet (fun r2 S1 => (if r2 = 0 then Q (-1000001 : Int32) S1 else dr x0 (fun u3 => xKD S1 u3 = some 0 ∧ (∃ k5 n6, k5 ≤ mc ∧ n6 ≤ ms ∧ wx_X0_sheetAt (fun r15 S14 => dr r15 (fun u16 => xKD S14 u16 = some 4 ∧ dr (xFR S14 401 u16) (fun u18 => xKD S14 u18 = some 100 ∧ wx_X0_isIn (fun r21 S20 => (∃ k22 n23, k22 ≤ (mc - k5) ∧ n23 ≤ (ms - n6) ∧ wx_X0_must (fun S27 => xKD S27 u16 = some 4 ∧ wx_X5_cut (fun r31 S30 => dr (xFR S27 401 u16) (fun u32 => xKD S30 u32 = some 100 ∧ vp_in x2 (xLN S30 u32) ∧ xKD (sAI S30 u32 (Int32.toNatClampNeg x2) r31) u16 = some 4 ∧ dr (xFR (sAI S30 u32 (Int32.toNatClampNeg x2) r31) 401 u16) (fun u35 => xKD (sAI S30 u32 (Int32.toNatClampNeg x2) r31) u35 = some 100 ∧ vp_in x2 (xLN (sAI S30 u32 (Int32.toNatClampNeg x2) r31) u35) ∧ xKD (sAI S30 u32 (Int32.toNatClampNeg x2) r31) u3 = some 0 ∧ wx_X0_well (fun r39 S38 => Q r39 S38) (sAI S30 u32 (Int32.toNatClampNeg x2) r31) (some u3) (xAI (sAI S30 u32 (Int32.toNatClampNeg x2) r31) u35 (Int32.toNatClampNeg x2))))) S27 (some u16) x3) (fun q24 S25 => wx_X0_set_61 Q ((mc - k5) - k22) ((ms - n6) - n23) S25 x0 (some q24)) k22 n23 S20 r21 (2 : Int32))) S14 (Int32.toInt64 x2) (0 : Int64) (Int32.toInt64 ((Int32.ofNat (xLN S14 u18)) - (1 : Int32)))))) (fun q7 S8 => wx_X0_set_61 Q (mc - k5) (ms - n6) S8 x0 (some q7)) k5 n6 S1 (some u3) x1)))) S x1
theorem hx_X0_set : yX0_set.cls = RX0 ∧ yX0_set.cls ≠ "java/lang/invoke/MethodHandle" ∧ yX0_set.cls ≠ "java/lang/invoke/VarHandle" ∧ (parseMethodDescriptor yX0_set.desc).map (fun d => d.parameters.length) = some 3 := by decide +kernel
set_option maxHeartbeats 4000000 in
set_option maxRecDepth 100000 in
theorem bx_X0_set (E : XE) (C : Cx) (S0 : XS) (sz : Nat) (Q : Int32 → XS → Prop) (mc ms : Nat) (S : XS) (x0 : Option Nat) (x1 : Int32) (x2 : Int32) (x3 : Int32) (hC : COk C cX0_set RX0 (some .int) 6 145 5) (hX : XOk E C) (hT : (cx_c C).exceptionTable.toList = tableOf [(10, 60, 61, 130)]) (hA : cx_A C = xA S0 sz) (hQ : cx_Q C = MQ (cx_b C) (va_Qi Q (BX1 E S0 sz) (xA S0 sz)) (cx_a C) (cx_s C) (cx_MC C) (cx_MS C) (xA S0 sz)) (h : wx_X0_set Q mc ms S x0 x1 x2 x3) : GX E C S mc ms 0 [some (va_rf x0), some (.int x1), some (.int x2), some (.int x3), none] [] := by
  have s_61 : ∀ (mc ms : Nat) (S : XS) (a0 : Option Nat) (s0 : Option Nat), wx_X0_set_61 Q  mc ms S a0 s0 → GX E C S mc ms 61 [some (va_rf a0), none, none, none, none] [va_rf s0] := by
    intro  mc ms S a0 s0 h
    refine g_astoreR hC dX0_set_61 (by decide) rfl rfl ?_
    refine g_aload_nR hC dX0_set_63 rfl ?_
    refine g_aloadR hC dX0_set_64 rfl ?_
    obtain ⟨u10, eu10, h⟩ := h
    refine g_top1 eu10 ?_
    have hk11 := h.1
    refine gX_ni hX (gX_runV (As := [va_rf s0]) (rest := []) (Cr := RX0) hC hX (mx_X0_found (cx_l C) E _ _ _ _ h.2) (lw_V q361 q363 qs2 q70 q364) hx_X0_found rfl rfl (Or.inl (Nat.le_of_ble_eq_true rfl)) ⟨Nat.le_of_ble_eq_true rfl, Nat.le_of_ble_eq_true rfl⟩ dX0_set_66 (Nat.zero_le _) (Nat.zero_le _) hk11 rfl (by decide) rfl) rfl rfl ?_
    intro r13 S12 h
    refine gX_iret rfl hC hA hQ dX0_set_69 h
  refine g_iload_n hC dX0_set_0 rfl ?_
  refine gX_ni hX (gX_runS (As := [.int x1]) (rest := []) hC hX (mx_X0_isSheet (cx_l C) E _ _ _ h) (lw_S q265 q266 q70 q267) hx_X0_isSheet.2 rfl rfl (Or.inl (Nat.le_of_ble_eq_true rfl)) ⟨Nat.le_of_ble_eq_true rfl, Nat.le_of_ble_eq_true rfl⟩ dX0_set_1 (Nat.zero_le _) (Nat.zero_le _)) rfl rfl ?_
  intro r2 S1 h
  refine g_if_ne (tgt := 10) hC dX0_set_4 (by decide) (fun c => ?_) (fun c => ?_)
  · have h := it_n c h
    refine g_aload_nR hC dX0_set_10 rfl ?_
    refine g_iload_n hC dX0_set_11 rfl ?_
    obtain ⟨u3, eu3, h⟩ := h
    refine g_top1 eu3 ?_
    have hk4 := h.1
    obtain ⟨k5, n6, hk5, hn6, h⟩ := h.2
    refine gX_xq hX (gX_xrunV (As := [.int x1]) (rest := []) (Cr := RX0) hC hX (mx_X0_sheetAt (cx_l C) E k5 n6 _ _ _ _ _ h) (lw_V q370 q372 qs3 q70 q373) hx_X0_sheetAt rfl rfl (Or.inl (Nat.le_of_ble_eq_true rfl)) ⟨Nat.le_of_ble_eq_true rfl, Nat.le_of_ble_eq_true rfl⟩ dX0_set_12 hk5 hn6 hk4 rfl (by decide) rfl) hk5 hn6 (fun q7 S8 h hk9 => ?_) ?_
    · refine gT_catch (r := (RX4, TX4, 7)) (name := "VillageHalls$Finding") hC hX hT [] (10, 60, 61, 130) [] rfl (by decide) (by decide) (by decide) q264 q278 hk9 rfl (by decide) ?_
      refine g_sub [true, false, false, false, false] rfl ?_
      exact s_61 (mc - k5) (ms - n6) S8 x0 (some q7) h
    intro r15 S14 h
    refine g_astoreR hC dX0_set_15 (by decide) rfl rfl ?_
    refine g_sub [true, false, true, true, true] rfl ?_
    refine g_iload_n hC dX0_set_17 rfl ?_
    refine g_i2l hC dX0_set_18 ?_
    refine g_lconst (v := 0) hC dX0_set_19 (by decide) ?_
    refine g_aloadR hC dX0_set_20 rfl ?_
    obtain ⟨u16, eu16, h⟩ := h
    refine g_top0 eu16 ?_
    have hk17 := h.1
    refine gX_get (C0 := RX5) (T := TX5) (N := 2) (n := 4) (k := 1) (q := (401, true)) hC hX dX0_set_22 q351 rfl in_X5 (by decide) (Or.inl rfl) rfl (by decide) hk17 ?_
    show GX _ _ _ _ _ _ _ (va_rf (xFR S14 401 u16) :: _)
    obtain ⟨u18, eu18, h⟩ := h.2
    refine g_top0 eu18 ?_
    have hk19 := h.1
    refine gX_alen (n := 100) hC hX dX0_set_25 (by decide) hk19 ?_
    refine g_iconst (v := 1) hC dX0_set_26 (by decide) ?_
    refine g_isub hC dX0_set_27 ?_
    refine g_i2l hC dX0_set_28 ?_
    refine gX_ni hX (gX_runS (As := [.long (Int32.toInt64 x2), .long (0 : Int64), .long (Int32.toInt64 ((Int32.ofNat (xLN S14 u18)) - (1 : Int32)))]) (rest := []) hC hX (mx_X0_isIn (cx_l C) E _ _ _ _ _ h.2) (lw_S q269 q270 q70 q271) hx_X0_isIn.2 rfl rfl (Or.inl (Nat.le_of_ble_eq_true rfl)) ⟨Nat.le_of_ble_eq_true rfl, Nat.le_of_ble_eq_true rfl⟩ dX0_set_29 (Nat.zero_le _) (Nat.zero_le _)) rfl rfl ?_
    intro r21 S20 h
    refine g_iconst (v := 2) hC dX0_set_32 (by decide) ?_
    obtain ⟨k22, n23, hk22, hn23, h⟩ := h
    refine gX_xv hX (gX_xrunS (As := [.int r21, .int (2 : Int32)]) (rest := []) hC hX (mx_X0_must (cx_l C) E k22 n23 _ _ _ _ _ h) (lw_S q274 q275 q70 q276) hx_X0_must.2 rfl rfl (Or.inl (Nat.le_of_ble_eq_true rfl)) ⟨Nat.le_of_ble_eq_true rfl, Nat.le_of_ble_eq_true rfl⟩ dX0_set_33 hk22 hn23) hk22 hn23 (fun q24 S25 h hk26 => ?_) ?_
    · refine gT_catch (r := (RX4, TX4, 7)) (name := "VillageHalls$Finding") hC hX hT [] (10, 60, 61, 130) [] rfl (by decide) (by decide) (by decide) q264 q278 hk26 rfl (by decide) ?_
      refine g_sub [true, false, false, false, false] rfl ?_
      exact s_61 ((mc - k5) - k22) ((ms - n6) - n23) S25 x0 (some q24) h
    intro S27 h
    refine g_aloadR hC dX0_set_36 rfl ?_
    refine g_top0 eu16 ?_
    have hk29 := h.1
    refine gX_get (C0 := RX5) (T := TX5) (N := 2) (n := 4) (k := 1) (q := (401, true)) hC hX dX0_set_38 q351 rfl in_X5 (by decide) (Or.inl rfl) rfl (by decide) hk29 ?_
    show GX _ _ _ _ _ _ _ (va_rf (xFR S27 401 u16) :: _)
    refine g_iload_n hC dX0_set_41 rfl ?_
    refine g_aloadR hC dX0_set_42 rfl ?_
    refine g_iload_n hC dX0_set_44 rfl ?_
    refine g_top1 eu16 ?_
    refine gX_ni hX (gX_runV (As := [.int x3]) (rest := [.int x2, va_rf (xFR S27 401 u16)]) (Cr := RX5) hC hX (mx_X5_cut (cx_l C) E _ _ _ _ h.2) (lw_V q374 q375 q376 q80 q377) hx_X5_cut rfl rfl (Or.inl (Nat.le_of_ble_eq_true rfl)) ⟨Nat.le_of_ble_eq_true rfl, Nat.le_of_ble_eq_true rfl⟩ dX0_set_45 (Nat.zero_le _) (Nat.zero_le _) hk29 rfl (by decide) rfl) rfl rfl ?_
    intro r31 S30 h
    obtain ⟨u32, eu32, h⟩ := h
    refine g_top2 eu32 ?_
    have hk33 := h.1
    refine gX_iast hC hX dX0_set_48 hk33 h.2.1 ?_
    refine g_aload_nR hC dX0_set_49 rfl ?_
    refine g_aloadR hC dX0_set_50 rfl ?_
    refine g_top0 eu16 ?_
    have hk34 := h.2.2.1
    refine gX_get (C0 := RX5) (T := TX5) (N := 2) (n := 4) (k := 1) (q := (401, true)) hC hX dX0_set_52 q351 rfl in_X5 (by decide) (Or.inl rfl) rfl (by decide) hk34 ?_
    show GX _ _ _ _ _ _ _ (va_rf (xFR (sAI S30 u32 (Int32.toNatClampNeg x2) r31) 401 u16) :: _)
    refine g_iload_n hC dX0_set_55 rfl ?_
    obtain ⟨u35, eu35, h⟩ := h.2.2.2
    refine g_top1 eu35 ?_
    have hk36 := h.1
    refine gX_iald hC hX dX0_set_56 hk36 h.2.1 ?_
    refine g_top1 eu3 ?_
    have hk37 := h.2.2.1
    refine gX_ni hX (gX_runV (As := [.int (xAI (sAI S30 u32 (Int32.toNatClampNeg x2) r31) u35 (Int32.toNatClampNeg x2))]) (rest := []) (Cr := RX0) hC hX (mx_X0_well (cx_l C) E _ _ _ _ h.2.2.2) (lw_V q357 q359 qs1 q70 q360) hx_X0_well rfl rfl (Or.inl (Nat.le_of_ble_eq_true rfl)) ⟨Nat.le_of_ble_eq_true rfl, Nat.le_of_ble_eq_true rfl⟩ dX0_set_57 (Nat.zero_le _) (Nat.zero_le _) hk37 rfl (by decide) rfl) rfl rfl ?_
    intro r39 S38 h
    refine gX_iret rfl hC hA hQ dX0_set_60 h
  · have h := it_p c h
    refine g_ldc (v := -1000001) hC dX0_set_7 q273 ?_
    refine gX_iret rfl hC hA hQ dX0_set_9 h
theorem mx_X0_set (l : Launch) (E : XE) (mc ms : Nat) (Q : Int32 → XS → Prop) (S : XS) (x0 : Option Nat) (x1 : Int32) (x2 : Int32) (x3 : Int32) (h : wx_X0_set Q mc ms S x0 x1 x2 x3) : XMetW E l yX0_set cX0_set 5 (some .int) [(10, 60, 61, 130)] ({ frames := 6, cells := mc, slots := ms, locals := 145 } : Room) [va_rf x0, .int x1, .int x2, .int x3] S (fun sz => va_Qi Q (BX1 E S sz) (xA S sz)) :=
  XMetW_of (rm := ({ frames := 6, cells := mc, slots := ms, locals := 145 } : Room)) (by decide) (by simp [lg_sl, va_rf_cat, cat_i, cat_l]) (L0 := [some (va_rf x0), some (.int x1), some (.int x2), some (.int x3), none]) (by simp [lx_pairs, lv_args, va_rf_cat, cat_i, cat_l, List.range_succ]) (fun sz C hC hX hl hnm hT hA hQ => bx_X0_set E C S sz Q mc ms S x0 x1 x2 x3 hC hX hT hA hQ h)
/-! X0_drop -/
def wx_X0_drop (Q : Int32 → XS → Prop) (mc ms : Nat) (S : XS) (x0 : Option Nat) (x1 : Int32) : Prop :=
  wx_X0_isSheet (fun r2 S1 => (if r2 = 0 then Q (-1000001 : Int32) S1 else dr x0 (fun u3 => xKD S1 u3 = some 0 ∧ (∃ k5 n6, k5 ≤ mc ∧ n6 ≤ ms ∧ wx_X0_sheetAt (fun r14 S13 => dr r14 (fun u15 => xKD S13 u15 = some 4 ∧ dr (xFR S13 401 u15) (fun u17 => xKD S13 u17 = some 100 ∧ xKD S13 u3 = some 0 ∧ dr (xFR S13 0 u3) (fun u20 => xKD S13 u20 = some 105 ∧ xRO S13 u20 = false ∧ vp_in x1 (xLN S13 u20) ∧ wx_X0_well (fun r23 S22 => Q r23 S22) (sAR S13 u20 (Int32.toNatClampNeg x1) none) (some u3) (Int32.ofNat (xLN S13 u17)))))) (fun q7 S8 => xKD S8 u3 = some 0 ∧ wx_X0_found (fun r12 S11 => Q r12 S11) S8 (some u3) (some q7)) k5 n6 S1 (some u3) x1)))) S x1
theorem hx_X0_drop : yX0_drop.cls = RX0 ∧ yX0_drop.cls ≠ "java/lang/invoke/MethodHandle" ∧ yX0_drop.cls ≠ "java/lang/invoke/VarHandle" ∧ (parseMethodDescriptor yX0_drop.desc).map (fun d => d.parameters.length) = some 1 := by decide +kernel
set_option maxHeartbeats 4000000 in
set_option maxRecDepth 100000 in
theorem bx_X0_drop (E : XE) (C : Cx) (S0 : XS) (sz : Nat) (Q : Int32 → XS → Prop) (mc ms : Nat) (S : XS) (x0 : Option Nat) (x1 : Int32) (hC : COk C cX0_drop RX0 (some .int) 6 145 3) (hX : XOk E C) (hT : (cx_c C).exceptionTable.toList = tableOf [(10, 32, 33, 130)]) (hA : cx_A C = xA S0 sz) (hQ : cx_Q C = MQ (cx_b C) (va_Qi Q (BX1 E S0 sz) (xA S0 sz)) (cx_a C) (cx_s C) (cx_MC C) (cx_MS C) (xA S0 sz)) (h : wx_X0_drop Q mc ms S x0 x1) : GX E C S mc ms 0 [some (va_rf x0), some (.int x1), none] [] := by
  refine g_iload_n hC dX0_drop_0 rfl ?_
  refine gX_ni hX (gX_runS (As := [.int x1]) (rest := []) hC hX (mx_X0_isSheet (cx_l C) E _ _ _ h) (lw_S q265 q266 q70 q267) hx_X0_isSheet.2 rfl rfl (Or.inl (Nat.le_of_ble_eq_true rfl)) ⟨Nat.le_of_ble_eq_true rfl, Nat.le_of_ble_eq_true rfl⟩ dX0_drop_1 (Nat.zero_le _) (Nat.zero_le _)) rfl rfl ?_
  intro r2 S1 h
  refine g_if_ne (tgt := 10) hC dX0_drop_4 (by decide) (fun c => ?_) (fun c => ?_)
  · have h := it_n c h
    refine g_aload_nR hC dX0_drop_10 rfl ?_
    refine g_iload_n hC dX0_drop_11 rfl ?_
    obtain ⟨u3, eu3, h⟩ := h
    refine g_top1 eu3 ?_
    have hk4 := h.1
    obtain ⟨k5, n6, hk5, hn6, h⟩ := h.2
    refine gX_xq hX (gX_xrunV (As := [.int x1]) (rest := []) (Cr := RX0) hC hX (mx_X0_sheetAt (cx_l C) E k5 n6 _ _ _ _ _ h) (lw_V q370 q372 qs3 q70 q373) hx_X0_sheetAt rfl rfl (Or.inl (Nat.le_of_ble_eq_true rfl)) ⟨Nat.le_of_ble_eq_true rfl, Nat.le_of_ble_eq_true rfl⟩ dX0_drop_12 hk5 hn6 hk4 rfl (by decide) rfl) hk5 hn6 (fun q7 S8 h hk9 => ?_) ?_
    · refine gT_catch (r := (RX4, TX4, 7)) (name := "VillageHalls$Finding") hC hX hT [] (10, 32, 33, 130) [] rfl (by decide) (by decide) (by decide) q264 q278 hk9 rfl (by decide) ?_
      refine g_astore_nR hC dX0_drop_33 rfl (by decide) rfl rfl ?_
      refine g_sub [true, false, true] rfl ?_
      refine g_aload_nR hC dX0_drop_34 rfl ?_
      refine g_aload_nR hC dX0_drop_35 rfl ?_
      refine g_top1 eu3 ?_
      have hk10 := h.1
      refine gX_ni hX (gX_runV (As := [va_rf (some q7)]) (rest := []) (Cr := RX0) hC hX (mx_X0_found (cx_l C) E _ _ _ _ h.2) (lw_V q361 q363 qs2 q70 q364) hx_X0_found rfl rfl (Or.inl (Nat.le_of_ble_eq_true rfl)) ⟨Nat.le_of_ble_eq_true rfl, Nat.le_of_ble_eq_true rfl⟩ dX0_drop_36 (Nat.zero_le _) (Nat.zero_le _) hk10 rfl (by decide) rfl) rfl rfl ?_
      intro r12 S11 h
      refine gX_iret rfl hC hA hQ dX0_drop_39 h
    intro r14 S13 h
    obtain ⟨u15, eu15, h⟩ := h
    refine g_top0 eu15 ?_
    have hk16 := h.1
    refine gX_get (C0 := RX5) (T := TX5) (N := 2) (n := 4) (k := 1) (q := (401, true)) hC hX dX0_drop_15 q351 rfl in_X5 (by decide) (Or.inl rfl) rfl (by decide) hk16 ?_
    show GX _ _ _ _ _ _ _ (va_rf (xFR S13 401 u15) :: _)
    obtain ⟨u17, eu17, h⟩ := h.2
    refine g_top0 eu17 ?_
    have hk18 := h.1
    refine gX_alen (n := 100) hC hX dX0_drop_18 (by decide) hk18 ?_
    refine g_istore_n hC dX0_drop_19 rfl (by decide) rfl rfl ?_
    refine g_aload_nR hC dX0_drop_20 rfl ?_
    refine g_top0 eu3 ?_
    have hk19 := h.2.1
    refine gX_get (C0 := RX0) (T := TX0) (N := 15) (n := 0) (k := 0) (q := (0, true)) hC hX dX0_drop_21 q208 rfl in_X0 (by decide) (Or.inl rfl) rfl (by decide) hk19 ?_
    show GX _ _ _ _ _ _ _ (va_rf (xFR S13 0 u3) :: _)
    refine g_iload_n hC dX0_drop_24 rfl ?_
    refine g_nullR hC dX0_drop_25 ?_
    obtain ⟨u20, eu20, h⟩ := h.2.2
    refine g_top2 eu20 ?_
    have hk21 := h.1
    refine gX_aastN (n := 105) hC hX dX0_drop_26 (by decide) hk21 h.2.1 h.2.2.1 ?_
    refine g_aload_nR hC dX0_drop_27 rfl ?_
    refine g_iload_n hC dX0_drop_28 rfl ?_
    refine g_top1 eu3 ?_
    refine gX_ni hX (gX_runV (As := [.int (Int32.ofNat (xLN S13 u17))]) (rest := []) (Cr := RX0) hC hX (mx_X0_well (cx_l C) E _ _ _ _ h.2.2.2) (lw_V q357 q359 qs1 q70 q360) hx_X0_well rfl rfl (Or.inl (Nat.le_of_ble_eq_true rfl)) ⟨Nat.le_of_ble_eq_true rfl, Nat.le_of_ble_eq_true rfl⟩ dX0_drop_29 (Nat.zero_le _) (Nat.zero_le _) hk19 rfl (by decide) rfl) rfl rfl ?_
    intro r23 S22 h
    refine gX_iret rfl hC hA hQ dX0_drop_32 h
  · have h := it_p c h
    refine g_ldc (v := -1000001) hC dX0_drop_7 q273 ?_
    refine gX_iret rfl hC hA hQ dX0_drop_9 h
theorem mx_X0_drop (l : Launch) (E : XE) (mc ms : Nat) (Q : Int32 → XS → Prop) (S : XS) (x0 : Option Nat) (x1 : Int32) (h : wx_X0_drop Q mc ms S x0 x1) : XMetW E l yX0_drop cX0_drop 3 (some .int) [(10, 32, 33, 130)] ({ frames := 6, cells := mc, slots := ms, locals := 145 } : Room) [va_rf x0, .int x1] S (fun sz => va_Qi Q (BX1 E S sz) (xA S sz)) :=
  XMetW_of (rm := ({ frames := 6, cells := mc, slots := ms, locals := 145 } : Room)) (by decide) (by simp [lg_sl, va_rf_cat, cat_i, cat_l]) (L0 := [some (va_rf x0), some (.int x1), none]) (by simp [lx_pairs, lv_args, va_rf_cat, cat_i, cat_l, List.range_succ]) (fun sz C hC hX hl hnm hT hA hQ => bx_X0_drop E C S sz Q mc ms S x0 x1 hC hX hT hA hQ h)
/-! X0_feed -/
def wx_X0_feed_35 (Q : Int32 → XS → Prop) : Nat → XS → Option Nat → Int64 → Int32 → Prop
  | 0, _, _, _, _ => False
  | n + 1, S, a0, a1, a4 => (if a4 < 0 then dr a0 (fun u5 => xKD S u5 = some 0 ∧ Q (xFI S 8 u5) S) else dr a0 (fun u7 => xKD S u7 = some 0 ∧ dr (xFR S 7 u7) (fun u9 => xKD (sFI S 8 u7 ((xFI S 8 u7) + (1 : Int32))) u9 = some 101 ∧ xRO (sFI S 8 u7 ((xFI S 8 u7) + (1 : Int32))) u9 = false ∧ vp_in (xFI S 8 u7) (xLN (sFI S 8 u7 ((xFI S 8 u7) + (1 : Int32))) u9) ∧ wx_X0_feed_35 Q n (sAI (sFI S 8 u7 ((xFI S 8 u7) + (1 : Int32))) u9 (Int32.toNatClampNeg (xFI S 8 u7)) (vp_nar .byte (Int8.toInt32 (Int32.toInt8 (Int64.toInt32 (a1 >>> (Int32.toInt64 ((8 : Int32) * a4) &&& 63))))))) a0 a1 (a4 + (-1 : Int32)))))
def wx_X0_feed (Q : Int32 → XS → Prop) (S : XS) (x0 : Option Nat) (x1 : Int64) (x3 : Int32) : Prop :=
  wx_X0_isIn (fun r2 S1 => (if r2 = 0 then Q (-1000001 : Int32) S1 else dr x0 (fun u3 => xKD S1 u3 = some 0 ∧ (if ((xFI S1 8 u3) + x3) ≤ (400 : Int32) then ∃ n11, wx_X0_feed_35 Q n11 S1 x0 x1 (x3 - (1 : Int32)) else Q (-1000003 : Int32) S1)))) S (Int32.toInt64 x3) (1 : Int64) (8 : Int64)
theorem hx_X0_feed : yX0_feed.cls = RX0 ∧ yX0_feed.cls ≠ "java/lang/invoke/MethodHandle" ∧ yX0_feed.cls ≠ "java/lang/invoke/VarHandle" ∧ (parseMethodDescriptor yX0_feed.desc).map (fun d => d.parameters.length) = some 2 := by decide +kernel
set_option maxHeartbeats 4000000 in
set_option maxRecDepth 100000 in
theorem bx_X0_feed (E : XE) (C : Cx) (S0 : XS) (sz : Nat) (Q : Int32 → XS → Prop) (S : XS) (x0 : Option Nat) (x1 : Int64) (x3 : Int32) (hC : COk C cX0_feed RX0 (some .int) 2 59 5) (hX : XOk E C) (hA : cx_A C = xA S0 sz) (hQ : cx_Q C = MQ (cx_b C) (va_Qi Q (BX1 E S0 sz) (xA S0 sz)) (cx_a C) (cx_s C) (cx_MC C) (cx_MS C) (xA S0 sz)) (h : wx_X0_feed Q S x0 x1 x3) : GX E C S 0 0 0 [some (va_rf x0), some (.long x1), none, some (.int x3), none] [] := by
  have s_35 : ∀ (n : Nat) (S : XS) (a0 : Option Nat) (a1 : Int64) (a4 : Int32), wx_X0_feed_35 Q  n S a0 a1 a4 → GX E C S 0 0 35 [some (va_rf a0), some (.long a1), none, none, some (.int a4)] [] := by
    intro  n
    induction n with
    | zero =>
      intro S a0 a1 a4 h
      exact False.elim h
    | succ n ih =>
      intro S a0 a1 a4 h
      refine g_iload hC dX0_feed_35 rfl ?_
      refine g_if_lt (tgt := 71) hC dX0_feed_37 (by decide) (fun c => ?_) (fun c => ?_)
      · have h := it_p c h
        refine g_aload_nR hC dX0_feed_71 rfl ?_
        obtain ⟨u5, eu5, h⟩ := h
        refine g_top0 eu5 ?_
        have hk6 := h.1
        refine gX_get (C0 := RX0) (T := TX0) (N := 15) (n := 0) (k := 8) (q := (8, false)) hC hX dX0_feed_72 q221 rfl in_X0 (by decide) (Or.inl rfl) rfl (by decide) hk6 ?_
        show GX _ _ _ _ _ _ _ (.int (xFI S 8 u5) :: _)
        refine gX_iret rfl hC hA hQ dX0_feed_75 h.2
      · have h := it_n c h
        refine g_aload_nR hC dX0_feed_40 rfl ?_
        obtain ⟨u7, eu7, h⟩ := h
        refine g_top0 eu7 ?_
        have hk8 := h.1
        refine gX_get (C0 := RX0) (T := TX0) (N := 15) (n := 0) (k := 7) (q := (7, true)) hC hX dX0_feed_41 q219 rfl in_X0 (by decide) (Or.inl rfl) rfl (by decide) hk8 ?_
        show GX _ _ _ _ _ _ _ (va_rf (xFR S 7 u7) :: _)
        refine g_aload_nR hC dX0_feed_44 rfl ?_
        refine g_dup hC dX0_feed_45 (va_rf_cat _) ?_
        refine g_top0 eu7 ?_
        refine gX_get (C0 := RX0) (T := TX0) (N := 15) (n := 0) (k := 8) (q := (8, false)) hC hX dX0_feed_46 q221 rfl in_X0 (by decide) (Or.inl rfl) rfl (by decide) hk8 ?_
        show GX _ _ _ _ _ _ _ (.int (xFI S 8 u7) :: _)
        refine g_dup_x1 hC dX0_feed_49 rfl (va_rf_cat _) ?_
        refine g_iconst (v := 1) hC dX0_feed_50 (by decide) ?_
        refine g_iadd hC dX0_feed_51 ?_
        refine g_top1 eu7 ?_
        refine gX_putI (C0 := RX0) (T := TX0) (ty0 := tyX0) (N := 15) (n := 0) (k := 8) (f := 8) hC hX dX0_feed_52 q221 rfl in_X0 tyX0_ok nmX0 (by decide) (Or.inl rfl) rfl rfl rfl rfl rfl (by decide) (Or.inl (by decide)) hk8 ?_
        refine g_lload_n hC dX0_feed_55 rfl ?_
        refine g_bipush (v := 8) hC dX0_feed_56 (by decide) ?_
        refine g_iload hC dX0_feed_58 rfl ?_
        refine g_imul hC dX0_feed_60 ?_
        refine g_lshr hC dX0_feed_61 ?_
        refine g_l2i hC dX0_feed_62 ?_
        refine g_i2b hC dX0_feed_63 ?_
        obtain ⟨u9, eu9, h⟩ := h.2
        refine g_top2 eu9 ?_
        have hk10 := h.1
        refine gX_bast hC hX dX0_feed_64 hk10 h.2.1 h.2.2.1 ?_
        refine g_iinc (v := (a4 + (-1 : Int32))) hC dX0_feed_65 rfl rfl (by decide) rfl rfl ?_
        refine g_goto (tgt := 35) hC dX0_feed_68 (by decide) ?_
        exact ih (sAI (sFI S 8 u7 ((xFI S 8 u7) + (1 : Int32))) u9 (Int32.toNatClampNeg (xFI S 8 u7)) (vp_nar .byte (Int8.toInt32 (Int32.toInt8 (Int64.toInt32 (a1 >>> (Int32.toInt64 ((8 : Int32) * a4) &&& 63))))))) a0 a1 (a4 + (-1 : Int32)) h.2.2.2
  refine g_iload_n hC dX0_feed_0 rfl ?_
  refine g_i2l hC dX0_feed_1 ?_
  refine g_lconst (v := 1) hC dX0_feed_2 (by decide) ?_
  refine g_ldc2 (v := 8) hC dX0_feed_3 q427 ?_
  refine gX_ni hX (gX_runS (As := [.long (Int32.toInt64 x3), .long (1 : Int64), .long (8 : Int64)]) (rest := []) hC hX (mx_X0_isIn (cx_l C) E _ _ _ _ _ h) (lw_S q269 q270 q70 q271) hx_X0_isIn.2 rfl rfl (Or.inl (Nat.le_of_ble_eq_true rfl)) ⟨Nat.le_of_ble_eq_true rfl, Nat.le_of_ble_eq_true rfl⟩ dX0_feed_6 (Nat.zero_le _) (Nat.zero_le _)) rfl rfl ?_
  intro r2 S1 h
  refine g_if_ne (tgt := 15) hC dX0_feed_9 (by decide) (fun c => ?_) (fun c => ?_)
  · have h := it_n c h
    refine g_aload_nR hC dX0_feed_15 rfl ?_
    obtain ⟨u3, eu3, h⟩ := h
    refine g_top0 eu3 ?_
    have hk4 := h.1
    refine gX_get (C0 := RX0) (T := TX0) (N := 15) (n := 0) (k := 8) (q := (8, false)) hC hX dX0_feed_16 q221 rfl in_X0 (by decide) (Or.inl rfl) rfl (by decide) hk4 ?_
    show GX _ _ _ _ _ _ _ (.int (xFI S1 8 u3) :: _)
    refine g_iload_n hC dX0_feed_19 rfl ?_
    refine g_iadd hC dX0_feed_20 ?_
    refine g_sipush (v := 400) hC dX0_feed_21 (by decide) ?_
    refine g_icmp_le (tgt := 30) hC dX0_feed_24 (by decide) (fun c => ?_) (fun c => ?_)
    · have h := it_p c h.2
      refine g_iload_n hC dX0_feed_30 rfl ?_
      refine g_iconst (v := 1) hC dX0_feed_31 (by decide) ?_
      refine g_isub hC dX0_feed_32 ?_
      refine g_istore hC dX0_feed_33 (by decide) rfl rfl ?_
      refine g_sub [true, true, false, false, true] rfl ?_
      obtain ⟨n0, h0⟩ := h
      exact s_35 n0 S1 x0 x1 (x3 - (1 : Int32)) h0
    · have h := it_n c h.2
      refine g_ldc (v := -1000003) hC dX0_feed_27 q428 ?_
      refine gX_iret rfl hC hA hQ dX0_feed_29 h
  · have h := it_p c h
    refine g_ldc (v := -1000001) hC dX0_feed_12 q273 ?_
    refine gX_iret rfl hC hA hQ dX0_feed_14 h
theorem mx_X0_feed (l : Launch) (E : XE) (Q : Int32 → XS → Prop) (S : XS) (x0 : Option Nat) (x1 : Int64) (x3 : Int32) (h : wx_X0_feed Q S x0 x1 x3) : XMet E l yX0_feed cX0_feed 5 (some .int) ({ frames := 2, cells := 0, slots := 0, locals := 59 } : Room) [va_rf x0, .long x1, .int x3] S (fun sz => va_Qi Q (BX1 E S sz) (xA S sz)) :=
  XMet_of (rm := ({ frames := 2, cells := 0, slots := 0, locals := 59 } : Room)) (by decide) (by simp [lg_sl, va_rf_cat, cat_i, cat_l]) (L0 := [some (va_rf x0), some (.long x1), none, some (.int x3), none]) (by simp [lx_pairs, lv_args, va_rf_cat, cat_i, cat_l, List.range_succ]) (fun sz C hC hX hl hnm hA hQ => bx_X0_feed E C S sz Q S x0 x1 x3 hC hX hA hQ h)
