/-! J14_checkLength -/
def wx_J14_checkLength (Q : XS → Prop) (S : XS) (x0 : Int32) (x1 : Int32) : Prop :=
  (if x0 ≤ x1 then Q S else False)
theorem hx_J14_checkLength : yJ14_checkLength.cls = RJ14 ∧ yJ14_checkLength.cls ≠ "java/lang/invoke/MethodHandle" ∧ yJ14_checkLength.cls ≠ "java/lang/invoke/VarHandle" ∧ (parseMethodDescriptor yJ14_checkLength.desc).map (fun d => d.parameters.length) = some 2 := by decide +kernel
set_option maxHeartbeats 4000000 in
set_option maxRecDepth 100000 in
theorem bx_J14_checkLength (E : XE) (C : Cx) (S0 : XS) (sz : Nat) (Q : XS → Prop) (S : XS) (x0 : Int32) (x1 : Int32) (hC : COk C cJ14_checkLength RJ14 none 1 34 2) (hX : XOk E C) (hA : cx_A C = xA S0 sz) (hQ : cx_Q C = MQ (cx_b C) (va_Qv Q (BX1 E S0 sz) (xA S0 sz)) (cx_a C) (cx_s C) (cx_MC C) (cx_MS C) (xA S0 sz)) (h : wx_J14_checkLength Q S x0 x1) : GX E C S 0 0 0 [some (.int x0), some (.int x1)] [] := by
  refine g_iload_n hC dJ14_checkLength_0 rfl ?_
  refine g_iload_n hC dJ14_checkLength_1 rfl ?_
  refine g_icmp_ge (tgt := 37) hC dJ14_checkLength_2 (by decide) (fun c => ?_) (fun c => ?_)
  · have h := it_p c h
    refine gX_vret hC hA hQ rfl dJ14_checkLength_37 h
  · have h := it_n c h
    exact False.elim h
theorem mx_J14_checkLength (l : Launch) (E : XE) (Q : XS → Prop) (S : XS) (x0 : Int32) (x1 : Int32) (h : wx_J14_checkLength Q S x0 x1) : XMet E l yJ14_checkLength cJ14_checkLength 2 none ({ frames := 1, cells := 0, slots := 0, locals := 34 } : Room) [.int x0, .int x1] S (fun sz => va_Qv Q (BX1 E S sz) (xA S sz)) :=
  XMet_of (rm := ({ frames := 1, cells := 0, slots := 0, locals := 34 } : Room)) (by decide) (by simp [lg_sl, va_rf_cat, cat_i, cat_l]) (L0 := [some (.int x0), some (.int x1)]) (by simp [lx_pairs, lv_args, va_rf_cat, cat_i, cat_l, List.range_succ]) (fun sz C hC hX hl hnm hA hQ => bx_J14_checkLength E C S sz Q S x0 x1 hC hX hA hQ h)
/-! J14_copyOf -/
def wx_J14_copyOf (Q : Option Nat → XS → Prop) (mc ms : Nat) (S : XS) (x0 : Option Nat) (x1 : Int32) : Prop :=
  dr x0 (fun u1 => xKD S u1 = some 101 ∧ (if x1 = (Int32.ofNat (xLN S u1)) then xRO S u1 = false ∧ (∀ j, j < xLN S u1 → fits .byte (.int (xAI S u1 j)) = true) ∧ 1 ≤ mc ∧ xLN S u1 ≤ ms ∧ (∀ q9 : Nat, xKD S q9 = none → xRO (sAIf (sNewA S q9 101 (xLN S u1)) q9 (xAI S u1)) q9 = false ∧ Q (some q9) (sAIf (sNewA S q9 101 (xLN S u1)) q9 (xAI S u1))) else ¬ x1 < 0 ∧ (Int32.toNatClampNeg x1) ≤ 100000 ∧ 1 ≤ mc ∧ (Int32.toNatClampNeg x1) ≤ ms ∧ (∀ q3 : Nat, xKD S q3 = none → xRO (sNewA S q3 101 (Int32.toNatClampNeg x1)) u1 = false ∧ xRO (sNewA S q3 101 (Int32.toNatClampNeg x1)) q3 = false ∧ ¬ (0 : Int32) < 0 ∧ ¬ (0 : Int32) < 0 ∧ ¬ (if x1 < (Int32.ofNat (xLN (sNewA S q3 101 (Int32.toNatClampNeg x1)) u1)) then x1 else (Int32.ofNat (xLN (sNewA S q3 101 (Int32.toNatClampNeg x1)) u1))) < 0 ∧ (Int32.toNatClampNeg (0 : Int32)) + (Int32.toNatClampNeg (if x1 < (Int32.ofNat (xLN (sNewA S q3 101 (Int32.toNatClampNeg x1)) u1)) then x1 else (Int32.ofNat (xLN (sNewA S q3 101 (Int32.toNatClampNeg x1)) u1)))) ≤ xLN (sNewA S q3 101 (Int32.toNatClampNeg x1)) u1 ∧ (Int32.toNatClampNeg (0 : Int32)) + (Int32.toNatClampNeg (if x1 < (Int32.ofNat (xLN (sNewA S q3 101 (Int32.toNatClampNeg x1)) u1)) then x1 else (Int32.ofNat (xLN (sNewA S q3 101 (Int32.toNatClampNeg x1)) u1)))) ≤ xLN (sNewA S q3 101 (Int32.toNatClampNeg x1)) q3 ∧ (∀ j, j < (Int32.toNatClampNeg (if x1 < (Int32.ofNat (xLN (sNewA S q3 101 (Int32.toNatClampNeg x1)) u1)) then x1 else (Int32.ofNat (xLN (sNewA S q3 101 (Int32.toNatClampNeg x1)) u1)))) → fits .byte (.int (xAI (sNewA S q3 101 (Int32.toNatClampNeg x1)) u1 ((Int32.toNatClampNeg (0 : Int32)) + j))) = true) ∧ (∀ S7 : XS, S7 = sAIf (sNewA S q3 101 (Int32.toNatClampNeg x1)) q3 (va_cpy (xAI (sNewA S q3 101 (Int32.toNatClampNeg x1)) u1) (xAI (sNewA S q3 101 (Int32.toNatClampNeg x1)) q3) (Int32.toNatClampNeg (0 : Int32)) (Int32.toNatClampNeg (0 : Int32)) (Int32.toNatClampNeg (if x1 < (Int32.ofNat (xLN (sNewA S q3 101 (Int32.toNatClampNeg x1)) u1)) then x1 else (Int32.ofNat (xLN (sNewA S q3 101 (Int32.toNatClampNeg x1)) u1))))) → Q (some q3) S7))))
theorem hx_J14_copyOf : yJ14_copyOf.cls = RJ14 ∧ yJ14_copyOf.cls ≠ "java/lang/invoke/MethodHandle" ∧ yJ14_copyOf.cls ≠ "java/lang/invoke/VarHandle" ∧ (parseMethodDescriptor yJ14_copyOf.desc).map (fun d => d.parameters.length) = some 2 := by decide +kernel
set_option maxHeartbeats 4000000 in
set_option maxRecDepth 100000 in
theorem bx_J14_copyOf (E : XE) (C : Cx) (S0 : XS) (sz : Nat) (Q : Option Nat → XS → Prop) (mc ms : Nat) (S : XS) (x0 : Option Nat) (x1 : Int32) (hC : COk C cJ14_copyOf RJ14 (some (.array .byte)) 1 34 3) (hX : XOk E C) (hA : cx_A C = xA S0 sz) (hQ : cx_Q C = MQ (cx_b C) (va_Qq Q (BX1 E S0 sz) (xA S0 sz)) (cx_a C) (cx_s C) (cx_MC C) (cx_MS C) (xA S0 sz)) (h : wx_J14_copyOf Q mc ms S x0 x1) : GX E C S mc ms 0 [some (va_rf x0), some (.int x1), none] [] := by
  refine g_iload_n hC dJ14_copyOf_0 rfl ?_
  refine g_aload_nR hC dJ14_copyOf_1 rfl ?_
  obtain ⟨u1, eu1, h⟩ := h
  refine g_top0 eu1 ?_
  have hk2 := h.1
  refine gX_alen (n := 101) hC hX dJ14_copyOf_2 (by decide) hk2 ?_
  refine g_icmp_ne (tgt := 14) hC dJ14_copyOf_3 (by decide) (fun c => ?_) (fun c => ?_)
  · have h := it_n c h.2
    refine g_iload_n hC dJ14_copyOf_14 rfl ?_
    refine gX_newb hC hX dJ14_copyOf_15 q162 h.1 h.2.1 h.2.2.1 h.2.2.2.1 ?_
    intro q3 hq4
    have h := h.2.2.2.2 q3 hq4
    have hk5 := kd_newA (q := q3) (n := 101) (k := (Int32.toNatClampNeg x1)) hk2 hq4
    have hk6 : xKD (sNewA S q3 101 (Int32.toNatClampNeg x1)) q3 = some 101 := kd_selfA
    refine g_astore_nR hC dJ14_copyOf_17 rfl (by decide) rfl rfl ?_
    refine g_aload_nR hC dJ14_copyOf_18 rfl ?_
    refine g_iconst (v := 0) hC dJ14_copyOf_19 (by decide) ?_
    refine g_aload_nR hC dJ14_copyOf_20 rfl ?_
    refine g_iconst (v := 0) hC dJ14_copyOf_21 (by decide) ?_
    refine g_aload_nR hC dJ14_copyOf_22 rfl ?_
    refine g_top0 eu1 ?_
    refine gX_alen (n := 101) hC hX dJ14_copyOf_23 (by decide) hk5 ?_
    refine g_iload_n hC dJ14_copyOf_24 rfl ?_
    refine g_mmin hC dJ14_copyOf_25 q556 q557 q91 q558 (Nat.le_of_ble_eq_true rfl) (by decide) (by decide) ?_
    refine g_top4 eu1 ?_
    refine gX_acopy (n := 101) hC hX dJ14_copyOf_28 q559 q418 q417 q85 (Or.inr rfl) hk5 hk6 h.1 h.2.1 h.2.2.1 h.2.2.2.1 h.2.2.2.2.1 h.2.2.2.2.2.1 h.2.2.2.2.2.2.1 h.2.2.2.2.2.2.2.1 (Nat.le_of_ble_eq_true rfl) (by decide) (by decide) ?_
    obtain ⟨S7, hS8⟩ : ∃ S7 : XS, S7 = sAIf (sNewA S q3 101 (Int32.toNatClampNeg x1)) q3 (va_cpy (xAI (sNewA S q3 101 (Int32.toNatClampNeg x1)) u1) (xAI (sNewA S q3 101 (Int32.toNatClampNeg x1)) q3) (Int32.toNatClampNeg (0 : Int32)) (Int32.toNatClampNeg (0 : Int32)) (Int32.toNatClampNeg (if x1 < (Int32.ofNat (xLN (sNewA S q3 101 (Int32.toNatClampNeg x1)) u1)) then x1 else (Int32.ofNat (xLN (sNewA S q3 101 (Int32.toNatClampNeg x1)) u1))))) := ⟨_, rfl⟩
    have h := h.2.2.2.2.2.2.2.2 S7 hS8
    refine gX_nm hS8 ?_
    refine g_aload_nR hC dJ14_copyOf_31 rfl ?_
    refine gX_aret hC hA hQ rfl (Or.inr ⟨_, rfl⟩) dJ14_copyOf_32 h
  · have h := it_p c h.2
    refine g_aload_nR hC dJ14_copyOf_6 rfl ?_
    refine g_top0 eu1 ?_
    refine gX_cloneb hC hX dJ14_copyOf_7 q549 q550 q551 q552 q553 q554 hk2 h.1 h.2.1 h.2.2.1 h.2.2.2.1 (Nat.le_of_ble_eq_true rfl) (by decide) (by decide) ?_
    intro q9 hq10
    have h := h.2.2.2.2 q9 hq10
    have hk11 : xKD (sAIf (sNewA S q9 101 (xLN S u1)) q9 (xAI S u1)) q9 = some 101 := kd_selfA (k := xLN S u1)
    refine gX_castB hC hX dJ14_copyOf_10 q555 hk11 h.1 ?_
    refine gX_aret hC hA hQ rfl (Or.inr ⟨_, rfl⟩) dJ14_copyOf_13 h.2
theorem mx_J14_copyOf (l : Launch) (E : XE) (mc ms : Nat) (Q : Option Nat → XS → Prop) (S : XS) (x0 : Option Nat) (x1 : Int32) (h : wx_J14_copyOf Q mc ms S x0 x1) : XMet E l yJ14_copyOf cJ14_copyOf 3 (some (.array .byte)) ({ frames := 1, cells := mc, slots := ms, locals := 34 } : Room) [va_rf x0, .int x1] S (fun sz => va_Qq Q (BX1 E S sz) (xA S sz)) :=
  XMet_of (rm := ({ frames := 1, cells := mc, slots := ms, locals := 34 } : Room)) (by decide) (by simp [lg_sl, va_rf_cat, cat_i, cat_l]) (L0 := [some (va_rf x0), some (.int x1), none]) (by simp [lx_pairs, lv_args, va_rf_cat, cat_i, cat_l, List.range_succ]) (fun sz C hC hX hl hnm hA hQ => bx_J14_copyOf E C S sz Q mc ms S x0 x1 hC hX hA hQ h)
/-! J14_copyOfRangeByte -/
def wx_J14_copyOfRangeByte (Q : Option Nat → XS → Prop) (mc ms : Nat) (S : XS) (x0 : Option Nat) (x1 : Int32) (x2 : Int32) : Prop :=
  wx_J14_checkLength (fun S1 => ¬ (x2 - x1) < 0 ∧ (Int32.toNatClampNeg (x2 - x1)) ≤ 100000 ∧ 1 ≤ mc ∧ (Int32.toNatClampNeg (x2 - x1)) ≤ ms ∧ (∀ q3 : Nat, xKD S1 q3 = none → dr x0 (fun u6 => xKD (sNewA S1 q3 101 (Int32.toNatClampNeg (x2 - x1))) u6 = some 101 ∧ xRO (sNewA S1 q3 101 (Int32.toNatClampNeg (x2 - x1))) u6 = false ∧ xRO (sNewA S1 q3 101 (Int32.toNatClampNeg (x2 - x1))) q3 = false ∧ ¬ x1 < 0 ∧ ¬ (0 : Int32) < 0 ∧ ¬ (if (x2 - x1) < ((Int32.ofNat (xLN (sNewA S1 q3 101 (Int32.toNatClampNeg (x2 - x1))) u6)) - x1) then (x2 - x1) else ((Int32.ofNat (xLN (sNewA S1 q3 101 (Int32.toNatClampNeg (x2 - x1))) u6)) - x1)) < 0 ∧ (Int32.toNatClampNeg x1) + (Int32.toNatClampNeg (if (x2 - x1) < ((Int32.ofNat (xLN (sNewA S1 q3 101 (Int32.toNatClampNeg (x2 - x1))) u6)) - x1) then (x2 - x1) else ((Int32.ofNat (xLN (sNewA S1 q3 101 (Int32.toNatClampNeg (x2 - x1))) u6)) - x1))) ≤ xLN (sNewA S1 q3 101 (Int32.toNatClampNeg (x2 - x1))) u6 ∧ (Int32.toNatClampNeg (0 : Int32)) + (Int32.toNatClampNeg (if (x2 - x1) < ((Int32.ofNat (xLN (sNewA S1 q3 101 (Int32.toNatClampNeg (x2 - x1))) u6)) - x1) then (x2 - x1) else ((Int32.ofNat (xLN (sNewA S1 q3 101 (Int32.toNatClampNeg (x2 - x1))) u6)) - x1))) ≤ xLN (sNewA S1 q3 101 (Int32.toNatClampNeg (x2 - x1))) q3 ∧ (∀ j, j < (Int32.toNatClampNeg (if (x2 - x1) < ((Int32.ofNat (xLN (sNewA S1 q3 101 (Int32.toNatClampNeg (x2 - x1))) u6)) - x1) then (x2 - x1) else ((Int32.ofNat (xLN (sNewA S1 q3 101 (Int32.toNatClampNeg (x2 - x1))) u6)) - x1))) → fits .byte (.int (xAI (sNewA S1 q3 101 (Int32.toNatClampNeg (x2 - x1))) u6 ((Int32.toNatClampNeg x1) + j))) = true) ∧ (∀ S8 : XS, S8 = sAIf (sNewA S1 q3 101 (Int32.toNatClampNeg (x2 - x1))) q3 (va_cpy (xAI (sNewA S1 q3 101 (Int32.toNatClampNeg (x2 - x1))) u6) (xAI (sNewA S1 q3 101 (Int32.toNatClampNeg (x2 - x1))) q3) (Int32.toNatClampNeg x1) (Int32.toNatClampNeg (0 : Int32)) (Int32.toNatClampNeg (if (x2 - x1) < ((Int32.ofNat (xLN (sNewA S1 q3 101 (Int32.toNatClampNeg (x2 - x1))) u6)) - x1) then (x2 - x1) else ((Int32.ofNat (xLN (sNewA S1 q3 101 (Int32.toNatClampNeg (x2 - x1))) u6)) - x1)))) → Q (some q3) S8)))) S x1 x2
theorem hx_J14_copyOfRangeByte : yJ14_copyOfRangeByte.cls = RJ14 ∧ yJ14_copyOfRangeByte.cls ≠ "java/lang/invoke/MethodHandle" ∧ yJ14_copyOfRangeByte.cls ≠ "java/lang/invoke/VarHandle" ∧ (parseMethodDescriptor yJ14_copyOfRangeByte.desc).map (fun d => d.parameters.length) = some 3 := by decide +kernel
set_option maxHeartbeats 4000000 in
set_option maxRecDepth 100000 in
theorem bx_J14_copyOfRangeByte (E : XE) (C : Cx) (S0 : XS) (sz : Nat) (Q : Option Nat → XS → Prop) (mc ms : Nat) (S : XS) (x0 : Option Nat) (x1 : Int32) (x2 : Int32) (hC : COk C cJ14_copyOfRangeByte RJ14 (some (.array .byte)) 2 55 5) (hX : XOk E C) (hA : cx_A C = xA S0 sz) (hQ : cx_Q C = MQ (cx_b C) (va_Qq Q (BX1 E S0 sz) (xA S0 sz)) (cx_a C) (cx_s C) (cx_MC C) (cx_MS C) (xA S0 sz)) (h : wx_J14_copyOfRangeByte Q mc ms S x0 x1 x2) : GX E C S mc ms 0 [some (va_rf x0), some (.int x1), some (.int x2), none, none] [] := by
  refine g_iload_n hC dJ14_copyOfRangeByte_0 rfl ?_
  refine g_iload_n hC dJ14_copyOfRangeByte_1 rfl ?_
  refine gX_nv hX (gX_runS (As := [.int x1, .int x2]) (rest := []) hC hX (mx_J14_checkLength (cx_l C) E _ _ _ _ h) (lw_S q645 q646 q92 q647) hx_J14_checkLength.2 rfl rfl (Or.inl (Nat.le_of_ble_eq_true rfl)) ⟨Nat.le_of_ble_eq_true rfl, Nat.le_of_ble_eq_true rfl⟩ dJ14_copyOfRangeByte_2 (Nat.zero_le _) (Nat.zero_le _)) rfl rfl ?_
  intro S1 h
  refine g_iload_n hC dJ14_copyOfRangeByte_5 rfl ?_
  refine g_iload_n hC dJ14_copyOfRangeByte_6 rfl ?_
  refine g_isub hC dJ14_copyOfRangeByte_7 ?_
  refine g_istore_n hC dJ14_copyOfRangeByte_8 rfl (by decide) rfl rfl ?_
  refine g_sub [true, true, false, true, false] rfl ?_
  refine g_iload_n hC dJ14_copyOfRangeByte_9 rfl ?_
  refine gX_newb hC hX dJ14_copyOfRangeByte_10 q162 h.1 h.2.1 h.2.2.1 h.2.2.2.1 ?_
  intro q3 hq4
  have h := h.2.2.2.2 q3 hq4
  have hk5 : xKD (sNewA S1 q3 101 (Int32.toNatClampNeg (x2 - x1))) q3 = some 101 := kd_selfA
  refine g_astoreR hC dJ14_copyOfRangeByte_12 (by decide) rfl rfl ?_
  refine g_aload_nR hC dJ14_copyOfRangeByte_14 rfl ?_
  refine g_iload_n hC dJ14_copyOfRangeByte_15 rfl ?_
  refine g_aloadR hC dJ14_copyOfRangeByte_16 rfl ?_
  refine g_iconst (v := 0) hC dJ14_copyOfRangeByte_18 (by decide) ?_
  refine g_aload_nR hC dJ14_copyOfRangeByte_19 rfl ?_
  obtain ⟨u6, eu6, h⟩ := h
  refine g_top0 eu6 ?_
  have hk7 := h.1
  refine gX_alen (n := 101) hC hX dJ14_copyOfRangeByte_20 (by decide) hk7 ?_
  refine g_iload_n hC dJ14_copyOfRangeByte_21 rfl ?_
  refine g_isub hC dJ14_copyOfRangeByte_22 ?_
  refine g_iload_n hC dJ14_copyOfRangeByte_23 rfl ?_
  refine g_mmin hC dJ14_copyOfRangeByte_24 q556 q557 q91 q558 (Nat.le_of_ble_eq_true rfl) (by decide) (by decide) ?_
  refine g_top4 eu6 ?_
  refine gX_acopy (n := 101) hC hX dJ14_copyOfRangeByte_27 q559 q418 q417 q85 (Or.inr rfl) hk7 hk5 h.2.1 h.2.2.1 h.2.2.2.1 h.2.2.2.2.1 h.2.2.2.2.2.1 h.2.2.2.2.2.2.1 h.2.2.2.2.2.2.2.1 h.2.2.2.2.2.2.2.2.1 (Nat.le_of_ble_eq_true rfl) (by decide) (by decide) ?_
  obtain ⟨S8, hS9⟩ : ∃ S8 : XS, S8 = sAIf (sNewA S1 q3 101 (Int32.toNatClampNeg (x2 - x1))) q3 (va_cpy (xAI (sNewA S1 q3 101 (Int32.toNatClampNeg (x2 - x1))) u6) (xAI (sNewA S1 q3 101 (Int32.toNatClampNeg (x2 - x1))) q3) (Int32.toNatClampNeg x1) (Int32.toNatClampNeg (0 : Int32)) (Int32.toNatClampNeg (if (x2 - x1) < ((Int32.ofNat (xLN (sNewA S1 q3 101 (Int32.toNatClampNeg (x2 - x1))) u6)) - x1) then (x2 - x1) else ((Int32.ofNat (xLN (sNewA S1 q3 101 (Int32.toNatClampNeg (x2 - x1))) u6)) - x1)))) := ⟨_, rfl⟩
  have h := h.2.2.2.2.2.2.2.2.2 S8 hS9
  refine gX_nm hS9 ?_
  refine g_aloadR hC dJ14_copyOfRangeByte_30 rfl ?_
  refine gX_aret hC hA hQ rfl (Or.inr ⟨_, rfl⟩) dJ14_copyOfRangeByte_32 h
theorem mx_J14_copyOfRangeByte (l : Launch) (E : XE) (mc ms : Nat) (Q : Option Nat → XS → Prop) (S : XS) (x0 : Option Nat) (x1 : Int32) (x2 : Int32) (h : wx_J14_copyOfRangeByte Q mc ms S x0 x1 x2) : XMet E l yJ14_copyOfRangeByte cJ14_copyOfRangeByte 5 (some (.array .byte)) ({ frames := 2, cells := mc, slots := ms, locals := 55 } : Room) [va_rf x0, .int x1, .int x2] S (fun sz => va_Qq Q (BX1 E S sz) (xA S sz)) :=
  XMet_of (rm := ({ frames := 2, cells := mc, slots := ms, locals := 55 } : Room)) (by decide) (by simp [lg_sl, va_rf_cat, cat_i, cat_l]) (L0 := [some (va_rf x0), some (.int x1), some (.int x2), none, none]) (by simp [lx_pairs, lv_args, va_rf_cat, cat_i, cat_l, List.range_succ]) (fun sz C hC hX hl hnm hA hQ => bx_J14_copyOfRangeByte E C S sz Q mc ms S x0 x1 x2 hC hX hA hQ h)
/-! J14_copyOfRange -/
def wx_J14_copyOfRange_10 (Q : Option Nat → XS → Prop) (mc ms : Nat) (S : XS) (a0 : Option Nat) (a1 : Int32) (a2 : Int32) : Prop :=
  (∃ k1 n2, k1 ≤ mc ∧ n2 ≤ ms ∧ wx_J14_copyOfRangeByte (fun r4 S3 => Q r4 S3) k1 n2 S a0 a1 a2)
def wx_J14_copyOfRange (Q : Option Nat → XS → Prop) (mc ms : Nat) (S : XS) (x0 : Option Nat) (x1 : Int32) (x2 : Int32) : Prop :=
  (if x1 = 0 then dr x0 (fun u5 => xKD S u5 = some 101 ∧ (if x2 = (Int32.ofNat (xLN S u5)) then xRO S u5 = false ∧ (∀ j, j < xLN S u5 → fits .byte (.int (xAI S u5 j)) = true) ∧ 1 ≤ mc ∧ xLN S u5 ≤ ms ∧ (∀ q7 : Nat, xKD S q7 = none → xRO (sAIf (sNewA S q7 101 (xLN S u5)) q7 (xAI S u5)) q7 = false ∧ Q (some q7) (sAIf (sNewA S q7 101 (xLN S u5)) q7 (xAI S u5))) else wx_J14_copyOfRange_10 Q mc ms S x0 x1 x2)) else wx_J14_copyOfRange_10 Q mc ms S x0 x1 x2)
theorem hx_J14_copyOfRange : yJ14_copyOfRange.cls = RJ14 ∧ yJ14_copyOfRange.cls ≠ "java/lang/invoke/MethodHandle" ∧ yJ14_copyOfRange.cls ≠ "java/lang/invoke/VarHandle" ∧ (parseMethodDescriptor yJ14_copyOfRange.desc).map (fun d => d.parameters.length) = some 3 := by decide +kernel
set_option maxHeartbeats 4000000 in
set_option maxRecDepth 100000 in
theorem bx_J14_copyOfRange (E : XE) (C : Cx) (S0 : XS) (sz : Nat) (Q : Option Nat → XS → Prop) (mc ms : Nat) (S : XS) (x0 : Option Nat) (x1 : Int32) (x2 : Int32) (hC : COk C cJ14_copyOfRange RJ14 (some (.array .byte)) 3 79 3) (hX : XOk E C) (hA : cx_A C = xA S0 sz) (hQ : cx_Q C = MQ (cx_b C) (va_Qq Q (BX1 E S0 sz) (xA S0 sz)) (cx_a C) (cx_s C) (cx_MC C) (cx_MS C) (xA S0 sz)) (h : wx_J14_copyOfRange Q mc ms S x0 x1 x2) : GX E C S mc ms 0 [some (va_rf x0), some (.int x1), some (.int x2)] [] := by
  have s_10 : ∀ (mc ms : Nat) (S : XS) (a0 : Option Nat) (a1 : Int32) (a2 : Int32), wx_J14_copyOfRange_10 Q  mc ms S a0 a1 a2 → GX E C S mc ms 10 [some (va_rf a0), some (.int a1), some (.int a2)] [] := by
    intro  mc ms S a0 a1 a2 h
    refine g_aload_nR hC dJ14_copyOfRange_10 rfl ?_
    refine g_iload_n hC dJ14_copyOfRange_11 rfl ?_
    refine g_iload_n hC dJ14_copyOfRange_12 rfl ?_
    obtain ⟨k1, n2, hk1, hn2, h⟩ := h
    refine gX_cq hX (gX_runS (As := [va_rf a0, .int a1, .int a2]) (rest := []) hC hX (mx_J14_copyOfRangeByte (cx_l C) E k1 n2 _ _ _ _ _ h) (lw_S q642 q643 q92 q644) hx_J14_copyOfRangeByte.2 rfl rfl (Or.inl (Nat.le_of_ble_eq_true rfl)) ⟨Nat.le_of_ble_eq_true rfl, Nat.le_of_ble_eq_true rfl⟩ dJ14_copyOfRange_13 hk1 hn2) hk1 hn2 ?_
    intro r4 S3 h
    refine gX_aret hC hA hQ rfl (Or.inr ⟨_, rfl⟩) dJ14_copyOfRange_16 h
  refine g_iload_n hC dJ14_copyOfRange_0 rfl ?_
  refine g_if_ne (tgt := 10) hC dJ14_copyOfRange_1 (by decide) (fun c => ?_) (fun c => ?_)
  · have h := it_n c h
    exact s_10 mc ms S x0 x1 x2 h
  · have h := it_p c h
    refine g_iload_n hC dJ14_copyOfRange_4 rfl ?_
    refine g_aload_nR hC dJ14_copyOfRange_5 rfl ?_
    obtain ⟨u5, eu5, h⟩ := h
    refine g_top0 eu5 ?_
    have hk6 := h.1
    refine gX_alen (n := 101) hC hX dJ14_copyOfRange_6 (by decide) hk6 ?_
    refine g_icmp_eq (tgt := 17) hC dJ14_copyOfRange_7 (by decide) (fun c => ?_) (fun c => ?_)
    · have h := it_p c h.2
      refine g_aload_nR hC dJ14_copyOfRange_17 rfl ?_
      refine g_top0 eu5 ?_
      refine gX_cloneb hC hX dJ14_copyOfRange_18 q549 q550 q551 q552 q553 q554 hk6 h.1 h.2.1 h.2.2.1 h.2.2.2.1 (Nat.le_of_ble_eq_true rfl) (by decide) (by decide) ?_
      intro q7 hq8
      have h := h.2.2.2.2 q7 hq8
      have hk9 : xKD (sAIf (sNewA S q7 101 (xLN S u5)) q7 (xAI S u5)) q7 = some 101 := kd_selfA (k := xLN S u5)
      refine gX_castB hC hX dJ14_copyOfRange_21 q555 hk9 h.1 ?_
      refine gX_aret hC hA hQ rfl (Or.inr ⟨_, rfl⟩) dJ14_copyOfRange_24 h.2
    · have h := it_n c h.2
      exact s_10 mc ms S x0 x1 x2 h
theorem mx_J14_copyOfRange (l : Launch) (E : XE) (mc ms : Nat) (Q : Option Nat → XS → Prop) (S : XS) (x0 : Option Nat) (x1 : Int32) (x2 : Int32) (h : wx_J14_copyOfRange Q mc ms S x0 x1 x2) : XMet E l yJ14_copyOfRange cJ14_copyOfRange 3 (some (.array .byte)) ({ frames := 3, cells := mc, slots := ms, locals := 79 } : Room) [va_rf x0, .int x1, .int x2] S (fun sz => va_Qq Q (BX1 E S sz) (xA S sz)) :=
  XMet_of (rm := ({ frames := 3, cells := mc, slots := ms, locals := 79 } : Room)) (by decide) (by simp [lg_sl, va_rf_cat, cat_i, cat_l]) (L0 := [some (va_rf x0), some (.int x1), some (.int x2)]) (by simp [lx_pairs, lv_args, va_rf_cat, cat_i, cat_l, List.range_succ]) (fun sz C hC hX hl hnm hA hQ => bx_J14_copyOfRange E C S sz Q mc ms S x0 x1 x2 hC hX hA hQ h)
/-! J15_canEncode -/
def wx_J15_canEncode (Q : Int32 → XS → Prop) (S : XS) (x0 : Int32) : Prop :=
  (if (255 : Int32) < x0 then Q (0 : Int32) S else Q (1 : Int32) S)
theorem hx_J15_canEncode : yJ15_canEncode.cls = RJ15 ∧ yJ15_canEncode.cls ≠ "java/lang/invoke/MethodHandle" ∧ yJ15_canEncode.cls ≠ "java/lang/invoke/VarHandle" ∧ (parseMethodDescriptor yJ15_canEncode.desc).map (fun d => d.parameters.length) = some 1 := by decide +kernel
set_option maxHeartbeats 4000000 in
set_option maxRecDepth 100000 in
theorem bx_J15_canEncode (E : XE) (C : Cx) (S0 : XS) (sz : Nat) (Q : Int32 → XS → Prop) (S : XS) (x0 : Int32) (hC : COk C cJ15_canEncode RJ15 (some .boolean) 1 34 1) (hX : XOk E C) (hA : cx_A C = xA S0 sz) (hQ : cx_Q C = MQ (cx_b C) (va_Qi Q (BX1 E S0 sz) (xA S0 sz)) (cx_a C) (cx_s C) (cx_MC C) (cx_MS C) (xA S0 sz)) (h : wx_J15_canEncode Q S x0) : GX E C S 0 0 0 [some (.int x0)] [] := by
  refine g_iload_n hC dJ15_canEncode_0 rfl ?_
  refine g_sipush (v := 255) hC dJ15_canEncode_1 (by decide) ?_
  refine g_icmp_gt (tgt := 11) hC dJ15_canEncode_4 (by decide) (fun c => ?_) (fun c => ?_)
  · have h := it_p c h
    refine g_iconst (v := 0) hC dJ15_canEncode_11 (by decide) ?_
    refine gX_zret rfl rfl hC hA hQ dJ15_canEncode_12 h
  · have h := it_n c h
    refine g_iconst (v := 1) hC dJ15_canEncode_7 (by decide) ?_
    refine g_goto (tgt := 12) hC dJ15_canEncode_8 (by decide) ?_
    refine gX_zret rfl rfl hC hA hQ dJ15_canEncode_12 h
theorem mx_J15_canEncode (l : Launch) (E : XE) (Q : Int32 → XS → Prop) (S : XS) (x0 : Int32) (h : wx_J15_canEncode Q S x0) : XMet E l yJ15_canEncode cJ15_canEncode 1 (some .boolean) ({ frames := 1, cells := 0, slots := 0, locals := 34 } : Room) [.int x0] S (fun sz => va_Qi Q (BX1 E S sz) (xA S sz)) :=
  XMet_of (rm := ({ frames := 1, cells := 0, slots := 0, locals := 34 } : Room)) (by decide) (by simp [lg_sl, va_rf_cat, cat_i, cat_l]) (L0 := [some (.int x0)]) (by simp [lx_pairs, lv_args, va_rf_cat, cat_i, cat_l, List.range_succ]) (fun sz C hC hX hl hnm hA hQ => bx_J15_canEncode E C S sz Q S x0 hC hX hA hQ h)
/-! J15_equals -/
def wx_J15_equals_9 (Q : Int32 → XS → Prop) : Nat → XS → Option Nat → Option Nat → Int32 → Prop
  | 0, _, _, _, _ => False
  | n + 1, S, a0, a1, a2 => dr a0 (fun u5 => xKD S u5 = some 101 ∧ (if (Int32.ofNat (xLN S u5)) ≤ a2 then Q (1 : Int32) S else vp_in a2 (xLN S u5) ∧ dr a1 (fun u7 => xKD S u7 = some 101 ∧ vp_in a2 (xLN S u7) ∧ (if (xAI S u5 (Int32.toNatClampNeg a2)) = (xAI S u7 (Int32.toNatClampNeg a2)) then wx_J15_equals_9 Q n S a0 a1 (a2 + (1 : Int32)) else Q (0 : Int32) S))))
def wx_J15_equals (Q : Int32 → XS → Prop) (S : XS) (x0 : Option Nat) (x1 : Option Nat) : Prop :=
  dr x0 (fun u1 => xKD S u1 = some 101 ∧ dr x1 (fun u3 => xKD S u3 = some 101 ∧ (if (Int32.ofNat (xLN S u1)) = (Int32.ofNat (xLN S u3)) then ∃ n9, wx_J15_equals_9 Q n9 S x0 x1 (0 : Int32) else Q (0 : Int32) S)))
theorem hx_J15_equals : yJ15_equals.cls = RJ15 ∧ yJ15_equals.cls ≠ "java/lang/invoke/MethodHandle" ∧ yJ15_equals.cls ≠ "java/lang/invoke/VarHandle" ∧ (parseMethodDescriptor yJ15_equals.desc).map (fun d => d.parameters.length) = some 2 := by decide +kernel
set_option maxHeartbeats 4000000 in
set_option maxRecDepth 100000 in
theorem bx_J15_equals (E : XE) (C : Cx) (S0 : XS) (sz : Nat) (Q : Int32 → XS → Prop) (S : XS) (x0 : Option Nat) (x1 : Option Nat) (hC : COk C cJ15_equals RJ15 (some .boolean) 1 34 3) (hX : XOk E C) (hA : cx_A C = xA S0 sz) (hQ : cx_Q C = MQ (cx_b C) (va_Qi Q (BX1 E S0 sz) (xA S0 sz)) (cx_a C) (cx_s C) (cx_MC C) (cx_MS C) (xA S0 sz)) (h : wx_J15_equals Q S x0 x1) : GX E C S 0 0 0 [some (va_rf x0), some (va_rf x1), none] [] := by
  have s_9 : ∀ (n : Nat) (S : XS) (a0 : Option Nat) (a1 : Option Nat) (a2 : Int32), wx_J15_equals_9 Q  n S a0 a1 a2 → GX E C S 0 0 9 [some (va_rf a0), some (va_rf a1), some (.int a2)] [] := by
    intro  n
    induction n with
    | zero =>
      intro S a0 a1 a2 h
      exact False.elim h
    | succ n ih =>
      intro S a0 a1 a2 h
      refine g_iload_n hC dJ15_equals_9 rfl ?_
      refine g_aload_nR hC dJ15_equals_10 rfl ?_
      obtain ⟨u5, eu5, h⟩ := h
      refine g_top0 eu5 ?_
      have hk6 := h.1
      refine gX_alen (n := 101) hC hX dJ15_equals_11 (by decide) hk6 ?_
      refine g_icmp_ge (tgt := 32) hC dJ15_equals_12 (by decide) (fun c => ?_) (fun c => ?_)
      · have h := it_p c h.2
        refine g_iconst (v := 1) hC dJ15_equals_32 (by decide) ?_
        refine gX_zret rfl rfl hC hA hQ dJ15_equals_33 h
      · have h := it_n c h.2
        refine g_aload_nR hC dJ15_equals_15 rfl ?_
        refine g_iload_n hC dJ15_equals_16 rfl ?_
        refine g_top1 eu5 ?_
        refine gX_bald hC hX dJ15_equals_17 hk6 h.1 ?_
        refine g_aload_nR hC dJ15_equals_18 rfl ?_
        refine g_iload_n hC dJ15_equals_19 rfl ?_
        obtain ⟨u7, eu7, h⟩ := h.2
        refine g_top1 eu7 ?_
        have hk8 := h.1
        refine gX_bald hC hX dJ15_equals_20 hk8 h.2.1 ?_
        refine g_icmp_eq (tgt := 26) hC dJ15_equals_21 (by decide) (fun c => ?_) (fun c => ?_)
        · have h := it_p c h.2.2
          refine g_iinc (v := (a2 + (1 : Int32))) hC dJ15_equals_26 rfl rfl (by decide) (lx_okR (j := 1) rfl) rfl ?_
          refine g_goto (tgt := 9) hC dJ15_equals_29 (by decide) ?_
          exact ih S a0 a1 (a2 + (1 : Int32)) h
        · have h := it_n c h.2.2
          refine g_iconst (v := 0) hC dJ15_equals_24 (by decide) ?_
          refine gX_zret rfl rfl hC hA hQ dJ15_equals_25 h
  refine g_aload_nR hC dJ15_equals_0 rfl ?_
  obtain ⟨u1, eu1, h⟩ := h
  refine g_top0 eu1 ?_
  have hk2 := h.1
  refine gX_alen (n := 101) hC hX dJ15_equals_1 (by decide) hk2 ?_
  refine g_aload_nR hC dJ15_equals_2 rfl ?_
  obtain ⟨u3, eu3, h⟩ := h.2
  refine g_top0 eu3 ?_
  have hk4 := h.1
  refine gX_alen (n := 101) hC hX dJ15_equals_3 (by decide) hk4 ?_
  refine g_icmp_ne (tgt := 34) hC dJ15_equals_4 (by decide) (fun c => ?_) (fun c => ?_)
  · have h := it_n c h.2
    refine g_iconst (v := 0) hC dJ15_equals_34 (by decide) ?_
    refine gX_zret rfl rfl hC hA hQ dJ15_equals_35 h
  · have h := it_p c h.2
    refine g_iconst (v := 0) hC dJ15_equals_7 (by decide) ?_
    refine g_istore_n hC dJ15_equals_8 rfl (by decide) (lx_okR (j := 1) rfl) rfl ?_
    obtain ⟨n0, h0⟩ := h
    exact s_9 n0 S x0 x1 (0 : Int32) h0
theorem mx_J15_equals (l : Launch) (E : XE) (Q : Int32 → XS → Prop) (S : XS) (x0 : Option Nat) (x1 : Option Nat) (h : wx_J15_equals Q S x0 x1) : XMet E l yJ15_equals cJ15_equals 3 (some .boolean) ({ frames := 1, cells := 0, slots := 0, locals := 34 } : Room) [va_rf x0, va_rf x1] S (fun sz => va_Qi Q (BX1 E S sz) (xA S sz)) :=
  XMet_of (rm := ({ frames := 1, cells := 0, slots := 0, locals := 34 } : Room)) (by decide) (by simp [lg_sl, va_rf_cat, cat_i, cat_l]) (L0 := [some (va_rf x0), some (va_rf x1), none]) (by simp [lx_pairs, lv_args, va_rf_cat, cat_i, cat_l, List.range_succ]) (fun sz C hC hX hl hnm hA hQ => bx_J15_equals E C S sz Q S x0 x1 hC hX hA hQ h)
/-! J8_equals -/
def wx_J8_equals_36 (Q : Int32 → XS → Prop) (S : XS) (a0 : Option Nat) (a2 : Option Nat) : Prop :=
  dr a0 (fun u3 => xKD S u3 = some 17 ∧ dr a2 (fun u5 => xKD S u5 = some 17 ∧ wx_J15_equals (fun r8 S7 => (if r8 = 0 then Q (0 : Int32) S7 else Q (1 : Int32) S7)) S (xFR S 1700 u3) (xFR S 1700 u5)))
def wx_J8_equals (Q : Int32 → XS → Prop) (S : XS) (x0 : Option Nat) (x1 : Option Nat) : Prop :=
  (if x0 = x1 then Q (1 : Int32) S else dr x1 (fun u1 => xKD S u1 = some 17 ∧ (if (1 : Int32) = 0 then Q (0 : Int32) S else (if (1 : Int32) = 0 then wx_J8_equals_36 Q S x0 (some u1) else dr x0 (fun u9 => xKD S u9 = some 17 ∧ (if (xFI S 1701 u9) = (xFI S 1701 u1) then wx_J8_equals_36 Q S x0 (some u1) else Q (0 : Int32) S))))))
theorem hx_J8_equals : yJ8_equals.cls = RJ8 ∧ yJ8_equals.cls ≠ "java/lang/invoke/MethodHandle" ∧ yJ8_equals.cls ≠ "java/lang/invoke/VarHandle" ∧ (parseMethodDescriptor yJ8_equals.desc).map (fun d => d.parameters.length) = some 1 := by decide +kernel
set_option maxHeartbeats 4000000 in
set_option maxRecDepth 100000 in
theorem bx_J8_equals (E : XE) (C : Cx) (S0 : XS) (sz : Nat) (Q : Int32 → XS → Prop) (S : XS) (x0 : Option Nat) (x1 : Option Nat) (hC : COk C cJ8_equals RJ8 (some .boolean) 2 56 3) (hX : XOk E C) (hA : cx_A C = xA S0 sz) (hQ : cx_Q C = MQ (cx_b C) (va_Qi Q (BX1 E S0 sz) (xA S0 sz)) (cx_a C) (cx_s C) (cx_MC C) (cx_MS C) (xA S0 sz)) (h : wx_J8_equals Q S x0 x1) : GX E C S 0 0 0 [some (va_rf x0), some (va_rf x1), none] [] := by
  have s_36 : ∀ (S : XS) (a0 : Option Nat) (a2 : Option Nat), wx_J8_equals_36 Q  S a0 a2 → GX E C S 0 0 36 [some (va_rf a0), none, some (va_rf a2)] [] := by
    intro  S a0 a2 h
    refine g_aload_nR hC dJ8_equals_36 rfl ?_
    obtain ⟨u3, eu3, h⟩ := h
    refine g_top0 eu3 ?_
    have hk4 := h.1
    refine gX_getStr (k := 0) (q := (1700, true)) hC hX dJ8_equals_37 q662 (by decide) rfl rfl hk4 ?_
    show GX _ _ _ _ _ _ _ (va_rf (xFR S 1700 u3) :: _)
    refine g_aload_nR hC dJ8_equals_40 rfl ?_
    obtain ⟨u5, eu5, h⟩ := h.2
    refine g_top0 eu5 ?_
    have hk6 := h.1
    refine gX_getStr (k := 0) (q := (1700, true)) hC hX dJ8_equals_41 q662 (by decide) rfl rfl hk6 ?_
    show GX _ _ _ _ _ _ _ (va_rf (xFR S 1700 u5) :: _)
    refine gX_ni hX (gX_runS (As := [va_rf (xFR S 1700 u3), va_rf (xFR S 1700 u5)]) (rest := []) hC hX (mx_J15_equals (cx_l C) E _ _ _ _ h.2) (lw_S q681 q682 q93 q683) hx_J15_equals.2 rfl rfl (Or.inl (Nat.le_of_ble_eq_true rfl)) ⟨Nat.le_of_ble_eq_true rfl, Nat.le_of_ble_eq_true rfl⟩ dJ8_equals_44 (Nat.zero_le _) (Nat.zero_le _)) rfl rfl ?_
    intro r8 S7 h
    refine g_if_eq (tgt := 54) hC dJ8_equals_47 (by decide) (fun c => ?_) (fun c => ?_)
    · have h := it_p c h
      refine g_iconst (v := 0) hC dJ8_equals_54 (by decide) ?_
      refine gX_zret rfl rfl hC hA hQ dJ8_equals_55 h
    · have h := it_n c h
      refine g_iconst (v := 1) hC dJ8_equals_50 (by decide) ?_
      refine g_goto (tgt := 55) hC dJ8_equals_51 (by decide) ?_
      refine gX_zret rfl rfl hC hA hQ dJ8_equals_55 h
  refine g_aload_nR hC dJ8_equals_0 rfl ?_
  refine g_aload_nR hC dJ8_equals_1 rfl ?_
  refine g_acmp_ne (tgt := 7) hC dJ8_equals_2 (by decide) (fun c => ?_) (fun c => ?_)
  · have h := it_n c h
    refine g_aload_nR hC dJ8_equals_7 rfl ?_
    obtain ⟨u1, eu1, h⟩ := h
    refine g_top0 eu1 ?_
    have hk2 := h.1
    refine gX_instStr hC hX dJ8_equals_8 q680 hk2 ?_
    refine g_if_eq (tgt := 54) hC dJ8_equals_11 (by decide) (fun c => ?_) (fun c => ?_)
    · have h := it_p c h.2
      refine g_iconst (v := 0) hC dJ8_equals_54 (by decide) ?_
      refine gX_zret rfl rfl hC hA hQ dJ8_equals_55 h
    · have h := it_n c h.2
      refine g_aload_nR hC dJ8_equals_14 rfl ?_
      refine g_top0 eu1 ?_
      refine gX_castStr hC hX dJ8_equals_15 q680 hk2 ?_
      refine g_astore_nR hC dJ8_equals_18 rfl (by decide) (lx_okR (j := 1) rfl) rfl ?_
      refine g_sub [true, false, true] rfl ?_
      refine gX_getsI (v := 1) hC hX dJ8_equals_19 (List.mem_of_getElem? (i := 0) rfl) q648 rfl ?_
      refine g_if_eq (tgt := 36) hC dJ8_equals_22 (by decide) (fun c => ?_) (fun c => ?_)
      · have h := it_p c h
        exact s_36 S x0 (some u1) h
      · have h := it_n c h
        refine g_aload_nR hC dJ8_equals_25 rfl ?_
        obtain ⟨u9, eu9, h⟩ := h
        refine g_top0 eu9 ?_
        have hk10 := h.1
        refine gX_getStr (k := 1) (q := (1701, false)) hC hX dJ8_equals_26 q663 (by decide) rfl rfl hk10 ?_
        show GX _ _ _ _ _ _ _ (.int (xFI S 1701 u9) :: _)
        refine g_aload_nR hC dJ8_equals_29 rfl ?_
        refine gX_getStr (k := 1) (q := (1701, false)) hC hX dJ8_equals_30 q663 (by decide) rfl rfl hk2 ?_
        show GX _ _ _ _ _ _ _ (.int (xFI S 1701 u1) :: _)
        refine g_icmp_ne (tgt := 54) hC dJ8_equals_33 (by decide) (fun c => ?_) (fun c => ?_)
        · have h := it_n c h.2
          refine g_iconst (v := 0) hC dJ8_equals_54 (by decide) ?_
          refine gX_zret rfl rfl hC hA hQ dJ8_equals_55 h
        · have h := it_p c h.2
          exact s_36 S x0 (some u1) h
  · have h := it_p c h
    refine g_iconst (v := 1) hC dJ8_equals_5 (by decide) ?_
    refine gX_zret rfl rfl hC hA hQ dJ8_equals_6 h
theorem mx_J8_equals (l : Launch) (E : XE) (Q : Int32 → XS → Prop) (S : XS) (x0 : Option Nat) (x1 : Option Nat) (h : wx_J8_equals Q S x0 x1) : XMet E l yJ8_equals cJ8_equals 3 (some .boolean) ({ frames := 2, cells := 0, slots := 0, locals := 56 } : Room) [va_rf x0, va_rf x1] S (fun sz => va_Qi Q (BX1 E S sz) (xA S sz)) :=
  XMet_of (rm := ({ frames := 2, cells := 0, slots := 0, locals := 56 } : Room)) (by decide) (by simp [lg_sl, va_rf_cat, cat_i, cat_l]) (L0 := [some (va_rf x0), some (va_rf x1), none]) (by simp [lx_pairs, lv_args, va_rf_cat, cat_i, cat_l, List.range_succ]) (fun sz C hC hX hl hnm hA hQ => bx_J8_equals E C S sz Q S x0 x1 hC hX hA hQ h)
/-! J9_init -/
def wx_J9_init (Q : XS → Prop) (mc ms : Nat) (S : XS) (x0 : Option Nat) (x1 : Int32) : Prop :=
  dr x0 (fun u1 => (if (1 : Int32) = 0 then False else ¬ x1 < 0 ∧ (Int32.toNatClampNeg x1) ≤ 100000 ∧ 1 ≤ mc ∧ (Int32.toNatClampNeg x1) ≤ ms ∧ (∀ q2 : Nat, xKD S q2 = none → xKD (sNewA S q2 101 (Int32.toNatClampNeg x1)) u1 = some 18 ∧ Q (sFI (sFR (sNewA S q2 101 (Int32.toNatClampNeg x1)) 5200 u1 (some q2)) 5201 u1 (0 : Int32)))))
theorem hx_J9_init : yJ9_init.cls = RJ9 ∧ yJ9_init.cls ≠ "java/lang/invoke/MethodHandle" ∧ yJ9_init.cls ≠ "java/lang/invoke/VarHandle" ∧ (parseMethodDescriptor yJ9_init.desc).map (fun d => d.parameters.length) = some 1 := by decide +kernel
set_option maxHeartbeats 4000000 in
set_option maxRecDepth 100000 in
theorem bx_J9_init (E : XE) (C : Cx) (S0 : XS) (sz : Nat) (Q : XS → Prop) (mc ms : Nat) (S : XS) (x0 : Option Nat) (x1 : Int32) (hC : COk C cJ9_init RJ9 none 1 34 2) (hX : XOk E C) (hA : cx_A C = xA S0 sz) (hini : (cx_h C).name = "<init>") (hQ : cx_Q C = MQ (cx_b C) (va_Qv Q (BX1 E S0 sz) (xA S0 sz)) (cx_a C) (cx_s C) (cx_MC C) (cx_MS C) (xA S0 sz)) (h : wx_J9_init Q mc ms S x0 x1) : GX E C S mc ms 0 [some (va_rf x0), some (.int x1)] [] := by
  refine g_aload_nR hC dJ9_init_0 rfl ?_
  obtain ⟨u1, eu1, h⟩ := h
  refine g_top0 eu1 ?_
  refine gX_oinit hC dJ9_init_1 q497 q115 q116 (Nat.le_of_ble_eq_true rfl) (by decide) (by decide) ?_
  refine gX_getsI (v := 1) hC hX dJ9_init_4 (List.mem_of_getElem? (i := 0) rfl) q498 rfl ?_
  refine g_if_eq (tgt := 25) hC dJ9_init_7 (by decide) (fun c => ?_) (fun c => ?_)
  · have h := it_p c h
    refine g_aload_nR hC dJ9_init_25 rfl ?_
    refine g_iload_n hC dJ9_init_26 rfl ?_
    exact False.elim h
  · have h := it_n c h
    refine g_aload_nR hC dJ9_init_10 rfl ?_
    refine g_iload_n hC dJ9_init_11 rfl ?_
    refine gX_newb hC hX dJ9_init_12 q162 h.1 h.2.1 h.2.2.1 h.2.2.2.1 ?_
    intro q2 hq3
    have h := h.2.2.2.2 q2 hq3
    have hk4 : xKD (sNewA S q2 101 (Int32.toNatClampNeg x1)) q2 = some 101 := kd_selfA
    refine g_top1 eu1 ?_
    have hk5 := h.1
    refine gX_putR (C0 := RJ10) (T := TJ10) (ty0 := tyJ10) (N := 4) (n := 18) (k := 0) (f := 5200) hC hX dJ9_init_14 q507 rfl in_J10 tyJ10_ok nmJ10 (by decide) (Or.inl rfl) rfl rfl (narrow_rf (Or.inr ⟨_, rfl⟩) _) (fits_rf (Or.inr ⟨_, rfl⟩) _) rfl (by decide) (Or.inl (by decide)) hk5 ?_
    refine g_aload_nR hC dJ9_init_17 rfl ?_
    refine g_iconst (v := 0) hC dJ9_init_18 (by decide) ?_
    refine g_top1 eu1 ?_
    refine gX_putI (C0 := RJ10) (T := TJ10) (ty0 := tyJ10) (N := 4) (n := 18) (k := 1) (f := 5201) hC hX dJ9_init_19 q508 rfl in_J10 tyJ10_ok nmJ10 (by decide) (Or.inl rfl) rfl rfl rfl rfl rfl (by decide) (Or.inl (by decide)) hk5 ?_
    refine g_goto (tgt := 38) hC dJ9_init_22 (by decide) ?_
    refine gX_vret hC hA hQ rfl dJ9_init_38 h.2
theorem mx_J9_init (l : Launch) (E : XE) (mc ms : Nat) (Q : XS → Prop) (S : XS) (x0 : Option Nat) (x1 : Int32) (h : wx_J9_init Q mc ms S x0 x1) : XMet E l yJ9_init cJ9_init 2 none ({ frames := 1, cells := mc, slots := ms, locals := 34 } : Room) [va_rf x0, .int x1] S (fun sz => va_Qv Q (BX1 E S sz) (xA S sz)) :=
  XMet_of (rm := ({ frames := 1, cells := mc, slots := ms, locals := 34 } : Room)) (by decide) (by simp [lg_sl, va_rf_cat, cat_i, cat_l]) (L0 := [some (va_rf x0), some (.int x1)]) (by simp [lx_pairs, lv_args, va_rf_cat, cat_i, cat_l, List.range_succ]) (fun sz C hC hX hl hnm hA hQ => bx_J9_init E C S sz Q mc ms S x0 x1 hC hX hA hnm hQ h)
/-! J10_init -/
def wx_J10_init (Q : XS → Prop) (mc ms : Nat) (S : XS) (x0 : Option Nat) : Prop :=
  dr x0 (fun u1 => (∃ k2 n3, k2 ≤ mc ∧ n3 ≤ ms ∧ wx_J9_init (fun S4 => Q S4) k2 n3 S (some u1) (16 : Int32)))
theorem hx_J10_init : yJ10_init.cls = RJ10 ∧ yJ10_init.cls ≠ "java/lang/invoke/MethodHandle" ∧ yJ10_init.cls ≠ "java/lang/invoke/VarHandle" ∧ (parseMethodDescriptor yJ10_init.desc).map (fun d => d.parameters.length) = some 0 := by decide +kernel
set_option maxHeartbeats 4000000 in
set_option maxRecDepth 100000 in
theorem bx_J10_init (E : XE) (C : Cx) (S0 : XS) (sz : Nat) (Q : XS → Prop) (mc ms : Nat) (S : XS) (x0 : Option Nat) (hC : COk C cJ10_init RJ10 none 2 55 1) (hX : XOk E C) (hA : cx_A C = xA S0 sz) (hini : (cx_h C).name = "<init>") (hQ : cx_Q C = MQ (cx_b C) (va_Qv Q (BX1 E S0 sz) (xA S0 sz)) (cx_a C) (cx_s C) (cx_MC C) (cx_MS C) (xA S0 sz)) (h : wx_J10_init Q mc ms S x0) : GX E C S mc ms 0 [some (va_rf x0)] [] := by
  refine g_aload_nR hC dJ10_init_0 rfl ?_
  refine g_bipush (v := 16) hC dJ10_init_1 (by decide) ?_
  obtain ⟨u1, eu1, h⟩ := h
  refine g_top1 eu1 ?_
  obtain ⟨k2, n3, hk2, hn3, h⟩ := h
  refine gX_cv hX (gX_runI (As := [.int (16 : Int32)]) (rest := []) hC hX (mx_J9_init (cx_l C) E k2 n3 _ _ _ _ h) q496 q87 q494 q495 rfl hx_J9_init.2 rfl rfl (Or.inl (Nat.le_of_ble_eq_true rfl)) ⟨Nat.le_of_ble_eq_true rfl, Nat.le_of_ble_eq_true rfl⟩ dJ10_init_3 hk2 hn3) hk2 hn3 ?_
  intro S4 h
  refine gX_vret hC hA hQ rfl dJ10_init_6 h
theorem mx_J10_init (l : Launch) (E : XE) (mc ms : Nat) (Q : XS → Prop) (S : XS) (x0 : Option Nat) (h : wx_J10_init Q mc ms S x0) : XMet E l yJ10_init cJ10_init 1 none ({ frames := 2, cells := mc, slots := ms, locals := 55 } : Room) [va_rf x0] S (fun sz => va_Qv Q (BX1 E S sz) (xA S sz)) :=
  XMet_of (rm := ({ frames := 2, cells := mc, slots := ms, locals := 55 } : Room)) (by decide) (by simp [lg_sl, va_rf_cat, cat_i, cat_l]) (L0 := [some (va_rf x0)]) (by simp [lx_pairs, lv_args, va_rf_cat, cat_i, cat_l, List.range_succ]) (fun sz C hC hX hl hnm hA hQ => bx_J10_init E C S sz Q mc ms S x0 hC hX hA hnm hQ h)
/-! J12_newLength -/
def wx_J12_newLength_21 (Q : Int32 → XS → Prop) (S : XS) (a0 : Int32) (a1 : Int32) : Prop :=
  False
def wx_J12_newLength (Q : Int32 → XS → Prop) (S : XS) (x0 : Int32) (x1 : Int32) (x2 : Int32) : Prop :=
  (if (x0 + (if x1 < x2 then x2 else x1)) ≤ (0 : Int32) then wx_J12_newLength_21 Q S x0 x1 else (if (2147483639 : Int32) < (x0 + (if x1 < x2 then x2 else x1)) then wx_J12_newLength_21 Q S x0 x1 else Q (x0 + (if x1 < x2 then x2 else x1)) S))
theorem hx_J12_newLength : yJ12_newLength.cls = RJ12 ∧ yJ12_newLength.cls ≠ "java/lang/invoke/MethodHandle" ∧ yJ12_newLength.cls ≠ "java/lang/invoke/VarHandle" ∧ (parseMethodDescriptor yJ12_newLength.desc).map (fun d => d.parameters.length) = some 3 := by decide +kernel
set_option maxHeartbeats 4000000 in
set_option maxRecDepth 100000 in
theorem bx_J12_newLength (E : XE) (C : Cx) (S0 : XS) (sz : Nat) (Q : Int32 → XS → Prop) (S : XS) (x0 : Int32) (x1 : Int32) (x2 : Int32) (hC : COk C cJ12_newLength RJ12 (some .int) 1 34 4) (hX : XOk E C) (hA : cx_A C = xA S0 sz) (hQ : cx_Q C = MQ (cx_b C) (va_Qi Q (BX1 E S0 sz) (xA S0 sz)) (cx_a C) (cx_s C) (cx_MC C) (cx_MS C) (xA S0 sz)) (h : wx_J12_newLength Q S x0 x1 x2) : GX E C S 0 0 0 [some (.int x0), some (.int x1), some (.int x2), none] [] := by
  have s_21 : ∀ (S : XS) (a0 : Int32) (a1 : Int32), wx_J12_newLength_21 Q  S a0 a1 → GX E C S 0 0 21 [some (.int a0), some (.int a1), none, none] [] := by
    intro  S a0 a1 h
    refine g_iload_n hC dJ12_newLength_21 rfl ?_
    refine g_iload_n hC dJ12_newLength_22 rfl ?_
    exact False.elim h
  refine g_iload_n hC dJ12_newLength_0 rfl ?_
  refine g_iload_n hC dJ12_newLength_1 rfl ?_
  refine g_iload_n hC dJ12_newLength_2 rfl ?_
  refine g_mmax hC dJ12_newLength_3 q538 q539 q91 q540 (Nat.le_of_ble_eq_true rfl) (by decide) (by decide) ?_
  refine g_iadd hC dJ12_newLength_6 ?_
  refine g_istore_n hC dJ12_newLength_7 rfl (by decide) rfl rfl ?_
  refine g_sub [true, true, false, true] rfl ?_
  refine g_iconst (v := 0) hC dJ12_newLength_8 (by decide) ?_
  refine g_iload_n hC dJ12_newLength_9 rfl ?_
  refine g_icmp_ge (tgt := 21) hC dJ12_newLength_10 (by decide) (fun c => ?_) (fun c => ?_)
  · have h := it_p c h
    refine g_sub [true, true, false, false] rfl ?_
    exact s_21 S x0 x1 h
  · have h := it_n c h
    refine g_iload_n hC dJ12_newLength_13 rfl ?_
    refine g_ldc (v := 2147483639) hC dJ12_newLength_14 q541 ?_
    refine g_icmp_gt (tgt := 21) hC dJ12_newLength_16 (by decide) (fun c => ?_) (fun c => ?_)
    · have h := it_p c h
      refine g_sub [true, true, false, false] rfl ?_
      exact s_21 S x0 x1 h
    · have h := it_n c h
      refine g_iload_n hC dJ12_newLength_19 rfl ?_
      refine gX_iret rfl hC hA hQ dJ12_newLength_20 h
theorem mx_J12_newLength (l : Launch) (E : XE) (Q : Int32 → XS → Prop) (S : XS) (x0 : Int32) (x1 : Int32) (x2 : Int32) (h : wx_J12_newLength Q S x0 x1 x2) : XMet E l yJ12_newLength cJ12_newLength 4 (some .int) ({ frames := 1, cells := 0, slots := 0, locals := 34 } : Room) [.int x0, .int x1, .int x2] S (fun sz => va_Qi Q (BX1 E S sz) (xA S sz)) :=
  XMet_of (rm := ({ frames := 1, cells := 0, slots := 0, locals := 34 } : Room)) (by decide) (by simp [lg_sl, va_rf_cat, cat_i, cat_l]) (L0 := [some (.int x0), some (.int x1), some (.int x2), none]) (by simp [lx_pairs, lv_args, va_rf_cat, cat_i, cat_l, List.range_succ]) (fun sz C hC hX hl hnm hA hQ => bx_J12_newLength E C S sz Q S x0 x1 x2 hC hX hA hQ h)
/-! J9_newCapacity -/
def wx_J9_newCapacity (Q : Int32 → XS → Prop) (S : XS) (x0 : Option Nat) (x1 : Int32) : Prop :=
  dr x0 (fun u1 => xKD S u1 = some 18 ∧ dr (xFR S 5200 u1) (fun u3 => xKD S u3 = some 101 ∧ wx_J12_newLength (fun r6 S5 => (if r6 = (2147483647 : Int32) then False else xKD S5 u1 = some 18 ∧ Q (r6 >>> ((xFI S5 5201 u1) &&& 31)) S5)) S (Int32.ofNat (xLN S u3)) ((x1 <<< ((xFI S 5201 u1) &&& 31)) - (Int32.ofNat (xLN S u3))) ((Int32.ofNat (xLN S u3)) + ((2 : Int32) <<< ((xFI S 5201 u1) &&& 31)))))
theorem hx_J9_newCapacity : yJ9_newCapacity.cls = RJ9 ∧ yJ9_newCapacity.cls ≠ "java/lang/invoke/MethodHandle" ∧ yJ9_newCapacity.cls ≠ "java/lang/invoke/VarHandle" ∧ (parseMethodDescriptor yJ9_newCapacity.desc).map (fun d => d.parameters.length) = some 1 := by decide +kernel
set_option maxHeartbeats 4000000 in
set_option maxRecDepth 100000 in
theorem bx_J9_newCapacity (E : XE) (C : Cx) (S0 : XS) (sz : Nat) (Q : Int32 → XS → Prop) (S : XS) (x0 : Option Nat) (x1 : Int32) (hC : COk C cJ9_newCapacity RJ9 (some .int) 2 57 6) (hX : XOk E C) (hA : cx_A C = xA S0 sz) (hQ : cx_Q C = MQ (cx_b C) (va_Qi Q (BX1 E S0 sz) (xA S0 sz)) (cx_a C) (cx_s C) (cx_MC C) (cx_MS C) (xA S0 sz)) (h : wx_J9_newCapacity Q S x0 x1) : GX E C S 0 0 0 [some (va_rf x0), some (.int x1), none, none, none, none] [] := by
  refine g_aload_nR hC dJ9_newCapacity_0 rfl ?_
  obtain ⟨u1, eu1, h⟩ := h
  refine g_top0 eu1 ?_
  have hk2 := h.1
  refine gX_get (C0 := RJ10) (T := TJ10) (N := 4) (n := 18) (k := 0) (q := (5200, true)) hC hX dJ9_newCapacity_1 q507 rfl in_J10 (by decide) (Or.inl rfl) rfl (by decide) hk2 ?_
  show GX _ _ _ _ _ _ _ (va_rf (xFR S 5200 u1) :: _)
  obtain ⟨u3, eu3, h⟩ := h.2
  refine g_top0 eu3 ?_
  have hk4 := h.1
  refine gX_alen (n := 101) hC hX dJ9_newCapacity_4 (by decide) hk4 ?_
  refine g_istore_n hC dJ9_newCapacity_5 rfl (by decide) rfl rfl ?_
  refine g_iload_n hC dJ9_newCapacity_6 rfl ?_
  refine g_aload_nR hC dJ9_newCapacity_7 rfl ?_
  refine g_top0 eu1 ?_
  refine gX_get (C0 := RJ10) (T := TJ10) (N := 4) (n := 18) (k := 1) (q := (5201, false)) hC hX dJ9_newCapacity_8 q508 rfl in_J10 (by decide) (Or.inl rfl) rfl (by decide) hk2 ?_
  show GX _ _ _ _ _ _ _ (.int (xFI S 5201 u1) :: _)
  refine g_ishl hC dJ9_newCapacity_11 ?_
  refine g_istore_n hC dJ9_newCapacity_12 rfl (by decide) rfl rfl ?_
  refine g_sub [true, false, true, true, false, false] rfl ?_
  refine g_iload_n hC dJ9_newCapacity_13 rfl ?_
  refine g_iload_n hC dJ9_newCapacity_14 rfl ?_
  refine g_isub hC dJ9_newCapacity_15 ?_
  refine g_istore hC dJ9_newCapacity_16 (by decide) rfl rfl ?_
  refine g_sub [true, false, true, false, true, false] rfl ?_
  refine g_iload_n hC dJ9_newCapacity_18 rfl ?_
  refine g_iload hC dJ9_newCapacity_19 rfl ?_
  refine g_iload_n hC dJ9_newCapacity_21 rfl ?_
  refine g_iconst (v := 2) hC dJ9_newCapacity_22 (by decide) ?_
  refine g_aload_nR hC dJ9_newCapacity_23 rfl ?_
  refine g_top0 eu1 ?_
  refine gX_get (C0 := RJ10) (T := TJ10) (N := 4) (n := 18) (k := 1) (q := (5201, false)) hC hX dJ9_newCapacity_24 q508 rfl in_J10 (by decide) (Or.inl rfl) rfl (by decide) hk2 ?_
  show GX _ _ _ _ _ _ _ (.int (xFI S 5201 u1) :: _)
  refine g_ishl hC dJ9_newCapacity_27 ?_
  refine g_iadd hC dJ9_newCapacity_28 ?_
  refine gX_ni hX (gX_runS (As := [.int (Int32.ofNat (xLN S u3)), .int ((x1 <<< ((xFI S 5201 u1) &&& 31)) - (Int32.ofNat (xLN S u3))), .int ((Int32.ofNat (xLN S u3)) + ((2 : Int32) <<< ((xFI S 5201 u1) &&& 31)))]) (rest := []) hC hX (mx_J12_newLength (cx_l C) E _ _ _ _ _ h.2) (lw_S q535 q536 q90 q537) hx_J12_newLength.2 rfl rfl (Or.inl (Nat.le_of_ble_eq_true rfl)) ⟨Nat.le_of_ble_eq_true rfl, Nat.le_of_ble_eq_true rfl⟩ dJ9_newCapacity_29 (Nat.zero_le _) (Nat.zero_le _)) rfl rfl ?_
  intro r6 S5 h
  refine g_istore hC dJ9_newCapacity_32 (by decide) rfl rfl ?_
  refine g_sub [true, false, false, false, false, true] rfl ?_
  refine g_iload hC dJ9_newCapacity_34 rfl ?_
  refine g_ldc (v := 2147483647) hC dJ9_newCapacity_36 q545 ?_
  refine g_icmp_ne (tgt := 51) hC dJ9_newCapacity_38 (by decide) (fun c => ?_) (fun c => ?_)
  · have h := it_n c h
    refine g_iload hC dJ9_newCapacity_51 rfl ?_
    refine g_aload_nR hC dJ9_newCapacity_53 rfl ?_
    refine g_top0 eu1 ?_
    have hk7 := h.1
    refine gX_get (C0 := RJ10) (T := TJ10) (N := 4) (n := 18) (k := 1) (q := (5201, false)) hC hX dJ9_newCapacity_54 q508 rfl in_J10 (by decide) (Or.inl rfl) rfl (by decide) hk7 ?_
    show GX _ _ _ _ _ _ _ (.int (xFI S5 5201 u1) :: _)
    refine g_ishr hC dJ9_newCapacity_57 ?_
    refine gX_iret rfl hC hA hQ dJ9_newCapacity_58 h.2
  · have h := it_p c h
    exact False.elim h
theorem mx_J9_newCapacity (l : Launch) (E : XE) (Q : Int32 → XS → Prop) (S : XS) (x0 : Option Nat) (x1 : Int32) (h : wx_J9_newCapacity Q S x0 x1) : XMet E l yJ9_newCapacity cJ9_newCapacity 6 (some .int) ({ frames := 2, cells := 0, slots := 0, locals := 57 } : Room) [va_rf x0, .int x1] S (fun sz => va_Qi Q (BX1 E S sz) (xA S sz)) :=
  XMet_of (rm := ({ frames := 2, cells := 0, slots := 0, locals := 57 } : Room)) (by decide) (by simp [lg_sl, va_rf_cat, cat_i, cat_l]) (L0 := [some (va_rf x0), some (.int x1), none, none, none, none]) (by simp [lx_pairs, lv_args, va_rf_cat, cat_i, cat_l, List.range_succ]) (fun sz C hC hX hl hnm hA hQ => bx_J9_newCapacity E C S sz Q S x0 x1 hC hX hA hQ h)
/-! J9_ensureCapacityInternal -/
def wx_J9_ensureCapacityInternal (Q : XS → Prop) (mc ms : Nat) (S : XS) (x0 : Option Nat) (x1 : Int32) : Prop :=
  dr x0 (fun u1 => xKD S u1 = some 18 ∧ dr (xFR S 5200 u1) (fun u3 => xKD S u3 = some 101 ∧ (if (x1 - ((Int32.ofNat (xLN S u3)) >>> ((xFI S 5201 u1) &&& 31))) ≤ 0 then Q S else wx_J9_newCapacity (fun r6 S5 => xKD S5 u1 = some 18 ∧ (∃ k8 n9, k8 ≤ mc ∧ n9 ≤ ms ∧ wx_J14_copyOf (fun r11 S10 => xKD S10 u1 = some 18 ∧ Q (sFR S10 5200 u1 r11)) k8 n9 S5 (xFR S 5200 u1) (r6 <<< ((xFI S5 5201 u1) &&& 31)))) S (some u1) x1)))
theorem hx_J9_ensureCapacityInternal : yJ9_ensureCapacityInternal.cls = RJ9 ∧ yJ9_ensureCapacityInternal.cls ≠ "java/lang/invoke/MethodHandle" ∧ yJ9_ensureCapacityInternal.cls ≠ "java/lang/invoke/VarHandle" ∧ (parseMethodDescriptor yJ9_ensureCapacityInternal.desc).map (fun d => d.parameters.length) = some 1 := by decide +kernel
set_option maxHeartbeats 4000000 in
set_option maxRecDepth 100000 in
theorem bx_J9_ensureCapacityInternal (E : XE) (C : Cx) (S0 : XS) (sz : Nat) (Q : XS → Prop) (mc ms : Nat) (S : XS) (x0 : Option Nat) (x1 : Int32) (hC : COk C cJ9_ensureCapacityInternal RJ9 none 3 82 3) (hX : XOk E C) (hA : cx_A C = xA S0 sz) (hQ : cx_Q C = MQ (cx_b C) (va_Qv Q (BX1 E S0 sz) (xA S0 sz)) (cx_a C) (cx_s C) (cx_MC C) (cx_MS C) (xA S0 sz)) (h : wx_J9_ensureCapacityInternal Q mc ms S x0 x1) : GX E C S mc ms 0 [some (va_rf x0), some (.int x1), none] [] := by
  refine g_aload_nR hC dJ9_ensureCapacityInternal_0 rfl ?_
  obtain ⟨u1, eu1, h⟩ := h
  refine g_top0 eu1 ?_
  have hk2 := h.1
  refine gX_get (C0 := RJ10) (T := TJ10) (N := 4) (n := 18) (k := 0) (q := (5200, true)) hC hX dJ9_ensureCapacityInternal_1 q507 rfl in_J10 (by decide) (Or.inl rfl) rfl (by decide) hk2 ?_
  show GX _ _ _ _ _ _ _ (va_rf (xFR S 5200 u1) :: _)
  obtain ⟨u3, eu3, h⟩ := h.2
  refine g_top0 eu3 ?_
  have hk4 := h.1
  refine gX_alen (n := 101) hC hX dJ9_ensureCapacityInternal_4 (by decide) hk4 ?_
  refine g_aload_nR hC dJ9_ensureCapacityInternal_5 rfl ?_
  refine g_top0 eu1 ?_
  refine gX_get (C0 := RJ10) (T := TJ10) (N := 4) (n := 18) (k := 1) (q := (5201, false)) hC hX dJ9_ensureCapacityInternal_6 q508 rfl in_J10 (by decide) (Or.inl rfl) rfl (by decide) hk2 ?_
  show GX _ _ _ _ _ _ _ (.int (xFI S 5201 u1) :: _)
  refine g_ishr hC dJ9_ensureCapacityInternal_9 ?_
  refine g_istore_n hC dJ9_ensureCapacityInternal_10 rfl (by decide) rfl rfl ?_
  refine g_iload_n hC dJ9_ensureCapacityInternal_11 rfl ?_
  refine g_iload_n hC dJ9_ensureCapacityInternal_12 rfl ?_
  refine g_isub hC dJ9_ensureCapacityInternal_13 ?_
  refine g_if_le (tgt := 38) hC dJ9_ensureCapacityInternal_14 (by decide) (fun c => ?_) (fun c => ?_)
  · have h := it_p c h.2
    refine gX_vret hC hA hQ rfl dJ9_ensureCapacityInternal_38 h
  · have h := it_n c h.2
    refine g_aload_nR hC dJ9_ensureCapacityInternal_17 rfl ?_
    refine g_aload_nR hC dJ9_ensureCapacityInternal_18 rfl ?_
    refine g_top0 eu1 ?_
    refine gX_get (C0 := RJ10) (T := TJ10) (N := 4) (n := 18) (k := 0) (q := (5200, true)) hC hX dJ9_ensureCapacityInternal_19 q507 rfl in_J10 (by decide) (Or.inl rfl) rfl (by decide) hk2 ?_
    show GX _ _ _ _ _ _ _ (va_rf (xFR S 5200 u1) :: _)
    refine g_aload_nR hC dJ9_ensureCapacityInternal_22 rfl ?_
    refine g_iload_n hC dJ9_ensureCapacityInternal_23 rfl ?_
    refine g_top1 eu1 ?_
    refine gX_ni hX (gX_runUP (n := 1) (As := [.int x1]) (rest := [va_rf (xFR S 5200 u1), va_rf x0]) (x := ⟨"java/lang/AbstractStringBuilder", "newCapacity", "(I)I"⟩) (owner := "java/lang/AbstractStringBuilder") (Cr := "java/lang/StringBuilder") hC hX (mx_J9_newCapacity (cx_l C) E _ _ _ _ h) q534 q87 q533 q531 q1991 q533 q534 (xdef_at 10 rfl) (by decide +kernel) rfl rfl (Or.inl (Nat.le_of_ble_eq_true rfl)) ⟨Nat.le_of_ble_eq_true rfl, Nat.le_of_ble_eq_true rfl⟩ dJ9_ensureCapacityInternal_24 (Nat.zero_le _) (Nat.zero_le _) hk2 rfl (by decide) rfl) rfl rfl ?_
    intro r6 S5 h
    refine g_aload_nR hC dJ9_ensureCapacityInternal_27 rfl ?_
    refine g_top0 eu1 ?_
    have hk7 := h.1
    refine gX_get (C0 := RJ10) (T := TJ10) (N := 4) (n := 18) (k := 1) (q := (5201, false)) hC hX dJ9_ensureCapacityInternal_28 q508 rfl in_J10 (by decide) (Or.inl rfl) rfl (by decide) hk7 ?_
    show GX _ _ _ _ _ _ _ (.int (xFI S5 5201 u1) :: _)
    refine g_ishl hC dJ9_ensureCapacityInternal_31 ?_
    obtain ⟨k8, n9, hk8, hn9, h⟩ := h.2
    refine gX_cq hX (gX_runS (As := [va_rf (xFR S 5200 u1), .int (r6 <<< ((xFI S5 5201 u1) &&& 31))]) (rest := [va_rf x0]) hC hX (mx_J14_copyOf (cx_l C) E k8 n9 _ _ _ _ h) (lw_S q546 q547 q92 q548) hx_J14_copyOf.2 rfl rfl (Or.inl (Nat.le_of_ble_eq_true rfl)) ⟨Nat.le_of_ble_eq_true rfl, Nat.le_of_ble_eq_true rfl⟩ dJ9_ensureCapacityInternal_32 hk8 hn9) hk8 hn9 ?_
    intro r11 S10 h
    refine g_top1 eu1 ?_
    have hk12 := h.1
    refine gX_putR (C0 := RJ10) (T := TJ10) (ty0 := tyJ10) (N := 4) (n := 18) (k := 0) (f := 5200) hC hX dJ9_ensureCapacityInternal_35 q507 rfl in_J10 tyJ10_ok nmJ10 (by decide) (Or.inl rfl) rfl rfl (narrow_rf (Or.inr ⟨_, rfl⟩) _) (fits_rf (Or.inr ⟨_, rfl⟩) _) rfl (by decide) (Or.inl (by decide)) hk12 ?_
    refine gX_vret hC hA hQ rfl dJ9_ensureCapacityInternal_38 h.2
theorem mx_J9_ensureCapacityInternal (l : Launch) (E : XE) (mc ms : Nat) (Q : XS → Prop) (S : XS) (x0 : Option Nat) (x1 : Int32) (h : wx_J9_ensureCapacityInternal Q mc ms S x0 x1) : XMet E l yJ9_ensureCapacityInternal cJ9_ensureCapacityInternal 3 none ({ frames := 3, cells := mc, slots := ms, locals := 82 } : Room) [va_rf x0, .int x1] S (fun sz => va_Qv Q (BX1 E S sz) (xA S sz)) :=
  XMet_of (rm := ({ frames := 3, cells := mc, slots := ms, locals := 82 } : Room)) (by decide) (by simp [lg_sl, va_rf_cat, cat_i, cat_l]) (L0 := [some (va_rf x0), some (.int x1), none]) (by simp [lx_pairs, lv_args, va_rf_cat, cat_i, cat_l, List.range_succ]) (fun sz C hC hX hl hnm hA hQ => bx_J9_ensureCapacityInternal E C S sz Q mc ms S x0 x1 hC hX hA hQ h)
/-! J9_isLatin1 -/
def wx_J9_isLatin1 (Q : Int32 → XS → Prop) (S : XS) (x0 : Option Nat) : Prop :=
  (if (1 : Int32) = 0 then Q (0 : Int32) S else dr x0 (fun u1 => xKD S u1 = some 18 ∧ (if (xFI S 5201 u1) = 0 then Q (1 : Int32) S else Q (0 : Int32) S)))
theorem hx_J9_isLatin1 : yJ9_isLatin1.cls = RJ9 ∧ yJ9_isLatin1.cls ≠ "java/lang/invoke/MethodHandle" ∧ yJ9_isLatin1.cls ≠ "java/lang/invoke/VarHandle" ∧ (parseMethodDescriptor yJ9_isLatin1.desc).map (fun d => d.parameters.length) = some 0 := by decide +kernel
set_option maxHeartbeats 4000000 in
set_option maxRecDepth 100000 in
theorem bx_J9_isLatin1 (E : XE) (C : Cx) (S0 : XS) (sz : Nat) (Q : Int32 → XS → Prop) (S : XS) (x0 : Option Nat) (hC : COk C cJ9_isLatin1 RJ9 (some .boolean) 1 34 1) (hX : XOk E C) (hA : cx_A C = xA S0 sz) (hQ : cx_Q C = MQ (cx_b C) (va_Qi Q (BX1 E S0 sz) (xA S0 sz)) (cx_a C) (cx_s C) (cx_MC C) (cx_MS C) (xA S0 sz)) (h : wx_J9_isLatin1 Q S x0) : GX E C S 0 0 0 [some (va_rf x0)] [] := by
  refine gX_getsI (v := 1) hC hX dJ9_isLatin1_0 (List.mem_of_getElem? (i := 0) rfl) q498 rfl ?_
  refine g_if_eq (tgt := 17) hC dJ9_isLatin1_3 (by decide) (fun c => ?_) (fun c => ?_)
  · have h := it_p c h
    refine g_iconst (v := 0) hC dJ9_isLatin1_17 (by decide) ?_
    refine gX_zret rfl rfl hC hA hQ dJ9_isLatin1_18 h
  · have h := it_n c h
    refine g_aload_nR hC dJ9_isLatin1_6 rfl ?_
    obtain ⟨u1, eu1, h⟩ := h
    refine g_top0 eu1 ?_
    have hk2 := h.1
    refine gX_get (C0 := RJ10) (T := TJ10) (N := 4) (n := 18) (k := 1) (q := (5201, false)) hC hX dJ9_isLatin1_7 q508 rfl in_J10 (by decide) (Or.inl rfl) rfl (by decide) hk2 ?_
    show GX _ _ _ _ _ _ _ (.int (xFI S 5201 u1) :: _)
    refine g_if_ne (tgt := 17) hC dJ9_isLatin1_10 (by decide) (fun c => ?_) (fun c => ?_)
    · have h := it_n c h.2
      refine g_iconst (v := 0) hC dJ9_isLatin1_17 (by decide) ?_
      refine gX_zret rfl rfl hC hA hQ dJ9_isLatin1_18 h
    · have h := it_p c h.2
      refine g_iconst (v := 1) hC dJ9_isLatin1_13 (by decide) ?_
      refine g_goto (tgt := 18) hC dJ9_isLatin1_14 (by decide) ?_
      refine gX_zret rfl rfl hC hA hQ dJ9_isLatin1_18 h
theorem mx_J9_isLatin1 (l : Launch) (E : XE) (Q : Int32 → XS → Prop) (S : XS) (x0 : Option Nat) (h : wx_J9_isLatin1 Q S x0) : XMet E l yJ9_isLatin1 cJ9_isLatin1 1 (some .boolean) ({ frames := 1, cells := 0, slots := 0, locals := 34 } : Room) [va_rf x0] S (fun sz => va_Qi Q (BX1 E S sz) (xA S sz)) :=
  XMet_of (rm := ({ frames := 1, cells := 0, slots := 0, locals := 34 } : Room)) (by decide) (by simp [lg_sl, va_rf_cat, cat_i, cat_l]) (L0 := [some (va_rf x0)]) (by simp [lx_pairs, lv_args, va_rf_cat, cat_i, cat_l, List.range_succ]) (fun sz C hC hX hl hnm hA hQ => bx_J9_isLatin1 E C S sz Q S x0 hC hX hA hQ h)
/-! J9_append -/
def wx_J9_append_56 (Q : Option Nat → XS → Prop) (mc ms : Nat) (S : XS) (a0 : Option Nat) (a1 : Int32) : Prop :=
  dr a0 (fun u14 => xKD S u14 = some 18 ∧ False)
def wx_J9_append_45 (Q : Option Nat → XS → Prop) (mc ms : Nat) (S : XS) (a0 : Option Nat) (a1 : Int32) : Prop :=
  dr a0 (fun u10 => xKD S u10 = some 18 ∧ wx_J9_isLatin1 (fun r13 S12 => (if r13 = 0 then wx_J9_append_56 Q mc ms S12 a0 a1 else False)) S (some u10))
def wx_J9_append (Q : Option Nat → XS → Prop) (mc ms : Nat) (S : XS) (x0 : Option Nat) (x1 : Int32) : Prop :=
  dr x0 (fun u1 => xKD S u1 = some 18 ∧ (∃ k3 n4, k3 ≤ mc ∧ n4 ≤ ms ∧ wx_J9_ensureCapacityInternal (fun S5 => xKD S5 u1 = some 18 ∧ wx_J9_isLatin1 (fun r9 S8 => (if r9 = 0 then wx_J9_append_45 Q (mc - k3) (ms - n4) S8 x0 x1 else wx_J15_canEncode (fun r17 S16 => (if r17 = 0 then wx_J9_append_45 Q (mc - k3) (ms - n4) S16 x0 x1 else xKD S16 u1 = some 18 ∧ dr (xFR S16 5200 u1) (fun u19 => xKD (sFI S16 5203 u1 ((xFI S16 5203 u1) + (1 : Int32))) u19 = some 101 ∧ xRO (sFI S16 5203 u1 ((xFI S16 5203 u1) + (1 : Int32))) u19 = false ∧ vp_in (xFI S16 5203 u1) (xLN (sFI S16 5203 u1 ((xFI S16 5203 u1) + (1 : Int32))) u19) ∧ Q x0 (sAI (sFI S16 5203 u1 ((xFI S16 5203 u1) + (1 : Int32))) u19 (Int32.toNatClampNeg (xFI S16 5203 u1)) (vp_nar .byte (Int8.toInt32 (Int32.toInt8 x1))))))) S8 x1)) S5 (some u1)) k3 n4 S (some u1) ((xFI S 5203 u1) + (1 : Int32))))
theorem hx_J9_append : yJ9_append.cls = RJ9 ∧ yJ9_append.cls ≠ "java/lang/invoke/MethodHandle" ∧ yJ9_append.cls ≠ "java/lang/invoke/VarHandle" ∧ (parseMethodDescriptor yJ9_append.desc).map (fun d => d.parameters.length) = some 1 := by decide +kernel
set_option maxHeartbeats 4000000 in
set_option maxRecDepth 100000 in
theorem bx_J9_append (E : XE) (C : Cx) (S0 : XS) (sz : Nat) (Q : Option Nat → XS → Prop) (mc ms : Nat) (S : XS) (x0 : Option Nat) (x1 : Int32) (hC : COk C cJ9_append RJ9 (some (.object "java/lang/AbstractStringBuilder")) 4 104 2) (hX : XOk E C) (hA : cx_A C = xA S0 sz) (hQ : cx_Q C = MQ (cx_b C) (va_Qq Q (BX1 E S0 sz) (xA S0 sz)) (cx_a C) (cx_s C) (cx_MC C) (cx_MS C) (xA S0 sz)) (h : wx_J9_append Q mc ms S x0 x1) : GX E C S mc ms 0 [some (va_rf x0), some (.int x1)] [] := by
  have s_56 : ∀ (mc ms : Nat) (S : XS) (a0 : Option Nat) (a1 : Int32), wx_J9_append_56 Q  mc ms S a0 a1 → GX E C S mc ms 56 [some (va_rf a0), some (.int a1)] [] := by
    intro  mc ms S a0 a1 h
    refine g_aload_nR hC dJ9_append_56 rfl ?_
    obtain ⟨u14, eu14, h⟩ := h
    refine g_top0 eu14 ?_
    have hk15 := h.1
    refine gX_get (C0 := RJ10) (T := TJ10) (N := 4) (n := 18) (k := 0) (q := (5200, true)) hC hX dJ9_append_57 q507 rfl in_J10 (by decide) (Or.inl rfl) rfl (by decide) hk15 ?_
    show GX _ _ _ _ _ _ _ (va_rf (xFR S 5200 u14) :: _)
    refine g_aload_nR hC dJ9_append_60 rfl ?_
    refine g_dup hC dJ9_append_61 (va_rf_cat _) ?_
    refine g_top0 eu14 ?_
    refine gX_get (C0 := RJ10) (T := TJ10) (N := 4) (n := 18) (k := 3) (q := (5203, false)) hC hX dJ9_append_62 q510 rfl in_J10 (by decide) (Or.inl rfl) rfl (by decide) hk15 ?_
    show GX _ _ _ _ _ _ _ (.int (xFI S 5203 u14) :: _)
    refine g_dup_x1 hC dJ9_append_65 rfl (va_rf_cat _) ?_
    refine g_iconst (v := 1) hC dJ9_append_66 (by decide) ?_
    refine g_iadd hC dJ9_append_67 ?_
    refine g_top1 eu14 ?_
    refine gX_putI (C0 := RJ10) (T := TJ10) (ty0 := tyJ10) (N := 4) (n := 18) (k := 3) (f := 5203) hC hX dJ9_append_68 q510 rfl in_J10 tyJ10_ok nmJ10 (by decide) (Or.inl rfl) rfl rfl rfl rfl rfl (by decide) (Or.inl (by decide)) hk15 ?_
    refine g_iload_n hC dJ9_append_71 rfl ?_
    exact False.elim h.2
  have s_45 : ∀ (mc ms : Nat) (S : XS) (a0 : Option Nat) (a1 : Int32), wx_J9_append_45 Q  mc ms S a0 a1 → GX E C S mc ms 45 [some (va_rf a0), some (.int a1)] [] := by
    intro  mc ms S a0 a1 h
    refine g_aload_nR hC dJ9_append_45 rfl ?_
    obtain ⟨u10, eu10, h⟩ := h
    refine g_top0 eu10 ?_
    have hk11 := h.1
    refine gX_ni hX (gX_runU (n := 0) (As := []) (rest := []) (x := ⟨"java/lang/AbstractStringBuilder", "isLatin1", "()Z"⟩) (owner := "java/lang/AbstractStringBuilder") (Cr := "java/lang/StringBuilder") hC hX (mx_J9_isLatin1 (cx_l C) E _ _ _ h.2) (lw_app (lw_5 q560 q562 q563 q561 q87) (lw_meth q564)) rfl (by decide +kernel) rfl rfl (Or.inl (Nat.le_of_ble_eq_true rfl)) ⟨Nat.le_of_ble_eq_true rfl, Nat.le_of_ble_eq_true rfl⟩ dJ9_append_46 (Nat.zero_le _) (Nat.zero_le _) hk11 rfl (by decide) rfl) rfl rfl ?_
    intro r13 S12 h
    refine g_if_eq (tgt := 56) hC dJ9_append_49 (by decide) (fun c => ?_) (fun c => ?_)
    · have h := it_p c h
      exact s_56 mc ms S12 a0 a1 h
    · have h := it_n c h
      refine g_aload_nR hC dJ9_append_52 rfl ?_
      exact False.elim h
  refine g_aload_nR hC dJ9_append_0 rfl ?_
  refine g_aload_nR hC dJ9_append_1 rfl ?_
  obtain ⟨u1, eu1, h⟩ := h
  refine g_top0 eu1 ?_
  have hk2 := h.1
  refine gX_get (C0 := RJ10) (T := TJ10) (N := 4) (n := 18) (k := 3) (q := (5203, false)) hC hX dJ9_append_2 q510 rfl in_J10 (by decide) (Or.inl rfl) rfl (by decide) hk2 ?_
  show GX _ _ _ _ _ _ _ (.int (xFI S 5203 u1) :: _)
  refine g_iconst (v := 1) hC dJ9_append_5 (by decide) ?_
  refine g_iadd hC dJ9_append_6 ?_
  refine g_top1 eu1 ?_
  obtain ⟨k3, n4, hk3, hn4, h⟩ := h.2
  refine gX_cv hX (gX_runUP (n := 1) (As := [.int ((xFI S 5203 u1) + (1 : Int32))]) (rest := []) (x := ⟨"java/lang/AbstractStringBuilder", "ensureCapacityInternal", "(I)V"⟩) (owner := "java/lang/AbstractStringBuilder") (Cr := "java/lang/StringBuilder") hC hX (mx_J9_ensureCapacityInternal (cx_l C) E k3 n4 _ _ _ _ h) q530 q87 q529 q527 q1990 q529 q530 (xdef_at 9 rfl) (by decide +kernel) rfl rfl (Or.inl (Nat.le_of_ble_eq_true rfl)) ⟨Nat.le_of_ble_eq_true rfl, Nat.le_of_ble_eq_true rfl⟩ dJ9_append_7 hk3 hn4 hk2 rfl (by decide) rfl) hk3 hn4 ?_
  intro S5 h
  refine g_aload_nR hC dJ9_append_10 rfl ?_
  refine g_top0 eu1 ?_
  have hk7 := h.1
  refine gX_ni hX (gX_runU (n := 0) (As := []) (rest := []) (x := ⟨"java/lang/AbstractStringBuilder", "isLatin1", "()Z"⟩) (owner := "java/lang/AbstractStringBuilder") (Cr := "java/lang/StringBuilder") hC hX (mx_J9_isLatin1 (cx_l C) E _ _ _ h.2) (lw_app (lw_5 q560 q562 q563 q561 q87) (lw_meth q564)) rfl (by decide +kernel) rfl rfl (Or.inl (Nat.le_of_ble_eq_true rfl)) ⟨Nat.le_of_ble_eq_true rfl, Nat.le_of_ble_eq_true rfl⟩ dJ9_append_11 (Nat.zero_le _) (Nat.zero_le _) hk7 rfl (by decide) rfl) rfl rfl ?_
  intro r9 S8 h
  refine g_if_eq (tgt := 45) hC dJ9_append_14 (by decide) (fun c => ?_) (fun c => ?_)
  · have h := it_p c h
    exact s_45 (mc - k3) (ms - n4) S8 x0 x1 h
  · have h := it_n c h
    refine g_iload_n hC dJ9_append_17 rfl ?_
    refine gX_ni hX (gX_runS (As := [.int x1]) (rest := []) hC hX (mx_J15_canEncode (cx_l C) E _ _ _ h) (lw_S q565 q566 q93 q567) hx_J15_canEncode.2 rfl rfl (Or.inl (Nat.le_of_ble_eq_true rfl)) ⟨Nat.le_of_ble_eq_true rfl, Nat.le_of_ble_eq_true rfl⟩ dJ9_append_18 (Nat.zero_le _) (Nat.zero_le _)) rfl rfl ?_
    intro r17 S16 h
    refine g_if_eq (tgt := 45) hC dJ9_append_21 (by decide) (fun c => ?_) (fun c => ?_)
    · have h := it_p c h
      exact s_45 (mc - k3) (ms - n4) S16 x0 x1 h
    · have h := it_n c h
      refine g_aload_nR hC dJ9_append_24 rfl ?_
      refine g_top0 eu1 ?_
      have hk18 := h.1
      refine gX_get (C0 := RJ10) (T := TJ10) (N := 4) (n := 18) (k := 0) (q := (5200, true)) hC hX dJ9_append_25 q507 rfl in_J10 (by decide) (Or.inl rfl) rfl (by decide) hk18 ?_
      show GX _ _ _ _ _ _ _ (va_rf (xFR S16 5200 u1) :: _)
      refine g_aload_nR hC dJ9_append_28 rfl ?_
      refine g_dup hC dJ9_append_29 (va_rf_cat _) ?_
      refine g_top0 eu1 ?_
      refine gX_get (C0 := RJ10) (T := TJ10) (N := 4) (n := 18) (k := 3) (q := (5203, false)) hC hX dJ9_append_30 q510 rfl in_J10 (by decide) (Or.inl rfl) rfl (by decide) hk18 ?_
      show GX _ _ _ _ _ _ _ (.int (xFI S16 5203 u1) :: _)
      refine g_dup_x1 hC dJ9_append_33 rfl (va_rf_cat _) ?_
      refine g_iconst (v := 1) hC dJ9_append_34 (by decide) ?_
      refine g_iadd hC dJ9_append_35 ?_
      refine g_top1 eu1 ?_
      refine gX_putI (C0 := RJ10) (T := TJ10) (ty0 := tyJ10) (N := 4) (n := 18) (k := 3) (f := 5203) hC hX dJ9_append_36 q510 rfl in_J10 tyJ10_ok nmJ10 (by decide) (Or.inl rfl) rfl rfl rfl rfl rfl (by decide) (Or.inl (by decide)) hk18 ?_
      refine g_iload_n hC dJ9_append_39 rfl ?_
      refine g_i2b hC dJ9_append_40 ?_
      obtain ⟨u19, eu19, h⟩ := h.2
      refine g_top2 eu19 ?_
      have hk20 := h.1
      refine gX_bast hC hX dJ9_append_41 hk20 h.2.1 h.2.2.1 ?_
      refine g_goto (tgt := 75) hC dJ9_append_42 (by decide) ?_
      refine g_aload_nR hC dJ9_append_75 rfl ?_
      refine gX_aret hC hA hQ rfl (Or.inl ⟨_, rfl⟩) dJ9_append_76 h.2.2.2
theorem mx_J9_append (l : Launch) (E : XE) (mc ms : Nat) (Q : Option Nat → XS → Prop) (S : XS) (x0 : Option Nat) (x1 : Int32) (h : wx_J9_append Q mc ms S x0 x1) : XMet E l yJ9_append cJ9_append 2 (some (.object "java/lang/AbstractStringBuilder")) ({ frames := 4, cells := mc, slots := ms, locals := 104 } : Room) [va_rf x0, .int x1] S (fun sz => va_Qq Q (BX1 E S sz) (xA S sz)) :=
  XMet_of (rm := ({ frames := 4, cells := mc, slots := ms, locals := 104 } : Room)) (by decide) (by simp [lg_sl, va_rf_cat, cat_i, cat_l]) (L0 := [some (va_rf x0), some (.int x1)]) (by simp [lx_pairs, lv_args, va_rf_cat, cat_i, cat_l, List.range_succ]) (fun sz C hC hX hl hnm hA hQ => bx_J9_append E C S sz Q mc ms S x0 x1 hC hX hA hQ h)
/-! J10_append -/
def wx_J10_append (Q : Option Nat → XS → Prop) (mc ms : Nat) (S : XS) (x0 : Option Nat) (x1 : Int32) : Prop :=
  dr x0 (fun u1 => xKD S u1 = some 18 ∧ (∃ k3 n4, k3 ≤ mc ∧ n4 ≤ ms ∧ wx_J9_append (fun r6 S5 => Q x0 S5) k3 n4 S (some u1) x1))
theorem hx_J10_append : yJ10_append.cls = RJ10 ∧ yJ10_append.cls ≠ "java/lang/invoke/MethodHandle" ∧ yJ10_append.cls ≠ "java/lang/invoke/VarHandle" ∧ (parseMethodDescriptor yJ10_append.desc).map (fun d => d.parameters.length) = some 1 := by decide +kernel
set_option maxHeartbeats 4000000 in
set_option maxRecDepth 100000 in
theorem bx_J10_append (E : XE) (C : Cx) (S0 : XS) (sz : Nat) (Q : Option Nat → XS → Prop) (mc ms : Nat) (S : XS) (x0 : Option Nat) (x1 : Int32) (hC : COk C cJ10_append RJ10 (some (.object "java/lang/StringBuilder")) 5 125 2) (hX : XOk E C) (hA : cx_A C = xA S0 sz) (hQ : cx_Q C = MQ (cx_b C) (va_Qq Q (BX1 E S0 sz) (xA S0 sz)) (cx_a C) (cx_s C) (cx_MC C) (cx_MS C) (xA S0 sz)) (h : wx_J10_append Q mc ms S x0 x1) : GX E C S mc ms 0 [some (va_rf x0), some (.int x1)] [] := by
  refine g_aload_nR hC dJ10_append_0 rfl ?_
  refine g_iload_n hC dJ10_append_1 rfl ?_
  obtain ⟨u1, eu1, h⟩ := h
  refine g_top1 eu1 ?_
  have hk2 := h.1
  obtain ⟨k3, n4, hk3, hn4, h⟩ := h.2
  refine gX_cq hX (gX_runSU (n := 1) (As := [.int x1]) (rest := []) hC hX (mx_J9_append (cx_l C) E k3 n4 _ _ _ _ h) (lw_app (lw_5 q524 q1989 q519 q525 q87) (lw_meth q526)) (by decide +kernel) rfl rfl (Or.inl (Nat.le_of_ble_eq_true rfl)) ⟨Nat.le_of_ble_eq_true rfl, Nat.le_of_ble_eq_true rfl⟩ dJ10_append_2 hk3 hn4 hk2 rfl (by decide) rfl) hk3 hn4 ?_
  intro r6 S5 h
  refine g_pop hC dJ10_append_5 (va_rf_cat _) ?_
  refine g_aload_nR hC dJ10_append_6 rfl ?_
  refine gX_aret hC hA hQ rfl (Or.inl ⟨_, rfl⟩) dJ10_append_7 h
theorem mx_J10_append (l : Launch) (E : XE) (mc ms : Nat) (Q : Option Nat → XS → Prop) (S : XS) (x0 : Option Nat) (x1 : Int32) (h : wx_J10_append Q mc ms S x0 x1) : XMet E l yJ10_append cJ10_append 2 (some (.object "java/lang/StringBuilder")) ({ frames := 5, cells := mc, slots := ms, locals := 125 } : Room) [va_rf x0, .int x1] S (fun sz => va_Qq Q (BX1 E S sz) (xA S sz)) :=
  XMet_of (rm := ({ frames := 5, cells := mc, slots := ms, locals := 125 } : Room)) (by decide) (by simp [lg_sl, va_rf_cat, cat_i, cat_l]) (L0 := [some (va_rf x0), some (.int x1)]) (by simp [lx_pairs, lv_args, va_rf_cat, cat_i, cat_l, List.range_succ]) (fun sz C hC hX hl hnm hA hQ => bx_J10_append E C S sz Q mc ms S x0 x1 hC hX hA hQ h)
/-! J9_length -/
def wx_J9_length (Q : Int32 → XS → Prop) (S : XS) (x0 : Option Nat) : Prop :=
  dr x0 (fun u1 => xKD S u1 = some 18 ∧ Q (xFI S 5203 u1) S)
theorem hx_J9_length : yJ9_length.cls = RJ9 ∧ yJ9_length.cls ≠ "java/lang/invoke/MethodHandle" ∧ yJ9_length.cls ≠ "java/lang/invoke/VarHandle" ∧ (parseMethodDescriptor yJ9_length.desc).map (fun d => d.parameters.length) = some 0 := by decide +kernel
set_option maxHeartbeats 4000000 in
set_option maxRecDepth 100000 in
theorem bx_J9_length (E : XE) (C : Cx) (S0 : XS) (sz : Nat) (Q : Int32 → XS → Prop) (S : XS) (x0 : Option Nat) (hC : COk C cJ9_length RJ9 (some .int) 1 34 1) (hX : XOk E C) (hA : cx_A C = xA S0 sz) (hQ : cx_Q C = MQ (cx_b C) (va_Qi Q (BX1 E S0 sz) (xA S0 sz)) (cx_a C) (cx_s C) (cx_MC C) (cx_MS C) (xA S0 sz)) (h : wx_J9_length Q S x0) : GX E C S 0 0 0 [some (va_rf x0)] [] := by
  refine g_aload_nR hC dJ9_length_0 rfl ?_
  obtain ⟨u1, eu1, h⟩ := h
  refine g_top0 eu1 ?_
  have hk2 := h.1
  refine gX_get (C0 := RJ10) (T := TJ10) (N := 4) (n := 18) (k := 3) (q := (5203, false)) hC hX dJ9_length_1 q510 rfl in_J10 (by decide) (Or.inl rfl) rfl (by decide) hk2 ?_
  show GX _ _ _ _ _ _ _ (.int (xFI S 5203 u1) :: _)
  refine gX_iret rfl hC hA hQ dJ9_length_4 h.2
theorem mx_J9_length (l : Launch) (E : XE) (Q : Int32 → XS → Prop) (S : XS) (x0 : Option Nat) (h : wx_J9_length Q S x0) : XMet E l yJ9_length cJ9_length 1 (some .int) ({ frames := 1, cells := 0, slots := 0, locals := 34 } : Room) [va_rf x0] S (fun sz => va_Qi Q (BX1 E S sz) (xA S sz)) :=
  XMet_of (rm := ({ frames := 1, cells := 0, slots := 0, locals := 34 } : Room)) (by decide) (by simp [lg_sl, va_rf_cat, cat_i, cat_l]) (L0 := [some (va_rf x0)]) (by simp [lx_pairs, lv_args, va_rf_cat, cat_i, cat_l, List.range_succ]) (fun sz C hC hX hl hnm hA hQ => bx_J9_length E C S sz Q S x0 hC hX hA hQ h)
/-! J10_length -/
def wx_J10_length (Q : Int32 → XS → Prop) (S : XS) (x0 : Option Nat) : Prop :=
  dr x0 (fun u1 => xKD S u1 = some 18 ∧ wx_J9_length (fun r4 S3 => Q r4 S3) S (some u1))
theorem hx_J10_length : yJ10_length.cls = RJ10 ∧ yJ10_length.cls ≠ "java/lang/invoke/MethodHandle" ∧ yJ10_length.cls ≠ "java/lang/invoke/VarHandle" ∧ (parseMethodDescriptor yJ10_length.desc).map (fun d => d.parameters.length) = some 0 := by decide +kernel
set_option maxHeartbeats 4000000 in
set_option maxRecDepth 100000 in
theorem bx_J10_length (E : XE) (C : Cx) (S0 : XS) (sz : Nat) (Q : Int32 → XS → Prop) (S : XS) (x0 : Option Nat) (hC : COk C cJ10_length RJ10 (some .int) 2 54 1) (hX : XOk E C) (hA : cx_A C = xA S0 sz) (hQ : cx_Q C = MQ (cx_b C) (va_Qi Q (BX1 E S0 sz) (xA S0 sz)) (cx_a C) (cx_s C) (cx_MC C) (cx_MS C) (xA S0 sz)) (h : wx_J10_length Q S x0) : GX E C S 0 0 0 [some (va_rf x0)] [] := by
  refine g_aload_nR hC dJ10_length_0 rfl ?_
  obtain ⟨u1, eu1, h⟩ := h
  refine g_top0 eu1 ?_
  have hk2 := h.1
  refine gX_ni hX (gX_runSU (n := 0) (As := []) (rest := []) hC hX (mx_J9_length (cx_l C) E _ _ _ h.2) (lw_app (lw_5 q636 q632 q519 q631 q87) (lw_meth q637)) (by decide +kernel) rfl rfl (Or.inl (Nat.le_of_ble_eq_true rfl)) ⟨Nat.le_of_ble_eq_true rfl, Nat.le_of_ble_eq_true rfl⟩ dJ10_length_1 (Nat.zero_le _) (Nat.zero_le _) hk2 rfl (by decide) rfl) rfl rfl ?_
  intro r4 S3 h
  refine gX_iret rfl hC hA hQ dJ10_length_4 h
theorem mx_J10_length (l : Launch) (E : XE) (Q : Int32 → XS → Prop) (S : XS) (x0 : Option Nat) (h : wx_J10_length Q S x0) : XMet E l yJ10_length cJ10_length 1 (some .int) ({ frames := 2, cells := 0, slots := 0, locals := 54 } : Room) [va_rf x0] S (fun sz => va_Qi Q (BX1 E S sz) (xA S sz)) :=
  XMet_of (rm := ({ frames := 2, cells := 0, slots := 0, locals := 54 } : Room)) (by decide) (by simp [lg_sl, va_rf_cat, cat_i, cat_l]) (L0 := [some (va_rf x0)]) (by simp [lx_pairs, lv_args, va_rf_cat, cat_i, cat_l, List.range_succ]) (fun sz C hC hX hl hnm hA hQ => bx_J10_length E C S sz Q S x0 hC hX hA hQ h)
/-! J9_getValue -/
def wx_J9_getValue (Q : Option Nat → XS → Prop) (S : XS) (x0 : Option Nat) : Prop :=
  dr x0 (fun u1 => xKD S u1 = some 18 ∧ Q (xFR S 5200 u1) S)
theorem hx_J9_getValue : yJ9_getValue.cls = RJ9 ∧ yJ9_getValue.cls ≠ "java/lang/invoke/MethodHandle" ∧ yJ9_getValue.cls ≠ "java/lang/invoke/VarHandle" ∧ (parseMethodDescriptor yJ9_getValue.desc).map (fun d => d.parameters.length) = some 0 := by decide +kernel
set_option maxHeartbeats 4000000 in
set_option maxRecDepth 100000 in
theorem bx_J9_getValue (E : XE) (C : Cx) (S0 : XS) (sz : Nat) (Q : Option Nat → XS → Prop) (S : XS) (x0 : Option Nat) (hC : COk C cJ9_getValue RJ9 (some (.array .byte)) 1 34 1) (hX : XOk E C) (hA : cx_A C = xA S0 sz) (hQ : cx_Q C = MQ (cx_b C) (va_Qq Q (BX1 E S0 sz) (xA S0 sz)) (cx_a C) (cx_s C) (cx_MC C) (cx_MS C) (xA S0 sz)) (h : wx_J9_getValue Q S x0) : GX E C S 0 0 0 [some (va_rf x0)] [] := by
  refine g_aload_nR hC dJ9_getValue_0 rfl ?_
  obtain ⟨u1, eu1, h⟩ := h
  refine g_top0 eu1 ?_
  have hk2 := h.1
  refine gX_get (C0 := RJ10) (T := TJ10) (N := 4) (n := 18) (k := 0) (q := (5200, true)) hC hX dJ9_getValue_1 q507 rfl in_J10 (by decide) (Or.inl rfl) rfl (by decide) hk2 ?_
  show GX _ _ _ _ _ _ _ (va_rf (xFR S 5200 u1) :: _)
  refine gX_aret hC hA hQ rfl (Or.inr ⟨_, rfl⟩) dJ9_getValue_4 h.2
theorem mx_J9_getValue (l : Launch) (E : XE) (Q : Option Nat → XS → Prop) (S : XS) (x0 : Option Nat) (h : wx_J9_getValue Q S x0) : XMet E l yJ9_getValue cJ9_getValue 1 (some (.array .byte)) ({ frames := 1, cells := 0, slots := 0, locals := 34 } : Room) [va_rf x0] S (fun sz => va_Qq Q (BX1 E S sz) (xA S sz)) :=
  XMet_of (rm := ({ frames := 1, cells := 0, slots := 0, locals := 34 } : Room)) (by decide) (by simp [lg_sl, va_rf_cat, cat_i, cat_l]) (L0 := [some (va_rf x0)]) (by simp [lx_pairs, lv_args, va_rf_cat, cat_i, cat_l, List.range_succ]) (fun sz C hC hX hl hnm hA hQ => bx_J9_getValue E C S sz Q S x0 hC hX hA hQ h)
/-! J8_init_2 -/
def wx_J8_init_2_79 (Q : XS → Prop) (mc ms : Nat) (S : XS) (a0 : Option Nat) (a3 : Option Nat) (a4 : Int32) : Prop :=
  dr a0 (fun u12 => xRO S u12 = false ∧ xKD S u12 = some 17 ∧ (∃ k14 n15, k14 ≤ mc ∧ n15 ≤ ms ∧ wx_J14_copyOfRange (fun r17 S16 => xRO S16 u12 = false ∧ xKD S16 u12 = some 17 ∧ Q (sFR S16 1700 u12 r17)) k14 n15 (sFI S 1701 u12 (1 : Int32)) a3 (0 : Int32) (a4 <<< ((1 : Int32) &&& 31))))
def wx_J8_init_2 (Q : XS → Prop) (mc ms : Nat) (S : XS) (x0 : Option Nat) (x1 : Option Nat) (x2 : Option Nat) : Prop :=
  dr x0 (fun u1 => dr x1 (fun u2 => xKD S u2 = some 18 ∧ wx_J9_getValue (fun r5 S4 => xKD S4 u2 = some 18 ∧ wx_J10_length (fun r8 S7 => xKD S7 u2 = some 18 ∧ wx_J9_isLatin1 (fun r11 S10 => (if r11 = 0 then (if (1 : Int32) = 0 then wx_J8_init_2_79 Q mc ms S10 x0 r5 r8 else xKD S10 u2 = some 18 ∧ (if (xFI S10 5202 u2) = 0 then wx_J8_init_2_79 Q mc ms S10 x0 r5 r8 else False)) else xRO S10 u1 = false ∧ xKD S10 u1 = some 17 ∧ (∃ k21 n22, k21 ≤ mc ∧ n22 ≤ ms ∧ wx_J14_copyOfRange (fun r24 S23 => xRO S23 u1 = false ∧ xKD S23 u1 = some 17 ∧ Q (sFR S23 1700 u1 r24)) k21 n22 (sFI S10 1701 u1 (0 : Int32)) r5 (0 : Int32) r8))) S7 (some u2)) S4 (some u2)) S (some u2)))
theorem hx_J8_init_2 : yJ8_init_2.cls = RJ8 ∧ yJ8_init_2.cls ≠ "java/lang/invoke/MethodHandle" ∧ yJ8_init_2.cls ≠ "java/lang/invoke/VarHandle" ∧ (parseMethodDescriptor yJ8_init_2.desc).map (fun d => d.parameters.length) = some 2 := by decide +kernel
set_option maxHeartbeats 4000000 in
set_option maxRecDepth 100000 in
theorem bx_J8_init_2 (E : XE) (C : Cx) (S0 : XS) (sz : Nat) (Q : XS → Prop) (mc ms : Nat) (S : XS) (x0 : Option Nat) (x1 : Option Nat) (x2 : Option Nat) (hC : COk C cJ8_init_2 RJ8 none 4 101 5) (hX : XOk E C) (hA : cx_A C = xA S0 sz) (hini : (cx_h C).name = "<init>") (hQ : cx_Q C = MQ (cx_b C) (va_Qv Q (BX1 E S0 sz) (xA S0 sz)) (cx_a C) (cx_s C) (cx_MC C) (cx_MS C) (xA S0 sz)) (h : wx_J8_init_2 Q mc ms S x0 x1 x2) : GX E C S mc ms 0 [some (va_rf x0), some (va_rf x1), some (va_rf x2), none, none] [] := by
  have s_79 : ∀ (mc ms : Nat) (S : XS) (a0 : Option Nat) (a3 : Option Nat) (a4 : Int32), wx_J8_init_2_79 Q  mc ms S a0 a3 a4 → GX E C S mc ms 79 [some (va_rf a0), none, none, some (va_rf a3), some (.int a4)] [] := by
    intro  mc ms S a0 a3 a4 h
    refine g_aload_nR hC dJ8_init_2_79 rfl ?_
    refine g_iconst (v := 1) hC dJ8_init_2_80 (by decide) ?_
    obtain ⟨u12, eu12, h⟩ := h
    refine g_top1 eu12 ?_
    have hk13 := h.2.1
    refine gX_putIF (C0 := RJ8) (T := TJ8) (ty0 := tyJ8) (N := 4) (n := 17) (k := 1) (f := 1701) hC hX dJ8_init_2_81 q663 rfl in_J8 tyJ8_ok nmJ8 (by decide) rfl rfl hini rfl rfl rfl rfl rfl (by decide) (Or.inr h.1) hk13 ?_
    refine g_aload_nR hC dJ8_init_2_84 rfl ?_
    refine g_aload_nR hC dJ8_init_2_85 rfl ?_
    refine g_iconst (v := 0) hC dJ8_init_2_86 (by decide) ?_
    refine g_iload hC dJ8_init_2_87 rfl ?_
    refine g_iconst (v := 1) hC dJ8_init_2_89 (by decide) ?_
    refine g_ishl hC dJ8_init_2_90 ?_
    obtain ⟨k14, n15, hk14, hn15, h⟩ := h.2.2
    refine gX_cq hX (gX_runS (As := [va_rf a3, .int (0 : Int32), .int (a4 <<< ((1 : Int32) &&& 31))]) (rest := [va_rf a0]) hC hX (mx_J14_copyOfRange (cx_l C) E k14 n15 _ _ _ _ _ h) (lw_S q639 q640 q92 q641) hx_J14_copyOfRange.2 rfl rfl (Or.inl (Nat.le_of_ble_eq_true rfl)) ⟨Nat.le_of_ble_eq_true rfl, Nat.le_of_ble_eq_true rfl⟩ dJ8_init_2_91 hk14 hn15) hk14 hn15 ?_
    intro r17 S16 h
    refine g_top1 eu12 ?_
    have hk18 := h.2.1
    refine gX_putRF (C0 := RJ8) (T := TJ8) (ty0 := tyJ8) (N := 4) (n := 17) (k := 0) (f := 1700) hC hX dJ8_init_2_94 q662 rfl in_J8 tyJ8_ok nmJ8 (by decide) rfl rfl hini rfl rfl (narrow_rf (Or.inr ⟨_, rfl⟩) _) (fits_rf (Or.inr ⟨_, rfl⟩) _) rfl (by decide) (Or.inr h.1) hk18 ?_
    refine gX_vret hC hA hQ rfl dJ8_init_2_97 h.2.2
  refine g_aload_nR hC dJ8_init_2_0 rfl ?_
  obtain ⟨u1, eu1, h⟩ := h
  refine g_top0 eu1 ?_
  refine gX_oinit hC dJ8_init_2_1 q624 q115 q116 (Nat.le_of_ble_eq_true rfl) (by decide) (by decide) ?_
  refine g_aload_nR hC dJ8_init_2_4 rfl ?_
  obtain ⟨u2, eu2, h⟩ := h
  refine g_top0 eu2 ?_
  have hk3 := h.1
  refine gX_nq hX (gX_runU (n := 0) (As := []) (rest := []) (x := ⟨"java/lang/AbstractStringBuilder", "getValue", "()[B"⟩) (owner := "java/lang/AbstractStringBuilder") (Cr := "java/lang/StringBuilder") hC hX (mx_J9_getValue (cx_l C) E _ _ _ h.2) (lw_app (lw_5 q625 q627 q628 q626 q87) (lw_meth q629)) rfl (by decide +kernel) rfl rfl (Or.inl (Nat.le_of_ble_eq_true rfl)) ⟨Nat.le_of_ble_eq_true rfl, Nat.le_of_ble_eq_true rfl⟩ dJ8_init_2_5 (Nat.zero_le _) (Nat.zero_le _) hk3 rfl (by decide) rfl) rfl rfl ?_
  intro r5 S4 h
  refine g_astore_nR hC dJ8_init_2_8 rfl (by decide) (lx_okR (j := 2) rfl) rfl ?_
  refine g_sub [true, true, false, true, false] rfl ?_
  refine g_aload_nR hC dJ8_init_2_9 rfl ?_
  refine g_top0 eu2 ?_
  have hk6 := h.1
  refine gX_ni hX (gX_runO (n := 0) (As := []) (rest := []) (x := ⟨"java/lang/AbstractStringBuilder", "length", "()I"⟩) (owner := "java/lang/AbstractStringBuilder") (Cr := "java/lang/StringBuilder") hC hX (mx_J10_length (cx_l C) E _ _ _ h.2) (lw_app (lw_6 q630 q632 q631 q633 q634 q88) (lw_meth q635)) q637 (by decide +kernel) rfl rfl (Or.inl (Nat.le_of_ble_eq_true rfl)) ⟨Nat.le_of_ble_eq_true rfl, Nat.le_of_ble_eq_true rfl⟩ dJ8_init_2_10 (Nat.zero_le _) (Nat.zero_le _) hk6 rfl (by decide) rfl) rfl rfl ?_
  intro r8 S7 h
  refine g_istore hC dJ8_init_2_13 (by decide) (lx_okR (j := 3) rfl) rfl ?_
  refine g_aload_nR hC dJ8_init_2_15 rfl ?_
  refine g_top0 eu2 ?_
  have hk9 := h.1
  refine gX_ni hX (gX_runU (n := 0) (As := []) (rest := []) (x := ⟨"java/lang/AbstractStringBuilder", "isLatin1", "()Z"⟩) (owner := "java/lang/AbstractStringBuilder") (Cr := "java/lang/StringBuilder") hC hX (mx_J9_isLatin1 (cx_l C) E _ _ _ h.2) (lw_app (lw_5 q638 q562 q563 q561 q87) (lw_meth q564)) rfl (by decide +kernel) rfl rfl (Or.inl (Nat.le_of_ble_eq_true rfl)) ⟨Nat.le_of_ble_eq_true rfl, Nat.le_of_ble_eq_true rfl⟩ dJ8_init_2_16 (Nat.zero_le _) (Nat.zero_le _) hk9 rfl (by decide) rfl) rfl rfl ?_
  intro r11 S10 h
  refine g_if_eq (tgt := 41) hC dJ8_init_2_19 (by decide) (fun c => ?_) (fun c => ?_)
  · have h := it_p c h
    refine gX_getsI (v := 1) hC hX dJ8_init_2_41 (List.mem_of_getElem? (i := 0) rfl) q648 rfl ?_
    refine g_if_eq (tgt := 79) hC dJ8_init_2_44 (by decide) (fun c => ?_) (fun c => ?_)
    · have h := it_p c h
      refine g_sub [true, false, false, true, true] rfl ?_
      exact s_79 mc ms S10 x0 r5 r8 h
    · have h := it_n c h
      refine g_aload_nR hC dJ8_init_2_47 rfl ?_
      refine g_top0 eu2 ?_
      have hk19 := h.1
      refine gX_get (C0 := RJ10) (T := TJ10) (N := 4) (n := 18) (k := 2) (q := (5202, false)) hC hX dJ8_init_2_48 q509 rfl in_J10 (by decide) (Or.inl rfl) rfl (by decide) hk19 ?_
      show GX _ _ _ _ _ _ _ (.int (xFI S10 5202 u2) :: _)
      refine g_if_eq (tgt := 79) hC dJ8_init_2_51 (by decide) (fun c => ?_) (fun c => ?_)
      · have h := it_p c h.2
        refine g_sub [true, false, false, true, true] rfl ?_
        exact s_79 mc ms S10 x0 r5 r8 h
      · have h := it_n c h.2
        refine g_aload_nR hC dJ8_init_2_54 rfl ?_
        refine g_aload_nR hC dJ8_init_2_55 rfl ?_
        refine g_iconst (v := 0) hC dJ8_init_2_56 (by decide) ?_
        refine g_iload hC dJ8_init_2_57 rfl ?_
        exact False.elim h
  · have h := it_n c h
    refine g_aload_nR hC dJ8_init_2_22 rfl ?_
    refine g_iconst (v := 0) hC dJ8_init_2_23 (by decide) ?_
    refine g_top1 eu1 ?_
    have hk20 := h.2.1
    refine gX_putIF (C0 := RJ8) (T := TJ8) (ty0 := tyJ8) (N := 4) (n := 17) (k := 1) (f := 1701) hC hX dJ8_init_2_24 q663 rfl in_J8 tyJ8_ok nmJ8 (by decide) rfl rfl hini rfl rfl rfl rfl rfl (by decide) (Or.inr h.1) hk20 ?_
    refine g_aload_nR hC dJ8_init_2_27 rfl ?_
    refine g_aload_nR hC dJ8_init_2_28 rfl ?_
    refine g_iconst (v := 0) hC dJ8_init_2_29 (by decide) ?_
    refine g_iload hC dJ8_init_2_30 rfl ?_
    obtain ⟨k21, n22, hk21, hn22, h⟩ := h.2.2
    refine gX_cq hX (gX_runS (As := [va_rf r5, .int (0 : Int32), .int r8]) (rest := [va_rf x0]) hC hX (mx_J14_copyOfRange (cx_l C) E k21 n22 _ _ _ _ _ h) (lw_S q639 q640 q92 q641) hx_J14_copyOfRange.2 rfl rfl (Or.inl (Nat.le_of_ble_eq_true rfl)) ⟨Nat.le_of_ble_eq_true rfl, Nat.le_of_ble_eq_true rfl⟩ dJ8_init_2_32 hk21 hn22) hk21 hn22 ?_
    intro r24 S23 h
    refine g_top1 eu1 ?_
    have hk25 := h.2.1
    refine gX_putRF (C0 := RJ8) (T := TJ8) (ty0 := tyJ8) (N := 4) (n := 17) (k := 0) (f := 1700) hC hX dJ8_init_2_35 q662 rfl in_J8 tyJ8_ok nmJ8 (by decide) rfl rfl hini rfl rfl (narrow_rf (Or.inr ⟨_, rfl⟩) _) (fits_rf (Or.inr ⟨_, rfl⟩) _) rfl (by decide) (Or.inr h.1) hk25 ?_
    refine g_goto (tgt := 97) hC dJ8_init_2_38 (by decide) ?_
    refine gX_vret hC hA hQ rfl dJ8_init_2_97 h.2.2
theorem mx_J8_init_2 (l : Launch) (E : XE) (mc ms : Nat) (Q : XS → Prop) (S : XS) (x0 : Option Nat) (x1 : Option Nat) (x2 : Option Nat) (h : wx_J8_init_2 Q mc ms S x0 x1 x2) : XMet E l yJ8_init_2 cJ8_init_2 5 none ({ frames := 4, cells := mc, slots := ms, locals := 101 } : Room) [va_rf x0, va_rf x1, va_rf x2] S (fun sz => va_Qv Q (BX1 E S sz) (xA S sz)) :=
  XMet_of (rm := ({ frames := 4, cells := mc, slots := ms, locals := 101 } : Room)) (by decide) (by simp [lg_sl, va_rf_cat, cat_i, cat_l]) (L0 := [some (va_rf x0), some (va_rf x1), some (va_rf x2), none, none]) (by simp [lx_pairs, lv_args, va_rf_cat, cat_i, cat_l, List.range_succ]) (fun sz C hC hX hl hnm hA hQ => bx_J8_init_2 E C S sz Q mc ms S x0 x1 x2 hC hX hA hnm hQ h)
/-! J8_init -/
def wx_J8_init (Q : XS → Prop) (mc ms : Nat) (S : XS) (x0 : Option Nat) (x1 : Option Nat) : Prop :=
  dr x0 (fun u1 => (∃ k2 n3, k2 ≤ mc ∧ n3 ≤ ms ∧ wx_J8_init_2 (fun S4 => Q S4) k2 n3 S (some u1) x1 none))
theorem hx_J8_init : yJ8_init.cls = RJ8 ∧ yJ8_init.cls ≠ "java/lang/invoke/MethodHandle" ∧ yJ8_init.cls ≠ "java/lang/invoke/VarHandle" ∧ (parseMethodDescriptor yJ8_init.desc).map (fun d => d.parameters.length) = some 1 := by decide +kernel
set_option maxHeartbeats 4000000 in
set_option maxRecDepth 100000 in
theorem bx_J8_init (E : XE) (C : Cx) (S0 : XS) (sz : Nat) (Q : XS → Prop) (mc ms : Nat) (S : XS) (x0 : Option Nat) (x1 : Option Nat) (hC : COk C cJ8_init RJ8 none 5 125 2) (hX : XOk E C) (hA : cx_A C = xA S0 sz) (hini : (cx_h C).name = "<init>") (hQ : cx_Q C = MQ (cx_b C) (va_Qv Q (BX1 E S0 sz) (xA S0 sz)) (cx_a C) (cx_s C) (cx_MC C) (cx_MS C) (xA S0 sz)) (h : wx_J8_init Q mc ms S x0 x1) : GX E C S mc ms 0 [some (va_rf x0), some (va_rf x1)] [] := by
  refine g_aload_nR hC dJ8_init_0 rfl ?_
  refine g_aload_nR hC dJ8_init_1 rfl ?_
  refine g_nullR hC dJ8_init_2 ?_
  obtain ⟨u1, eu1, h⟩ := h
  refine g_top2 eu1 ?_
  obtain ⟨k2, n3, hk2, hn3, h⟩ := h
  refine gX_cv hX (gX_runI (As := [va_rf x1, va_rf none]) (rest := []) hC hX (mx_J8_init_2 (cx_l C) E k2 n3 _ _ _ _ _ h) q623 q84 q621 q622 rfl hx_J8_init_2.2 rfl rfl (Or.inl (Nat.le_of_ble_eq_true rfl)) ⟨Nat.le_of_ble_eq_true rfl, Nat.le_of_ble_eq_true rfl⟩ dJ8_init_3 hk2 hn3) hk2 hn3 ?_
  intro S4 h
  refine gX_vret hC hA hQ rfl dJ8_init_6 h
theorem mx_J8_init (l : Launch) (E : XE) (mc ms : Nat) (Q : XS → Prop) (S : XS) (x0 : Option Nat) (x1 : Option Nat) (h : wx_J8_init Q mc ms S x0 x1) : XMet E l yJ8_init cJ8_init 2 none ({ frames := 5, cells := mc, slots := ms, locals := 125 } : Room) [va_rf x0, va_rf x1] S (fun sz => va_Qv Q (BX1 E S sz) (xA S sz)) :=
  XMet_of (rm := ({ frames := 5, cells := mc, slots := ms, locals := 125 } : Room)) (by decide) (by simp [lg_sl, va_rf_cat, cat_i, cat_l]) (L0 := [some (va_rf x0), some (va_rf x1)]) (by simp [lx_pairs, lv_args, va_rf_cat, cat_i, cat_l, List.range_succ]) (fun sz C hC hX hl hnm hA hQ => bx_J8_init E C S sz Q mc ms S x0 x1 hC hX hA hnm hQ h)
/-! J10_toString -/
def wx_J10_toString (Q : Option Nat → XS → Prop) (mc ms : Nat) (S : XS) (x0 : Option Nat) : Prop :=
  1 ≤ mc ∧ 4 ≤ ms ∧ (∀ q1 : Nat, xKD S q1 = none → (∃ k4 n5, k4 ≤ (mc - 1) ∧ n5 ≤ (ms - 4) ∧ wx_J8_init (fun S6 => Q (some q1) S6) k4 n5 (sNew S q1 17) (some q1) x0))
theorem hx_J10_toString : yJ10_toString.cls = RJ10 ∧ yJ10_toString.cls ≠ "java/lang/invoke/MethodHandle" ∧ yJ10_toString.cls ≠ "java/lang/invoke/VarHandle" ∧ (parseMethodDescriptor yJ10_toString.desc).map (fun d => d.parameters.length) = some 0 := by decide +kernel
set_option maxHeartbeats 4000000 in
set_option maxRecDepth 100000 in
theorem bx_J10_toString (E : XE) (C : Cx) (S0 : XS) (sz : Nat) (Q : Option Nat → XS → Prop) (mc ms : Nat) (S : XS) (x0 : Option Nat) (hC : COk C cJ10_toString RJ10 (some (.object "java/lang/String")) 6 146 1) (hX : XOk E C) (hA : cx_A C = xA S0 sz) (hQ : cx_Q C = MQ (cx_b C) (va_Qq Q (BX1 E S0 sz) (xA S0 sz)) (cx_a C) (cx_s C) (cx_MC C) (cx_MS C) (xA S0 sz)) (h : wx_J10_toString Q mc ms S x0) : GX E C S mc ms 0 [some (va_rf x0)] [] := by
  refine gX_new (C0 := RJ8) (T := TJ8) (ty0 := tyJ8) (N := 4) (n := 17) hC hX dJ10_toString_0 q617 q411 q84 rfl in_J8 tyJ8_ok (by decide) dv_J8 h.1 h.2.1 ?_
  intro q1 hq2
  have h := h.2.2 q1 hq2
  have hk3 : xKD (sNew S q1 17) q1 = some 17 := kd_self
  refine g_dup hC dJ10_toString_3 (va_rf_cat _) ?_
  refine g_aload_nR hC dJ10_toString_4 rfl ?_
  obtain ⟨k4, n5, hk4, hn5, h⟩ := h
  refine gX_cv hX (gX_runI (As := [va_rf x0]) (rest := [va_rf (some q1)]) hC hX (mx_J8_init (cx_l C) E k4 n5 _ _ _ _ h) q620 q84 q618 q619 rfl hx_J8_init.2 rfl rfl (Or.inl (Nat.le_of_ble_eq_true rfl)) ⟨Nat.le_of_ble_eq_true rfl, Nat.le_of_ble_eq_true rfl⟩ dJ10_toString_5 hk4 hn5) hk4 hn5 ?_
  intro S6 h
  refine gX_aret hC hA hQ rfl (Or.inl ⟨_, rfl⟩) dJ10_toString_8 h
theorem mx_J10_toString (l : Launch) (E : XE) (mc ms : Nat) (Q : Option Nat → XS → Prop) (S : XS) (x0 : Option Nat) (h : wx_J10_toString Q mc ms S x0) : XMet E l yJ10_toString cJ10_toString 1 (some (.object "java/lang/String")) ({ frames := 6, cells := mc, slots := ms, locals := 146 } : Room) [va_rf x0] S (fun sz => va_Qq Q (BX1 E S sz) (xA S sz)) :=
  XMet_of (rm := ({ frames := 6, cells := mc, slots := ms, locals := 146 } : Room)) (by decide) (by simp [lg_sl, va_rf_cat, cat_i, cat_l]) (L0 := [some (va_rf x0)]) (by simp [lx_pairs, lv_args, va_rf_cat, cat_i, cat_l, List.range_succ]) (fun sz C hC hX hl hnm hA hQ => bx_J10_toString E C S sz Q mc ms S x0 hC hX hA hQ h)
/-! J3_init_2_k3 -/
def wx_J3_init_2_k3_41 (Q : XS → Prop) (S : XS) (a0 : Option Nat) (a1 : Option Nat) (a2 : Option Nat) (a3 : Int32) : Prop :=
  dr a0 (fun u3 => xKD S u3 = some 3 ∧ (if a3 = 0 then Q (sFR (sFR (sFR S 5003 u3 a1) 5000 u3 a2) 5002 u3 none) else Q (sFR (sFR S 5003 u3 a1) 5000 u3 a2)))
def wx_J3_init_2_k3 (Q : XS → Prop) (S : XS) (x0 : Option Nat) (x1 : Option Nat) (x2 : Option Nat) (x3 : Int32) (x4 : Int32) : Prop :=
  dr x0 (fun u1 => xKD S u1 = some 3 ∧ (if x4 = 0 then wx_J3_init_2_k3_41 Q (sFR (sFR (sFR (sFR S 5000 u1 x0) 5001 u1 (some (xST (sFR S 5000 u1 x0) 3))) 5002 u1 (some (xST (sFR (sFR S 5000 u1 x0) 5001 u1 (some (xST (sFR S 5000 u1 x0) 3))) 4))) 5001 u1 none) x0 x1 x2 x3 else False))
theorem hx_J3_init_2_k3 : yJ3_init_2.cls = RJ3 ∧ yJ3_init_2.cls ≠ "java/lang/invoke/MethodHandle" ∧ yJ3_init_2.cls ≠ "java/lang/invoke/VarHandle" ∧ (parseMethodDescriptor yJ3_init_2.desc).map (fun d => d.parameters.length) = some 4 := by decide +kernel
set_option maxHeartbeats 4000000 in
set_option maxRecDepth 100000 in
theorem bx_J3_init_2_k3 (E : XE) (C : Cx) (S0 : XS) (sz : Nat) (Q : XS → Prop) (S : XS) (x0 : Option Nat) (x1 : Option Nat) (x2 : Option Nat) (x3 : Int32) (x4 : Int32) (hC : COk C cJ3_init_2 RJ3 none 1 34 5) (hX : XOk E C) (hA : cx_A C = xA S0 sz) (hini : (cx_h C).name = "<init>") (hQ : cx_Q C = MQ (cx_b C) (va_Qv Q (BX1 E S0 sz) (xA S0 sz)) (cx_a C) (cx_s C) (cx_MC C) (cx_MS C) (xA S0 sz)) (h : wx_J3_init_2_k3 Q S x0 x1 x2 x3 x4) : GX E C S 0 0 0 [some (va_rf x0), some (va_rf x1), some (va_rf x2), some (.int x3), some (.int x4)] [] := by
  have s_41 : ∀ (S : XS) (a0 : Option Nat) (a1 : Option Nat) (a2 : Option Nat) (a3 : Int32), wx_J3_init_2_k3_41 Q  S a0 a1 a2 a3 → GX E C S 0 0 41 [some (va_rf a0), some (va_rf a1), some (va_rf a2), some (.int a3), none] [] := by
    intro  S a0 a1 a2 a3 h
    refine g_aload_nR hC dJ3_init_2_41 rfl ?_
    refine g_aload_nR hC dJ3_init_2_42 rfl ?_
    obtain ⟨u3, eu3, h⟩ := h
    refine g_top1 eu3 ?_
    have hk4 := h.1
    refine gX_putR (C0 := RX4) (T := TX4) (ty0 := tyX4) (N := 7) (n := 3) (k := 3) (f := 5003) hC hX dJ3_init_2_43 q329 rfl in_X4 tyX4_ok nmX4 (by decide) (Or.inl rfl) rfl rfl (narrow_rf (Or.inl ⟨_, rfl⟩) _) (fits_rf (Or.inl ⟨_, rfl⟩) _) rfl (by decide) (Or.inl (by decide)) hk4 ?_
    refine g_aload_nR hC dJ3_init_2_46 rfl ?_
    refine g_aload_nR hC dJ3_init_2_47 rfl ?_
    refine g_top1 eu3 ?_
    refine gX_putR (C0 := RX4) (T := TX4) (ty0 := tyX4) (N := 7) (n := 3) (k := 0) (f := 5000) hC hX dJ3_init_2_48 q330 rfl in_X4 tyX4_ok nmX4 (by decide) (Or.inl rfl) rfl rfl (narrow_rf (Or.inl ⟨_, rfl⟩) _) (fits_rf (Or.inl ⟨_, rfl⟩) _) rfl (by decide) (Or.inl (by decide)) hk4 ?_
    refine g_iload_n hC dJ3_init_2_51 rfl ?_
    refine g_if_ne (tgt := 60) hC dJ3_init_2_52 (by decide) (fun c => ?_) (fun c => ?_)
    · have h := it_n c h.2
      refine gX_vret hC hA hQ rfl dJ3_init_2_60 h
    · have h := it_p c h.2
      refine g_aload_nR hC dJ3_init_2_55 rfl ?_
      refine g_nullR hC dJ3_init_2_56 ?_
      refine g_top1 eu3 ?_
      refine gX_putR (C0 := RX4) (T := TX4) (ty0 := tyX4) (N := 7) (n := 3) (k := 2) (f := 5002) hC hX dJ3_init_2_57 q332 rfl in_X4 tyX4_ok nmX4 (by decide) (Or.inl rfl) rfl rfl (narrow_rf (Or.inl ⟨_, rfl⟩) _) (fits_rf (Or.inl ⟨_, rfl⟩) _) rfl (by decide) (Or.inl (by decide)) hk4 ?_
      refine gX_vret hC hA hQ rfl dJ3_init_2_60 h
  refine g_aload_nR hC dJ3_init_2_0 rfl ?_
  obtain ⟨u1, eu1, h⟩ := h
  refine g_top0 eu1 ?_
  refine gX_oinit hC dJ3_init_2_1 q299 q115 q116 (Nat.le_of_ble_eq_true rfl) (by decide) (by decide) ?_
  refine g_aload_nR hC dJ3_init_2_4 rfl ?_
  refine g_aload_nR hC dJ3_init_2_5 rfl ?_
  refine g_top1 eu1 ?_
  have hk2 := h.1
  refine gX_putR (C0 := RX4) (T := TX4) (ty0 := tyX4) (N := 7) (n := 3) (k := 0) (f := 5000) hC hX dJ3_init_2_6 q330 rfl in_X4 tyX4_ok nmX4 (by decide) (Or.inl rfl) rfl rfl (narrow_rf (Or.inl ⟨_, rfl⟩) _) (fits_rf (Or.inl ⟨_, rfl⟩) _) rfl (by decide) (Or.inl (by decide)) hk2 ?_
  refine g_aload_nR hC dJ3_init_2_9 rfl ?_
  refine gX_gets (j := 3) hC hX dJ3_init_2_10 (List.mem_of_getElem? (i := 2) rfl) q300 rfl ?_
  refine g_top1 eu1 ?_
  refine gX_putR (C0 := RX4) (T := TX4) (ty0 := tyX4) (N := 7) (n := 3) (k := 1) (f := 5001) hC hX dJ3_init_2_13 q331 rfl in_X4 tyX4_ok nmX4 (by decide) (Or.inl rfl) rfl rfl (narrow_rf (Or.inr ⟨_, rfl⟩) _) (fits_rf (Or.inr ⟨_, rfl⟩) _) rfl (by decide) (Or.inl (by decide)) hk2 ?_
  refine g_aload_nR hC dJ3_init_2_16 rfl ?_
  refine gX_gets (j := 4) hC hX dJ3_init_2_17 (List.mem_of_getElem? (i := 3) rfl) q302 rfl ?_
  refine g_top1 eu1 ?_
  refine gX_putR (C0 := RX4) (T := TX4) (ty0 := tyX4) (N := 7) (n := 3) (k := 2) (f := 5002) hC hX dJ3_init_2_20 q332 rfl in_X4 tyX4_ok nmX4 (by decide) (Or.inl rfl) rfl rfl (narrow_rf (Or.inl ⟨_, rfl⟩) _) (fits_rf (Or.inl ⟨_, rfl⟩) _) rfl (by decide) (Or.inl (by decide)) hk2 ?_
  refine g_iload hC dJ3_init_2_23 rfl ?_
  refine g_if_eq (tgt := 36) hC dJ3_init_2_25 (by decide) (fun c => ?_) (fun c => ?_)
  · have h := it_p c h.2
    refine g_aload_nR hC dJ3_init_2_36 rfl ?_
    refine g_nullR hC dJ3_init_2_37 ?_
    refine g_top1 eu1 ?_
    refine gX_putR (C0 := RX4) (T := TX4) (ty0 := tyX4) (N := 7) (n := 3) (k := 1) (f := 5001) hC hX dJ3_init_2_38 q331 rfl in_X4 tyX4_ok nmX4 (by decide) (Or.inl rfl) rfl rfl (narrow_rf (Or.inr ⟨_, rfl⟩) _) (fits_rf (Or.inr ⟨_, rfl⟩) _) rfl (by decide) (Or.inl (by decide)) hk2 ?_
    refine g_sub [true, true, true, true, false] rfl ?_
    exact s_41 (sFR (sFR (sFR (sFR S 5000 u1 x0) 5001 u1 (some (xST (sFR S 5000 u1 x0) 3))) 5002 u1 (some (xST (sFR (sFR S 5000 u1 x0) 5001 u1 (some (xST (sFR S 5000 u1 x0) 3))) 4))) 5001 u1 none) x0 x1 x2 x3 h
  · have h := it_n c h.2
    refine g_aload_nR hC dJ3_init_2_28 rfl ?_
    exact False.elim h
theorem mx_J3_init_2_k3 (l : Launch) (E : XE) (Q : XS → Prop) (S : XS) (x0 : Option Nat) (x1 : Option Nat) (x2 : Option Nat) (x3 : Int32) (x4 : Int32) (h : wx_J3_init_2_k3 Q S x0 x1 x2 x3 x4) : XMet E l yJ3_init_2 cJ3_init_2 5 none ({ frames := 1, cells := 0, slots := 0, locals := 34 } : Room) [va_rf x0, va_rf x1, va_rf x2, .int x3, .int x4] S (fun sz => va_Qv Q (BX1 E S sz) (xA S sz)) :=
  XMet_of (rm := ({ frames := 1, cells := 0, slots := 0, locals := 34 } : Room)) (by decide) (by simp [lg_sl, va_rf_cat, cat_i, cat_l]) (L0 := [some (va_rf x0), some (va_rf x1), some (va_rf x2), some (.int x3), some (.int x4)]) (by simp [lx_pairs, lv_args, va_rf_cat, cat_i, cat_l, List.range_succ]) (fun sz C hC hX hl hnm hA hQ => bx_J3_init_2_k3 E C S sz Q S x0 x1 x2 x3 x4 hC hX hA hnm hQ h)
/-! J3_init_2_k6 -/
def wx_J3_init_2_k6_41 (Q : XS → Prop) (S : XS) (a0 : Option Nat) (a1 : Option Nat) (a2 : Option Nat) (a3 : Int32) : Prop :=
  dr a0 (fun u3 => xKD S u3 = some 6 ∧ (if a3 = 0 then Q (sFR (sFR (sFR S 5003 u3 a1) 5000 u3 a2) 5002 u3 none) else Q (sFR (sFR S 5003 u3 a1) 5000 u3 a2)))
def wx_J3_init_2_k6 (Q : XS → Prop) (S : XS) (x0 : Option Nat) (x1 : Option Nat) (x2 : Option Nat) (x3 : Int32) (x4 : Int32) : Prop :=
  dr x0 (fun u1 => xKD S u1 = some 6 ∧ (if x4 = 0 then wx_J3_init_2_k6_41 Q (sFR (sFR (sFR (sFR S 5000 u1 x0) 5001 u1 (some (xST (sFR S 5000 u1 x0) 3))) 5002 u1 (some (xST (sFR (sFR S 5000 u1 x0) 5001 u1 (some (xST (sFR S 5000 u1 x0) 3))) 4))) 5001 u1 none) x0 x1 x2 x3 else False))
theorem hx_J3_init_2_k6 : yJ3_init_2.cls = RJ3 ∧ yJ3_init_2.cls ≠ "java/lang/invoke/MethodHandle" ∧ yJ3_init_2.cls ≠ "java/lang/invoke/VarHandle" ∧ (parseMethodDescriptor yJ3_init_2.desc).map (fun d => d.parameters.length) = some 4 := by decide +kernel
set_option maxHeartbeats 4000000 in
set_option maxRecDepth 100000 in
theorem bx_J3_init_2_k6 (E : XE) (C : Cx) (S0 : XS) (sz : Nat) (Q : XS → Prop) (S : XS) (x0 : Option Nat) (x1 : Option Nat) (x2 : Option Nat) (x3 : Int32) (x4 : Int32) (hC : COk C cJ3_init_2 RJ3 none 1 34 5) (hX : XOk E C) (hA : cx_A C = xA S0 sz) (hini : (cx_h C).name = "<init>") (hQ : cx_Q C = MQ (cx_b C) (va_Qv Q (BX1 E S0 sz) (xA S0 sz)) (cx_a C) (cx_s C) (cx_MC C) (cx_MS C) (xA S0 sz)) (h : wx_J3_init_2_k6 Q S x0 x1 x2 x3 x4) : GX E C S 0 0 0 [some (va_rf x0), some (va_rf x1), some (va_rf x2), some (.int x3), some (.int x4)] [] := by
  have s_41 : ∀ (S : XS) (a0 : Option Nat) (a1 : Option Nat) (a2 : Option Nat) (a3 : Int32), wx_J3_init_2_k6_41 Q  S a0 a1 a2 a3 → GX E C S 0 0 41 [some (va_rf a0), some (va_rf a1), some (va_rf a2), some (.int a3), none] [] := by
    intro  S a0 a1 a2 a3 h
    refine g_aload_nR hC dJ3_init_2_41 rfl ?_
    refine g_aload_nR hC dJ3_init_2_42 rfl ?_
    obtain ⟨u3, eu3, h⟩ := h
    refine g_top1 eu3 ?_
    have hk4 := h.1
    refine gX_putR (C0 := RX7) (T := TX7) (ty0 := tyX7) (N := 8) (n := 6) (k := 3) (f := 5003) hC hX dJ3_init_2_43 q329 rfl in_X7 tyX7_ok nmX7 (by decide) (Or.inl rfl) rfl rfl (narrow_rf (Or.inl ⟨_, rfl⟩) _) (fits_rf (Or.inl ⟨_, rfl⟩) _) rfl (by decide) (Or.inl (by decide)) hk4 ?_
    refine g_aload_nR hC dJ3_init_2_46 rfl ?_
    refine g_aload_nR hC dJ3_init_2_47 rfl ?_
    refine g_top1 eu3 ?_
    refine gX_putR (C0 := RX7) (T := TX7) (ty0 := tyX7) (N := 8) (n := 6) (k := 0) (f := 5000) hC hX dJ3_init_2_48 q330 rfl in_X7 tyX7_ok nmX7 (by decide) (Or.inl rfl) rfl rfl (narrow_rf (Or.inl ⟨_, rfl⟩) _) (fits_rf (Or.inl ⟨_, rfl⟩) _) rfl (by decide) (Or.inl (by decide)) hk4 ?_
    refine g_iload_n hC dJ3_init_2_51 rfl ?_
    refine g_if_ne (tgt := 60) hC dJ3_init_2_52 (by decide) (fun c => ?_) (fun c => ?_)
    · have h := it_n c h.2
      refine gX_vret hC hA hQ rfl dJ3_init_2_60 h
    · have h := it_p c h.2
      refine g_aload_nR hC dJ3_init_2_55 rfl ?_
      refine g_nullR hC dJ3_init_2_56 ?_
      refine g_top1 eu3 ?_
      refine gX_putR (C0 := RX7) (T := TX7) (ty0 := tyX7) (N := 8) (n := 6) (k := 2) (f := 5002) hC hX dJ3_init_2_57 q332 rfl in_X7 tyX7_ok nmX7 (by decide) (Or.inl rfl) rfl rfl (narrow_rf (Or.inl ⟨_, rfl⟩) _) (fits_rf (Or.inl ⟨_, rfl⟩) _) rfl (by decide) (Or.inl (by decide)) hk4 ?_
      refine gX_vret hC hA hQ rfl dJ3_init_2_60 h
  refine g_aload_nR hC dJ3_init_2_0 rfl ?_
  obtain ⟨u1, eu1, h⟩ := h
  refine g_top0 eu1 ?_
  refine gX_oinit hC dJ3_init_2_1 q299 q115 q116 (Nat.le_of_ble_eq_true rfl) (by decide) (by decide) ?_
  refine g_aload_nR hC dJ3_init_2_4 rfl ?_
  refine g_aload_nR hC dJ3_init_2_5 rfl ?_
  refine g_top1 eu1 ?_
  have hk2 := h.1
  refine gX_putR (C0 := RX7) (T := TX7) (ty0 := tyX7) (N := 8) (n := 6) (k := 0) (f := 5000) hC hX dJ3_init_2_6 q330 rfl in_X7 tyX7_ok nmX7 (by decide) (Or.inl rfl) rfl rfl (narrow_rf (Or.inl ⟨_, rfl⟩) _) (fits_rf (Or.inl ⟨_, rfl⟩) _) rfl (by decide) (Or.inl (by decide)) hk2 ?_
  refine g_aload_nR hC dJ3_init_2_9 rfl ?_
  refine gX_gets (j := 3) hC hX dJ3_init_2_10 (List.mem_of_getElem? (i := 2) rfl) q300 rfl ?_
  refine g_top1 eu1 ?_
  refine gX_putR (C0 := RX7) (T := TX7) (ty0 := tyX7) (N := 8) (n := 6) (k := 1) (f := 5001) hC hX dJ3_init_2_13 q331 rfl in_X7 tyX7_ok nmX7 (by decide) (Or.inl rfl) rfl rfl (narrow_rf (Or.inr ⟨_, rfl⟩) _) (fits_rf (Or.inr ⟨_, rfl⟩) _) rfl (by decide) (Or.inl (by decide)) hk2 ?_
  refine g_aload_nR hC dJ3_init_2_16 rfl ?_
  refine gX_gets (j := 4) hC hX dJ3_init_2_17 (List.mem_of_getElem? (i := 3) rfl) q302 rfl ?_
  refine g_top1 eu1 ?_
  refine gX_putR (C0 := RX7) (T := TX7) (ty0 := tyX7) (N := 8) (n := 6) (k := 2) (f := 5002) hC hX dJ3_init_2_20 q332 rfl in_X7 tyX7_ok nmX7 (by decide) (Or.inl rfl) rfl rfl (narrow_rf (Or.inl ⟨_, rfl⟩) _) (fits_rf (Or.inl ⟨_, rfl⟩) _) rfl (by decide) (Or.inl (by decide)) hk2 ?_
  refine g_iload hC dJ3_init_2_23 rfl ?_
  refine g_if_eq (tgt := 36) hC dJ3_init_2_25 (by decide) (fun c => ?_) (fun c => ?_)
  · have h := it_p c h.2
    refine g_aload_nR hC dJ3_init_2_36 rfl ?_
    refine g_nullR hC dJ3_init_2_37 ?_
    refine g_top1 eu1 ?_
    refine gX_putR (C0 := RX7) (T := TX7) (ty0 := tyX7) (N := 8) (n := 6) (k := 1) (f := 5001) hC hX dJ3_init_2_38 q331 rfl in_X7 tyX7_ok nmX7 (by decide) (Or.inl rfl) rfl rfl (narrow_rf (Or.inr ⟨_, rfl⟩) _) (fits_rf (Or.inr ⟨_, rfl⟩) _) rfl (by decide) (Or.inl (by decide)) hk2 ?_
    refine g_sub [true, true, true, true, false] rfl ?_
    exact s_41 (sFR (sFR (sFR (sFR S 5000 u1 x0) 5001 u1 (some (xST (sFR S 5000 u1 x0) 3))) 5002 u1 (some (xST (sFR (sFR S 5000 u1 x0) 5001 u1 (some (xST (sFR S 5000 u1 x0) 3))) 4))) 5001 u1 none) x0 x1 x2 x3 h
  · have h := it_n c h.2
    refine g_aload_nR hC dJ3_init_2_28 rfl ?_
    exact False.elim h
theorem mx_J3_init_2_k6 (l : Launch) (E : XE) (Q : XS → Prop) (S : XS) (x0 : Option Nat) (x1 : Option Nat) (x2 : Option Nat) (x3 : Int32) (x4 : Int32) (h : wx_J3_init_2_k6 Q S x0 x1 x2 x3 x4) : XMet E l yJ3_init_2 cJ3_init_2 5 none ({ frames := 1, cells := 0, slots := 0, locals := 34 } : Room) [va_rf x0, va_rf x1, va_rf x2, .int x3, .int x4] S (fun sz => va_Qv Q (BX1 E S sz) (xA S sz)) :=
  XMet_of (rm := ({ frames := 1, cells := 0, slots := 0, locals := 34 } : Room)) (by decide) (by simp [lg_sl, va_rf_cat, cat_i, cat_l]) (L0 := [some (va_rf x0), some (va_rf x1), some (va_rf x2), some (.int x3), some (.int x4)]) (by simp [lx_pairs, lv_args, va_rf_cat, cat_i, cat_l, List.range_succ]) (fun sz C hC hX hl hnm hA hQ => bx_J3_init_2_k6 E C S sz Q S x0 x1 x2 x3 x4 hC hX hA hnm hQ h)
/-! J4_init_k3 -/
def wx_J4_init_k3 (Q : XS → Prop) (S : XS) (x0 : Option Nat) (x1 : Option Nat) (x2 : Option Nat) (x3 : Int32) (x4 : Int32) : Prop :=
  dr x0 (fun u1 => wx_J3_init_2_k3 (fun S2 => Q S2) S (some u1) x1 x2 x3 x4)
theorem hx_J4_init_k3 : yJ4_init.cls = RJ4 ∧ yJ4_init.cls ≠ "java/lang/invoke/MethodHandle" ∧ yJ4_init.cls ≠ "java/lang/invoke/VarHandle" ∧ (parseMethodDescriptor yJ4_init.desc).map (fun d => d.parameters.length) = some 4 := by decide +kernel
set_option maxHeartbeats 4000000 in
set_option maxRecDepth 100000 in
theorem bx_J4_init_k3 (E : XE) (C : Cx) (S0 : XS) (sz : Nat) (Q : XS → Prop) (S : XS) (x0 : Option Nat) (x1 : Option Nat) (x2 : Option Nat) (x3 : Int32) (x4 : Int32) (hC : COk C cJ4_init RJ4 none 2 58 5) (hX : XOk E C) (hA : cx_A C = xA S0 sz) (hini : (cx_h C).name = "<init>") (hQ : cx_Q C = MQ (cx_b C) (va_Qv Q (BX1 E S0 sz) (xA S0 sz)) (cx_a C) (cx_s C) (cx_MC C) (cx_MS C) (xA S0 sz)) (h : wx_J4_init_k3 Q S x0 x1 x2 x3 x4) : GX E C S 0 0 0 [some (va_rf x0), some (va_rf x1), some (va_rf x2), some (.int x3), some (.int x4)] [] := by
  refine g_aload_nR hC dJ4_init_0 rfl ?_
  refine g_aload_nR hC dJ4_init_1 rfl ?_
  refine g_aload_nR hC dJ4_init_2 rfl ?_
  refine g_iload_n hC dJ4_init_3 rfl ?_
  refine g_iload hC dJ4_init_4 rfl ?_
  obtain ⟨u1, eu1, h⟩ := h
  refine g_top4 eu1 ?_
  refine gX_nv hX (gX_runI (As := [va_rf x1, va_rf x2, .int x3, .int x4]) (rest := []) hC hX (mx_J3_init_2_k3 (cx_l C) E _ _ _ _ _ _ _ h) q325 q77 q323 q324 rfl hx_J3_init_2_k3.2 rfl rfl (Or.inl (Nat.le_of_ble_eq_true rfl)) ⟨Nat.le_of_ble_eq_true rfl, Nat.le_of_ble_eq_true rfl⟩ dJ4_init_6 (Nat.zero_le _) (Nat.zero_le _)) rfl rfl ?_
  intro S2 h
  refine gX_vret hC hA hQ rfl dJ4_init_9 h
theorem mx_J4_init_k3 (l : Launch) (E : XE) (Q : XS → Prop) (S : XS) (x0 : Option Nat) (x1 : Option Nat) (x2 : Option Nat) (x3 : Int32) (x4 : Int32) (h : wx_J4_init_k3 Q S x0 x1 x2 x3 x4) : XMet E l yJ4_init cJ4_init 5 none ({ frames := 2, cells := 0, slots := 0, locals := 58 } : Room) [va_rf x0, va_rf x1, va_rf x2, .int x3, .int x4] S (fun sz => va_Qv Q (BX1 E S sz) (xA S sz)) :=
  XMet_of (rm := ({ frames := 2, cells := 0, slots := 0, locals := 58 } : Room)) (by decide) (by simp [lg_sl, va_rf_cat, cat_i, cat_l]) (L0 := [some (va_rf x0), some (va_rf x1), some (va_rf x2), some (.int x3), some (.int x4)]) (by simp [lx_pairs, lv_args, va_rf_cat, cat_i, cat_l, List.range_succ]) (fun sz C hC hX hl hnm hA hQ => bx_J4_init_k3 E C S sz Q S x0 x1 x2 x3 x4 hC hX hA hnm hQ h)
/-! J4_init_k6 -/
def wx_J4_init_k6 (Q : XS → Prop) (S : XS) (x0 : Option Nat) (x1 : Option Nat) (x2 : Option Nat) (x3 : Int32) (x4 : Int32) : Prop :=
  dr x0 (fun u1 => wx_J3_init_2_k6 (fun S2 => Q S2) S (some u1) x1 x2 x3 x4)
theorem hx_J4_init_k6 : yJ4_init.cls = RJ4 ∧ yJ4_init.cls ≠ "java/lang/invoke/MethodHandle" ∧ yJ4_init.cls ≠ "java/lang/invoke/VarHandle" ∧ (parseMethodDescriptor yJ4_init.desc).map (fun d => d.parameters.length) = some 4 := by decide +kernel
set_option maxHeartbeats 4000000 in
set_option maxRecDepth 100000 in
theorem bx_J4_init_k6 (E : XE) (C : Cx) (S0 : XS) (sz : Nat) (Q : XS → Prop) (S : XS) (x0 : Option Nat) (x1 : Option Nat) (x2 : Option Nat) (x3 : Int32) (x4 : Int32) (hC : COk C cJ4_init RJ4 none 2 58 5) (hX : XOk E C) (hA : cx_A C = xA S0 sz) (hini : (cx_h C).name = "<init>") (hQ : cx_Q C = MQ (cx_b C) (va_Qv Q (BX1 E S0 sz) (xA S0 sz)) (cx_a C) (cx_s C) (cx_MC C) (cx_MS C) (xA S0 sz)) (h : wx_J4_init_k6 Q S x0 x1 x2 x3 x4) : GX E C S 0 0 0 [some (va_rf x0), some (va_rf x1), some (va_rf x2), some (.int x3), some (.int x4)] [] := by
  refine g_aload_nR hC dJ4_init_0 rfl ?_
  refine g_aload_nR hC dJ4_init_1 rfl ?_
  refine g_aload_nR hC dJ4_init_2 rfl ?_
  refine g_iload_n hC dJ4_init_3 rfl ?_
  refine g_iload hC dJ4_init_4 rfl ?_
  obtain ⟨u1, eu1, h⟩ := h
  refine g_top4 eu1 ?_
  refine gX_nv hX (gX_runI (As := [va_rf x1, va_rf x2, .int x3, .int x4]) (rest := []) hC hX (mx_J3_init_2_k6 (cx_l C) E _ _ _ _ _ _ _ h) q325 q77 q323 q324 rfl hx_J3_init_2_k6.2 rfl rfl (Or.inl (Nat.le_of_ble_eq_true rfl)) ⟨Nat.le_of_ble_eq_true rfl, Nat.le_of_ble_eq_true rfl⟩ dJ4_init_6 (Nat.zero_le _) (Nat.zero_le _)) rfl rfl ?_
  intro S2 h
  refine gX_vret hC hA hQ rfl dJ4_init_9 h
theorem mx_J4_init_k6 (l : Launch) (E : XE) (Q : XS → Prop) (S : XS) (x0 : Option Nat) (x1 : Option Nat) (x2 : Option Nat) (x3 : Int32) (x4 : Int32) (h : wx_J4_init_k6 Q S x0 x1 x2 x3 x4) : XMet E l yJ4_init cJ4_init 5 none ({ frames := 2, cells := 0, slots := 0, locals := 58 } : Room) [va_rf x0, va_rf x1, va_rf x2, .int x3, .int x4] S (fun sz => va_Qv Q (BX1 E S sz) (xA S sz)) :=
  XMet_of (rm := ({ frames := 2, cells := 0, slots := 0, locals := 58 } : Room)) (by decide) (by simp [lg_sl, va_rf_cat, cat_i, cat_l]) (L0 := [some (va_rf x0), some (va_rf x1), some (va_rf x2), some (.int x3), some (.int x4)]) (by simp [lx_pairs, lv_args, va_rf_cat, cat_i, cat_l, List.range_succ]) (fun sz C hC hX hl hnm hA hQ => bx_J4_init_k6 E C S sz Q S x0 x1 x2 x3 x4 hC hX hA hnm hQ h)
/-! J0_init -/
def wx_J0_init (Q : XS → Prop) (S : XS) (x0 : Option Nat) : Prop :=
  dr x0 (fun u1 => Q S)
theorem hx_J0_init : yJ0_init.cls = RJ0 ∧ yJ0_init.cls ≠ "java/lang/invoke/MethodHandle" ∧ yJ0_init.cls ≠ "java/lang/invoke/VarHandle" ∧ (parseMethodDescriptor yJ0_init.desc).map (fun d => d.parameters.length) = some 0 := by decide +kernel
set_option maxHeartbeats 4000000 in
set_option maxRecDepth 100000 in
theorem bx_J0_init (E : XE) (C : Cx) (S0 : XS) (sz : Nat) (Q : XS → Prop) (S : XS) (x0 : Option Nat) (hC : COk C cJ0_init RJ0 none 1 34 1) (hX : XOk E C) (hA : cx_A C = xA S0 sz) (hini : (cx_h C).name = "<init>") (hQ : cx_Q C = MQ (cx_b C) (va_Qv Q (BX1 E S0 sz) (xA S0 sz)) (cx_a C) (cx_s C) (cx_MC C) (cx_MS C) (xA S0 sz)) (h : wx_J0_init Q S x0) : GX E C S 0 0 0 [some (va_rf x0)] [] := by
  refine g_aload_nR hC dJ0_init_0 rfl ?_
  obtain ⟨u1, eu1, h⟩ := h
  refine g_top0 eu1 ?_
  refine gX_oinit hC dJ0_init_1 q132 q115 q116 (Nat.le_of_ble_eq_true rfl) (by decide) (by decide) ?_
  refine gX_vret hC hA hQ rfl dJ0_init_4 h
theorem mx_J0_init (l : Launch) (E : XE) (Q : XS → Prop) (S : XS) (x0 : Option Nat) (h : wx_J0_init Q S x0) : XMet E l yJ0_init cJ0_init 1 none ({ frames := 1, cells := 0, slots := 0, locals := 34 } : Room) [va_rf x0] S (fun sz => va_Qv Q (BX1 E S sz) (xA S sz)) :=
  XMet_of (rm := ({ frames := 1, cells := 0, slots := 0, locals := 34 } : Room)) (by decide) (by simp [lg_sl, va_rf_cat, cat_i, cat_l]) (L0 := [some (va_rf x0)]) (by simp [lx_pairs, lv_args, va_rf_cat, cat_i, cat_l, List.range_succ]) (fun sz C hC hX hl hnm hA hQ => bx_J0_init E C S sz Q S x0 hC hX hA hnm hQ h)
/-! J1_init -/
def wx_J1_init (Q : XS → Prop) (S : XS) (x0 : Option Nat) : Prop :=
  dr x0 (fun u1 => wx_J0_init (fun S2 => xKD S2 u1 = some 16 ∧ Q (sFI S2 5100 u1 (0 : Int32))) S (some u1))
theorem hx_J1_init : yJ1_init.cls = RJ1 ∧ yJ1_init.cls ≠ "java/lang/invoke/MethodHandle" ∧ yJ1_init.cls ≠ "java/lang/invoke/VarHandle" ∧ (parseMethodDescriptor yJ1_init.desc).map (fun d => d.parameters.length) = some 0 := by decide +kernel
set_option maxHeartbeats 4000000 in
set_option maxRecDepth 100000 in
theorem bx_J1_init (E : XE) (C : Cx) (S0 : XS) (sz : Nat) (Q : XS → Prop) (S : XS) (x0 : Option Nat) (hC : COk C cJ1_init RJ1 none 2 54 1) (hX : XOk E C) (hA : cx_A C = xA S0 sz) (hini : (cx_h C).name = "<init>") (hQ : cx_Q C = MQ (cx_b C) (va_Qv Q (BX1 E S0 sz) (xA S0 sz)) (cx_a C) (cx_s C) (cx_MC C) (cx_MS C) (xA S0 sz)) (h : wx_J1_init Q S x0) : GX E C S 0 0 0 [some (va_rf x0)] [] := by
  refine g_aload_nR hC dJ1_init_0 rfl ?_
  obtain ⟨u1, eu1, h⟩ := h
  refine g_top0 eu1 ?_
  refine gX_nv hX (gX_runI (As := []) (rest := []) hC hX (mx_J0_init (cx_l C) E _ _ _ h) q131 q71 q129 q130 rfl hx_J0_init.2 rfl rfl (Or.inl (Nat.le_of_ble_eq_true rfl)) ⟨Nat.le_of_ble_eq_true rfl, Nat.le_of_ble_eq_true rfl⟩ dJ1_init_1 (Nat.zero_le _) (Nat.zero_le _)) rfl rfl ?_
  intro S2 h
  refine g_aload_nR hC dJ1_init_4 rfl ?_
  refine g_iconst (v := 0) hC dJ1_init_5 (by decide) ?_
  refine g_top1 eu1 ?_
  have hk4 := h.1
  refine gX_putI (C0 := RJ2) (T := TJ2) (ty0 := tyJ2) (N := 3) (n := 16) (k := 0) (f := 5100) hC hX dJ1_init_6 q137 rfl in_J2 tyJ2_ok nmJ2 (by decide) (Or.inl rfl) rfl rfl rfl rfl rfl (by decide) (Or.inl (by decide)) hk4 ?_
  refine gX_vret hC hA hQ rfl dJ1_init_9 h.2
theorem mx_J1_init (l : Launch) (E : XE) (Q : XS → Prop) (S : XS) (x0 : Option Nat) (h : wx_J1_init Q S x0) : XMet E l yJ1_init cJ1_init 1 none ({ frames := 2, cells := 0, slots := 0, locals := 54 } : Room) [va_rf x0] S (fun sz => va_Qv Q (BX1 E S sz) (xA S sz)) :=
  XMet_of (rm := ({ frames := 2, cells := 0, slots := 0, locals := 54 } : Room)) (by decide) (by simp [lg_sl, va_rf_cat, cat_i, cat_l]) (L0 := [some (va_rf x0)]) (by simp [lx_pairs, lv_args, va_rf_cat, cat_i, cat_l, List.range_succ]) (fun sz C hC hX hl hnm hA hQ => bx_J1_init E C S sz Q S x0 hC hX hA hnm hQ h)
/-! J2_init -/
def wx_J2_init (Q : XS → Prop) (S : XS) (x0 : Option Nat) : Prop :=
  dr x0 (fun u1 => wx_J1_init (fun S2 => xKD S2 u1 = some 16 ∧ Q (sFR S2 1600 u1 (some (xST S2 0)))) S (some u1))
theorem hx_J2_init : yJ2_init.cls = RJ2 ∧ yJ2_init.cls ≠ "java/lang/invoke/MethodHandle" ∧ yJ2_init.cls ≠ "java/lang/invoke/VarHandle" ∧ (parseMethodDescriptor yJ2_init.desc).map (fun d => d.parameters.length) = some 0 := by decide +kernel
set_option maxHeartbeats 4000000 in
set_option maxRecDepth 100000 in
theorem bx_J2_init (E : XE) (C : Cx) (S0 : XS) (sz : Nat) (Q : XS → Prop) (S : XS) (x0 : Option Nat) (hC : COk C cJ2_init RJ2 none 3 74 1) (hX : XOk E C) (hA : cx_A C = xA S0 sz) (hini : (cx_h C).name = "<init>") (hQ : cx_Q C = MQ (cx_b C) (va_Qv Q (BX1 E S0 sz) (xA S0 sz)) (cx_a C) (cx_s C) (cx_MC C) (cx_MS C) (xA S0 sz)) (h : wx_J2_init Q S x0) : GX E C S 0 0 0 [some (va_rf x0)] [] := by
  refine g_aload_nR hC dJ2_init_0 rfl ?_
  obtain ⟨u1, eu1, h⟩ := h
  refine g_top0 eu1 ?_
  refine gX_nv hX (gX_runI (As := []) (rest := []) hC hX (mx_J1_init (cx_l C) E _ _ _ h) q128 q72 q126 q127 rfl hx_J1_init.2 rfl rfl (Or.inl (Nat.le_of_ble_eq_true rfl)) ⟨Nat.le_of_ble_eq_true rfl, Nat.le_of_ble_eq_true rfl⟩ dJ2_init_1 (Nat.zero_le _) (Nat.zero_le _)) rfl rfl ?_
  intro S2 h
  refine g_aload_nR hC dJ2_init_4 rfl ?_
  refine gX_gets (j := 0) hC hX dJ2_init_5 (List.mem_of_getElem? (i := 0) rfl) q133 rfl ?_
  refine g_top1 eu1 ?_
  have hk4 := h.1
  refine gX_putR (C0 := RJ2) (T := TJ2) (ty0 := tyJ2) (N := 3) (n := 16) (k := 1) (f := 1600) hC hX dJ2_init_8 q135 rfl in_J2 tyJ2_ok nmJ2 (by decide) (Or.inl rfl) rfl rfl (narrow_rf (Or.inr ⟨_, rfl⟩) _) (fits_rf (Or.inr ⟨_, rfl⟩) _) rfl (by decide) (Or.inl (by decide)) hk4 ?_
  refine gX_vret hC hA hQ rfl dJ2_init_11 h.2
theorem mx_J2_init (l : Launch) (E : XE) (Q : XS → Prop) (S : XS) (x0 : Option Nat) (h : wx_J2_init Q S x0) : XMet E l yJ2_init cJ2_init 1 none ({ frames := 3, cells := 0, slots := 0, locals := 74 } : Room) [va_rf x0] S (fun sz => va_Qv Q (BX1 E S sz) (xA S sz)) :=
  XMet_of (rm := ({ frames := 3, cells := 0, slots := 0, locals := 74 } : Room)) (by decide) (by simp [lg_sl, va_rf_cat, cat_i, cat_l]) (L0 := [some (va_rf x0)]) (by simp [lx_pairs, lv_args, va_rf_cat, cat_i, cat_l, List.range_succ]) (fun sz C hC hX hl hnm hA hQ => bx_J2_init E C S sz Q S x0 hC hX hA hnm hQ h)
/-! J2_size -/
def wx_J2_size (Q : Int32 → XS → Prop) (S : XS) (x0 : Option Nat) : Prop :=
  dr x0 (fun u1 => xKD S u1 = some 16 ∧ Q (xFI S 1601 u1) S)
theorem hx_J2_size : yJ2_size.cls = RJ2 ∧ yJ2_size.cls ≠ "java/lang/invoke/MethodHandle" ∧ yJ2_size.cls ≠ "java/lang/invoke/VarHandle" ∧ (parseMethodDescriptor yJ2_size.desc).map (fun d => d.parameters.length) = some 0 := by decide +kernel
set_option maxHeartbeats 4000000 in
set_option maxRecDepth 100000 in
theorem bx_J2_size (E : XE) (C : Cx) (S0 : XS) (sz : Nat) (Q : Int32 → XS → Prop) (S : XS) (x0 : Option Nat) (hC : COk C cJ2_size RJ2 (some .int) 1 34 1) (hX : XOk E C) (hA : cx_A C = xA S0 sz) (hQ : cx_Q C = MQ (cx_b C) (va_Qi Q (BX1 E S0 sz) (xA S0 sz)) (cx_a C) (cx_s C) (cx_MC C) (cx_MS C) (xA S0 sz)) (h : wx_J2_size Q S x0) : GX E C S 0 0 0 [some (va_rf x0)] [] := by
  refine g_aload_nR hC dJ2_size_0 rfl ?_
  obtain ⟨u1, eu1, h⟩ := h
  refine g_top0 eu1 ?_
  have hk2 := h.1
  refine gX_get (C0 := RJ2) (T := TJ2) (N := 3) (n := 16) (k := 2) (q := (1601, false)) hC hX dJ2_size_1 q136 rfl in_J2 (by decide) (Or.inl rfl) rfl (by decide) hk2 ?_
  show GX _ _ _ _ _ _ _ (.int (xFI S 1601 u1) :: _)
  refine gX_iret rfl hC hA hQ dJ2_size_4 h.2
theorem mx_J2_size (l : Launch) (E : XE) (Q : Int32 → XS → Prop) (S : XS) (x0 : Option Nat) (h : wx_J2_size Q S x0) : XMet E l yJ2_size cJ2_size 1 (some .int) ({ frames := 1, cells := 0, slots := 0, locals := 34 } : Room) [va_rf x0] S (fun sz => va_Qi Q (BX1 E S sz) (xA S sz)) :=
  XMet_of (rm := ({ frames := 1, cells := 0, slots := 0, locals := 34 } : Room)) (by decide) (by simp [lg_sl, va_rf_cat, cat_i, cat_l]) (L0 := [some (va_rf x0)]) (by simp [lx_pairs, lv_args, va_rf_cat, cat_i, cat_l, List.range_succ]) (fun sz C hC hX hl hnm hA hQ => bx_J2_size E C S sz Q S x0 hC hX hA hQ h)
/-! J14_copyOf_3 -/
def wx_J14_copyOf_3_24 (Q : Option Nat → XS → Prop) (mc ms : Nat) (S : XS) (a0 : Option Nat) (a1 : Int32) (s0 : Option Nat) : Prop :=
  dr a0 (fun u4 => xKD S u4 = some 102 ∧ dr s0 (fun u6 => xKD S u6 = some 102 ∧ xRO S u4 = false ∧ xRO S u6 = false ∧ ¬ (0 : Int32) < 0 ∧ ¬ (0 : Int32) < 0 ∧ ¬ (if a1 < (Int32.ofNat (xLN S u4)) then a1 else (Int32.ofNat (xLN S u4))) < 0 ∧ (Int32.toNatClampNeg (0 : Int32)) + (Int32.toNatClampNeg (if a1 < (Int32.ofNat (xLN S u4)) then a1 else (Int32.ofNat (xLN S u4)))) ≤ xLN S u4 ∧ (Int32.toNatClampNeg (0 : Int32)) + (Int32.toNatClampNeg (if a1 < (Int32.ofNat (xLN S u4)) then a1 else (Int32.ofNat (xLN S u4)))) ≤ xLN S u6 ∧ (∀ j, j < (Int32.toNatClampNeg (if a1 < (Int32.ofNat (xLN S u4)) then a1 else (Int32.ofNat (xLN S u4)))) → ∀ y, xAR S u4 ((Int32.toNatClampNeg (0 : Int32)) + j) = some y → xOb S y) ∧ Q s0 (sARf S u6 (va_cpy (xAR S u4) (xAR S u6) (Int32.toNatClampNeg (0 : Int32)) (Int32.toNatClampNeg (0 : Int32)) (Int32.toNatClampNeg (if a1 < (Int32.ofNat (xLN S u4)) then a1 else (Int32.ofNat (xLN S u4))))))))
def wx_J14_copyOf_3 (Q : Option Nat → XS → Prop) (mc ms : Nat) (S : XS) (x0 : Option Nat) (x1 : Int32) (x2 : Option Nat) : Prop :=
  (if x2 = (some (xST S 2)) then ¬ x1 < 0 ∧ (Int32.toNatClampNeg x1) ≤ 100000 ∧ 1 ≤ mc ∧ (Int32.toNatClampNeg x1) ≤ ms ∧ (∀ q1 : Nat, xKD S q1 = none → wx_J14_copyOf_3_24 Q (mc - 1) (ms - (Int32.toNatClampNeg x1)) (sNewA S q1 102 (Int32.toNatClampNeg x1)) x0 x1 (some q1)) else False)
theorem hx_J14_copyOf_3 : yJ14_copyOf_3.cls = RJ14 ∧ yJ14_copyOf_3.cls ≠ "java/lang/invoke/MethodHandle" ∧ yJ14_copyOf_3.cls ≠ "java/lang/invoke/VarHandle" ∧ (parseMethodDescriptor yJ14_copyOf_3.desc).map (fun d => d.parameters.length) = some 3 := by decide +kernel
set_option maxHeartbeats 4000000 in
set_option maxRecDepth 100000 in
theorem bx_J14_copyOf_3 (E : XE) (C : Cx) (S0 : XS) (sz : Nat) (Q : Option Nat → XS → Prop) (mc ms : Nat) (S : XS) (x0 : Option Nat) (x1 : Int32) (x2 : Option Nat) (hC : COk C cJ14_copyOf_3 RJ14 (some (.array (.object "java/lang/Object"))) 1 34 4) (hX : XOk E C) (hA : cx_A C = xA S0 sz) (hQ : cx_Q C = MQ (cx_b C) (va_Qq Q (BX1 E S0 sz) (xA S0 sz)) (cx_a C) (cx_s C) (cx_MC C) (cx_MS C) (xA S0 sz)) (h : wx_J14_copyOf_3 Q mc ms S x0 x1 x2) : GX E C S mc ms 0 [some (va_rf x0), some (.int x1), some (va_rf x2), none] [] := by
  have s_24 : ∀ (mc ms : Nat) (S : XS) (a0 : Option Nat) (a1 : Int32) (s0 : Option Nat), wx_J14_copyOf_3_24 Q  mc ms S a0 a1 s0 → GX E C S mc ms 24 [some (va_rf a0), some (.int a1), none, none] [va_rf s0] := by
    intro  mc ms S a0 a1 s0 h
    refine g_astore_nR hC dJ14_copyOf_3_24 rfl (by decide) rfl rfl ?_
    refine g_aload_nR hC dJ14_copyOf_3_25 rfl ?_
    refine g_iconst (v := 0) hC dJ14_copyOf_3_26 (by decide) ?_
    refine g_aload_nR hC dJ14_copyOf_3_27 rfl ?_
    refine g_iconst (v := 0) hC dJ14_copyOf_3_28 (by decide) ?_
    refine g_aload_nR hC dJ14_copyOf_3_29 rfl ?_
    obtain ⟨u4, eu4, h⟩ := h
    refine g_top0 eu4 ?_
    have hk5 := h.1
    refine gX_alen (n := 102) hC hX dJ14_copyOf_3_30 (by decide) hk5 ?_
    refine g_iload_n hC dJ14_copyOf_3_31 rfl ?_
    refine g_mmin hC dJ14_copyOf_3_32 q556 q557 q91 q558 (Nat.le_of_ble_eq_true rfl) (by decide) (by decide) ?_
    obtain ⟨u6, eu6, h⟩ := h.2
    refine g_top2 eu6 ?_
    refine g_top4 eu4 ?_
    have hk7 := h.1
    refine gX_acopyX hC hX dJ14_copyOf_3_35 q559 q418 q417 q85 hk5 hk7 h.2.1 h.2.2.1 h.2.2.2.1 h.2.2.2.2.1 h.2.2.2.2.2.1 h.2.2.2.2.2.2.1 h.2.2.2.2.2.2.2.1 h.2.2.2.2.2.2.2.2.1 (Nat.le_of_ble_eq_true rfl) (by decide) (by decide) ?_
    refine g_aload_nR hC dJ14_copyOf_3_38 rfl ?_
    refine gX_aret hC hA hQ rfl (Or.inr ⟨_, rfl⟩) dJ14_copyOf_3_39 h.2.2.2.2.2.2.2.2.2
  refine g_aload_nR hC dJ14_copyOf_3_0 rfl ?_
  refine gX_ldcM hC hX dJ14_copyOf_3_1 q914 ?_
  refine g_acmp_ne (tgt := 13) hC dJ14_copyOf_3_3 (by decide) (fun c => ?_) (fun c => ?_)
  · have h := it_n c h
    refine g_aload_nR hC dJ14_copyOf_3_13 rfl ?_
    exact False.elim h
  · have h := it_p c h
    refine g_iload_n hC dJ14_copyOf_3_6 rfl ?_
    refine gX_newq (n := 102) hC hX dJ14_copyOf_3_7 q916 (by decide) (by decide) rfl h.1 h.2.1 h.2.2.1 h.2.2.2.1 ?_
    intro q1 hq2
    have h := h.2.2.2.2 q1 hq2
    have hk3 : xKD (sNewA S q1 102 (Int32.toNatClampNeg x1)) q1 = some 102 := kd_selfA
    refine g_goto (tgt := 24) hC dJ14_copyOf_3_10 (by decide) ?_
    refine g_sub [true, true, false, false] rfl ?_
    exact s_24 (mc - 1) (ms - (Int32.toNatClampNeg x1)) (sNewA S q1 102 (Int32.toNatClampNeg x1)) x0 x1 (some q1) h
theorem mx_J14_copyOf_3 (l : Launch) (E : XE) (mc ms : Nat) (Q : Option Nat → XS → Prop) (S : XS) (x0 : Option Nat) (x1 : Int32) (x2 : Option Nat) (h : wx_J14_copyOf_3 Q mc ms S x0 x1 x2) : XMet E l yJ14_copyOf_3 cJ14_copyOf_3 4 (some (.array (.object "java/lang/Object"))) ({ frames := 1, cells := mc, slots := ms, locals := 34 } : Room) [va_rf x0, .int x1, va_rf x2] S (fun sz => va_Qq Q (BX1 E S sz) (xA S sz)) :=
  XMet_of (rm := ({ frames := 1, cells := mc, slots := ms, locals := 34 } : Room)) (by decide) (by simp [lg_sl, va_rf_cat, cat_i, cat_l]) (L0 := [some (va_rf x0), some (.int x1), some (va_rf x2), none]) (by simp [lx_pairs, lv_args, va_rf_cat, cat_i, cat_l, List.range_succ]) (fun sz C hC hX hl hnm hA hQ => bx_J14_copyOf_3 E C S sz Q mc ms S x0 x1 x2 hC hX hA hQ h)
/-! J14_copyOf_2 -/
def wx_J14_copyOf_2 (Q : Option Nat → XS → Prop) (mc ms : Nat) (S : XS) (x0 : Option Nat) (x1 : Int32) : Prop :=
  dr x0 (fun u1 => xKD S u1 = some 102 ∧ xRO S u1 = false ∧ (∃ k3 n4, k3 ≤ mc ∧ n4 ≤ ms ∧ wx_J14_copyOf_3 (fun r6 S5 => Q r6 S5) k3 n4 S x0 x1 (some (xST S 2))))
theorem hx_J14_copyOf_2 : yJ14_copyOf_2.cls = RJ14 ∧ yJ14_copyOf_2.cls ≠ "java/lang/invoke/MethodHandle" ∧ yJ14_copyOf_2.cls ≠ "java/lang/invoke/VarHandle" ∧ (parseMethodDescriptor yJ14_copyOf_2.desc).map (fun d => d.parameters.length) = some 2 := by decide +kernel
set_option maxHeartbeats 4000000 in
set_option maxRecDepth 100000 in
theorem bx_J14_copyOf_2 (E : XE) (C : Cx) (S0 : XS) (sz : Nat) (Q : Option Nat → XS → Prop) (mc ms : Nat) (S : XS) (x0 : Option Nat) (x1 : Int32) (hC : COk C cJ14_copyOf_2 RJ14 (some (.array (.object "java/lang/Object"))) 2 57 2) (hX : XOk E C) (hA : cx_A C = xA S0 sz) (hQ : cx_Q C = MQ (cx_b C) (va_Qq Q (BX1 E S0 sz) (xA S0 sz)) (cx_a C) (cx_s C) (cx_MC C) (cx_MS C) (xA S0 sz)) (h : wx_J14_copyOf_2 Q mc ms S x0 x1) : GX E C S mc ms 0 [some (va_rf x0), some (.int x1)] [] := by
  refine g_aload_nR hC dJ14_copyOf_2_0 rfl ?_
  refine g_iload_n hC dJ14_copyOf_2_1 rfl ?_
  refine g_aload_nR hC dJ14_copyOf_2_2 rfl ?_
  obtain ⟨u1, eu1, h⟩ := h
  refine g_top0 eu1 ?_
  have hk2 := h.1
  refine gX_getC hC hX dJ14_copyOf_2_3 q884 q2031 q2030 q885 q910 hk2 h.2.1 (Nat.le_of_ble_eq_true rfl) (by decide) (by decide) ?_
  obtain ⟨k3, n4, hk3, hn4, h⟩ := h.2.2
  refine gX_cq hX (gX_runS (As := [va_rf x0, .int x1, va_rf (some (xST S 2))]) (rest := []) hC hX (mx_J14_copyOf_3 (cx_l C) E k3 n4 _ _ _ _ _ h) (lw_S q911 q912 q92 q913) hx_J14_copyOf_3.2 rfl rfl (Or.inl (Nat.le_of_ble_eq_true rfl)) ⟨Nat.le_of_ble_eq_true rfl, Nat.le_of_ble_eq_true rfl⟩ dJ14_copyOf_2_6 hk3 hn4) hk3 hn4 ?_
  intro r6 S5 h
  refine gX_aret hC hA hQ rfl (Or.inr ⟨_, rfl⟩) dJ14_copyOf_2_9 h
theorem mx_J14_copyOf_2 (l : Launch) (E : XE) (mc ms : Nat) (Q : Option Nat → XS → Prop) (S : XS) (x0 : Option Nat) (x1 : Int32) (h : wx_J14_copyOf_2 Q mc ms S x0 x1) : XMet E l yJ14_copyOf_2 cJ14_copyOf_2 2 (some (.array (.object "java/lang/Object"))) ({ frames := 2, cells := mc, slots := ms, locals := 57 } : Room) [va_rf x0, .int x1] S (fun sz => va_Qq Q (BX1 E S sz) (xA S sz)) :=
  XMet_of (rm := ({ frames := 2, cells := mc, slots := ms, locals := 57 } : Room)) (by decide) (by simp [lg_sl, va_rf_cat, cat_i, cat_l]) (L0 := [some (va_rf x0), some (.int x1)]) (by simp [lx_pairs, lv_args, va_rf_cat, cat_i, cat_l, List.range_succ]) (fun sz C hC hX hl hnm hA hQ => bx_J14_copyOf_2 E C S sz Q mc ms S x0 x1 hC hX hA hQ h)
/-! J2_grow_2 -/
def wx_J2_grow_2_20 (Q : Option Nat → XS → Prop) (mc ms : Nat) (S : XS) (a0 : Option Nat) (a1 : Int32) (a2 : Int32) : Prop :=
  wx_J12_newLength (fun r6 S5 => dr a0 (fun u7 => xKD S5 u7 = some 16 ∧ (∃ k9 n10, k9 ≤ mc ∧ n10 ≤ ms ∧ wx_J14_copyOf_2 (fun r12 S11 => xKD S11 u7 = some 16 ∧ Q r12 (sFR S11 1600 u7 r12)) k9 n10 S5 (xFR S5 1600 u7) r6))) S a2 (a1 - a2) (a2 >>> ((1 : Int32) &&& 31))
def wx_J2_grow_2 (Q : Option Nat → XS → Prop) (mc ms : Nat) (S : XS) (x0 : Option Nat) (x1 : Int32) : Prop :=
  dr x0 (fun u1 => xKD S u1 = some 16 ∧ dr (xFR S 1600 u1) (fun u3 => xKD S u3 = some 102 ∧ (if 0 < (Int32.ofNat (xLN S u3)) then wx_J2_grow_2_20 Q mc ms S x0 x1 (Int32.ofNat (xLN S u3)) else (if (xFR S 1600 u1) = (some (xST S 0)) then ¬ (if (10 : Int32) < x1 then x1 else (10 : Int32)) < 0 ∧ (Int32.toNatClampNeg (if (10 : Int32) < x1 then x1 else (10 : Int32))) ≤ 100000 ∧ 1 ≤ mc ∧ (Int32.toNatClampNeg (if (10 : Int32) < x1 then x1 else (10 : Int32))) ≤ ms ∧ (∀ q14 : Nat, xKD S q14 = none → Q (some q14) (sFR (sNewA S q14 102 (Int32.toNatClampNeg (if (10 : Int32) < x1 then x1 else (10 : Int32)))) 1600 u1 (some q14))) else wx_J2_grow_2_20 Q mc ms S x0 x1 (Int32.ofNat (xLN S u3))))))
theorem hx_J2_grow_2 : yJ2_grow_2.cls = RJ2 ∧ yJ2_grow_2.cls ≠ "java/lang/invoke/MethodHandle" ∧ yJ2_grow_2.cls ≠ "java/lang/invoke/VarHandle" ∧ (parseMethodDescriptor yJ2_grow_2.desc).map (fun d => d.parameters.length) = some 1 := by decide +kernel
set_option maxHeartbeats 4000000 in
set_option maxRecDepth 100000 in
theorem bx_J2_grow_2 (E : XE) (C : Cx) (S0 : XS) (sz : Nat) (Q : Option Nat → XS → Prop) (mc ms : Nat) (S : XS) (x0 : Option Nat) (x1 : Int32) (hC : COk C cJ2_grow_2 RJ2 (some (.array (.object "java/lang/Object"))) 3 78 4) (hX : XOk E C) (hA : cx_A C = xA S0 sz) (hQ : cx_Q C = MQ (cx_b C) (va_Qq Q (BX1 E S0 sz) (xA S0 sz)) (cx_a C) (cx_s C) (cx_MC C) (cx_MS C) (xA S0 sz)) (h : wx_J2_grow_2 Q mc ms S x0 x1) : GX E C S mc ms 0 [some (va_rf x0), some (.int x1), none, none] [] := by
  have s_20 : ∀ (mc ms : Nat) (S : XS) (a0 : Option Nat) (a1 : Int32) (a2 : Int32), wx_J2_grow_2_20 Q  mc ms S a0 a1 a2 → GX E C S mc ms 20 [some (va_rf a0), some (.int a1), some (.int a2), none] [] := by
    intro  mc ms S a0 a1 a2 h
    refine g_iload_n hC dJ2_grow_2_20 rfl ?_
    refine g_iload_n hC dJ2_grow_2_21 rfl ?_
    refine g_iload_n hC dJ2_grow_2_22 rfl ?_
    refine g_isub hC dJ2_grow_2_23 ?_
    refine g_iload_n hC dJ2_grow_2_24 rfl ?_
    refine g_iconst (v := 1) hC dJ2_grow_2_25 (by decide) ?_
    refine g_ishr hC dJ2_grow_2_26 ?_
    refine gX_ni hX (gX_runS (As := [.int a2, .int (a1 - a2), .int (a2 >>> ((1 : Int32) &&& 31))]) (rest := []) hC hX (mx_J12_newLength (cx_l C) E _ _ _ _ _ h) (lw_S q880 q536 q90 q537) hx_J12_newLength.2 rfl rfl (Or.inl (Nat.le_of_ble_eq_true rfl)) ⟨Nat.le_of_ble_eq_true rfl, Nat.le_of_ble_eq_true rfl⟩ dJ2_grow_2_27 (Nat.zero_le _) (Nat.zero_le _)) rfl rfl ?_
    intro r6 S5 h
    refine g_istore_n hC dJ2_grow_2_30 rfl (by decide) rfl rfl ?_
    refine g_sub [true, false, false, true] rfl ?_
    refine g_aload_nR hC dJ2_grow_2_31 rfl ?_
    refine g_aload_nR hC dJ2_grow_2_32 rfl ?_
    obtain ⟨u7, eu7, h⟩ := h
    refine g_top0 eu7 ?_
    have hk8 := h.1
    refine gX_get (C0 := RJ2) (T := TJ2) (N := 3) (n := 16) (k := 1) (q := (1600, true)) hC hX dJ2_grow_2_33 q135 rfl in_J2 (by decide) (Or.inl rfl) rfl (by decide) hk8 ?_
    show GX _ _ _ _ _ _ _ (va_rf (xFR S5 1600 u7) :: _)
    refine g_iload_n hC dJ2_grow_2_36 rfl ?_
    obtain ⟨k9, n10, hk9, hn10, h⟩ := h.2
    refine gX_cq hX (gX_runS (As := [va_rf (xFR S5 1600 u7), .int r6]) (rest := [va_rf a0]) hC hX (mx_J14_copyOf_2 (cx_l C) E k9 n10 _ _ _ _ h) (lw_S q881 q882 q92 q883) hx_J14_copyOf_2.2 rfl rfl (Or.inl (Nat.le_of_ble_eq_true rfl)) ⟨Nat.le_of_ble_eq_true rfl, Nat.le_of_ble_eq_true rfl⟩ dJ2_grow_2_37 hk9 hn10) hk9 hn10 ?_
    intro r12 S11 h
    refine g_dup_x1 hC dJ2_grow_2_40 (va_rf_cat _) (va_rf_cat _) ?_
    refine g_top1 eu7 ?_
    have hk13 := h.1
    refine gX_putR (C0 := RJ2) (T := TJ2) (ty0 := tyJ2) (N := 3) (n := 16) (k := 1) (f := 1600) hC hX dJ2_grow_2_41 q135 rfl in_J2 tyJ2_ok nmJ2 (by decide) (Or.inl rfl) rfl rfl (narrow_rf (Or.inr ⟨_, rfl⟩) _) (fits_rf (Or.inr ⟨_, rfl⟩) _) rfl (by decide) (Or.inl (by decide)) hk13 ?_
    refine gX_aret hC hA hQ rfl (Or.inr ⟨_, rfl⟩) dJ2_grow_2_44 h.2
  refine g_aload_nR hC dJ2_grow_2_0 rfl ?_
  obtain ⟨u1, eu1, h⟩ := h
  refine g_top0 eu1 ?_
  have hk2 := h.1
  refine gX_get (C0 := RJ2) (T := TJ2) (N := 3) (n := 16) (k := 1) (q := (1600, true)) hC hX dJ2_grow_2_1 q135 rfl in_J2 (by decide) (Or.inl rfl) rfl (by decide) hk2 ?_
  show GX _ _ _ _ _ _ _ (va_rf (xFR S 1600 u1) :: _)
  obtain ⟨u3, eu3, h⟩ := h.2
  refine g_top0 eu3 ?_
  have hk4 := h.1
  refine gX_alen (n := 102) hC hX dJ2_grow_2_4 (by decide) hk4 ?_
  refine g_istore_n hC dJ2_grow_2_5 rfl (by decide) rfl rfl ?_
  refine g_iload_n hC dJ2_grow_2_6 rfl ?_
  refine g_if_gt (tgt := 20) hC dJ2_grow_2_7 (by decide) (fun c => ?_) (fun c => ?_)
  · have h := it_p c h.2
    exact s_20 mc ms S x0 x1 (Int32.ofNat (xLN S u3)) h
  · have h := it_n c h.2
    refine g_aload_nR hC dJ2_grow_2_10 rfl ?_
    refine g_top0 eu1 ?_
    refine gX_get (C0 := RJ2) (T := TJ2) (N := 3) (n := 16) (k := 1) (q := (1600, true)) hC hX dJ2_grow_2_11 q135 rfl in_J2 (by decide) (Or.inl rfl) rfl (by decide) hk2 ?_
    show GX _ _ _ _ _ _ _ (va_rf (xFR S 1600 u1) :: _)
    refine gX_gets (j := 0) hC hX dJ2_grow_2_14 (List.mem_of_getElem? (i := 0) rfl) q133 rfl ?_
    refine g_acmp_eq (tgt := 45) hC dJ2_grow_2_17 (by decide) (fun c => ?_) (fun c => ?_)
    · have h := it_p c h
      refine g_aload_nR hC dJ2_grow_2_45 rfl ?_
      refine g_bipush (v := 10) hC dJ2_grow_2_46 (by decide) ?_
      refine g_iload_n hC dJ2_grow_2_48 rfl ?_
      refine g_mmax hC dJ2_grow_2_49 q917 q539 q91 q540 (Nat.le_of_ble_eq_true rfl) (by decide) (by decide) ?_
      refine gX_newq (n := 102) hC hX dJ2_grow_2_52 q918 (by decide) (by decide) rfl h.1 h.2.1 h.2.2.1 h.2.2.2.1 ?_
      intro q14 hq15
      have h := h.2.2.2.2 q14 hq15
      have hk16 := kd_newA (q := q14) (n := 102) (k := (Int32.toNatClampNeg (if (10 : Int32) < x1 then x1 else (10 : Int32)))) hk2 hq15
      have hk17 := kd_newA (q := q14) (n := 102) (k := (Int32.toNatClampNeg (if (10 : Int32) < x1 then x1 else (10 : Int32)))) hk4 hq15
      have hk18 : xKD (sNewA S q14 102 (Int32.toNatClampNeg (if (10 : Int32) < x1 then x1 else (10 : Int32)))) q14 = some 102 := kd_selfA
      refine g_dup_x1 hC dJ2_grow_2_55 (va_rf_cat _) (va_rf_cat _) ?_
      refine g_top1 eu1 ?_
      refine gX_putR (C0 := RJ2) (T := TJ2) (ty0 := tyJ2) (N := 3) (n := 16) (k := 1) (f := 1600) hC hX dJ2_grow_2_56 q135 rfl in_J2 tyJ2_ok nmJ2 (by decide) (Or.inl rfl) rfl rfl (narrow_rf (Or.inr ⟨_, rfl⟩) _) (fits_rf (Or.inr ⟨_, rfl⟩) _) rfl (by decide) (Or.inl (by decide)) hk16 ?_
      refine gX_aret hC hA hQ rfl (Or.inr ⟨_, rfl⟩) dJ2_grow_2_59 h
    · have h := it_n c h
      exact s_20 mc ms S x0 x1 (Int32.ofNat (xLN S u3)) h
theorem mx_J2_grow_2 (l : Launch) (E : XE) (mc ms : Nat) (Q : Option Nat → XS → Prop) (S : XS) (x0 : Option Nat) (x1 : Int32) (h : wx_J2_grow_2 Q mc ms S x0 x1) : XMet E l yJ2_grow_2 cJ2_grow_2 4 (some (.array (.object "java/lang/Object"))) ({ frames := 3, cells := mc, slots := ms, locals := 78 } : Room) [va_rf x0, .int x1] S (fun sz => va_Qq Q (BX1 E S sz) (xA S sz)) :=
  XMet_of (rm := ({ frames := 3, cells := mc, slots := ms, locals := 78 } : Room)) (by decide) (by simp [lg_sl, va_rf_cat, cat_i, cat_l]) (L0 := [some (va_rf x0), some (.int x1), none, none]) (by simp [lx_pairs, lv_args, va_rf_cat, cat_i, cat_l, List.range_succ]) (fun sz C hC hX hl hnm hA hQ => bx_J2_grow_2 E C S sz Q mc ms S x0 x1 hC hX hA hQ h)
/-! J2_grow -/
def wx_J2_grow (Q : Option Nat → XS → Prop) (mc ms : Nat) (S : XS) (x0 : Option Nat) : Prop :=
  dr x0 (fun u1 => xKD S u1 = some 16 ∧ (∃ k3 n4, k3 ≤ mc ∧ n4 ≤ ms ∧ wx_J2_grow_2 (fun r6 S5 => Q r6 S5) k3 n4 S (some u1) ((xFI S 1601 u1) + (1 : Int32))))
theorem hx_J2_grow : yJ2_grow.cls = RJ2 ∧ yJ2_grow.cls ≠ "java/lang/invoke/MethodHandle" ∧ yJ2_grow.cls ≠ "java/lang/invoke/VarHandle" ∧ (parseMethodDescriptor yJ2_grow.desc).map (fun d => d.parameters.length) = some 0 := by decide +kernel
set_option maxHeartbeats 4000000 in
set_option maxRecDepth 100000 in
theorem bx_J2_grow (E : XE) (C : Cx) (S0 : XS) (sz : Nat) (Q : Option Nat → XS → Prop) (mc ms : Nat) (S : XS) (x0 : Option Nat) (hC : COk C cJ2_grow RJ2 (some (.array (.object "java/lang/Object"))) 4 101 1) (hX : XOk E C) (hA : cx_A C = xA S0 sz) (hQ : cx_Q C = MQ (cx_b C) (va_Qq Q (BX1 E S0 sz) (xA S0 sz)) (cx_a C) (cx_s C) (cx_MC C) (cx_MS C) (xA S0 sz)) (h : wx_J2_grow Q mc ms S x0) : GX E C S mc ms 0 [some (va_rf x0)] [] := by
  refine g_aload_nR hC dJ2_grow_0 rfl ?_
  refine g_aload_nR hC dJ2_grow_1 rfl ?_
  obtain ⟨u1, eu1, h⟩ := h
  refine g_top0 eu1 ?_
  have hk2 := h.1
  refine gX_get (C0 := RJ2) (T := TJ2) (N := 3) (n := 16) (k := 2) (q := (1601, false)) hC hX dJ2_grow_2 q136 rfl in_J2 (by decide) (Or.inl rfl) rfl (by decide) hk2 ?_
  show GX _ _ _ _ _ _ _ (.int (xFI S 1601 u1) :: _)
  refine g_iconst (v := 1) hC dJ2_grow_5 (by decide) ?_
  refine g_iadd hC dJ2_grow_6 ?_
  refine g_top1 eu1 ?_
  obtain ⟨k3, n4, hk3, hn4, h⟩ := h.2
  refine gX_cq hX (gX_runV (As := [.int ((xFI S 1601 u1) + (1 : Int32))]) (rest := []) (Cr := RJ2) hC hX (mx_J2_grow_2 (cx_l C) E k3 n4 _ _ _ _ h) (lw_V q876 q878 qs15 q73 q879) hx_J2_grow_2 rfl rfl (Or.inl (Nat.le_of_ble_eq_true rfl)) ⟨Nat.le_of_ble_eq_true rfl, Nat.le_of_ble_eq_true rfl⟩ dJ2_grow_7 hk3 hn4 hk2 rfl (by decide) rfl) hk3 hn4 ?_
  intro r6 S5 h
  refine gX_aret hC hA hQ rfl (Or.inr ⟨_, rfl⟩) dJ2_grow_10 h
theorem mx_J2_grow (l : Launch) (E : XE) (mc ms : Nat) (Q : Option Nat → XS → Prop) (S : XS) (x0 : Option Nat) (h : wx_J2_grow Q mc ms S x0) : XMet E l yJ2_grow cJ2_grow 1 (some (.array (.object "java/lang/Object"))) ({ frames := 4, cells := mc, slots := ms, locals := 101 } : Room) [va_rf x0] S (fun sz => va_Qq Q (BX1 E S sz) (xA S sz)) :=
  XMet_of (rm := ({ frames := 4, cells := mc, slots := ms, locals := 101 } : Room)) (by decide) (by simp [lg_sl, va_rf_cat, cat_i, cat_l]) (L0 := [some (va_rf x0)]) (by simp [lx_pairs, lv_args, va_rf_cat, cat_i, cat_l, List.range_succ]) (fun sz C hC hX hl hnm hA hQ => bx_J2_grow E C S sz Q mc ms S x0 hC hX hA hQ h)
