/-! X2_init_2 -/
def wx_X2_init_2 (Q : XS → Prop) (mc ms : Nat) (S : XS) (x0 : Option Nat) (x1 : Option Nat) : Prop :=
  dr x0 (fun u1 => xKD S u1 = some 2 ∧ ¬ (2 : Int32) < 0 ∧ (Int32.toNatClampNeg (2 : Int32)) ≤ 100000 ∧ 1 ≤ mc ∧ (Int32.toNatClampNeg (2 : Int32)) ≤ ms ∧ (∀ q3 : Nat, xKD (sFI (sFI (sFI (sFI S 200 u1 (2 : Int32)) 201 u1 (12 : Int32)) 202 u1 (7 : Int32)) 203 u1 (50 : Int32)) q3 = none → vp_in (0 : Int32) (xLN (sNewA (sFI (sFI (sFI (sFI S 200 u1 (2 : Int32)) 201 u1 (12 : Int32)) 202 u1 (7 : Int32)) 203 u1 (50 : Int32)) q3 100 (Int32.toNatClampNeg (2 : Int32))) q3) ∧ vp_in (1 : Int32) (xLN (sAI (sNewA (sFI (sFI (sFI (sFI S 200 u1 (2 : Int32)) 201 u1 (12 : Int32)) 202 u1 (7 : Int32)) 203 u1 (50 : Int32)) q3 100 (Int32.toNatClampNeg (2 : Int32))) q3 (Int32.toNatClampNeg (0 : Int32)) (100 : Int32)) q3) ∧ (∀ S7 : XS, S7 = sAI (sAI (sNewA (sFI (sFI (sFI (sFI S 200 u1 (2 : Int32)) 201 u1 (12 : Int32)) 202 u1 (7 : Int32)) 203 u1 (50 : Int32)) q3 100 (Int32.toNatClampNeg (2 : Int32))) q3 (Int32.toNatClampNeg (0 : Int32)) (100 : Int32)) q3 (Int32.toNatClampNeg (1 : Int32)) (100 : Int32) → xKD S7 u1 = some 2 ∧ ¬ (5 : Int32) < 0 ∧ (Int32.toNatClampNeg (5 : Int32)) ≤ 100000 ∧ 1 ≤ (mc - 1) ∧ (Int32.toNatClampNeg (5 : Int32)) ≤ (ms - (Int32.toNatClampNeg (2 : Int32))) ∧ (∀ q10 : Nat, xKD (sFR S7 204 u1 (some q3)) q10 = none → vp_in (0 : Int32) (xLN (sNewA (sFR S7 204 u1 (some q3)) q10 100 (Int32.toNatClampNeg (5 : Int32))) q10) ∧ vp_in (1 : Int32) (xLN (sAI (sNewA (sFR S7 204 u1 (some q3)) q10 100 (Int32.toNatClampNeg (5 : Int32))) q10 (Int32.toNatClampNeg (0 : Int32)) (10 : Int32)) q10) ∧ vp_in (2 : Int32) (xLN (sAI (sAI (sNewA (sFR S7 204 u1 (some q3)) q10 100 (Int32.toNatClampNeg (5 : Int32))) q10 (Int32.toNatClampNeg (0 : Int32)) (10 : Int32)) q10 (Int32.toNatClampNeg (1 : Int32)) (10 : Int32)) q10) ∧ (∀ S14 : XS, S14 = sAI (sAI (sAI (sNewA (sFR S7 204 u1 (some q3)) q10 100 (Int32.toNatClampNeg (5 : Int32))) q10 (Int32.toNatClampNeg (0 : Int32)) (10 : Int32)) q10 (Int32.toNatClampNeg (1 : Int32)) (10 : Int32)) q10 (Int32.toNatClampNeg (2 : Int32)) (10 : Int32) → xKD S14 q10 = some 100 ∧ vp_in (3 : Int32) (xLN S14 q10) ∧ vp_in (4 : Int32) (xLN (sAI S14 q10 (Int32.toNatClampNeg (3 : Int32)) (10 : Int32)) q10) ∧ xKD (sAI (sAI S14 q10 (Int32.toNatClampNeg (3 : Int32)) (10 : Int32)) q10 (Int32.toNatClampNeg (4 : Int32)) (10 : Int32)) u1 = some 2 ∧ ¬ (5 : Int32) < 0 ∧ (Int32.toNatClampNeg (5 : Int32)) ≤ 100000 ∧ 1 ≤ ((mc - 1) - 1) ∧ (Int32.toNatClampNeg (5 : Int32)) ≤ ((ms - (Int32.toNatClampNeg (2 : Int32))) - (Int32.toNatClampNeg (5 : Int32))) ∧ (∀ q18 : Nat, xKD (sFR (sAI (sAI S14 q10 (Int32.toNatClampNeg (3 : Int32)) (10 : Int32)) q10 (Int32.toNatClampNeg (4 : Int32)) (10 : Int32)) 205 u1 (some q10)) q18 = none → vp_in (0 : Int32) (xLN (sNewA (sFR (sAI (sAI S14 q10 (Int32.toNatClampNeg (3 : Int32)) (10 : Int32)) q10 (Int32.toNatClampNeg (4 : Int32)) (10 : Int32)) 205 u1 (some q10)) q18 100 (Int32.toNatClampNeg (5 : Int32))) q18) ∧ (∀ S23 : XS, S23 = sAI (sNewA (sFR (sAI (sAI S14 q10 (Int32.toNatClampNeg (3 : Int32)) (10 : Int32)) q10 (Int32.toNatClampNeg (4 : Int32)) (10 : Int32)) 205 u1 (some q10)) q18 100 (Int32.toNatClampNeg (5 : Int32))) q18 (Int32.toNatClampNeg (0 : Int32)) (0 : Int32) → xKD S23 q18 = some 100 ∧ vp_in (1 : Int32) (xLN S23 q18) ∧ vp_in (2 : Int32) (xLN (sAI S23 q18 (Int32.toNatClampNeg (1 : Int32)) (1 : Int32)) q18) ∧ vp_in (3 : Int32) (xLN (sAI (sAI S23 q18 (Int32.toNatClampNeg (1 : Int32)) (1 : Int32)) q18 (Int32.toNatClampNeg (2 : Int32)) (2 : Int32)) q18) ∧ vp_in (4 : Int32) (xLN (sAI (sAI (sAI S23 q18 (Int32.toNatClampNeg (1 : Int32)) (1 : Int32)) q18 (Int32.toNatClampNeg (2 : Int32)) (2 : Int32)) q18 (Int32.toNatClampNeg (3 : Int32)) (3 : Int32)) q18) ∧ xKD (sAI (sAI (sAI (sAI S23 q18 (Int32.toNatClampNeg (1 : Int32)) (1 : Int32)) q18 (Int32.toNatClampNeg (2 : Int32)) (2 : Int32)) q18 (Int32.toNatClampNeg (3 : Int32)) (3 : Int32)) q18 (Int32.toNatClampNeg (4 : Int32)) (4 : Int32)) u1 = some 2 ∧ (∀ S27 : XS, S27 = sFR (sAI (sAI (sAI (sAI S23 q18 (Int32.toNatClampNeg (1 : Int32)) (1 : Int32)) q18 (Int32.toNatClampNeg (2 : Int32)) (2 : Int32)) q18 (Int32.toNatClampNeg (3 : Int32)) (3 : Int32)) q18 (Int32.toNatClampNeg (4 : Int32)) (4 : Int32)) 206 u1 (some q18) → dr x1 (fun u29 => xKD S27 u29 = some 2 ∧ xKD S27 u1 = some 2 ∧ (∀ S32 : XS, S32 = sFI (sFI (sFI (sFI S27 200 u1 (xFI S27 200 u29)) 201 u1 (xFI (sFI S27 200 u1 (xFI S27 200 u29)) 201 u29)) 202 u1 (xFI (sFI (sFI S27 200 u1 (xFI S27 200 u29)) 201 u1 (xFI (sFI S27 200 u1 (xFI S27 200 u29)) 201 u29)) 202 u29)) 203 u1 (xFI (sFI (sFI (sFI S27 200 u1 (xFI S27 200 u29)) 201 u1 (xFI (sFI S27 200 u1 (xFI S27 200 u29)) 201 u29)) 202 u1 (xFI (sFI (sFI S27 200 u1 (xFI S27 200 u29)) 201 u1 (xFI (sFI S27 200 u1 (xFI S27 200 u29)) 201 u29)) 202 u29)) 203 u29) → xKD S32 u29 = some 2 ∧ xKD S32 u1 = some 2 ∧ dr (xFR S32 204 u1) (fun u36 => dr (xFR S32 204 u29) (fun u37 => xKD S32 u37 = some 100 ∧ xKD S32 u36 = some 100 ∧ ¬ (0 : Int32) < 0 ∧ ¬ (0 : Int32) < 0 ∧ ¬ (2 : Int32) < 0 ∧ (Int32.toNatClampNeg (0 : Int32)) + (Int32.toNatClampNeg (2 : Int32)) ≤ xLN S32 u37 ∧ (Int32.toNatClampNeg (0 : Int32)) + (Int32.toNatClampNeg (2 : Int32)) ≤ xLN S32 u36 ∧ dr (xFR (sAIf S32 u36 (va_cpy (xAI S32 u37) (xAI S32 u36) (Int32.toNatClampNeg (0 : Int32)) (Int32.toNatClampNeg (0 : Int32)) (Int32.toNatClampNeg (2 : Int32)))) 205 u1) (fun u40 => dr (xFR (sAIf S32 u36 (va_cpy (xAI S32 u37) (xAI S32 u36) (Int32.toNatClampNeg (0 : Int32)) (Int32.toNatClampNeg (0 : Int32)) (Int32.toNatClampNeg (2 : Int32)))) 205 u29) (fun u41 => xKD (sAIf S32 u36 (va_cpy (xAI S32 u37) (xAI S32 u36) (Int32.toNatClampNeg (0 : Int32)) (Int32.toNatClampNeg (0 : Int32)) (Int32.toNatClampNeg (2 : Int32)))) u41 = some 100 ∧ xKD (sAIf S32 u36 (va_cpy (xAI S32 u37) (xAI S32 u36) (Int32.toNatClampNeg (0 : Int32)) (Int32.toNatClampNeg (0 : Int32)) (Int32.toNatClampNeg (2 : Int32)))) u40 = some 100 ∧ ¬ (0 : Int32) < 0 ∧ ¬ (0 : Int32) < 0 ∧ ¬ (5 : Int32) < 0 ∧ (Int32.toNatClampNeg (0 : Int32)) + (Int32.toNatClampNeg (5 : Int32)) ≤ xLN (sAIf S32 u36 (va_cpy (xAI S32 u37) (xAI S32 u36) (Int32.toNatClampNeg (0 : Int32)) (Int32.toNatClampNeg (0 : Int32)) (Int32.toNatClampNeg (2 : Int32)))) u41 ∧ (Int32.toNatClampNeg (0 : Int32)) + (Int32.toNatClampNeg (5 : Int32)) ≤ xLN (sAIf S32 u36 (va_cpy (xAI S32 u37) (xAI S32 u36) (Int32.toNatClampNeg (0 : Int32)) (Int32.toNatClampNeg (0 : Int32)) (Int32.toNatClampNeg (2 : Int32)))) u40 ∧ (∀ S44 : XS, S44 = sAIf (sAIf S32 u36 (va_cpy (xAI S32 u37) (xAI S32 u36) (Int32.toNatClampNeg (0 : Int32)) (Int32.toNatClampNeg (0 : Int32)) (Int32.toNatClampNeg (2 : Int32)))) u40 (va_cpy (xAI (sAIf S32 u36 (va_cpy (xAI S32 u37) (xAI S32 u36) (Int32.toNatClampNeg (0 : Int32)) (Int32.toNatClampNeg (0 : Int32)) (Int32.toNatClampNeg (2 : Int32)))) u41) (xAI (sAIf S32 u36 (va_cpy (xAI S32 u37) (xAI S32 u36) (Int32.toNatClampNeg (0 : Int32)) (Int32.toNatClampNeg (0 : Int32)) (Int32.toNatClampNeg (2 : Int32)))) u40) (Int32.toNatClampNeg (0 : Int32)) (Int32.toNatClampNeg (0 : Int32)) (Int32.toNatClampNeg (5 : Int32))) → xKD S44 u29 = some 2 ∧ xKD S44 u1 = some 2 ∧ dr (xFR S44 206 u1) (fun u48 => dr (xFR S44 206 u29) (fun u49 => xKD S44 u49 = some 100 ∧ xKD S44 u48 = some 100 ∧ ¬ (0 : Int32) < 0 ∧ ¬ (0 : Int32) < 0 ∧ ¬ (5 : Int32) < 0 ∧ (Int32.toNatClampNeg (0 : Int32)) + (Int32.toNatClampNeg (5 : Int32)) ≤ xLN S44 u49 ∧ (Int32.toNatClampNeg (0 : Int32)) + (Int32.toNatClampNeg (5 : Int32)) ≤ xLN S44 u48 ∧ Q (sAIf S44 u48 (va_cpy (xAI S44 u49) (xAI S44 u48) (Int32.toNatClampNeg (0 : Int32)) (Int32.toNatClampNeg (0 : Int32)) (Int32.toNatClampNeg (5 : Int32)))))))))))))))))))))
theorem hx_X2_init_2 : yX2_init_2.cls = RX2 ∧ yX2_init_2.cls ≠ "java/lang/invoke/MethodHandle" ∧ yX2_init_2.cls ≠ "java/lang/invoke/VarHandle" ∧ (parseMethodDescriptor yX2_init_2.desc).map (fun d => d.parameters.length) = some 1 := by decide +kernel
set_option maxHeartbeats 4000000 in
set_option maxRecDepth 100000 in
theorem bx_X2_init_2 (E : XE) (C : Cx) (S0 : XS) (sz : Nat) (Q : XS → Prop) (mc ms : Nat) (S : XS) (x0 : Option Nat) (x1 : Option Nat) (hC : COk C cX2_init_2 RX2 none 1 34 2) (hX : XOk E C) (hA : cx_A C = xA S0 sz) (hini : (cx_h C).name = "<init>") (hQ : cx_Q C = MQ (cx_b C) (va_Qv Q (BX1 E S0 sz) (xA S0 sz)) (cx_a C) (cx_s C) (cx_MC C) (cx_MS C) (xA S0 sz)) (h : wx_X2_init_2 Q mc ms S x0 x1) : GX E C S mc ms 0 [some (va_rf x0), some (va_rf x1)] [] := by
  refine g_aload_nR hC dX2_init_2_0 rfl ?_
  obtain ⟨u1, eu1, h⟩ := h
  refine g_top0 eu1 ?_
  refine gX_oinit hC dX2_init_2_1 q170 q115 q116 (Nat.le_of_ble_eq_true rfl) (by decide) (by decide) ?_
  refine g_aload_nR hC dX2_init_2_4 rfl ?_
  refine g_iconst (v := 2) hC dX2_init_2_5 (by decide) ?_
  refine g_top1 eu1 ?_
  have hk2 := h.1
  refine gX_putI (C0 := RX2) (T := TX2) (ty0 := tyX2) (N := 7) (n := 2) (k := 0) (f := 200) hC hX dX2_init_2_6 q171 rfl in_X2 tyX2_ok nmX2 (by decide) (Or.inl rfl) rfl rfl rfl rfl rfl (by decide) (Or.inl (by decide)) hk2 ?_
  refine g_aload_nR hC dX2_init_2_9 rfl ?_
  refine g_bipush (v := 12) hC dX2_init_2_10 (by decide) ?_
  refine g_top1 eu1 ?_
  refine gX_putI (C0 := RX2) (T := TX2) (ty0 := tyX2) (N := 7) (n := 2) (k := 1) (f := 201) hC hX dX2_init_2_12 q175 rfl in_X2 tyX2_ok nmX2 (by decide) (Or.inl rfl) rfl rfl rfl rfl rfl (by decide) (Or.inl (by decide)) hk2 ?_
  refine g_aload_nR hC dX2_init_2_15 rfl ?_
  refine g_bipush (v := 7) hC dX2_init_2_16 (by decide) ?_
  refine g_top1 eu1 ?_
  refine gX_putI (C0 := RX2) (T := TX2) (ty0 := tyX2) (N := 7) (n := 2) (k := 2) (f := 202) hC hX dX2_init_2_18 q178 rfl in_X2 tyX2_ok nmX2 (by decide) (Or.inl rfl) rfl rfl rfl rfl rfl (by decide) (Or.inl (by decide)) hk2 ?_
  refine g_aload_nR hC dX2_init_2_21 rfl ?_
  refine g_bipush (v := 50) hC dX2_init_2_22 (by decide) ?_
  refine g_top1 eu1 ?_
  refine gX_putI (C0 := RX2) (T := TX2) (ty0 := tyX2) (N := 7) (n := 2) (k := 3) (f := 203) hC hX dX2_init_2_24 q181 rfl in_X2 tyX2_ok nmX2 (by decide) (Or.inl rfl) rfl rfl rfl rfl rfl (by decide) (Or.inl (by decide)) hk2 ?_
  refine g_aload_nR hC dX2_init_2_27 rfl ?_
  refine g_iconst (v := 2) hC dX2_init_2_28 (by decide) ?_
  refine gX_newi hC hX dX2_init_2_29 q163 h.2.1 h.2.2.1 h.2.2.2.1 h.2.2.2.2.1 ?_
  intro q3 hq4
  have h := h.2.2.2.2.2 q3 hq4
  have hk5 := kd_newA (q := q3) (n := 100) (k := (Int32.toNatClampNeg (2 : Int32))) hk2 hq4
  have hk6 : xKD (sNewA (sFI (sFI (sFI (sFI S 200 u1 (2 : Int32)) 201 u1 (12 : Int32)) 202 u1 (7 : Int32)) 203 u1 (50 : Int32)) q3 100 (Int32.toNatClampNeg (2 : Int32))) q3 = some 100 := kd_selfA
  refine g_dup hC dX2_init_2_31 (va_rf_cat _) ?_
  refine g_iconst (v := 0) hC dX2_init_2_32 (by decide) ?_
  refine g_bipush (v := 100) hC dX2_init_2_33 (by decide) ?_
  refine gX_iast hC hX dX2_init_2_35 hk6 h.1 ?_
  refine g_dup hC dX2_init_2_36 (va_rf_cat _) ?_
  refine g_iconst (v := 1) hC dX2_init_2_37 (by decide) ?_
  refine g_bipush (v := 100) hC dX2_init_2_38 (by decide) ?_
  refine gX_iast hC hX dX2_init_2_40 hk6 h.2.1 ?_
  obtain ⟨S7, hS8⟩ : ∃ S7 : XS, S7 = sAI (sAI (sNewA (sFI (sFI (sFI (sFI S 200 u1 (2 : Int32)) 201 u1 (12 : Int32)) 202 u1 (7 : Int32)) 203 u1 (50 : Int32)) q3 100 (Int32.toNatClampNeg (2 : Int32))) q3 (Int32.toNatClampNeg (0 : Int32)) (100 : Int32)) q3 (Int32.toNatClampNeg (1 : Int32)) (100 : Int32) := ⟨_, rfl⟩
  have h := h.2.2 S7 hS8
  refine gX_nm hS8 ?_
  refine g_top1 eu1 ?_
  have hk9 := h.1
  refine gX_putRF (C0 := RX2) (T := TX2) (ty0 := tyX2) (N := 7) (n := 2) (k := 4) (f := 204) hC hX dX2_init_2_41 q184 rfl in_X2 tyX2_ok nmX2 (by decide) rfl rfl hini rfl rfl (narrow_rf (Or.inr ⟨_, rfl⟩) _) (fits_rf (Or.inr ⟨_, rfl⟩) _) rfl (by decide) (Or.inl (by decide)) hk9 ?_
  refine g_aload_nR hC dX2_init_2_44 rfl ?_
  refine g_iconst (v := 5) hC dX2_init_2_45 (by decide) ?_
  refine gX_newi hC hX dX2_init_2_46 q163 h.2.1 h.2.2.1 h.2.2.2.1 h.2.2.2.2.1 ?_
  intro q10 hq11
  have h := h.2.2.2.2.2 q10 hq11
  have hk12 := kd_newA (q := q10) (n := 100) (k := (Int32.toNatClampNeg (5 : Int32))) hk9 hq11
  have hk13 : xKD (sNewA (sFR S7 204 u1 (some q3)) q10 100 (Int32.toNatClampNeg (5 : Int32))) q10 = some 100 := kd_selfA
  refine g_dup hC dX2_init_2_48 (va_rf_cat _) ?_
  refine g_iconst (v := 0) hC dX2_init_2_49 (by decide) ?_
  refine g_bipush (v := 10) hC dX2_init_2_50 (by decide) ?_
  refine gX_iast hC hX dX2_init_2_52 hk13 h.1 ?_
  refine g_dup hC dX2_init_2_53 (va_rf_cat _) ?_
  refine g_iconst (v := 1) hC dX2_init_2_54 (by decide) ?_
  refine g_bipush (v := 10) hC dX2_init_2_55 (by decide) ?_
  refine gX_iast hC hX dX2_init_2_57 hk13 h.2.1 ?_
  refine g_dup hC dX2_init_2_58 (va_rf_cat _) ?_
  refine g_iconst (v := 2) hC dX2_init_2_59 (by decide) ?_
  refine g_bipush (v := 10) hC dX2_init_2_60 (by decide) ?_
  refine gX_iast hC hX dX2_init_2_62 hk13 h.2.2.1 ?_
  obtain ⟨S14, hS15⟩ : ∃ S14 : XS, S14 = sAI (sAI (sAI (sNewA (sFR S7 204 u1 (some q3)) q10 100 (Int32.toNatClampNeg (5 : Int32))) q10 (Int32.toNatClampNeg (0 : Int32)) (10 : Int32)) q10 (Int32.toNatClampNeg (1 : Int32)) (10 : Int32)) q10 (Int32.toNatClampNeg (2 : Int32)) (10 : Int32) := ⟨_, rfl⟩
  have h := h.2.2.2 S14 hS15
  refine gX_nm hS15 ?_
  refine g_dup hC dX2_init_2_63 (va_rf_cat _) ?_
  refine g_iconst (v := 3) hC dX2_init_2_64 (by decide) ?_
  refine g_bipush (v := 10) hC dX2_init_2_65 (by decide) ?_
  have hk16 := h.1
  refine gX_iast hC hX dX2_init_2_67 hk16 h.2.1 ?_
  refine g_dup hC dX2_init_2_68 (va_rf_cat _) ?_
  refine g_iconst (v := 4) hC dX2_init_2_69 (by decide) ?_
  refine g_bipush (v := 10) hC dX2_init_2_70 (by decide) ?_
  refine gX_iast hC hX dX2_init_2_72 hk16 h.2.2.1 ?_
  refine g_top1 eu1 ?_
  have hk17 := h.2.2.2.1
  refine gX_putRF (C0 := RX2) (T := TX2) (ty0 := tyX2) (N := 7) (n := 2) (k := 5) (f := 205) hC hX dX2_init_2_73 q188 rfl in_X2 tyX2_ok nmX2 (by decide) rfl rfl hini rfl rfl (narrow_rf (Or.inr ⟨_, rfl⟩) _) (fits_rf (Or.inr ⟨_, rfl⟩) _) rfl (by decide) (Or.inl (by decide)) hk17 ?_
  refine g_aload_nR hC dX2_init_2_76 rfl ?_
  refine g_iconst (v := 5) hC dX2_init_2_77 (by decide) ?_
  refine gX_newi hC hX dX2_init_2_78 q163 h.2.2.2.2.1 h.2.2.2.2.2.1 h.2.2.2.2.2.2.1 h.2.2.2.2.2.2.2.1 ?_
  intro q18 hq19
  have h := h.2.2.2.2.2.2.2.2 q18 hq19
  have hk20 := kd_newA (q := q18) (n := 100) (k := (Int32.toNatClampNeg (5 : Int32))) hk16 hq19
  have hk21 := kd_newA (q := q18) (n := 100) (k := (Int32.toNatClampNeg (5 : Int32))) hk17 hq19
  have hk22 : xKD (sNewA (sFR (sAI (sAI S14 q10 (Int32.toNatClampNeg (3 : Int32)) (10 : Int32)) q10 (Int32.toNatClampNeg (4 : Int32)) (10 : Int32)) 205 u1 (some q10)) q18 100 (Int32.toNatClampNeg (5 : Int32))) q18 = some 100 := kd_selfA
  refine g_dup hC dX2_init_2_80 (va_rf_cat _) ?_
  refine g_iconst (v := 0) hC dX2_init_2_81 (by decide) ?_
  refine g_iconst (v := 0) hC dX2_init_2_82 (by decide) ?_
  refine gX_iast hC hX dX2_init_2_83 hk22 h.1 ?_
  obtain ⟨S23, hS24⟩ : ∃ S23 : XS, S23 = sAI (sNewA (sFR (sAI (sAI S14 q10 (Int32.toNatClampNeg (3 : Int32)) (10 : Int32)) q10 (Int32.toNatClampNeg (4 : Int32)) (10 : Int32)) 205 u1 (some q10)) q18 100 (Int32.toNatClampNeg (5 : Int32))) q18 (Int32.toNatClampNeg (0 : Int32)) (0 : Int32) := ⟨_, rfl⟩
  have h := h.2 S23 hS24
  refine gX_nm hS24 ?_
  refine g_dup hC dX2_init_2_84 (va_rf_cat _) ?_
  refine g_iconst (v := 1) hC dX2_init_2_85 (by decide) ?_
  refine g_iconst (v := 1) hC dX2_init_2_86 (by decide) ?_
  have hk25 := h.1
  refine gX_iast hC hX dX2_init_2_87 hk25 h.2.1 ?_
  refine g_dup hC dX2_init_2_88 (va_rf_cat _) ?_
  refine g_iconst (v := 2) hC dX2_init_2_89 (by decide) ?_
  refine g_iconst (v := 2) hC dX2_init_2_90 (by decide) ?_
  refine gX_iast hC hX dX2_init_2_91 hk25 h.2.2.1 ?_
  refine g_dup hC dX2_init_2_92 (va_rf_cat _) ?_
  refine g_iconst (v := 3) hC dX2_init_2_93 (by decide) ?_
  refine g_iconst (v := 3) hC dX2_init_2_94 (by decide) ?_
  refine gX_iast hC hX dX2_init_2_95 hk25 h.2.2.2.1 ?_
  refine g_dup hC dX2_init_2_96 (va_rf_cat _) ?_
  refine g_iconst (v := 4) hC dX2_init_2_97 (by decide) ?_
  refine g_iconst (v := 4) hC dX2_init_2_98 (by decide) ?_
  refine gX_iast hC hX dX2_init_2_99 hk25 h.2.2.2.2.1 ?_
  refine g_top1 eu1 ?_
  have hk26 := h.2.2.2.2.2.1
  refine gX_putRF (C0 := RX2) (T := TX2) (ty0 := tyX2) (N := 7) (n := 2) (k := 6) (f := 206) hC hX dX2_init_2_100 q191 rfl in_X2 tyX2_ok nmX2 (by decide) rfl rfl hini rfl rfl (narrow_rf (Or.inr ⟨_, rfl⟩) _) (fits_rf (Or.inr ⟨_, rfl⟩) _) rfl (by decide) (Or.inl (by decide)) hk26 ?_
  obtain ⟨S27, hS28⟩ : ∃ S27 : XS, S27 = sFR (sAI (sAI (sAI (sAI S23 q18 (Int32.toNatClampNeg (1 : Int32)) (1 : Int32)) q18 (Int32.toNatClampNeg (2 : Int32)) (2 : Int32)) q18 (Int32.toNatClampNeg (3 : Int32)) (3 : Int32)) q18 (Int32.toNatClampNeg (4 : Int32)) (4 : Int32)) 206 u1 (some q18) := ⟨_, rfl⟩
  have h := h.2.2.2.2.2.2 S27 hS28
  refine gX_nm hS28 ?_
  refine g_aload_nR hC dX2_init_2_103 rfl ?_
  refine g_aload_nR hC dX2_init_2_104 rfl ?_
  obtain ⟨u29, eu29, h⟩ := h
  refine g_top0 eu29 ?_
  have hk30 := h.1
  refine gX_get (C0 := RX2) (T := TX2) (N := 7) (n := 2) (k := 0) (q := (200, false)) hC hX dX2_init_2_105 q171 rfl in_X2 (by decide) (Or.inl rfl) rfl (by decide) hk30 ?_
  show GX _ _ _ _ _ _ _ (.int (xFI S27 200 u29) :: _)
  refine g_top1 eu1 ?_
  have hk31 := h.2.1
  refine gX_putI (C0 := RX2) (T := TX2) (ty0 := tyX2) (N := 7) (n := 2) (k := 0) (f := 200) hC hX dX2_init_2_108 q171 rfl in_X2 tyX2_ok nmX2 (by decide) (Or.inl rfl) rfl rfl rfl rfl rfl (by decide) (Or.inl (by decide)) hk31 ?_
  refine g_aload_nR hC dX2_init_2_111 rfl ?_
  refine g_aload_nR hC dX2_init_2_112 rfl ?_
  refine g_top0 eu29 ?_
  refine gX_get (C0 := RX2) (T := TX2) (N := 7) (n := 2) (k := 1) (q := (201, false)) hC hX dX2_init_2_113 q175 rfl in_X2 (by decide) (Or.inl rfl) rfl (by decide) hk30 ?_
  show GX _ _ _ _ _ _ _ (.int (xFI (sFI S27 200 u1 (xFI S27 200 u29)) 201 u29) :: _)
  refine g_top1 eu1 ?_
  refine gX_putI (C0 := RX2) (T := TX2) (ty0 := tyX2) (N := 7) (n := 2) (k := 1) (f := 201) hC hX dX2_init_2_116 q175 rfl in_X2 tyX2_ok nmX2 (by decide) (Or.inl rfl) rfl rfl rfl rfl rfl (by decide) (Or.inl (by decide)) hk31 ?_
  refine g_aload_nR hC dX2_init_2_119 rfl ?_
  refine g_aload_nR hC dX2_init_2_120 rfl ?_
  refine g_top0 eu29 ?_
  refine gX_get (C0 := RX2) (T := TX2) (N := 7) (n := 2) (k := 2) (q := (202, false)) hC hX dX2_init_2_121 q178 rfl in_X2 (by decide) (Or.inl rfl) rfl (by decide) hk30 ?_
  show GX _ _ _ _ _ _ _ (.int (xFI (sFI (sFI S27 200 u1 (xFI S27 200 u29)) 201 u1 (xFI (sFI S27 200 u1 (xFI S27 200 u29)) 201 u29)) 202 u29) :: _)
  refine g_top1 eu1 ?_
  refine gX_putI (C0 := RX2) (T := TX2) (ty0 := tyX2) (N := 7) (n := 2) (k := 2) (f := 202) hC hX dX2_init_2_124 q178 rfl in_X2 tyX2_ok nmX2 (by decide) (Or.inl rfl) rfl rfl rfl rfl rfl (by decide) (Or.inl (by decide)) hk31 ?_
  refine g_aload_nR hC dX2_init_2_127 rfl ?_
  refine g_aload_nR hC dX2_init_2_128 rfl ?_
  refine g_top0 eu29 ?_
  refine gX_get (C0 := RX2) (T := TX2) (N := 7) (n := 2) (k := 3) (q := (203, false)) hC hX dX2_init_2_129 q181 rfl in_X2 (by decide) (Or.inl rfl) rfl (by decide) hk30 ?_
  show GX _ _ _ _ _ _ _ (.int (xFI (sFI (sFI (sFI S27 200 u1 (xFI S27 200 u29)) 201 u1 (xFI (sFI S27 200 u1 (xFI S27 200 u29)) 201 u29)) 202 u1 (xFI (sFI (sFI S27 200 u1 (xFI S27 200 u29)) 201 u1 (xFI (sFI S27 200 u1 (xFI S27 200 u29)) 201 u29)) 202 u29)) 203 u29) :: _)
  refine g_top1 eu1 ?_
  refine gX_putI (C0 := RX2) (T := TX2) (ty0 := tyX2) (N := 7) (n := 2) (k := 3) (f := 203) hC hX dX2_init_2_132 q181 rfl in_X2 tyX2_ok nmX2 (by decide) (Or.inl rfl) rfl rfl rfl rfl rfl (by decide) (Or.inl (by decide)) hk31 ?_
  obtain ⟨S32, hS33⟩ : ∃ S32 : XS, S32 = sFI (sFI (sFI (sFI S27 200 u1 (xFI S27 200 u29)) 201 u1 (xFI (sFI S27 200 u1 (xFI S27 200 u29)) 201 u29)) 202 u1 (xFI (sFI (sFI S27 200 u1 (xFI S27 200 u29)) 201 u1 (xFI (sFI S27 200 u1 (xFI S27 200 u29)) 201 u29)) 202 u29)) 203 u1 (xFI (sFI (sFI (sFI S27 200 u1 (xFI S27 200 u29)) 201 u1 (xFI (sFI S27 200 u1 (xFI S27 200 u29)) 201 u29)) 202 u1 (xFI (sFI (sFI S27 200 u1 (xFI S27 200 u29)) 201 u1 (xFI (sFI S27 200 u1 (xFI S27 200 u29)) 201 u29)) 202 u29)) 203 u29) := ⟨_, rfl⟩
  have h := h.2.2 S32 hS33
  refine gX_nm hS33 ?_
  refine g_aload_nR hC dX2_init_2_135 rfl ?_
  refine g_top0 eu29 ?_
  have hk34 := h.1
  refine gX_get (C0 := RX2) (T := TX2) (N := 7) (n := 2) (k := 4) (q := (204, true)) hC hX dX2_init_2_136 q184 rfl in_X2 (by decide) (Or.inl rfl) rfl (by decide) hk34 ?_
  show GX _ _ _ _ _ _ _ (va_rf (xFR S32 204 u29) :: _)
  refine g_iconst (v := 0) hC dX2_init_2_139 (by decide) ?_
  refine g_aload_nR hC dX2_init_2_140 rfl ?_
  refine g_top0 eu1 ?_
  have hk35 := h.2.1
  refine gX_get (C0 := RX2) (T := TX2) (N := 7) (n := 2) (k := 4) (q := (204, true)) hC hX dX2_init_2_141 q184 rfl in_X2 (by decide) (Or.inl rfl) rfl (by decide) hk35 ?_
  show GX _ _ _ _ _ _ _ (va_rf (xFR S32 204 u1) :: _)
  refine g_iconst (v := 0) hC dX2_init_2_144 (by decide) ?_
  refine g_iconst (v := 2) hC dX2_init_2_145 (by decide) ?_
  obtain ⟨u36, eu36, h⟩ := h.2.2
  refine g_top2 eu36 ?_
  obtain ⟨u37, eu37, h⟩ := h
  refine g_top4 eu37 ?_
  have hk38 := h.1
  have hk39 := h.2.1
  refine gX_acopyi hC hX dX2_init_2_146 q445 q418 q417 q85 hk38 hk39 h.2.2.1 h.2.2.2.1 h.2.2.2.2.1 h.2.2.2.2.2.1 h.2.2.2.2.2.2.1 (Nat.le_of_ble_eq_true rfl) (by decide) (by decide) ?_
  refine g_aload_nR hC dX2_init_2_149 rfl ?_
  refine g_top0 eu29 ?_
  refine gX_get (C0 := RX2) (T := TX2) (N := 7) (n := 2) (k := 5) (q := (205, true)) hC hX dX2_init_2_150 q188 rfl in_X2 (by decide) (Or.inl rfl) rfl (by decide) hk34 ?_
  show GX _ _ _ _ _ _ _ (va_rf (xFR (sAIf S32 u36 (va_cpy (xAI S32 u37) (xAI S32 u36) (Int32.toNatClampNeg (0 : Int32)) (Int32.toNatClampNeg (0 : Int32)) (Int32.toNatClampNeg (2 : Int32)))) 205 u29) :: _)
  refine g_iconst (v := 0) hC dX2_init_2_153 (by decide) ?_
  refine g_aload_nR hC dX2_init_2_154 rfl ?_
  refine g_top0 eu1 ?_
  refine gX_get (C0 := RX2) (T := TX2) (N := 7) (n := 2) (k := 5) (q := (205, true)) hC hX dX2_init_2_155 q188 rfl in_X2 (by decide) (Or.inl rfl) rfl (by decide) hk35 ?_
  show GX _ _ _ _ _ _ _ (va_rf (xFR (sAIf S32 u36 (va_cpy (xAI S32 u37) (xAI S32 u36) (Int32.toNatClampNeg (0 : Int32)) (Int32.toNatClampNeg (0 : Int32)) (Int32.toNatClampNeg (2 : Int32)))) 205 u1) :: _)
  refine g_iconst (v := 0) hC dX2_init_2_158 (by decide) ?_
  refine g_iconst (v := 5) hC dX2_init_2_159 (by decide) ?_
  obtain ⟨u40, eu40, h⟩ := h.2.2.2.2.2.2.2
  refine g_top2 eu40 ?_
  obtain ⟨u41, eu41, h⟩ := h
  refine g_top4 eu41 ?_
  have hk42 := h.1
  have hk43 := h.2.1
  refine gX_acopyi hC hX dX2_init_2_160 q445 q418 q417 q85 hk42 hk43 h.2.2.1 h.2.2.2.1 h.2.2.2.2.1 h.2.2.2.2.2.1 h.2.2.2.2.2.2.1 (Nat.le_of_ble_eq_true rfl) (by decide) (by decide) ?_
  obtain ⟨S44, hS45⟩ : ∃ S44 : XS, S44 = sAIf (sAIf S32 u36 (va_cpy (xAI S32 u37) (xAI S32 u36) (Int32.toNatClampNeg (0 : Int32)) (Int32.toNatClampNeg (0 : Int32)) (Int32.toNatClampNeg (2 : Int32)))) u40 (va_cpy (xAI (sAIf S32 u36 (va_cpy (xAI S32 u37) (xAI S32 u36) (Int32.toNatClampNeg (0 : Int32)) (Int32.toNatClampNeg (0 : Int32)) (Int32.toNatClampNeg (2 : Int32)))) u41) (xAI (sAIf S32 u36 (va_cpy (xAI S32 u37) (xAI S32 u36) (Int32.toNatClampNeg (0 : Int32)) (Int32.toNatClampNeg (0 : Int32)) (Int32.toNatClampNeg (2 : Int32)))) u40) (Int32.toNatClampNeg (0 : Int32)) (Int32.toNatClampNeg (0 : Int32)) (Int32.toNatClampNeg (5 : Int32))) := ⟨_, rfl⟩
  have h := h.2.2.2.2.2.2.2 S44 hS45
  refine gX_nm hS45 ?_
  refine g_aload_nR hC dX2_init_2_163 rfl ?_
  refine g_top0 eu29 ?_
  have hk46 := h.1
  refine gX_get (C0 := RX2) (T := TX2) (N := 7) (n := 2) (k := 6) (q := (206, true)) hC hX dX2_init_2_164 q191 rfl in_X2 (by decide) (Or.inl rfl) rfl (by decide) hk46 ?_
  show GX _ _ _ _ _ _ _ (va_rf (xFR S44 206 u29) :: _)
  refine g_iconst (v := 0) hC dX2_init_2_167 (by decide) ?_
  refine g_aload_nR hC dX2_init_2_168 rfl ?_
  refine g_top0 eu1 ?_
  have hk47 := h.2.1
  refine gX_get (C0 := RX2) (T := TX2) (N := 7) (n := 2) (k := 6) (q := (206, true)) hC hX dX2_init_2_169 q191 rfl in_X2 (by decide) (Or.inl rfl) rfl (by decide) hk47 ?_
  show GX _ _ _ _ _ _ _ (va_rf (xFR S44 206 u1) :: _)
  refine g_iconst (v := 0) hC dX2_init_2_172 (by decide) ?_
  refine g_iconst (v := 5) hC dX2_init_2_173 (by decide) ?_
  obtain ⟨u48, eu48, h⟩ := h.2.2
  refine g_top2 eu48 ?_
  obtain ⟨u49, eu49, h⟩ := h
  refine g_top4 eu49 ?_
  have hk50 := h.1
  have hk51 := h.2.1
  refine gX_acopyi hC hX dX2_init_2_174 q445 q418 q417 q85 hk50 hk51 h.2.2.1 h.2.2.2.1 h.2.2.2.2.1 h.2.2.2.2.2.1 h.2.2.2.2.2.2.1 (Nat.le_of_ble_eq_true rfl) (by decide) (by decide) ?_
  refine gX_vret hC hA hQ rfl dX2_init_2_177 h.2.2.2.2.2.2.2
theorem mx_X2_init_2 (l : Launch) (E : XE) (mc ms : Nat) (Q : XS → Prop) (S : XS) (x0 : Option Nat) (x1 : Option Nat) (h : wx_X2_init_2 Q mc ms S x0 x1) : XMet E l yX2_init_2 cX2_init_2 2 none ({ frames := 1, cells := mc, slots := ms, locals := 34 } : Room) [va_rf x0, va_rf x1] S (fun sz => va_Qv Q (BX1 E S sz) (xA S sz)) :=
  XMet_of (rm := ({ frames := 1, cells := mc, slots := ms, locals := 34 } : Room)) (by decide) (by simp [lg_sl, va_rf_cat, cat_i, cat_l]) (L0 := [some (va_rf x0), some (va_rf x1)]) (by simp [lx_pairs, lv_args, va_rf_cat, cat_i, cat_l, List.range_succ]) (fun sz C hC hX hl hnm hA hQ => bx_X2_init_2 E C S sz Q mc ms S x0 x1 hC hX hA hnm hQ h)
/-! X6_init -/
def wx_X6_init_25 (Q : XS → Prop) : Nat → Nat → Nat → XS → Option Nat → Option Nat → Int32 → Prop
  | 0, _, _, _, _, _, _ => False
  | n + 1, mc, ms, S, a0, a1, a2 => (if (4 : Int32) ≤ a2 then Q S else dr a0 (fun u7 => xKD S u7 = some 5 ∧ 1 ≤ mc ∧ 7 ≤ ms ∧ (∀ q9 : Nat, xKD S q9 = none → dr a1 (fun u13 => xKD (sNew S q9 2) u13 = some 0 ∧ dr (xFR (sNew S q9 2) 1 u13) (fun u15 => xKD (sNew S q9 2) u15 = some 104 ∧ vp_in a2 (xLN (sNew S q9 2) u15) ∧ (∃ k17 n18, k17 ≤ (mc - 1) ∧ n18 ≤ (ms - 7) ∧ wx_X2_init_2 (fun S19 => dr (xFR S 505 u7) (fun u21 => xKD S19 u21 = some 104 ∧ xRO S19 u21 = false ∧ vp_in a2 (xLN S19 u21) ∧ xKD S19 q9 = some 2 ∧ wx_X6_init_25 Q n ((mc - 1) - k17) ((ms - 7) - n18) (sAR S19 u21 (Int32.toNatClampNeg a2) (some q9)) a0 a1 (a2 + (1 : Int32)))) k17 n18 (sNew S q9 2) (some q9) (xAR (sNew S q9 2) u15 (Int32.toNatClampNeg a2))))))))
def wx_X6_init (Q : XS → Prop) (mc ms : Nat) (S : XS) (x0 : Option Nat) (x1 : Option Nat) : Prop :=
  dr x0 (fun u1 => xKD S u1 = some 5 ∧ ¬ (4 : Int32) < 0 ∧ (Int32.toNatClampNeg (4 : Int32)) ≤ 100000 ∧ 1 ≤ mc ∧ (Int32.toNatClampNeg (4 : Int32)) ≤ ms ∧ (∀ q3 : Nat, xKD (sFR (sFR S 507 u1 x1) 504 u1 (some (xST (sFR S 507 u1 x1) 17))) q3 = none → ∃ n24, wx_X6_init_25 Q n24 (mc - 1) (ms - (Int32.toNatClampNeg (4 : Int32))) (sFR (sNewA (sFR (sFR S 507 u1 x1) 504 u1 (some (xST (sFR S 507 u1 x1) 17))) q3 104 (Int32.toNatClampNeg (4 : Int32))) 505 u1 (some q3)) x0 x1 (0 : Int32)))
theorem hx_X6_init : yX6_init.cls = RX6 ∧ yX6_init.cls ≠ "java/lang/invoke/MethodHandle" ∧ yX6_init.cls ≠ "java/lang/invoke/VarHandle" ∧ (parseMethodDescriptor yX6_init.desc).map (fun d => d.parameters.length) = some 1 := by decide +kernel
set_option maxHeartbeats 4000000 in
set_option maxRecDepth 100000 in
theorem bx_X6_init (E : XE) (C : Cx) (S0 : XS) (sz : Nat) (Q : XS → Prop) (mc ms : Nat) (S : XS) (x0 : Option Nat) (x1 : Option Nat) (hC : COk C cX6_init RX6 none 2 55 3) (hX : XOk E C) (hA : cx_A C = xA S0 sz) (hini : (cx_h C).name = "<init>") (hQ : cx_Q C = MQ (cx_b C) (va_Qv Q (BX1 E S0 sz) (xA S0 sz)) (cx_a C) (cx_s C) (cx_MC C) (cx_MS C) (xA S0 sz)) (h : wx_X6_init Q mc ms S x0 x1) : GX E C S mc ms 0 [some (va_rf x0), some (va_rf x1), none] [] := by
  have s_25 : ∀ (n : Nat) (mc ms : Nat) (S : XS) (a0 : Option Nat) (a1 : Option Nat) (a2 : Int32), wx_X6_init_25 Q  n mc ms S a0 a1 a2 → GX E C S mc ms 25 [some (va_rf a0), some (va_rf a1), some (.int a2)] [] := by
    intro  n
    induction n with
    | zero =>
      intro mc ms S a0 a1 a2 h
      exact False.elim h
    | succ n ih =>
      intro mc ms S a0 a1 a2 h
      refine g_iload_n hC dX6_init_25 rfl ?_
      refine g_iconst (v := 4) hC dX6_init_26 (by decide) ?_
      refine g_icmp_ge (tgt := 55) hC dX6_init_27 (by decide) (fun c => ?_) (fun c => ?_)
      · have h := it_p c h
        refine gX_vret hC hA hQ rfl dX6_init_55 h
      · have h := it_n c h
        refine g_aload_nR hC dX6_init_30 rfl ?_
        obtain ⟨u7, eu7, h⟩ := h
        refine g_top0 eu7 ?_
        have hk8 := h.1
        refine gX_get (C0 := RX6) (T := TX6) (N := 8) (n := 5) (k := 5) (q := (505, true)) hC hX dX6_init_31 q451 rfl in_X6 (by decide) (Or.inl rfl) rfl (by decide) hk8 ?_
        show GX _ _ _ _ _ _ _ (va_rf (xFR S 505 u7) :: _)
        refine g_iload_n hC dX6_init_34 rfl ?_
        refine gX_new (C0 := RX2) (T := TX2) (ty0 := tyX2) (N := 7) (n := 2) hC hX dX6_init_35 q441 q166 q75 rfl in_X2 tyX2_ok (by decide) dv_X2 h.2.1 h.2.2.1 ?_
        intro q9 hq10
        have h := h.2.2.2 q9 hq10
        have hk11 := kd_new (q := q9) (n := 2) hk8 hq10
        have hk12 : xKD (sNew S q9 2) q9 = some 2 := kd_self
        refine g_dup hC dX6_init_38 (va_rf_cat _) ?_
        refine g_aload_nR hC dX6_init_39 rfl ?_
        obtain ⟨u13, eu13, h⟩ := h
        refine g_top0 eu13 ?_
        have hk14 := h.1
        refine gX_getN (C0 := RX0) (T := TX0) (N := 15) (n := 0) (k := 1) (q := (1, true)) hC hX dX6_init_40 q209 rfl in_X0 (by decide) rfl rfl (by decide) hk14 ?_
        show GX _ _ _ _ _ _ _ (va_rf (xFR (sNew S q9 2) 1 u13) :: _)
        refine g_iload_n hC dX6_init_43 rfl ?_
        obtain ⟨u15, eu15, h⟩ := h.2
        refine g_top1 eu15 ?_
        have hk16 := h.1
        refine gX_aald (n := 104) hC hX dX6_init_44 (by decide) hk16 h.2.1 ?_
        obtain ⟨k17, n18, hk17, hn18, h⟩ := h.2.2
        refine gX_cv hX (gX_runI (As := [va_rf (xAR (sNew S q9 2) u15 (Int32.toNatClampNeg a2))]) (rest := [va_rf (some q9), .int a2, va_rf (xFR S 505 u7)]) hC hX (mx_X2_init_2 (cx_l C) E k17 n18 _ _ _ _ h) q444 q75 q442 q443 rfl hx_X2_init_2.2 rfl rfl (Or.inl (Nat.le_of_ble_eq_true rfl)) ⟨Nat.le_of_ble_eq_true rfl, Nat.le_of_ble_eq_true rfl⟩ dX6_init_45 hk17 hn18) hk17 hn18 ?_
        intro S19 h
        obtain ⟨u21, eu21, h⟩ := h
        refine g_top2 eu21 ?_
        have hk22 := h.1
        have hk23 := h.2.2.2.1
        refine gX_aast (n := 104) (nv := 2) hC hX dX6_init_48 (by decide) hk22 h.2.1 h.2.2.1 hk23 rfl (by decide) rfl ?_
        refine g_iinc (v := (a2 + (1 : Int32))) hC dX6_init_49 rfl rfl (by decide) (lx_okR (j := 1) rfl) rfl ?_
        refine g_goto (tgt := 25) hC dX6_init_52 (by decide) ?_
        exact ih ((mc - 1) - k17) ((ms - 7) - n18) (sAR S19 u21 (Int32.toNatClampNeg a2) (some q9)) a0 a1 (a2 + (1 : Int32)) h.2.2.2.2
  refine g_aload_nR hC dX6_init_0 rfl ?_
  refine g_aload_nR hC dX6_init_1 rfl ?_
  obtain ⟨u1, eu1, h⟩ := h
  refine g_top1 eu1 ?_
  have hk2 := h.1
  refine gX_putRF (C0 := RX6) (T := TX6) (ty0 := tyX6) (N := 8) (n := 5) (k := 7) (f := 507) hC hX dX6_init_2 q455 rfl in_X6 tyX6_ok nmX6 (by decide) rfl rfl hini rfl rfl (narrow_rf (Or.inl ⟨_, rfl⟩) _) (fits_rf (Or.inl ⟨_, rfl⟩) _) rfl (by decide) (Or.inl (by decide)) hk2 ?_
  refine g_aload_nR hC dX6_init_5 rfl ?_
  refine g_top0 eu1 ?_
  refine gX_oinit hC dX6_init_6 q439 q115 q116 (Nat.le_of_ble_eq_true rfl) (by decide) (by decide) ?_
  refine g_aload_nR hC dX6_init_9 rfl ?_
  refine gX_ldcs (j := 17) (tx := "") hC hX dX6_init_10 (List.mem_of_getElem? (i := 7) rfl) ?_
  refine g_top1 eu1 ?_
  refine gX_putR (C0 := RX6) (T := TX6) (ty0 := tyX6) (N := 8) (n := 5) (k := 4) (f := 504) hC hX dX6_init_12 q450 rfl in_X6 tyX6_ok nmX6 (by decide) (Or.inl rfl) rfl rfl (narrow_rf (Or.inl ⟨_, rfl⟩) _) (fits_rf (Or.inl ⟨_, rfl⟩) _) rfl (by decide) (Or.inl (by decide)) hk2 ?_
  refine g_aload_nR hC dX6_init_15 rfl ?_
  refine g_iconst (v := 4) hC dX6_init_16 (by decide) ?_
  refine gX_newq (n := 104) hC hX dX6_init_17 q441 (by decide) (by decide) rfl h.2.1 h.2.2.1 h.2.2.2.1 h.2.2.2.2.1 ?_
  intro q3 hq4
  have h := h.2.2.2.2.2 q3 hq4
  have hk5 := kd_newA (q := q3) (n := 104) (k := (Int32.toNatClampNeg (4 : Int32))) hk2 hq4
  have hk6 : xKD (sNewA (sFR (sFR S 507 u1 x1) 504 u1 (some (xST (sFR S 507 u1 x1) 17))) q3 104 (Int32.toNatClampNeg (4 : Int32))) q3 = some 104 := kd_selfA
  refine g_top1 eu1 ?_
  refine gX_putRF (C0 := RX6) (T := TX6) (ty0 := tyX6) (N := 8) (n := 5) (k := 5) (f := 505) hC hX dX6_init_20 q451 rfl in_X6 tyX6_ok nmX6 (by decide) rfl rfl hini rfl rfl (narrow_rf (Or.inr ⟨_, rfl⟩) _) (fits_rf (Or.inr ⟨_, rfl⟩) _) rfl (by decide) (Or.inl (by decide)) hk5 ?_
  refine g_iconst (v := 0) hC dX6_init_23 (by decide) ?_
  refine g_istore_n hC dX6_init_24 rfl (by decide) (lx_okR (j := 1) rfl) rfl ?_
  obtain ⟨n0, h0⟩ := h
  exact s_25 n0 (mc - 1) (ms - (Int32.toNatClampNeg (4 : Int32))) (sFR (sNewA (sFR (sFR S 507 u1 x1) 504 u1 (some (xST (sFR S 507 u1 x1) 17))) q3 104 (Int32.toNatClampNeg (4 : Int32))) 505 u1 (some q3)) x0 x1 (0 : Int32) h0
theorem mx_X6_init (l : Launch) (E : XE) (mc ms : Nat) (Q : XS → Prop) (S : XS) (x0 : Option Nat) (x1 : Option Nat) (h : wx_X6_init Q mc ms S x0 x1) : XMet E l yX6_init cX6_init 3 none ({ frames := 2, cells := mc, slots := ms, locals := 55 } : Room) [va_rf x0, va_rf x1] S (fun sz => va_Qv Q (BX1 E S sz) (xA S sz)) :=
  XMet_of (rm := ({ frames := 2, cells := mc, slots := ms, locals := 55 } : Room)) (by decide) (by simp [lg_sl, va_rf_cat, cat_i, cat_l]) (L0 := [some (va_rf x0), some (va_rf x1), none]) (by simp [lx_pairs, lv_args, va_rf_cat, cat_i, cat_l, List.range_succ]) (fun sz C hC hX hl hnm hA hQ => bx_X6_init E C S sz Q mc ms S x0 x1 hC hX hA hnm hQ h)
/-! X6_look -/
def wx_X6_look (Q : Int32 → XS → Prop) (S : XS) (x0 : Option Nat) : Prop :=
  dr x0 (fun u1 => xKD S u1 = some 5 ∧ dr (xFR S 507 u1) (fun u3 => xKD S u3 = some 0 ∧ (if (xFI S 8 u3) ≤ (xFI S 500 u1) then Q (-1000000 : Int32) S else dr (xFR S 7 u3) (fun u5 => xKD S u5 = some 101 ∧ vp_in (xFI S 500 u1) (xLN S u5) ∧ Q ((xAI S u5 (Int32.toNatClampNeg (xFI S 500 u1))) &&& (255 : Int32)) S))))
theorem hx_X6_look : yX6_look.cls = RX6 ∧ yX6_look.cls ≠ "java/lang/invoke/MethodHandle" ∧ yX6_look.cls ≠ "java/lang/invoke/VarHandle" ∧ (parseMethodDescriptor yX6_look.desc).map (fun d => d.parameters.length) = some 0 := by decide +kernel
set_option maxHeartbeats 4000000 in
set_option maxRecDepth 100000 in
theorem bx_X6_look (E : XE) (C : Cx) (S0 : XS) (sz : Nat) (Q : Int32 → XS → Prop) (S : XS) (x0 : Option Nat) (hC : COk C cX6_look RX6 (some .int) 1 34 1) (hX : XOk E C) (hA : cx_A C = xA S0 sz) (hQ : cx_Q C = MQ (cx_b C) (va_Qi Q (BX1 E S0 sz) (xA S0 sz)) (cx_a C) (cx_s C) (cx_MC C) (cx_MS C) (xA S0 sz)) (h : wx_X6_look Q S x0) : GX E C S 0 0 0 [some (va_rf x0)] [] := by
  refine g_aload_nR hC dX6_look_0 rfl ?_
  obtain ⟨u1, eu1, h⟩ := h
  refine g_top0 eu1 ?_
  have hk2 := h.1
  refine gX_get (C0 := RX6) (T := TX6) (N := 8) (n := 5) (k := 0) (q := (500, false)) hC hX dX6_look_1 q446 rfl in_X6 (by decide) (Or.inl rfl) rfl (by decide) hk2 ?_
  show GX _ _ _ _ _ _ _ (.int (xFI S 500 u1) :: _)
  refine g_aload_nR hC dX6_look_4 rfl ?_
  refine g_top0 eu1 ?_
  refine gX_get (C0 := RX6) (T := TX6) (N := 8) (n := 5) (k := 7) (q := (507, true)) hC hX dX6_look_5 q455 rfl in_X6 (by decide) (Or.inl rfl) rfl (by decide) hk2 ?_
  show GX _ _ _ _ _ _ _ (va_rf (xFR S 507 u1) :: _)
  obtain ⟨u3, eu3, h⟩ := h.2
  refine g_top0 eu3 ?_
  have hk4 := h.1
  refine gX_getN (C0 := RX0) (T := TX0) (N := 15) (n := 0) (k := 8) (q := (8, false)) hC hX dX6_look_8 q220 rfl in_X0 (by decide) rfl rfl (by decide) hk4 ?_
  show GX _ _ _ _ _ _ _ (.int (xFI S 8 u3) :: _)
  refine g_icmp_ge (tgt := 33) hC dX6_look_11 (by decide) (fun c => ?_) (fun c => ?_)
  · have h := it_p c h.2
    refine g_ldc (v := -1000000) hC dX6_look_33 q485 ?_
    refine gX_iret rfl hC hA hQ dX6_look_35 h
  · have h := it_n c h.2
    refine g_aload_nR hC dX6_look_14 rfl ?_
    refine g_top0 eu1 ?_
    refine gX_get (C0 := RX6) (T := TX6) (N := 8) (n := 5) (k := 7) (q := (507, true)) hC hX dX6_look_15 q455 rfl in_X6 (by decide) (Or.inl rfl) rfl (by decide) hk2 ?_
    show GX _ _ _ _ _ _ _ (va_rf (xFR S 507 u1) :: _)
    refine g_top0 eu3 ?_
    refine gX_getN (C0 := RX0) (T := TX0) (N := 15) (n := 0) (k := 7) (q := (7, true)) hC hX dX6_look_18 q218 rfl in_X0 (by decide) rfl rfl (by decide) hk4 ?_
    show GX _ _ _ _ _ _ _ (va_rf (xFR S 7 u3) :: _)
    refine g_aload_nR hC dX6_look_21 rfl ?_
    refine g_top0 eu1 ?_
    refine gX_get (C0 := RX6) (T := TX6) (N := 8) (n := 5) (k := 0) (q := (500, false)) hC hX dX6_look_22 q446 rfl in_X6 (by decide) (Or.inl rfl) rfl (by decide) hk2 ?_
    show GX _ _ _ _ _ _ _ (.int (xFI S 500 u1) :: _)
    obtain ⟨u5, eu5, h⟩ := h
    refine g_top1 eu5 ?_
    have hk6 := h.1
    refine gX_bald hC hX dX6_look_25 hk6 h.2.1 ?_
    refine g_sipush (v := 255) hC dX6_look_26 (by decide) ?_
    refine g_iand hC dX6_look_29 ?_
    refine g_goto (tgt := 35) hC dX6_look_30 (by decide) ?_
    refine gX_iret rfl hC hA hQ dX6_look_35 h.2.2
theorem mx_X6_look (l : Launch) (E : XE) (Q : Int32 → XS → Prop) (S : XS) (x0 : Option Nat) (h : wx_X6_look Q S x0) : XMet E l yX6_look cX6_look 1 (some .int) ({ frames := 1, cells := 0, slots := 0, locals := 34 } : Room) [va_rf x0] S (fun sz => va_Qi Q (BX1 E S sz) (xA S sz)) :=
  XMet_of (rm := ({ frames := 1, cells := 0, slots := 0, locals := 34 } : Room)) (by decide) (by simp [lg_sl, va_rf_cat, cat_i, cat_l]) (L0 := [some (va_rf x0)]) (by simp [lx_pairs, lv_args, va_rf_cat, cat_i, cat_l, List.range_succ]) (fun sz C hC hX hl hnm hA hQ => bx_X6_look E C S sz Q S x0 hC hX hA hQ h)
/-! X6_next -/
def wx_X6_next_18 (Q : XS → Prop) (K0 : Nat → Nat → XS → Option Nat → Prop) (mc ms : Nat) (S : XS) (a0 : Option Nat) : Prop :=
  dr a0 (fun u5 => xKD S u5 = some 5 ∧ K0 mc ms (sFI S 500 u5 ((xFI S 500 u5) + (1 : Int32))) a0)
def wx_X6_next_280 (Q : XS → Prop) (mc ms : Nat) (S : XS) (s0 : Option Nat) (s1 : Int32) : Prop :=
  dr s0 (fun u18 => xKD S u18 = some 5 ∧ Q (sFI S 501 u18 s1))
def wx_X6_next_252 (Q : XS → Prop) (mc ms : Nat) (S : XS) (s0 : Option Nat) (s1 : Int32) : Prop :=
  dr s0 (fun u28 => xKD S u28 = some 5 ∧ Q (sFI S 501 u28 s1))
def wx_X6_next_217 (Q : XS → Prop) (K164 : Nat → Nat → XS → Option Nat → Prop) (mc ms : Nat) (S : XS) (a0 : Option Nat) (s0 : Option Nat) (s1 : Int32) : Prop :=
  dr s0 (fun u31 => xKD S u31 = some 5 ∧ dr a0 (fun u33 => xKD (sFI S 503 u31 s1) u33 = some 5 ∧ K164 mc ms (sFI (sFI S 503 u31 s1) 500 u33 ((xFI (sFI S 503 u31 s1) 500 u33) + (1 : Int32))) a0))
def wx_X6_next_164 (Q : XS → Prop) : Nat → Nat → Nat → XS → Option Nat → Prop
  | 0, _, _, _, _ => False
  | n + 1, mc, ms, S, a0 => dr a0 (fun u21 => xKD S u21 = some 5 ∧ wx_X6_look (fun r24 S23 => wx_X0_isIn (fun r26 S25 => (if r26 = 0 then xKD S25 u21 = some 5 ∧ (if (4 : Int32) < ((xFI S25 500 u21) - (xFI S25 502 u21)) then wx_X6_next_252 Q mc ms S25 a0 (4 : Int32) else wx_X6_next_252 Q mc ms S25 a0 (2 : Int32)) else xKD S25 u21 = some 5 ∧ (if (4 : Int32) ≤ ((xFI S25 500 u21) - (xFI S25 502 u21)) then wx_X6_next_217 Q (wx_X6_next_164 Q n) mc ms S25 a0 a0 (xFI S25 503 u21) else wx_X6_look (fun r36 S35 => wx_X6_next_217 Q (wx_X6_next_164 Q n) mc ms S35 a0 a0 ((((10 : Int32) * (xFI S25 503 u21)) + r36) - (48 : Int32))) S25 (some u21)))) S23 (Int32.toInt64 r24) (48 : Int64) (57 : Int64)) S (some u21))
def wx_X6_next_80 (Q : XS → Prop) : Nat → Nat → Nat → XS → Option Nat → Option Nat → Prop
  | 0, _, _, _, _, _ => False
  | n + 1, mc, ms, S, a0, a2 => dr a0 (fun u45 => xKD S u45 = some 5 ∧ wx_X6_look (fun r48 S47 => wx_X0_isIn (fun r50 S49 => (if r50 = 0 then dr a2 (fun u51 => xKD S49 u51 = some 18 ∧ (∃ k53 n54, k53 ≤ mc ∧ n54 ≤ ms ∧ wx_J10_toString (fun r56 S55 => xKD S55 u45 = some 5 ∧ Q (sFI (sFR S55 504 u45 r56) 501 u45 (1 : Int32))) k53 n54 S49 (some u51))) else xKD S49 u45 = some 5 ∧ dr (xFR S49 507 u45) (fun u59 => xKD S49 u59 = some 0 ∧ dr (xFR S49 7 u59) (fun u61 => xKD (sFI S49 500 u45 ((xFI S49 500 u45) + (1 : Int32))) u61 = some 101 ∧ vp_in (xFI S49 500 u45) (xLN (sFI S49 500 u45 ((xFI S49 500 u45) + (1 : Int32))) u61) ∧ dr a2 (fun u63 => xKD (sFI S49 500 u45 ((xFI S49 500 u45) + (1 : Int32))) u63 = some 18 ∧ (∃ k65 n66, k65 ≤ mc ∧ n66 ≤ ms ∧ wx_J10_append (fun r68 S67 => wx_X6_next_80 Q n (mc - k65) (ms - n66) S67 a0 a2) k65 n66 (sFI S49 500 u45 ((xFI S49 500 u45) + (1 : Int32))) (some u63) (UInt32.toInt32 (Int32.toUInt32 ((xAI (sFI S49 500 u45 ((xFI S49 500 u45) + (1 : Int32))) u61 (Int32.toNatClampNeg (xFI S49 500 u45))) &&& (255 : Int32)) % 65536)))))))) S47 (Int32.toInt64 r48) (97 : Int64) (122 : Int64)) S (some u45))
def wx_X6_next_0 (Q : XS → Prop) : Nat → Nat → Nat → XS → Option Nat → Prop
  | 0, _, _, _, _ => False
  | n + 1, mc, ms, S, a0 => dr a0 (fun u1 => xKD S u1 = some 5 ∧ wx_X6_look (fun r4 S3 => (if r4 = (32 : Int32) then wx_X6_next_18 Q (wx_X6_next_0 Q n) mc ms S3 a0 else xKD S3 u1 = some 5 ∧ wx_X6_look (fun r9 S8 => (if r9 = (10 : Int32) then wx_X6_next_18 Q (wx_X6_next_0 Q n) mc ms S8 a0 else xKD S8 u1 = some 5 ∧ wx_X6_look (fun r12 S11 => (if r12 = (-1000000 : Int32) then xKD S11 u1 = some 5 ∧ Q (sFI S11 501 u1 (0 : Int32)) else wx_X0_isIn (fun r14 S13 => (if r14 = 0 then wx_X0_isIn (fun r16 S15 => (if r16 = 0 then xKD S15 u1 = some 5 ∧ (if r12 = (59 : Int32) then wx_X6_next_280 Q mc ms (sFI S15 500 u1 ((xFI S15 500 u1) + (1 : Int32))) a0 (3 : Int32) else wx_X6_next_280 Q mc ms (sFI S15 500 u1 ((xFI S15 500 u1) + (1 : Int32))) a0 (4 : Int32)) else xKD S15 u1 = some 5 ∧ ∃ n37, wx_X6_next_164 Q n37 mc ms (sFI S15 503 u1 (0 : Int32)) a0)) S13 (Int32.toInt64 r12) (48 : Int64) (57 : Int64) else 1 ≤ mc ∧ 4 ≤ ms ∧ (∀ q38 : Nat, xKD S13 q38 = none → (∃ k41 n42, k41 ≤ (mc - 1) ∧ n42 ≤ (ms - 4) ∧ wx_J10_init (fun S43 => ∃ n69, wx_X6_next_80 Q n69 ((mc - 1) - k41) ((ms - 4) - n42) S43 a0 (some q38)) k41 n42 (sNew S13 q38 18) (some q38))))) S11 (Int32.toInt64 r12) (97 : Int64) (122 : Int64))) (sFI S8 502 u1 (xFI S8 500 u1)) (some u1))) S3 (some u1))) S (some u1))
def wx_X6_next (Q : XS → Prop) (mc ms : Nat) (S : XS) (x0 : Option Nat) : Prop :=
  ∃ n71, wx_X6_next_0 Q n71 mc ms S x0
theorem hx_X6_next : yX6_next.cls = RX6 ∧ yX6_next.cls ≠ "java/lang/invoke/MethodHandle" ∧ yX6_next.cls ≠ "java/lang/invoke/VarHandle" ∧ (parseMethodDescriptor yX6_next.desc).map (fun d => d.parameters.length) = some 0 := by decide +kernel
set_option maxHeartbeats 4000000 in
set_option maxRecDepth 100000 in
theorem bx_X6_next (E : XE) (C : Cx) (S0 : XS) (sz : Nat) (Q : XS → Prop) (mc ms : Nat) (S : XS) (x0 : Option Nat) (hC : COk C cX6_next RX6 none 7 166 3) (hX : XOk E C) (hA : cx_A C = xA S0 sz) (hQ : cx_Q C = MQ (cx_b C) (va_Qv Q (BX1 E S0 sz) (xA S0 sz)) (cx_a C) (cx_s C) (cx_MC C) (cx_MS C) (xA S0 sz)) (h : wx_X6_next Q mc ms S x0) : GX E C S mc ms 0 [some (va_rf x0), none, none] [] := by
  have s_18 : ∀ (K0 : Nat → Nat → XS → Option Nat → Prop) (hK0 : ∀ (mc ms : Nat) (S : XS) (b0 : Option Nat), K0 mc ms S b0 → GX E C S mc ms 0 [some (va_rf b0), none, none] []) (mc ms : Nat) (S : XS) (a0 : Option Nat), wx_X6_next_18 Q K0 mc ms S a0 → GX E C S mc ms 18 [some (va_rf a0), none, none] [] := by
    intro K0 hK0 mc ms S a0 h
    refine g_aload_nR hC dX6_next_18 rfl ?_
    refine g_dup hC dX6_next_19 (va_rf_cat _) ?_
    obtain ⟨u5, eu5, h⟩ := h
    refine g_top0 eu5 ?_
    have hk6 := h.1
    refine gX_get (C0 := RX6) (T := TX6) (N := 8) (n := 5) (k := 0) (q := (500, false)) hC hX dX6_next_20 q446 rfl in_X6 (by decide) (Or.inl rfl) rfl (by decide) hk6 ?_
    show GX _ _ _ _ _ _ _ (.int (xFI S 500 u5) :: _)
    refine g_iconst (v := 1) hC dX6_next_23 (by decide) ?_
    refine g_iadd hC dX6_next_24 ?_
    refine g_top1 eu5 ?_
    refine gX_putI (C0 := RX6) (T := TX6) (ty0 := tyX6) (N := 8) (n := 5) (k := 0) (f := 500) hC hX dX6_next_25 q446 rfl in_X6 tyX6_ok nmX6 (by decide) (Or.inl rfl) rfl rfl rfl rfl rfl (by decide) (Or.inl (by decide)) hk6 ?_
    refine g_goto (tgt := 0) hC dX6_next_28 (by decide) ?_
    exact hK0 mc ms (sFI S 500 u5 ((xFI S 500 u5) + (1 : Int32))) a0 h.2
  have s_280 : ∀ (mc ms : Nat) (S : XS) (s0 : Option Nat) (s1 : Int32), wx_X6_next_280 Q  mc ms S s0 s1 → GX E C S mc ms 280 [none, none, none] [.int s1, va_rf s0] := by
    intro  mc ms S s0 s1 h
    obtain ⟨u18, eu18, h⟩ := h
    refine g_top1 eu18 ?_
    have hk19 := h.1
    refine gX_putI (C0 := RX6) (T := TX6) (ty0 := tyX6) (N := 8) (n := 5) (k := 1) (f := 501) hC hX dX6_next_280 q447 rfl in_X6 tyX6_ok nmX6 (by decide) (Or.inl rfl) rfl rfl rfl rfl rfl (by decide) (Or.inl (by decide)) hk19 ?_
    refine gX_vret hC hA hQ rfl dX6_next_283 h.2
  have s_252 : ∀ (mc ms : Nat) (S : XS) (s0 : Option Nat) (s1 : Int32), wx_X6_next_252 Q  mc ms S s0 s1 → GX E C S mc ms 252 [none, none, none] [.int s1, va_rf s0] := by
    intro  mc ms S s0 s1 h
    obtain ⟨u28, eu28, h⟩ := h
    refine g_top1 eu28 ?_
    have hk29 := h.1
    refine gX_putI (C0 := RX6) (T := TX6) (ty0 := tyX6) (N := 8) (n := 5) (k := 1) (f := 501) hC hX dX6_next_252 q447 rfl in_X6 tyX6_ok nmX6 (by decide) (Or.inl rfl) rfl rfl rfl rfl rfl (by decide) (Or.inl (by decide)) hk29 ?_
    refine g_goto (tgt := 283) hC dX6_next_255 (by decide) ?_
    refine gX_vret hC hA hQ rfl dX6_next_283 h.2
  have s_217 : ∀ (K164 : Nat → Nat → XS → Option Nat → Prop) (hK164 : ∀ (mc ms : Nat) (S : XS) (b0 : Option Nat), K164 mc ms S b0 → GX E C S mc ms 164 [some (va_rf b0), none, none] []) (mc ms : Nat) (S : XS) (a0 : Option Nat) (s0 : Option Nat) (s1 : Int32), wx_X6_next_217 Q K164 mc ms S a0 s0 s1 → GX E C S mc ms 217 [some (va_rf a0), none, none] [.int s1, va_rf s0] := by
    intro K164 hK164 mc ms S a0 s0 s1 h
    obtain ⟨u31, eu31, h⟩ := h
    refine g_top1 eu31 ?_
    have hk32 := h.1
    refine gX_putI (C0 := RX6) (T := TX6) (ty0 := tyX6) (N := 8) (n := 5) (k := 3) (f := 503) hC hX dX6_next_217 q449 rfl in_X6 tyX6_ok nmX6 (by decide) (Or.inl rfl) rfl rfl rfl rfl rfl (by decide) (Or.inl (by decide)) hk32 ?_
    refine g_aload_nR hC dX6_next_220 rfl ?_
    refine g_dup hC dX6_next_221 (va_rf_cat _) ?_
    obtain ⟨u33, eu33, h⟩ := h.2
    refine g_top0 eu33 ?_
    have hk34 := h.1
    refine gX_get (C0 := RX6) (T := TX6) (N := 8) (n := 5) (k := 0) (q := (500, false)) hC hX dX6_next_222 q446 rfl in_X6 (by decide) (Or.inl rfl) rfl (by decide) hk34 ?_
    show GX _ _ _ _ _ _ _ (.int (xFI (sFI S 503 u31 s1) 500 u33) :: _)
    refine g_iconst (v := 1) hC dX6_next_225 (by decide) ?_
    refine g_iadd hC dX6_next_226 ?_
    refine g_top1 eu33 ?_
    refine gX_putI (C0 := RX6) (T := TX6) (ty0 := tyX6) (N := 8) (n := 5) (k := 0) (f := 500) hC hX dX6_next_227 q446 rfl in_X6 tyX6_ok nmX6 (by decide) (Or.inl rfl) rfl rfl rfl rfl rfl (by decide) (Or.inl (by decide)) hk34 ?_
    refine g_goto (tgt := 164) hC dX6_next_230 (by decide) ?_
    exact hK164 mc ms (sFI (sFI S 503 u31 s1) 500 u33 ((xFI (sFI S 503 u31 s1) 500 u33) + (1 : Int32))) a0 h.2
  have s_164 : ∀ (n : Nat) (mc ms : Nat) (S : XS) (a0 : Option Nat), wx_X6_next_164 Q  n mc ms S a0 → GX E C S mc ms 164 [some (va_rf a0), none, none] [] := by
    intro  n
    induction n with
    | zero =>
      intro mc ms S a0 h
      exact False.elim h
    | succ n ih =>
      intro mc ms S a0 h
      refine g_aload_nR hC dX6_next_164 rfl ?_
      obtain ⟨u21, eu21, h⟩ := h
      refine g_top0 eu21 ?_
      have hk22 := h.1
      refine gX_ni hX (gX_runV (As := []) (rest := []) (Cr := RX6) hC hX (mx_X6_look (cx_l C) E _ _ _ h.2) (lw_V q481 q483 qs5 q86 q484) hx_X6_look rfl rfl (Or.inl (Nat.le_of_ble_eq_true rfl)) ⟨Nat.le_of_ble_eq_true rfl, Nat.le_of_ble_eq_true rfl⟩ dX6_next_165 (Nat.zero_le _) (Nat.zero_le _) hk22 rfl (by decide) rfl) rfl rfl ?_
      intro r24 S23 h
      refine g_i2l hC dX6_next_168 ?_
      refine g_ldc2 (v := 48) hC dX6_next_169 q669 ?_
      refine g_ldc2 (v := 57) hC dX6_next_172 q670 ?_
      refine gX_ni hX (gX_runSN (As := [.long (Int32.toInt64 r24), .long (48 : Int64), .long (57 : Int64)]) (rest := []) hC hX (mx_X0_isIn (cx_l C) E _ _ _ _ _ h) q271 q488 q70 hx_X0_isIn.2 q270 rfl rfl (Or.inl (Nat.le_of_ble_eq_true rfl)) ⟨Nat.le_of_ble_eq_true rfl, Nat.le_of_ble_eq_true rfl⟩ dX6_next_175 (Nat.zero_le _) (Nat.zero_le _)) rfl rfl ?_
      intro r26 S25 h
      refine g_if_eq (tgt := 233) hC dX6_next_178 (by decide) (fun c => ?_) (fun c => ?_)
      · have h := it_p c h
        refine g_aload_nR hC dX6_next_233 rfl ?_
        refine g_aload_nR hC dX6_next_234 rfl ?_
        refine g_top0 eu21 ?_
        have hk27 := h.1
        refine gX_get (C0 := RX6) (T := TX6) (N := 8) (n := 5) (k := 0) (q := (500, false)) hC hX dX6_next_235 q446 rfl in_X6 (by decide) (Or.inl rfl) rfl (by decide) hk27 ?_
        show GX _ _ _ _ _ _ _ (.int (xFI S25 500 u21) :: _)
        refine g_aload_nR hC dX6_next_238 rfl ?_
        refine g_top0 eu21 ?_
        refine gX_get (C0 := RX6) (T := TX6) (N := 8) (n := 5) (k := 2) (q := (502, false)) hC hX dX6_next_239 q448 rfl in_X6 (by decide) (Or.inl rfl) rfl (by decide) hk27 ?_
        show GX _ _ _ _ _ _ _ (.int (xFI S25 502 u21) :: _)
        refine g_isub hC dX6_next_242 ?_
        refine g_iconst (v := 4) hC dX6_next_243 (by decide) ?_
        refine g_icmp_gt (tgt := 251) hC dX6_next_244 (by decide) (fun c => ?_) (fun c => ?_)
        · have h := it_p c h.2
          refine g_iconst (v := 4) hC dX6_next_251 (by decide) ?_
          refine g_sub [false, false, false] rfl ?_
          exact s_252 mc ms S25 a0 (4 : Int32) h
        · have h := it_n c h.2
          refine g_iconst (v := 2) hC dX6_next_247 (by decide) ?_
          refine g_goto (tgt := 252) hC dX6_next_248 (by decide) ?_
          refine g_sub [false, false, false] rfl ?_
          exact s_252 mc ms S25 a0 (2 : Int32) h
      · have h := it_n c h
        refine g_aload_nR hC dX6_next_181 rfl ?_
        refine g_aload_nR hC dX6_next_182 rfl ?_
        refine g_top0 eu21 ?_
        have hk30 := h.1
        refine gX_get (C0 := RX6) (T := TX6) (N := 8) (n := 5) (k := 0) (q := (500, false)) hC hX dX6_next_183 q446 rfl in_X6 (by decide) (Or.inl rfl) rfl (by decide) hk30 ?_
        show GX _ _ _ _ _ _ _ (.int (xFI S25 500 u21) :: _)
        refine g_aload_nR hC dX6_next_186 rfl ?_
        refine g_top0 eu21 ?_
        refine gX_get (C0 := RX6) (T := TX6) (N := 8) (n := 5) (k := 2) (q := (502, false)) hC hX dX6_next_187 q448 rfl in_X6 (by decide) (Or.inl rfl) rfl (by decide) hk30 ?_
        show GX _ _ _ _ _ _ _ (.int (xFI S25 502 u21) :: _)
        refine g_isub hC dX6_next_190 ?_
        refine g_iconst (v := 4) hC dX6_next_191 (by decide) ?_
        refine g_icmp_ge (tgt := 213) hC dX6_next_192 (by decide) (fun c => ?_) (fun c => ?_)
        · have h := it_p c h.2
          refine g_aload_nR hC dX6_next_213 rfl ?_
          refine g_top0 eu21 ?_
          refine gX_get (C0 := RX6) (T := TX6) (N := 8) (n := 5) (k := 3) (q := (503, false)) hC hX dX6_next_214 q449 rfl in_X6 (by decide) (Or.inl rfl) rfl (by decide) hk30 ?_
          show GX _ _ _ _ _ _ _ (.int (xFI S25 503 u21) :: _)
          exact s_217 (wx_X6_next_164 Q n) ih mc ms S25 a0 a0 (xFI S25 503 u21) h
        · have h := it_n c h.2
          refine g_bipush (v := 10) hC dX6_next_195 (by decide) ?_
          refine g_aload_nR hC dX6_next_197 rfl ?_
          refine g_top0 eu21 ?_
          refine gX_get (C0 := RX6) (T := TX6) (N := 8) (n := 5) (k := 3) (q := (503, false)) hC hX dX6_next_198 q449 rfl in_X6 (by decide) (Or.inl rfl) rfl (by decide) hk30 ?_
          show GX _ _ _ _ _ _ _ (.int (xFI S25 503 u21) :: _)
          refine g_imul hC dX6_next_201 ?_
          refine g_aload_nR hC dX6_next_202 rfl ?_
          refine g_top0 eu21 ?_
          refine gX_ni hX (gX_runV (As := []) (rest := [.int ((10 : Int32) * (xFI S25 503 u21)), va_rf a0]) (Cr := RX6) hC hX (mx_X6_look (cx_l C) E _ _ _ h) (lw_V q481 q483 qs5 q86 q484) hx_X6_look rfl rfl (Or.inl (Nat.le_of_ble_eq_true rfl)) ⟨Nat.le_of_ble_eq_true rfl, Nat.le_of_ble_eq_true rfl⟩ dX6_next_203 (Nat.zero_le _) (Nat.zero_le _) hk30 rfl (by decide) rfl) rfl rfl ?_
          intro r36 S35 h
          refine g_iadd hC dX6_next_206 ?_
          refine g_bipush (v := 48) hC dX6_next_207 (by decide) ?_
          refine g_isub hC dX6_next_209 ?_
          refine g_goto (tgt := 217) hC dX6_next_210 (by decide) ?_
          exact s_217 (wx_X6_next_164 Q n) ih mc ms S35 a0 a0 ((((10 : Int32) * (xFI S25 503 u21)) + r36) - (48 : Int32)) h
  have s_80 : ∀ (n : Nat) (mc ms : Nat) (S : XS) (a0 : Option Nat) (a2 : Option Nat), wx_X6_next_80 Q  n mc ms S a0 a2 → GX E C S mc ms 80 [some (va_rf a0), none, some (va_rf a2)] [] := by
    intro  n
    induction n with
    | zero =>
      intro mc ms S a0 a2 h
      exact False.elim h
    | succ n ih =>
      intro mc ms S a0 a2 h
      refine g_aload_nR hC dX6_next_80 rfl ?_
      obtain ⟨u45, eu45, h⟩ := h
      refine g_top0 eu45 ?_
      have hk46 := h.1
      refine gX_ni hX (gX_runV (As := []) (rest := []) (Cr := RX6) hC hX (mx_X6_look (cx_l C) E _ _ _ h.2) (lw_V q481 q483 qs5 q86 q484) hx_X6_look rfl rfl (Or.inl (Nat.le_of_ble_eq_true rfl)) ⟨Nat.le_of_ble_eq_true rfl, Nat.le_of_ble_eq_true rfl⟩ dX6_next_81 (Nat.zero_le _) (Nat.zero_le _) hk46 rfl (by decide) rfl) rfl rfl ?_
      intro r48 S47 h
      refine g_i2l hC dX6_next_84 ?_
      refine g_ldc2 (v := 97) hC dX6_next_85 q486 ?_
      refine g_ldc2 (v := 122) hC dX6_next_88 q487 ?_
      refine gX_ni hX (gX_runSN (As := [.long (Int32.toInt64 r48), .long (97 : Int64), .long (122 : Int64)]) (rest := []) hC hX (mx_X0_isIn (cx_l C) E _ _ _ _ _ h) q271 q488 q70 hx_X0_isIn.2 q270 rfl rfl (Or.inl (Nat.le_of_ble_eq_true rfl)) ⟨Nat.le_of_ble_eq_true rfl, Nat.le_of_ble_eq_true rfl⟩ dX6_next_91 (Nat.zero_le _) (Nat.zero_le _)) rfl rfl ?_
      intro r50 S49 h
      refine g_if_eq (tgt := 129) hC dX6_next_94 (by decide) (fun c => ?_) (fun c => ?_)
      · have h := it_p c h
        refine g_aload_nR hC dX6_next_129 rfl ?_
        refine g_aload_nR hC dX6_next_130 rfl ?_
        obtain ⟨u51, eu51, h⟩ := h
        refine g_top0 eu51 ?_
        have hk52 := h.1
        obtain ⟨k53, n54, hk53, hn54, h⟩ := h.2
        refine gX_cq hX (gX_runV (As := []) (rest := [va_rf a0]) (Cr := RJ10) hC hX (mx_J10_toString (cx_l C) E k53 n54 _ _ _ h) (lw_V q613 q614 q615 q88 q616) hx_J10_toString rfl rfl (Or.inl (Nat.le_of_ble_eq_true rfl)) ⟨Nat.le_of_ble_eq_true rfl, Nat.le_of_ble_eq_true rfl⟩ dX6_next_131 hk53 hn54 hk52 rfl (by decide) rfl) hk53 hn54 ?_
        intro r56 S55 h
        refine g_top1 eu45 ?_
        have hk57 := h.1
        refine gX_putR (C0 := RX6) (T := TX6) (ty0 := tyX6) (N := 8) (n := 5) (k := 4) (f := 504) hC hX dX6_next_134 q450 rfl in_X6 tyX6_ok nmX6 (by decide) (Or.inl rfl) rfl rfl (narrow_rf (Or.inl ⟨_, rfl⟩) _) (fits_rf (Or.inl ⟨_, rfl⟩) _) rfl (by decide) (Or.inl (by decide)) hk57 ?_
        refine g_aload_nR hC dX6_next_137 rfl ?_
        refine g_iconst (v := 1) hC dX6_next_138 (by decide) ?_
        refine g_top1 eu45 ?_
        refine gX_putI (C0 := RX6) (T := TX6) (ty0 := tyX6) (N := 8) (n := 5) (k := 1) (f := 501) hC hX dX6_next_139 q447 rfl in_X6 tyX6_ok nmX6 (by decide) (Or.inl rfl) rfl rfl rfl rfl rfl (by decide) (Or.inl (by decide)) hk57 ?_
        refine g_goto (tgt := 283) hC dX6_next_142 (by decide) ?_
        refine gX_vret hC hA hQ rfl dX6_next_283 h.2
      · have h := it_n c h
        refine g_aload_nR hC dX6_next_97 rfl ?_
        refine g_aload_nR hC dX6_next_98 rfl ?_
        refine g_top0 eu45 ?_
        have hk58 := h.1
        refine gX_get (C0 := RX6) (T := TX6) (N := 8) (n := 5) (k := 7) (q := (507, true)) hC hX dX6_next_99 q455 rfl in_X6 (by decide) (Or.inl rfl) rfl (by decide) hk58 ?_
        show GX _ _ _ _ _ _ _ (va_rf (xFR S49 507 u45) :: _)
        obtain ⟨u59, eu59, h⟩ := h.2
        refine g_top0 eu59 ?_
        have hk60 := h.1
        refine gX_getN (C0 := RX0) (T := TX0) (N := 15) (n := 0) (k := 7) (q := (7, true)) hC hX dX6_next_102 q218 rfl in_X0 (by decide) rfl rfl (by decide) hk60 ?_
        show GX _ _ _ _ _ _ _ (va_rf (xFR S49 7 u59) :: _)
        refine g_aload_nR hC dX6_next_105 rfl ?_
        refine g_dup hC dX6_next_106 (va_rf_cat _) ?_
        refine g_top0 eu45 ?_
        refine gX_get (C0 := RX6) (T := TX6) (N := 8) (n := 5) (k := 0) (q := (500, false)) hC hX dX6_next_107 q446 rfl in_X6 (by decide) (Or.inl rfl) rfl (by decide) hk58 ?_
        show GX _ _ _ _ _ _ _ (.int (xFI S49 500 u45) :: _)
        refine g_dup_x1 hC dX6_next_110 rfl (va_rf_cat _) ?_
        refine g_iconst (v := 1) hC dX6_next_111 (by decide) ?_
        refine g_iadd hC dX6_next_112 ?_
        refine g_top1 eu45 ?_
        refine gX_putI (C0 := RX6) (T := TX6) (ty0 := tyX6) (N := 8) (n := 5) (k := 0) (f := 500) hC hX dX6_next_113 q446 rfl in_X6 tyX6_ok nmX6 (by decide) (Or.inl rfl) rfl rfl rfl rfl rfl (by decide) (Or.inl (by decide)) hk58 ?_
        obtain ⟨u61, eu61, h⟩ := h.2
        refine g_top1 eu61 ?_
        have hk62 := h.1
        refine gX_bald hC hX dX6_next_116 hk62 h.2.1 ?_
        refine g_sipush (v := 255) hC dX6_next_117 (by decide) ?_
        refine g_iand hC dX6_next_120 ?_
        refine g_i2c hC dX6_next_121 ?_
        obtain ⟨u63, eu63, h⟩ := h.2.2
        refine g_top1 eu63 ?_
        have hk64 := h.1
        obtain ⟨k65, n66, hk65, hn66, h⟩ := h.2
        refine gX_cq hX (gX_runV (As := [.int (UInt32.toInt32 (Int32.toUInt32 ((xAI (sFI S49 500 u45 ((xFI S49 500 u45) + (1 : Int32))) u61 (Int32.toNatClampNeg (xFI S49 500 u45))) &&& (255 : Int32)) % 65536))]) (rest := []) (Cr := RJ10) hC hX (mx_J10_append (cx_l C) E k65 n66 _ _ _ _ h) (lw_V q520 q521 q522 q88 q523) hx_J10_append rfl rfl (Or.inl (Nat.le_of_ble_eq_true rfl)) ⟨Nat.le_of_ble_eq_true rfl, Nat.le_of_ble_eq_true rfl⟩ dX6_next_122 hk65 hn66 hk64 rfl (by decide) rfl) hk65 hn66 ?_
        intro r68 S67 h
        refine g_pop hC dX6_next_125 (va_rf_cat _) ?_
        refine g_goto (tgt := 80) hC dX6_next_126 (by decide) ?_
        exact ih (mc - k65) (ms - n66) S67 a0 a2 h
  have s_0 : ∀ (n : Nat) (mc ms : Nat) (S : XS) (a0 : Option Nat), wx_X6_next_0 Q  n mc ms S a0 → GX E C S mc ms 0 [some (va_rf a0), none, none] [] := by
    intro  n
    induction n with
    | zero =>
      intro mc ms S a0 h
      exact False.elim h
    | succ n ih =>
      intro mc ms S a0 h
      refine g_aload_nR hC dX6_next_0 rfl ?_
      obtain ⟨u1, eu1, h⟩ := h
      refine g_top0 eu1 ?_
      have hk2 := h.1
      refine gX_ni hX (gX_runV (As := []) (rest := []) (Cr := RX6) hC hX (mx_X6_look (cx_l C) E _ _ _ h.2) (lw_V q481 q483 qs5 q86 q484) hx_X6_look rfl rfl (Or.inl (Nat.le_of_ble_eq_true rfl)) ⟨Nat.le_of_ble_eq_true rfl, Nat.le_of_ble_eq_true rfl⟩ dX6_next_1 (Nat.zero_le _) (Nat.zero_le _) hk2 rfl (by decide) rfl) rfl rfl ?_
      intro r4 S3 h
      refine g_bipush (v := 32) hC dX6_next_4 (by decide) ?_
      refine g_icmp_eq (tgt := 18) hC dX6_next_6 (by decide) (fun c => ?_) (fun c => ?_)
      · have h := it_p c h
        exact s_18 (wx_X6_next_0 Q n) ih mc ms S3 a0 h
      · have h := it_n c h
        refine g_aload_nR hC dX6_next_9 rfl ?_
        refine g_top0 eu1 ?_
        have hk7 := h.1
        refine gX_ni hX (gX_runV (As := []) (rest := []) (Cr := RX6) hC hX (mx_X6_look (cx_l C) E _ _ _ h.2) (lw_V q481 q483 qs5 q86 q484) hx_X6_look rfl rfl (Or.inl (Nat.le_of_ble_eq_true rfl)) ⟨Nat.le_of_ble_eq_true rfl, Nat.le_of_ble_eq_true rfl⟩ dX6_next_10 (Nat.zero_le _) (Nat.zero_le _) hk7 rfl (by decide) rfl) rfl rfl ?_
        intro r9 S8 h
        refine g_bipush (v := 10) hC dX6_next_13 (by decide) ?_
        refine g_icmp_ne (tgt := 31) hC dX6_next_15 (by decide) (fun c => ?_) (fun c => ?_)
        · have h := it_n c h
          refine g_aload_nR hC dX6_next_31 rfl ?_
          refine g_aload_nR hC dX6_next_32 rfl ?_
          refine g_top0 eu1 ?_
          have hk10 := h.1
          refine gX_get (C0 := RX6) (T := TX6) (N := 8) (n := 5) (k := 0) (q := (500, false)) hC hX dX6_next_33 q446 rfl in_X6 (by decide) (Or.inl rfl) rfl (by decide) hk10 ?_
          show GX _ _ _ _ _ _ _ (.int (xFI S8 500 u1) :: _)
          refine g_top1 eu1 ?_
          refine gX_putI (C0 := RX6) (T := TX6) (ty0 := tyX6) (N := 8) (n := 5) (k := 2) (f := 502) hC hX dX6_next_36 q448 rfl in_X6 tyX6_ok nmX6 (by decide) (Or.inl rfl) rfl rfl rfl rfl rfl (by decide) (Or.inl (by decide)) hk10 ?_
          refine g_aload_nR hC dX6_next_39 rfl ?_
          refine g_top0 eu1 ?_
          refine gX_ni hX (gX_runV (As := []) (rest := []) (Cr := RX6) hC hX (mx_X6_look (cx_l C) E _ _ _ h.2) (lw_V q481 q483 qs5 q86 q484) hx_X6_look rfl rfl (Or.inl (Nat.le_of_ble_eq_true rfl)) ⟨Nat.le_of_ble_eq_true rfl, Nat.le_of_ble_eq_true rfl⟩ dX6_next_40 (Nat.zero_le _) (Nat.zero_le _) hk10 rfl (by decide) rfl) rfl rfl ?_
          intro r12 S11 h
          refine g_istore_n hC dX6_next_43 rfl (by decide) (lx_okR (j := 0) rfl) rfl ?_
          refine g_iload_n hC dX6_next_44 rfl ?_
          refine g_ldc (v := -1000000) hC dX6_next_45 q485 ?_
          refine g_icmp_ne (tgt := 58) hC dX6_next_47 (by decide) (fun c => ?_) (fun c => ?_)
          · have h := it_n c h
            refine g_iload_n hC dX6_next_58 rfl ?_
            refine g_i2l hC dX6_next_59 ?_
            refine g_ldc2 (v := 97) hC dX6_next_60 q486 ?_
            refine g_ldc2 (v := 122) hC dX6_next_63 q487 ?_
            refine gX_ni hX (gX_runSN (As := [.long (Int32.toInt64 r12), .long (97 : Int64), .long (122 : Int64)]) (rest := []) hC hX (mx_X0_isIn (cx_l C) E _ _ _ _ _ h) q271 q488 q70 hx_X0_isIn.2 q270 rfl rfl (Or.inl (Nat.le_of_ble_eq_true rfl)) ⟨Nat.le_of_ble_eq_true rfl, Nat.le_of_ble_eq_true rfl⟩ dX6_next_66 (Nat.zero_le _) (Nat.zero_le _)) rfl rfl ?_
            intro r14 S13 h
            refine g_if_eq (tgt := 145) hC dX6_next_69 (by decide) (fun c => ?_) (fun c => ?_)
            · have h := it_p c h
              refine g_iload_n hC dX6_next_145 rfl ?_
              refine g_i2l hC dX6_next_146 ?_
              refine g_ldc2 (v := 48) hC dX6_next_147 q669 ?_
              refine g_ldc2 (v := 57) hC dX6_next_150 q670 ?_
              refine gX_ni hX (gX_runSN (As := [.long (Int32.toInt64 r12), .long (48 : Int64), .long (57 : Int64)]) (rest := []) hC hX (mx_X0_isIn (cx_l C) E _ _ _ _ _ h) q271 q488 q70 hx_X0_isIn.2 q270 rfl rfl (Or.inl (Nat.le_of_ble_eq_true rfl)) ⟨Nat.le_of_ble_eq_true rfl, Nat.le_of_ble_eq_true rfl⟩ dX6_next_153 (Nat.zero_le _) (Nat.zero_le _)) rfl rfl ?_
              intro r16 S15 h
              refine g_if_eq (tgt := 258) hC dX6_next_156 (by decide) (fun c => ?_) (fun c => ?_)
              · have h := it_p c h
                refine g_aload_nR hC dX6_next_258 rfl ?_
                refine g_dup hC dX6_next_259 (va_rf_cat _) ?_
                refine g_top0 eu1 ?_
                have hk17 := h.1
                refine gX_get (C0 := RX6) (T := TX6) (N := 8) (n := 5) (k := 0) (q := (500, false)) hC hX dX6_next_260 q446 rfl in_X6 (by decide) (Or.inl rfl) rfl (by decide) hk17 ?_
                show GX _ _ _ _ _ _ _ (.int (xFI S15 500 u1) :: _)
                refine g_iconst (v := 1) hC dX6_next_263 (by decide) ?_
                refine g_iadd hC dX6_next_264 ?_
                refine g_top1 eu1 ?_
                refine gX_putI (C0 := RX6) (T := TX6) (ty0 := tyX6) (N := 8) (n := 5) (k := 0) (f := 500) hC hX dX6_next_265 q446 rfl in_X6 tyX6_ok nmX6 (by decide) (Or.inl rfl) rfl rfl rfl rfl rfl (by decide) (Or.inl (by decide)) hk17 ?_
                refine g_aload_nR hC dX6_next_268 rfl ?_
                refine g_iload_n hC dX6_next_269 rfl ?_
                refine g_bipush (v := 59) hC dX6_next_270 (by decide) ?_
                refine g_icmp_ne (tgt := 279) hC dX6_next_272 (by decide) (fun c => ?_) (fun c => ?_)
                · have h := it_n c h.2
                  refine g_iconst (v := 4) hC dX6_next_279 (by decide) ?_
                  refine g_sub [false, false, false] rfl ?_
                  exact s_280 mc ms (sFI S15 500 u1 ((xFI S15 500 u1) + (1 : Int32))) a0 (4 : Int32) h
                · have h := it_p c h.2
                  refine g_iconst (v := 3) hC dX6_next_275 (by decide) ?_
                  refine g_goto (tgt := 280) hC dX6_next_276 (by decide) ?_
                  refine g_sub [false, false, false] rfl ?_
                  exact s_280 mc ms (sFI S15 500 u1 ((xFI S15 500 u1) + (1 : Int32))) a0 (3 : Int32) h
              · have h := it_n c h
                refine g_aload_nR hC dX6_next_159 rfl ?_
                refine g_iconst (v := 0) hC dX6_next_160 (by decide) ?_
                refine g_top1 eu1 ?_
                have hk20 := h.1
                refine gX_putI (C0 := RX6) (T := TX6) (ty0 := tyX6) (N := 8) (n := 5) (k := 3) (f := 503) hC hX dX6_next_161 q449 rfl in_X6 tyX6_ok nmX6 (by decide) (Or.inl rfl) rfl rfl rfl rfl rfl (by decide) (Or.inl (by decide)) hk20 ?_
                refine g_sub [true, false, false] rfl ?_
                obtain ⟨n0, h0⟩ := h.2
                exact s_164 n0 mc ms (sFI S15 503 u1 (0 : Int32)) a0 h0
            · have h := it_n c h
              refine gX_new (C0 := RJ10) (T := TJ10) (ty0 := tyJ10) (N := 4) (n := 18) hC hX dX6_next_72 q489 q490 q88 rfl in_J10 tyJ10_ok (by decide) dv_J10 h.1 h.2.1 ?_
              intro q38 hq39
              have h := h.2.2 q38 hq39
              have hk40 : xKD (sNew S13 q38 18) q38 = some 18 := kd_self
              refine g_dup hC dX6_next_75 (va_rf_cat _) ?_
              obtain ⟨k41, n42, hk41, hn42, h⟩ := h
              refine gX_cv hX (gX_runI (As := []) (rest := [va_rf (some q38)]) hC hX (mx_J10_init (cx_l C) E k41 n42 _ _ _ h) q493 q88 q491 q492 rfl hx_J10_init.2 rfl rfl (Or.inl (Nat.le_of_ble_eq_true rfl)) ⟨Nat.le_of_ble_eq_true rfl, Nat.le_of_ble_eq_true rfl⟩ dX6_next_76 hk41 hn42) hk41 hn42 ?_
              intro S43 h
              refine g_astore_nR hC dX6_next_79 rfl (by decide) rfl rfl ?_
              refine g_sub [true, false, true] rfl ?_
              obtain ⟨n0, h0⟩ := h
              exact s_80 n0 ((mc - 1) - k41) ((ms - 4) - n42) S43 a0 (some q38) h0
          · have h := it_p c h
            refine g_aload_nR hC dX6_next_50 rfl ?_
            refine g_iconst (v := 0) hC dX6_next_51 (by decide) ?_
            refine g_top1 eu1 ?_
            have hk70 := h.1
            refine gX_putI (C0 := RX6) (T := TX6) (ty0 := tyX6) (N := 8) (n := 5) (k := 1) (f := 501) hC hX dX6_next_52 q447 rfl in_X6 tyX6_ok nmX6 (by decide) (Or.inl rfl) rfl rfl rfl rfl rfl (by decide) (Or.inl (by decide)) hk70 ?_
            refine g_goto (tgt := 283) hC dX6_next_55 (by decide) ?_
            refine gX_vret hC hA hQ rfl dX6_next_283 h.2
        · have h := it_p c h
          exact s_18 (wx_X6_next_0 Q n) ih mc ms S8 a0 h
  obtain ⟨n0, h0⟩ := h
  exact s_0 n0 mc ms S x0 h0
theorem mx_X6_next (l : Launch) (E : XE) (mc ms : Nat) (Q : XS → Prop) (S : XS) (x0 : Option Nat) (h : wx_X6_next Q mc ms S x0) : XMet E l yX6_next cX6_next 3 none ({ frames := 7, cells := mc, slots := ms, locals := 166 } : Room) [va_rf x0] S (fun sz => va_Qv Q (BX1 E S sz) (xA S sz)) :=
  XMet_of (rm := ({ frames := 7, cells := mc, slots := ms, locals := 166 } : Room)) (by decide) (by simp [lg_sl, va_rf_cat, cat_i, cat_l]) (L0 := [some (va_rf x0), none, none]) (by simp [lx_pairs, lv_args, va_rf_cat, cat_i, cat_l, List.range_succ]) (fun sz C hC hX hl hnm hA hQ => bx_X6_next E C S sz Q mc ms S x0 hC hX hA hQ h)
/-! X6_isWord -/
def wx_X6_isWord (Q : Int32 → XS → Prop) (S : XS) (x0 : Option Nat) (x1 : Option Nat) : Prop :=
  dr x0 (fun u1 => xKD S u1 = some 5 ∧ (if (xFI S 501 u1) = (1 : Int32) then dr (xFR S 504 u1) (fun u3 => xKD S u3 = some 17 ∧ wx_J8_equals (fun r6 S5 => (if r6 = 0 then Q (0 : Int32) S5 else Q (1 : Int32) S5)) S (some u3) x1) else Q (0 : Int32) S))
theorem hx_X6_isWord : yX6_isWord.cls = RX6 ∧ yX6_isWord.cls ≠ "java/lang/invoke/MethodHandle" ∧ yX6_isWord.cls ≠ "java/lang/invoke/VarHandle" ∧ (parseMethodDescriptor yX6_isWord.desc).map (fun d => d.parameters.length) = some 1 := by decide +kernel
set_option maxHeartbeats 4000000 in
set_option maxRecDepth 100000 in
theorem bx_X6_isWord (E : XE) (C : Cx) (S0 : XS) (sz : Nat) (Q : Int32 → XS → Prop) (S : XS) (x0 : Option Nat) (x1 : Option Nat) (hC : COk C cX6_isWord RX6 (some .boolean) 3 78 2) (hX : XOk E C) (hA : cx_A C = xA S0 sz) (hQ : cx_Q C = MQ (cx_b C) (va_Qi Q (BX1 E S0 sz) (xA S0 sz)) (cx_a C) (cx_s C) (cx_MC C) (cx_MS C) (xA S0 sz)) (h : wx_X6_isWord Q S x0 x1) : GX E C S 0 0 0 [some (va_rf x0), some (va_rf x1)] [] := by
  refine g_aload_nR hC dX6_isWord_0 rfl ?_
  obtain ⟨u1, eu1, h⟩ := h
  refine g_top0 eu1 ?_
  have hk2 := h.1
  refine gX_get (C0 := RX6) (T := TX6) (N := 8) (n := 5) (k := 1) (q := (501, false)) hC hX dX6_isWord_1 q447 rfl in_X6 (by decide) (Or.inl rfl) rfl (by decide) hk2 ?_
  show GX _ _ _ _ _ _ _ (.int (xFI S 501 u1) :: _)
  refine g_iconst (v := 1) hC dX6_isWord_4 (by decide) ?_
  refine g_icmp_ne (tgt := 23) hC dX6_isWord_5 (by decide) (fun c => ?_) (fun c => ?_)
  · have h := it_n c h.2
    refine g_iconst (v := 0) hC dX6_isWord_23 (by decide) ?_
    refine gX_zret rfl rfl hC hA hQ dX6_isWord_24 h
  · have h := it_p c h.2
    refine g_aload_nR hC dX6_isWord_8 rfl ?_
    refine g_top0 eu1 ?_
    refine gX_get (C0 := RX6) (T := TX6) (N := 8) (n := 5) (k := 4) (q := (504, true)) hC hX dX6_isWord_9 q450 rfl in_X6 (by decide) (Or.inl rfl) rfl (by decide) hk2 ?_
    show GX _ _ _ _ _ _ _ (va_rf (xFR S 504 u1) :: _)
    refine g_aload_nR hC dX6_isWord_12 rfl ?_
    obtain ⟨u3, eu3, h⟩ := h
    refine g_top1 eu3 ?_
    have hk4 := h.1
    refine gX_ni hX (gX_runV17 (n := 1) (As := [va_rf x1]) (rest := []) hC hX (mx_J8_equals (cx_l C) E _ _ _ _ h.2) (lw_V q676 q677 q678 q84 q679) hx_J8_equals rfl rfl (Or.inl (Nat.le_of_ble_eq_true rfl)) ⟨Nat.le_of_ble_eq_true rfl, Nat.le_of_ble_eq_true rfl⟩ dX6_isWord_13 (Nat.zero_le _) (Nat.zero_le _) hk4) rfl rfl ?_
    intro r6 S5 h
    refine g_if_eq (tgt := 23) hC dX6_isWord_16 (by decide) (fun c => ?_) (fun c => ?_)
    · have h := it_p c h
      refine g_iconst (v := 0) hC dX6_isWord_23 (by decide) ?_
      refine gX_zret rfl rfl hC hA hQ dX6_isWord_24 h
    · have h := it_n c h
      refine g_iconst (v := 1) hC dX6_isWord_19 (by decide) ?_
      refine g_goto (tgt := 24) hC dX6_isWord_20 (by decide) ?_
      refine gX_zret rfl rfl hC hA hQ dX6_isWord_24 h
theorem mx_X6_isWord (l : Launch) (E : XE) (Q : Int32 → XS → Prop) (S : XS) (x0 : Option Nat) (x1 : Option Nat) (h : wx_X6_isWord Q S x0 x1) : XMet E l yX6_isWord cX6_isWord 2 (some .boolean) ({ frames := 3, cells := 0, slots := 0, locals := 78 } : Room) [va_rf x0, va_rf x1] S (fun sz => va_Qi Q (BX1 E S sz) (xA S sz)) :=
  XMet_of (rm := ({ frames := 3, cells := 0, slots := 0, locals := 78 } : Room)) (by decide) (by simp [lg_sl, va_rf_cat, cat_i, cat_l]) (L0 := [some (va_rf x0), some (va_rf x1)]) (by simp [lx_pairs, lv_args, va_rf_cat, cat_i, cat_l, List.range_succ]) (fun sz C hC hX hl hnm hA hQ => bx_X6_isWord E C S sz Q S x0 x1 hC hX hA hQ h)
/-! X7_init -/
def wx_X7_init (Q : XS → Prop) (S : XS) (x0 : Option Nat) (x1 : Int32) (x2 : Int32) : Prop :=
  dr x0 (fun u1 => wx_J4_init_k6 (fun S2 => xKD S2 u1 = some 6 ∧ Q (sFI (sFI S2 600 u1 x1) 601 u1 x2)) S (some u1) none none (0 : Int32) (0 : Int32))
theorem hx_X7_init : yX7_init.cls = RX7 ∧ yX7_init.cls ≠ "java/lang/invoke/MethodHandle" ∧ yX7_init.cls ≠ "java/lang/invoke/VarHandle" ∧ (parseMethodDescriptor yX7_init.desc).map (fun d => d.parameters.length) = some 2 := by decide +kernel
set_option maxHeartbeats 4000000 in
set_option maxRecDepth 100000 in
theorem bx_X7_init (E : XE) (C : Cx) (S0 : XS) (sz : Nat) (Q : XS → Prop) (S : XS) (x0 : Option Nat) (x1 : Int32) (x2 : Int32) (hC : COk C cX7_init RX7 none 3 82 3) (hX : XOk E C) (hA : cx_A C = xA S0 sz) (hini : (cx_h C).name = "<init>") (hQ : cx_Q C = MQ (cx_b C) (va_Qv Q (BX1 E S0 sz) (xA S0 sz)) (cx_a C) (cx_s C) (cx_MC C) (cx_MS C) (xA S0 sz)) (h : wx_X7_init Q S x0 x1 x2) : GX E C S 0 0 0 [some (va_rf x0), some (.int x1), some (.int x2)] [] := by
  refine g_aload_nR hC dX7_init_0 rfl ?_
  refine g_nullR hC dX7_init_1 ?_
  refine g_nullR hC dX7_init_2 ?_
  refine g_iconst (v := 0) hC dX7_init_3 (by decide) ?_
  refine g_iconst (v := 0) hC dX7_init_4 (by decide) ?_
  obtain ⟨u1, eu1, h⟩ := h
  refine g_top4 eu1 ?_
  refine gX_nv hX (gX_runI (As := [va_rf none, va_rf none, .int (0 : Int32), .int (0 : Int32)]) (rest := []) hC hX (mx_J4_init_k6 (cx_l C) E _ _ _ _ _ _ _ h) q322 q78 q704 q321 rfl hx_J4_init_k6.2 rfl rfl (Or.inl (Nat.le_of_ble_eq_true rfl)) ⟨Nat.le_of_ble_eq_true rfl, Nat.le_of_ble_eq_true rfl⟩ dX7_init_5 (Nat.zero_le _) (Nat.zero_le _)) rfl rfl ?_
  intro S2 h
  refine g_aload_nR hC dX7_init_8 rfl ?_
  refine g_iload_n hC dX7_init_9 rfl ?_
  refine g_top1 eu1 ?_
  have hk4 := h.1
  refine gX_putIF (C0 := RX7) (T := TX7) (ty0 := tyX7) (N := 8) (n := 6) (k := 6) (f := 600) hC hX dX7_init_10 q705 rfl in_X7 tyX7_ok nmX7 (by decide) rfl rfl hini rfl rfl rfl rfl rfl (by decide) (Or.inl (by decide)) hk4 ?_
  refine g_aload_nR hC dX7_init_13 rfl ?_
  refine g_iload_n hC dX7_init_14 rfl ?_
  refine g_top1 eu1 ?_
  refine gX_putIF (C0 := RX7) (T := TX7) (ty0 := tyX7) (N := 8) (n := 6) (k := 7) (f := 601) hC hX dX7_init_15 q707 rfl in_X7 tyX7_ok nmX7 (by decide) rfl rfl hini rfl rfl rfl rfl rfl (by decide) (Or.inl (by decide)) hk4 ?_
  refine gX_vret hC hA hQ rfl dX7_init_18 h.2
theorem mx_X7_init (l : Launch) (E : XE) (Q : XS → Prop) (S : XS) (x0 : Option Nat) (x1 : Int32) (x2 : Int32) (h : wx_X7_init Q S x0 x1 x2) : XMet E l yX7_init cX7_init 3 none ({ frames := 3, cells := 0, slots := 0, locals := 82 } : Room) [va_rf x0, .int x1, .int x2] S (fun sz => va_Qv Q (BX1 E S sz) (xA S sz)) :=
  XMet_of (rm := ({ frames := 3, cells := 0, slots := 0, locals := 82 } : Room)) (by decide) (by simp [lg_sl, va_rf_cat, cat_i, cat_l]) (L0 := [some (va_rf x0), some (.int x1), some (.int x2)]) (by simp [lx_pairs, lv_args, va_rf_cat, cat_i, cat_l, List.range_succ]) (fun sz C hC hX hl hnm hA hQ => bx_X7_init E C S sz Q S x0 x1 x2 hC hX hA hnm hQ h)
/-! X6_must -/
def wx_X6_must (Q : XS → Prop) (X : Nat → XS → Prop) (mc ms : Nat) (S : XS) (x0 : Option Nat) (x1 : Int32) (x2 : Int32) : Prop :=
  (if x1 = 0 then 1 ≤ mc ∧ 8 ≤ ms ∧ (∀ q1 : Nat, xKD S q1 = none → dr x0 (fun u4 => xKD (sNew S q1 6) u4 = some 5 ∧ wx_X7_init (fun S6 => xKD S6 q1 = some 6 ∧ X q1 S6) (sNew S q1 6) (some q1) x2 (xFI (sNew S q1 6) 502 u4))) else Q S)
theorem hx_X6_must : yX6_must.cls = RX6 ∧ yX6_must.cls ≠ "java/lang/invoke/MethodHandle" ∧ yX6_must.cls ≠ "java/lang/invoke/VarHandle" ∧ (parseMethodDescriptor yX6_must.desc).map (fun d => d.parameters.length) = some 2 := by decide +kernel
set_option maxHeartbeats 4000000 in
set_option maxRecDepth 100000 in
theorem bx_X6_must (E : XE) (C : Cx) (S0 : XS) (sz : Nat) (Q : XS → Prop) (X : Nat → XS → Prop) (mc ms : Nat) (S : XS) (x0 : Option Nat) (x1 : Int32) (x2 : Int32) (hC : COk C cX6_must RX6 none 4 104 3) (hX : XOk E C) (hT : ∀ x ∈ (cx_c C).exceptionTable.toList, False) (hA : cx_A C = xA S0 sz) (hQ : cx_Q C = vx_MQ (cx_b C) (va_Qv Q (BX1 E S0 sz) (xA S0 sz)) (XC0 E S0 sz RX7 6 X) (cx_a C) (cx_s C) (cx_MC C) (cx_MS C) (xA S0 sz)) (h : wx_X6_must Q X mc ms S x0 x1 x2) : GX E C S mc ms 0 [some (va_rf x0), some (.int x1), some (.int x2)] [] := by
  refine g_iload_n hC dX6_must_0 rfl ?_
  refine g_if_ne (tgt := 17) hC dX6_must_1 (by decide) (fun c => ?_) (fun c => ?_)
  · have h := it_n c h
    refine gX_end hQ (gX_vret (C := cx_to C _) hC hA rfl rfl dX6_must_17 h)
  · have h := it_p c h
    refine gX_new (C0 := RX7) (T := TX7) (ty0 := tyX7) (N := 8) (n := 6) hC hX dX6_must_4 q692 q693 q95 rfl in_X7 tyX7_ok (by decide) dv_X7 h.1 h.2.1 ?_
    intro q1 hq2
    have h := h.2.2 q1 hq2
    have hk3 : xKD (sNew S q1 6) q1 = some 6 := kd_self
    refine g_dup hC dX6_must_7 (va_rf_cat _) ?_
    refine g_iload_n hC dX6_must_8 rfl ?_
    refine g_aload_nR hC dX6_must_9 rfl ?_
    obtain ⟨u4, eu4, h⟩ := h
    refine g_top0 eu4 ?_
    have hk5 := h.1
    refine gX_get (C0 := RX6) (T := TX6) (N := 8) (n := 5) (k := 2) (q := (502, false)) hC hX dX6_must_10 q448 rfl in_X6 (by decide) (Or.inl rfl) rfl (by decide) hk5 ?_
    show GX _ _ _ _ _ _ _ (.int (xFI (sNew S q1 6) 502 u4) :: _)
    refine gX_nv hX (gX_runI (As := [.int x2, .int (xFI (sNew S q1 6) 502 u4)]) (rest := [va_rf (some q1)]) hC hX (mx_X7_init (cx_l C) E _ _ _ _ _ h.2) q703 q95 q701 q702 rfl hx_X7_init.2 rfl rfl (Or.inl (Nat.le_of_ble_eq_true rfl)) ⟨Nat.le_of_ble_eq_true rfl, Nat.le_of_ble_eq_true rfl⟩ dX6_must_13 (Nat.zero_le _) (Nat.zero_le _)) rfl rfl ?_
    intro S6 h
    have hk8 := h.1
    refine gX_athrow hC dX6_must_16 ?_
    exact gT_out (r := (RX7, TX7, 8)) hC hX hT hA hQ hk8 rfl (by decide) h.2
theorem mx_X6_must (l : Launch) (E : XE) (mc ms : Nat) (Q : XS → Prop) (X : Nat → XS → Prop) (S : XS) (x0 : Option Nat) (x1 : Int32) (x2 : Int32) (h : wx_X6_must Q X mc ms S x0 x1 x2) : XMetX E l yX6_must cX6_must 3 none ({ frames := 4, cells := mc, slots := ms, locals := 104 } : Room) [va_rf x0, .int x1, .int x2] S (fun sz => va_Qv Q (BX1 E S sz) (xA S sz)) RX7 6 X :=
  XMetX_of (rm := ({ frames := 4, cells := mc, slots := ms, locals := 104 } : Room)) (by decide) (by simp [lg_sl, va_rf_cat, cat_i, cat_l]) (L0 := [some (va_rf x0), some (.int x1), some (.int x2)]) (by simp [lx_pairs, lv_args, va_rf_cat, cat_i, cat_l, List.range_succ]) (fun sz C hC hX hl hnm hT hA hQ => bx_X6_must E C S sz Q X mc ms S x0 x1 x2 hC hX hT hA hQ h)
/-! X6_figure -/
def wx_X6_figure_32 (Q : Int32 → XS → Prop) (X : Nat → XS → Prop) (mc ms : Nat) (S : XS) (a0 : Option Nat) (s0 : Option Nat) (s1 : Int32) : Prop :=
  dr s0 (fun u14 => xKD S u14 = some 5 ∧ (∃ k16 n17, k16 ≤ mc ∧ n17 ≤ ms ∧ wx_X6_must (fun S21 => dr a0 (fun u23 => xKD S21 u23 = some 5 ∧ (∃ k25 n26, k25 ≤ (mc - k16) ∧ n26 ≤ (ms - n17) ∧ wx_X6_next (fun S27 => Q (xFI S21 503 u23) S27) k25 n26 S21 (some u23)))) (fun q18 S19 => X q18 S19) k16 n17 S (some u14) s1 (2 : Int32)))
def wx_X6_figure_14 (Q : Int32 → XS → Prop) (X : Nat → XS → Prop) (mc ms : Nat) (S : XS) (a0 : Option Nat) (a1 : Int32) (s0 : Option Nat) (s1 : Int32) : Prop :=
  dr s0 (fun u3 => xKD S u3 = some 5 ∧ (∃ k5 n6, k5 ≤ mc ∧ n6 ≤ ms ∧ wx_X6_must (fun S10 => dr a0 (fun u12 => xKD S10 u12 = some 5 ∧ (if a1 < (xFI S10 503 u12) then wx_X6_figure_32 Q X (mc - k5) (ms - n6) S10 a0 a0 (0 : Int32) else wx_X6_figure_32 Q X (mc - k5) (ms - n6) S10 a0 a0 (1 : Int32)))) (fun q7 S8 => X q7 S8) k5 n6 S (some u3) s1 (1 : Int32)))
def wx_X6_figure (Q : Int32 → XS → Prop) (X : Nat → XS → Prop) (mc ms : Nat) (S : XS) (x0 : Option Nat) (x1 : Int32) : Prop :=
  dr x0 (fun u1 => xKD S u1 = some 5 ∧ (if (xFI S 501 u1) = (2 : Int32) then wx_X6_figure_14 Q X mc ms S x0 x1 x0 (1 : Int32) else wx_X6_figure_14 Q X mc ms S x0 x1 x0 (0 : Int32)))
theorem hx_X6_figure : yX6_figure.cls = RX6 ∧ yX6_figure.cls ≠ "java/lang/invoke/MethodHandle" ∧ yX6_figure.cls ≠ "java/lang/invoke/VarHandle" ∧ (parseMethodDescriptor yX6_figure.desc).map (fun d => d.parameters.length) = some 1 := by decide +kernel
set_option maxHeartbeats 4000000 in
set_option maxRecDepth 100000 in
theorem bx_X6_figure (E : XE) (C : Cx) (S0 : XS) (sz : Nat) (Q : Int32 → XS → Prop) (X : Nat → XS → Prop) (mc ms : Nat) (S : XS) (x0 : Option Nat) (x1 : Int32) (hC : COk C cX6_figure RX6 (some .int) 8 188 3) (hX : XOk E C) (hT : ∀ x ∈ (cx_c C).exceptionTable.toList, False) (hA : cx_A C = xA S0 sz) (hQ : cx_Q C = vx_MQ (cx_b C) (va_Qi Q (BX1 E S0 sz) (xA S0 sz)) (XC0 E S0 sz RX7 6 X) (cx_a C) (cx_s C) (cx_MC C) (cx_MS C) (xA S0 sz)) (h : wx_X6_figure Q X mc ms S x0 x1) : GX E C S mc ms 0 [some (va_rf x0), some (.int x1), none] [] := by
  have s_32 : ∀ (mc ms : Nat) (S : XS) (a0 : Option Nat) (s0 : Option Nat) (s1 : Int32), wx_X6_figure_32 Q X  mc ms S a0 s0 s1 → GX E C S mc ms 32 [some (va_rf a0), none, none] [.int s1, va_rf s0] := by
    intro  mc ms S a0 s0 s1 h
    refine g_iconst (v := 2) hC dX6_figure_32 (by decide) ?_
    obtain ⟨u14, eu14, h⟩ := h
    refine g_top2 eu14 ?_
    have hk15 := h.1
    obtain ⟨k16, n17, hk16, hn17, h⟩ := h.2
    refine gX_xv hX (gX_xrunV (As := [.int s1, .int (2 : Int32)]) (rest := []) (Cr := RX6) hC hX (mx_X6_must (cx_l C) E k16 n17 _ _ _ _ _ _ h) (lw_V q688 q690 qs8 q86 q691) hx_X6_must rfl rfl (Or.inl (Nat.le_of_ble_eq_true rfl)) ⟨Nat.le_of_ble_eq_true rfl, Nat.le_of_ble_eq_true rfl⟩ dX6_figure_33 hk16 hn17 hk15 rfl (by decide) rfl) hk16 hn17 (fun q18 S19 h hk20 => ?_) ?_
    · exact gT_out (r := (RX7, TX7, 8)) hC hX hT hA hQ hk20 rfl (by decide) h
    intro S21 h
    refine g_aload_nR hC dX6_figure_36 rfl ?_
    obtain ⟨u23, eu23, h⟩ := h
    refine g_top0 eu23 ?_
    have hk24 := h.1
    refine gX_get (C0 := RX6) (T := TX6) (N := 8) (n := 5) (k := 3) (q := (503, false)) hC hX dX6_figure_37 q449 rfl in_X6 (by decide) (Or.inl rfl) rfl (by decide) hk24 ?_
    show GX _ _ _ _ _ _ _ (.int (xFI S21 503 u23) :: _)
    refine g_istore_n hC dX6_figure_40 rfl (by decide) rfl rfl ?_
    refine g_aload_nR hC dX6_figure_41 rfl ?_
    refine g_top0 eu23 ?_
    obtain ⟨k25, n26, hk25, hn26, h⟩ := h.2
    refine gX_cv hX (gX_runV (As := []) (rest := []) (Cr := RX6) hC hX (mx_X6_next (cx_l C) E k25 n26 _ _ _ h) (lw_V q477 q479 qs4 q86 q480) hx_X6_next rfl rfl (Or.inl (Nat.le_of_ble_eq_true rfl)) ⟨Nat.le_of_ble_eq_true rfl, Nat.le_of_ble_eq_true rfl⟩ dX6_figure_42 hk25 hn26 hk24 rfl (by decide) rfl) hk25 hn26 ?_
    intro S27 h
    refine g_iload_n hC dX6_figure_45 rfl ?_
    refine gX_end hQ (gX_iret (C := cx_to C _) rfl hC hA rfl dX6_figure_46 h)
  have s_14 : ∀ (mc ms : Nat) (S : XS) (a0 : Option Nat) (a1 : Int32) (s0 : Option Nat) (s1 : Int32), wx_X6_figure_14 Q X  mc ms S a0 a1 s0 s1 → GX E C S mc ms 14 [some (va_rf a0), some (.int a1), none] [.int s1, va_rf s0] := by
    intro  mc ms S a0 a1 s0 s1 h
    refine g_iconst (v := 1) hC dX6_figure_14 (by decide) ?_
    obtain ⟨u3, eu3, h⟩ := h
    refine g_top2 eu3 ?_
    have hk4 := h.1
    obtain ⟨k5, n6, hk5, hn6, h⟩ := h.2
    refine gX_xv hX (gX_xrunV (As := [.int s1, .int (1 : Int32)]) (rest := []) (Cr := RX6) hC hX (mx_X6_must (cx_l C) E k5 n6 _ _ _ _ _ _ h) (lw_V q688 q690 qs8 q86 q691) hx_X6_must rfl rfl (Or.inl (Nat.le_of_ble_eq_true rfl)) ⟨Nat.le_of_ble_eq_true rfl, Nat.le_of_ble_eq_true rfl⟩ dX6_figure_15 hk5 hn6 hk4 rfl (by decide) rfl) hk5 hn6 (fun q7 S8 h hk9 => ?_) ?_
    · exact gT_out (r := (RX7, TX7, 8)) hC hX hT hA hQ hk9 rfl (by decide) h
    intro S10 h
    refine g_aload_nR hC dX6_figure_18 rfl ?_
    refine g_aload_nR hC dX6_figure_19 rfl ?_
    obtain ⟨u12, eu12, h⟩ := h
    refine g_top0 eu12 ?_
    have hk13 := h.1
    refine gX_get (C0 := RX6) (T := TX6) (N := 8) (n := 5) (k := 3) (q := (503, false)) hC hX dX6_figure_20 q449 rfl in_X6 (by decide) (Or.inl rfl) rfl (by decide) hk13 ?_
    show GX _ _ _ _ _ _ _ (.int (xFI S10 503 u12) :: _)
    refine g_iload_n hC dX6_figure_23 rfl ?_
    refine g_icmp_gt (tgt := 31) hC dX6_figure_24 (by decide) (fun c => ?_) (fun c => ?_)
    · have h := it_p c h.2
      refine g_iconst (v := 0) hC dX6_figure_31 (by decide) ?_
      refine g_sub [true, false, false] rfl ?_
      exact s_32 (mc - k5) (ms - n6) S10 a0 a0 (0 : Int32) h
    · have h := it_n c h.2
      refine g_iconst (v := 1) hC dX6_figure_27 (by decide) ?_
      refine g_goto (tgt := 32) hC dX6_figure_28 (by decide) ?_
      refine g_sub [true, false, false] rfl ?_
      exact s_32 (mc - k5) (ms - n6) S10 a0 a0 (1 : Int32) h
  refine g_aload_nR hC dX6_figure_0 rfl ?_
  refine g_aload_nR hC dX6_figure_1 rfl ?_
  obtain ⟨u1, eu1, h⟩ := h
  refine g_top0 eu1 ?_
  have hk2 := h.1
  refine gX_get (C0 := RX6) (T := TX6) (N := 8) (n := 5) (k := 1) (q := (501, false)) hC hX dX6_figure_2 q447 rfl in_X6 (by decide) (Or.inl rfl) rfl (by decide) hk2 ?_
  show GX _ _ _ _ _ _ _ (.int (xFI S 501 u1) :: _)
  refine g_iconst (v := 2) hC dX6_figure_5 (by decide) ?_
  refine g_icmp_ne (tgt := 13) hC dX6_figure_6 (by decide) (fun c => ?_) (fun c => ?_)
  · have h := it_n c h.2
    refine g_iconst (v := 0) hC dX6_figure_13 (by decide) ?_
    exact s_14 mc ms S x0 x1 x0 (0 : Int32) h
  · have h := it_p c h.2
    refine g_iconst (v := 1) hC dX6_figure_9 (by decide) ?_
    refine g_goto (tgt := 14) hC dX6_figure_10 (by decide) ?_
    exact s_14 mc ms S x0 x1 x0 (1 : Int32) h
theorem mx_X6_figure (l : Launch) (E : XE) (mc ms : Nat) (Q : Int32 → XS → Prop) (X : Nat → XS → Prop) (S : XS) (x0 : Option Nat) (x1 : Int32) (h : wx_X6_figure Q X mc ms S x0 x1) : XMetX E l yX6_figure cX6_figure 3 (some .int) ({ frames := 8, cells := mc, slots := ms, locals := 188 } : Room) [va_rf x0, .int x1] S (fun sz => va_Qi Q (BX1 E S sz) (xA S sz)) RX7 6 X :=
  XMetX_of (rm := ({ frames := 8, cells := mc, slots := ms, locals := 188 } : Room)) (by decide) (by simp [lg_sl, va_rf_cat, cat_i, cat_l]) (L0 := [some (va_rf x0), some (.int x1), none]) (by simp [lx_pairs, lv_args, va_rf_cat, cat_i, cat_l, List.range_succ]) (fun sz C hC hX hl hnm hT hA hQ => bx_X6_figure E C S sz Q X mc ms S x0 x1 hC hX hT hA hQ h)
/-! X6_useHere -/
def wx_X6_useHere_2 (Q : Int32 → XS → Prop) : Nat → XS → Option Nat → Int32 → Prop
  | 0, _, _, _ => False
  | n + 1, S, a0, a1 => dr a0 (fun u1 => xKD S u1 = some 5 ∧ (if (xFI S 501 u1) = (1 : Int32) then (if (5 : Int32) ≤ a1 then Q (-1000000 : Int32) S else xKD S (xST S 1) = some 106 ∧ vp_in a1 (xLN S (xST S 1)) ∧ dr (xFR S 504 u1) (fun u4 => xKD S u4 = some 17 ∧ wx_J8_equals (fun r7 S6 => (if r7 = 0 then wx_X6_useHere_2 Q n S6 a0 (a1 + (1 : Int32)) else Q a1 S6)) S (some u4) (xAR S (xST S 1) (Int32.toNatClampNeg a1)))) else Q (-1000000 : Int32) S))
def wx_X6_useHere (Q : Int32 → XS → Prop) (S : XS) (x0 : Option Nat) : Prop :=
  ∃ n8, wx_X6_useHere_2 Q n8 S x0 (0 : Int32)
theorem hx_X6_useHere : yX6_useHere.cls = RX6 ∧ yX6_useHere.cls ≠ "java/lang/invoke/MethodHandle" ∧ yX6_useHere.cls ≠ "java/lang/invoke/VarHandle" ∧ (parseMethodDescriptor yX6_useHere.desc).map (fun d => d.parameters.length) = some 0 := by decide +kernel
set_option maxHeartbeats 4000000 in
set_option maxRecDepth 100000 in
theorem bx_X6_useHere (E : XE) (C : Cx) (S0 : XS) (sz : Nat) (Q : Int32 → XS → Prop) (S : XS) (x0 : Option Nat) (hC : COk C cX6_useHere RX6 (some .int) 3 78 2) (hX : XOk E C) (hA : cx_A C = xA S0 sz) (hQ : cx_Q C = MQ (cx_b C) (va_Qi Q (BX1 E S0 sz) (xA S0 sz)) (cx_a C) (cx_s C) (cx_MC C) (cx_MS C) (xA S0 sz)) (h : wx_X6_useHere Q S x0) : GX E C S 0 0 0 [some (va_rf x0), none] [] := by
  have s_2 : ∀ (n : Nat) (S : XS) (a0 : Option Nat) (a1 : Int32), wx_X6_useHere_2 Q  n S a0 a1 → GX E C S 0 0 2 [some (va_rf a0), some (.int a1)] [] := by
    intro  n
    induction n with
    | zero =>
      intro S a0 a1 h
      exact False.elim h
    | succ n ih =>
      intro S a0 a1 h
      refine g_aload_nR hC dX6_useHere_2 rfl ?_
      obtain ⟨u1, eu1, h⟩ := h
      refine g_top0 eu1 ?_
      have hk2 := h.1
      refine gX_get (C0 := RX6) (T := TX6) (N := 8) (n := 5) (k := 1) (q := (501, false)) hC hX dX6_useHere_3 q447 rfl in_X6 (by decide) (Or.inl rfl) rfl (by decide) hk2 ?_
      show GX _ _ _ _ _ _ _ (.int (xFI S 501 u1) :: _)
      refine g_iconst (v := 1) hC dX6_useHere_6 (by decide) ?_
      refine g_icmp_ne (tgt := 38) hC dX6_useHere_7 (by decide) (fun c => ?_) (fun c => ?_)
      · have h := it_n c h.2
        refine g_ldc (v := -1000000) hC dX6_useHere_38 q485 ?_
        refine gX_iret rfl hC hA hQ dX6_useHere_40 h
      · have h := it_p c h.2
        refine g_iload_n hC dX6_useHere_10 rfl ?_
        refine g_iconst (v := 5) hC dX6_useHere_11 (by decide) ?_
        refine g_icmp_ge (tgt := 38) hC dX6_useHere_12 (by decide) (fun c => ?_) (fun c => ?_)
        · have h := it_p c h
          refine g_ldc (v := -1000000) hC dX6_useHere_38 q485 ?_
          refine gX_iret rfl hC hA hQ dX6_useHere_40 h
        · have h := it_n c h
          refine g_aload_nR hC dX6_useHere_15 rfl ?_
          refine g_top0 eu1 ?_
          refine gX_get (C0 := RX6) (T := TX6) (N := 8) (n := 5) (k := 4) (q := (504, true)) hC hX dX6_useHere_16 q450 rfl in_X6 (by decide) (Or.inl rfl) rfl (by decide) hk2 ?_
          show GX _ _ _ _ _ _ _ (va_rf (xFR S 504 u1) :: _)
          refine gX_getsN (j := 1) hC hX dX6_useHere_19 (List.mem_of_getElem? (i := 1) rfl) q733 rfl ?_
          refine g_iload_n hC dX6_useHere_22 rfl ?_
          have hk3 := h.1
          refine gX_aald (n := 106) hC hX dX6_useHere_23 (by decide) hk3 h.2.1 ?_
          obtain ⟨u4, eu4, h⟩ := h.2.2
          refine g_top1 eu4 ?_
          have hk5 := h.1
          refine gX_ni hX (gX_runV17 (n := 1) (As := [va_rf (xAR S (xST S 1) (Int32.toNatClampNeg a1))]) (rest := []) hC hX (mx_J8_equals (cx_l C) E _ _ _ _ h.2) (lw_V q676 q677 q678 q84 q679) hx_J8_equals rfl rfl (Or.inl (Nat.le_of_ble_eq_true rfl)) ⟨Nat.le_of_ble_eq_true rfl, Nat.le_of_ble_eq_true rfl⟩ dX6_useHere_24 (Nat.zero_le _) (Nat.zero_le _) hk5) rfl rfl ?_
          intro r7 S6 h
          refine g_if_eq (tgt := 32) hC dX6_useHere_27 (by decide) (fun c => ?_) (fun c => ?_)
          · have h := it_p c h
            refine g_iinc (v := (a1 + (1 : Int32))) hC dX6_useHere_32 rfl rfl (by decide) (lx_okR (j := 0) rfl) rfl ?_
            refine g_goto (tgt := 2) hC dX6_useHere_35 (by decide) ?_
            exact ih S6 a0 (a1 + (1 : Int32)) h
          · have h := it_n c h
            refine g_iload_n hC dX6_useHere_30 rfl ?_
            refine gX_iret rfl hC hA hQ dX6_useHere_31 h
  refine g_iconst (v := 0) hC dX6_useHere_0 (by decide) ?_
  refine g_istore_n hC dX6_useHere_1 rfl (by decide) (lx_okR (j := 0) rfl) rfl ?_
  obtain ⟨n0, h0⟩ := h
  exact s_2 n0 S x0 (0 : Int32) h0
theorem mx_X6_useHere (l : Launch) (E : XE) (Q : Int32 → XS → Prop) (S : XS) (x0 : Option Nat) (h : wx_X6_useHere Q S x0) : XMet E l yX6_useHere cX6_useHere 2 (some .int) ({ frames := 3, cells := 0, slots := 0, locals := 78 } : Room) [va_rf x0] S (fun sz => va_Qi Q (BX1 E S sz) (xA S sz)) :=
  XMet_of (rm := ({ frames := 3, cells := 0, slots := 0, locals := 78 } : Room)) (by decide) (by simp [lg_sl, va_rf_cat, cat_i, cat_l]) (L0 := [some (va_rf x0), none]) (by simp [lx_pairs, lv_args, va_rf_cat, cat_i, cat_l, List.range_succ]) (fun sz C hC hX hl hnm hA hQ => bx_X6_useHere E C S sz Q S x0 hC hX hA hQ h)
/-! X6_use -/
def wx_X6_use_17 (Q : Int32 → XS → Prop) (X : Nat → XS → Prop) (mc ms : Nat) (S : XS) (a0 : Option Nat) (a1 : Int32) (s0 : Option Nat) (s1 : Int32) : Prop :=
  dr s0 (fun u5 => xKD S u5 = some 5 ∧ (∃ k7 n8, k7 ≤ mc ∧ n8 ≤ ms ∧ wx_X6_must (fun S12 => dr a0 (fun u14 => xKD S12 u14 = some 5 ∧ (∃ k16 n17, k16 ≤ (mc - k7) ∧ n17 ≤ (ms - n8) ∧ wx_X6_next (fun S18 => Q a1 S18) k16 n17 S12 (some u14)))) (fun q9 S10 => X q9 S10) k7 n8 S (some u5) s1 (1 : Int32)))
def wx_X6_use (Q : Int32 → XS → Prop) (X : Nat → XS → Prop) (mc ms : Nat) (S : XS) (x0 : Option Nat) : Prop :=
  dr x0 (fun u1 => xKD S u1 = some 5 ∧ wx_X6_useHere (fun r4 S3 => (if r4 = (-1000000 : Int32) then wx_X6_use_17 Q X mc ms S3 x0 r4 x0 (0 : Int32) else wx_X6_use_17 Q X mc ms S3 x0 r4 x0 (1 : Int32))) S (some u1))
theorem hx_X6_use : yX6_use.cls = RX6 ∧ yX6_use.cls ≠ "java/lang/invoke/MethodHandle" ∧ yX6_use.cls ≠ "java/lang/invoke/VarHandle" ∧ (parseMethodDescriptor yX6_use.desc).map (fun d => d.parameters.length) = some 0 := by decide +kernel
set_option maxHeartbeats 4000000 in
set_option maxRecDepth 100000 in
theorem bx_X6_use (E : XE) (C : Cx) (S0 : XS) (sz : Nat) (Q : Int32 → XS → Prop) (X : Nat → XS → Prop) (mc ms : Nat) (S : XS) (x0 : Option Nat) (hC : COk C cX6_use RX6 (some .int) 8 188 2) (hX : XOk E C) (hT : ∀ x ∈ (cx_c C).exceptionTable.toList, False) (hA : cx_A C = xA S0 sz) (hQ : cx_Q C = vx_MQ (cx_b C) (va_Qi Q (BX1 E S0 sz) (xA S0 sz)) (XC0 E S0 sz RX7 6 X) (cx_a C) (cx_s C) (cx_MC C) (cx_MS C) (xA S0 sz)) (h : wx_X6_use Q X mc ms S x0) : GX E C S mc ms 0 [some (va_rf x0), none] [] := by
  have s_17 : ∀ (mc ms : Nat) (S : XS) (a0 : Option Nat) (a1 : Int32) (s0 : Option Nat) (s1 : Int32), wx_X6_use_17 Q X  mc ms S a0 a1 s0 s1 → GX E C S mc ms 17 [some (va_rf a0), some (.int a1)] [.int s1, va_rf s0] := by
    intro  mc ms S a0 a1 s0 s1 h
    refine g_iconst (v := 1) hC dX6_use_17 (by decide) ?_
    obtain ⟨u5, eu5, h⟩ := h
    refine g_top2 eu5 ?_
    have hk6 := h.1
    obtain ⟨k7, n8, hk7, hn8, h⟩ := h.2
    refine gX_xv hX (gX_xrunV (As := [.int s1, .int (1 : Int32)]) (rest := []) (Cr := RX6) hC hX (mx_X6_must (cx_l C) E k7 n8 _ _ _ _ _ _ h) (lw_V q688 q690 qs8 q86 q691) hx_X6_must rfl rfl (Or.inl (Nat.le_of_ble_eq_true rfl)) ⟨Nat.le_of_ble_eq_true rfl, Nat.le_of_ble_eq_true rfl⟩ dX6_use_18 hk7 hn8 hk6 rfl (by decide) rfl) hk7 hn8 (fun q9 S10 h hk11 => ?_) ?_
    · exact gT_out (r := (RX7, TX7, 8)) hC hX hT hA hQ hk11 rfl (by decide) h
    intro S12 h
    refine g_aload_nR hC dX6_use_21 rfl ?_
    obtain ⟨u14, eu14, h⟩ := h
    refine g_top0 eu14 ?_
    have hk15 := h.1
    obtain ⟨k16, n17, hk16, hn17, h⟩ := h.2
    refine gX_cv hX (gX_runV (As := []) (rest := []) (Cr := RX6) hC hX (mx_X6_next (cx_l C) E k16 n17 _ _ _ h) (lw_V q477 q479 qs4 q86 q480) hx_X6_next rfl rfl (Or.inl (Nat.le_of_ble_eq_true rfl)) ⟨Nat.le_of_ble_eq_true rfl, Nat.le_of_ble_eq_true rfl⟩ dX6_use_22 hk16 hn17 hk15 rfl (by decide) rfl) hk16 hn17 ?_
    intro S18 h
    refine g_iload_n hC dX6_use_25 rfl ?_
    refine gX_end hQ (gX_iret (C := cx_to C _) rfl hC hA rfl dX6_use_26 h)
  refine g_aload_nR hC dX6_use_0 rfl ?_
  obtain ⟨u1, eu1, h⟩ := h
  refine g_top0 eu1 ?_
  have hk2 := h.1
  refine gX_ni hX (gX_runV (As := []) (rest := []) (Cr := RX6) hC hX (mx_X6_useHere (cx_l C) E _ _ _ h.2) (lw_V q729 q731 qs11 q86 q732) hx_X6_useHere rfl rfl (Or.inl (Nat.le_of_ble_eq_true rfl)) ⟨Nat.le_of_ble_eq_true rfl, Nat.le_of_ble_eq_true rfl⟩ dX6_use_1 (Nat.zero_le _) (Nat.zero_le _) hk2 rfl (by decide) rfl) rfl rfl ?_
  intro r4 S3 h
  refine g_istore_n hC dX6_use_4 rfl (by decide) (lx_okR (j := 0) rfl) rfl ?_
  refine g_aload_nR hC dX6_use_5 rfl ?_
  refine g_iload_n hC dX6_use_6 rfl ?_
  refine g_ldc (v := -1000000) hC dX6_use_7 q485 ?_
  refine g_icmp_eq (tgt := 16) hC dX6_use_9 (by decide) (fun c => ?_) (fun c => ?_)
  · have h := it_p c h
    refine g_iconst (v := 0) hC dX6_use_16 (by decide) ?_
    exact s_17 mc ms S3 x0 r4 x0 (0 : Int32) h
  · have h := it_n c h
    refine g_iconst (v := 1) hC dX6_use_12 (by decide) ?_
    refine g_goto (tgt := 17) hC dX6_use_13 (by decide) ?_
    exact s_17 mc ms S3 x0 r4 x0 (1 : Int32) h
theorem mx_X6_use (l : Launch) (E : XE) (mc ms : Nat) (Q : Int32 → XS → Prop) (X : Nat → XS → Prop) (S : XS) (x0 : Option Nat) (h : wx_X6_use Q X mc ms S x0) : XMetX E l yX6_use cX6_use 2 (some .int) ({ frames := 8, cells := mc, slots := ms, locals := 188 } : Room) [va_rf x0] S (fun sz => va_Qi Q (BX1 E S sz) (xA S sz)) RX7 6 X :=
  XMetX_of (rm := ({ frames := 8, cells := mc, slots := ms, locals := 188 } : Room)) (by decide) (by simp [lg_sl, va_rf_cat, cat_i, cat_l]) (L0 := [some (va_rf x0), none]) (by simp [lx_pairs, lv_args, va_rf_cat, cat_i, cat_l, List.range_succ]) (fun sz C hC hX hl hnm hT hA hQ => bx_X6_use E C S sz Q X mc ms S x0 hC hX hT hA hQ h)
/-! X2_first -/
def wx_X2_first_111 (Q : XS → Prop) (K79 : Nat → Nat → XS → Option Nat → Option Nat → Int32 → Int32 → Int32 → Prop) (mc ms : Nat) (S : XS) (a0 : Option Nat) (a3 : Option Nat) (a4 : Int32) (a5 : Int32) (a6 : Int32) : Prop :=
  K79 mc ms S a0 a3 a4 a5 (a6 + (1 : Int32))
def wx_X2_first_79 (Q : XS → Prop) : Nat → Nat → Nat → XS → Option Nat → Option Nat → Int32 → Int32 → Int32 → Prop
  | 0, _, _, _, _, _, _, _, _ => False
  | n + 1, mc, ms, S, a0, a3, a4, a5, a6 => (if (5 : Int32) ≤ a6 then Q S else dr a3 (fun u4 => xKD S u4 = some 100 ∧ vp_in a6 (xLN S u4) ∧ (if ((a5 >>> ((xAI S u4 (Int32.toNatClampNeg a6)) &&& 31)) &&& (1 : Int32)) = 0 then dr a0 (fun u6 => xKD S u6 = some 2 ∧ vp_in a6 (xLN S u4) ∧ dr (xFR S 206 u6) (fun u8 => xKD S u8 = some 100 ∧ vp_in (xAI S u4 (Int32.toNatClampNeg a6)) (xLN S u8) ∧ wx_X2_first_111 Q (wx_X2_first_79 Q n) mc ms (sAI S u8 (Int32.toNatClampNeg (xAI S u4 (Int32.toNatClampNeg a6))) a4) a0 a3 (a4 + (1 : Int32)) a5 a6)) else wx_X2_first_111 Q (wx_X2_first_79 Q n) mc ms S a0 a3 a4 a5 a6)))
def wx_X2_first_39 (Q : XS → Prop) : Nat → Nat → Nat → XS → Option Nat → Option Nat → Int32 → Option Nat → Int32 → Int32 → Int32 → Prop
  | 0, _, _, _, _, _, _, _, _, _, _ => False
  | n + 1, mc, ms, S, a0, a1, a2, a3, a4, a5, a6 => (if a2 ≤ a6 then ∃ n10, wx_X2_first_79 Q n10 mc ms S a0 a3 a4 a5 (0 : Int32) else dr a0 (fun u11 => xKD S u11 = some 2 ∧ dr a1 (fun u13 => xKD S u13 = some 100 ∧ vp_in a6 (xLN S u13) ∧ dr (xFR S 206 u11) (fun u15 => xKD S u15 = some 100 ∧ vp_in (xAI S u13 (Int32.toNatClampNeg a6)) (xLN S u15) ∧ vp_in a6 (xLN (sAI S u15 (Int32.toNatClampNeg (xAI S u13 (Int32.toNatClampNeg a6))) a4) u13) ∧ wx_X2_first_39 Q n mc ms (sAI S u15 (Int32.toNatClampNeg (xAI S u13 (Int32.toNatClampNeg a6))) a4) a0 a1 a2 a3 (a4 + (1 : Int32)) (a5 ||| ((1 : Int32) <<< ((xAI (sAI S u15 (Int32.toNatClampNeg (xAI S u13 (Int32.toNatClampNeg a6))) a4) u13 (Int32.toNatClampNeg a6)) &&& 31))) (a6 + (1 : Int32))))))
def wx_X2_first_7 (Q : XS → Prop) : Nat → Nat → Nat → XS → Option Nat → Option Nat → Int32 → Option Nat → Int32 → Prop
  | 0, _, _, _, _, _, _, _, _ => False
  | n + 1, mc, ms, S, a0, a1, a2, a3, a4 => (if (5 : Int32) ≤ a4 then ∃ n17, wx_X2_first_39 Q n17 mc ms S a0 a1 a2 a3 (0 : Int32) (0 : Int32) (0 : Int32) else dr a0 (fun u18 => xKD S u18 = some 2 ∧ dr (xFR S 206 u18) (fun u20 => xKD S u20 = some 100 ∧ vp_in a4 (xLN S u20) ∧ dr a3 (fun u22 => xKD S u22 = some 100 ∧ vp_in (xAI S u20 (Int32.toNatClampNeg a4)) (xLN S u22) ∧ wx_X2_first_7 Q n mc ms (sAI S u22 (Int32.toNatClampNeg (xAI S u20 (Int32.toNatClampNeg a4))) a4) a0 a1 a2 a3 (a4 + (1 : Int32))))))
def wx_X2_first (Q : XS → Prop) (mc ms : Nat) (S : XS) (x0 : Option Nat) (x1 : Option Nat) (x2 : Int32) : Prop :=
  ¬ (5 : Int32) < 0 ∧ (Int32.toNatClampNeg (5 : Int32)) ≤ 100000 ∧ 1 ≤ mc ∧ (Int32.toNatClampNeg (5 : Int32)) ≤ ms ∧ (∀ q1 : Nat, xKD S q1 = none → ∃ n24, wx_X2_first_7 Q n24 (mc - 1) (ms - (Int32.toNatClampNeg (5 : Int32))) (sNewA S q1 100 (Int32.toNatClampNeg (5 : Int32))) x0 x1 x2 (some q1) (0 : Int32))
theorem hx_X2_first : yX2_first.cls = RX2 ∧ yX2_first.cls ≠ "java/lang/invoke/MethodHandle" ∧ yX2_first.cls ≠ "java/lang/invoke/VarHandle" ∧ (parseMethodDescriptor yX2_first.desc).map (fun d => d.parameters.length) = some 2 := by decide +kernel
set_option maxHeartbeats 4000000 in
set_option maxRecDepth 100000 in
theorem bx_X2_first (E : XE) (C : Cx) (S0 : XS) (sz : Nat) (Q : XS → Prop) (mc ms : Nat) (S : XS) (x0 : Option Nat) (x1 : Option Nat) (x2 : Int32) (hC : COk C cX2_first RX2 none 1 34 7) (hX : XOk E C) (hA : cx_A C = xA S0 sz) (hQ : cx_Q C = MQ (cx_b C) (va_Qv Q (BX1 E S0 sz) (xA S0 sz)) (cx_a C) (cx_s C) (cx_MC C) (cx_MS C) (xA S0 sz)) (h : wx_X2_first Q mc ms S x0 x1 x2) : GX E C S mc ms 0 [some (va_rf x0), some (va_rf x1), some (.int x2), none, none, none, none] [] := by
  have s_111 : ∀ (K79 : Nat → Nat → XS → Option Nat → Option Nat → Int32 → Int32 → Int32 → Prop) (hK79 : ∀ (mc ms : Nat) (S : XS) (b0 : Option Nat) (b3 : Option Nat) (b4 : Int32) (b5 : Int32) (b6 : Int32), K79 mc ms S b0 b3 b4 b5 b6 → GX E C S mc ms 79 [some (va_rf b0), none, none, some (va_rf b3), some (.int b4), some (.int b5), some (.int b6)] []) (mc ms : Nat) (S : XS) (a0 : Option Nat) (a3 : Option Nat) (a4 : Int32) (a5 : Int32) (a6 : Int32), wx_X2_first_111 Q K79 mc ms S a0 a3 a4 a5 a6 → GX E C S mc ms 111 [some (va_rf a0), none, none, some (va_rf a3), some (.int a4), some (.int a5), some (.int a6)] [] := by
    intro K79 hK79 mc ms S a0 a3 a4 a5 a6 h
    refine g_iinc (v := (a6 + (1 : Int32))) hC dX2_first_111 rfl rfl (by decide) rfl rfl ?_
    refine g_goto (tgt := 79) hC dX2_first_114 (by decide) ?_
    exact hK79 mc ms S a0 a3 a4 a5 (a6 + (1 : Int32)) h
  have s_79 : ∀ (n : Nat) (mc ms : Nat) (S : XS) (a0 : Option Nat) (a3 : Option Nat) (a4 : Int32) (a5 : Int32) (a6 : Int32), wx_X2_first_79 Q  n mc ms S a0 a3 a4 a5 a6 → GX E C S mc ms 79 [some (va_rf a0), none, none, some (va_rf a3), some (.int a4), some (.int a5), some (.int a6)] [] := by
    intro  n
    induction n with
    | zero =>
      intro mc ms S a0 a3 a4 a5 a6 h
      exact False.elim h
    | succ n ih =>
      intro mc ms S a0 a3 a4 a5 a6 h
      refine g_iload hC dX2_first_79 rfl ?_
      refine g_iconst (v := 5) hC dX2_first_81 (by decide) ?_
      refine g_icmp_ge (tgt := 117) hC dX2_first_82 (by decide) (fun c => ?_) (fun c => ?_)
      · have h := it_p c h
        refine gX_vret hC hA hQ rfl dX2_first_117 h
      · have h := it_n c h
        refine g_iload hC dX2_first_85 rfl ?_
        refine g_aload_nR hC dX2_first_87 rfl ?_
        refine g_iload hC dX2_first_88 rfl ?_
        obtain ⟨u4, eu4, h⟩ := h
        refine g_top1 eu4 ?_
        have hk5 := h.1
        refine gX_iald hC hX dX2_first_90 hk5 h.2.1 ?_
        refine g_ishr hC dX2_first_91 ?_
        refine g_iconst (v := 1) hC dX2_first_92 (by decide) ?_
        refine g_iand hC dX2_first_93 ?_
        refine g_if_ne (tgt := 111) hC dX2_first_94 (by decide) (fun c => ?_) (fun c => ?_)
        · have h := it_n c h.2.2
          exact s_111 (wx_X2_first_79 Q n) ih mc ms S a0 a3 a4 a5 a6 h
        · have h := it_p c h.2.2
          refine g_aload_nR hC dX2_first_97 rfl ?_
          obtain ⟨u6, eu6, h⟩ := h
          refine g_top0 eu6 ?_
          have hk7 := h.1
          refine gX_get (C0 := RX2) (T := TX2) (N := 7) (n := 2) (k := 6) (q := (206, true)) hC hX dX2_first_98 q191 rfl in_X2 (by decide) (Or.inl rfl) rfl (by decide) hk7 ?_
          show GX _ _ _ _ _ _ _ (va_rf (xFR S 206 u6) :: _)
          refine g_aload_nR hC dX2_first_101 rfl ?_
          refine g_iload hC dX2_first_102 rfl ?_
          refine g_top1 eu4 ?_
          refine gX_iald hC hX dX2_first_104 hk5 h.2.1 ?_
          refine g_iload hC dX2_first_105 rfl ?_
          refine g_iinc (v := (a4 + (1 : Int32))) hC dX2_first_107 rfl rfl (by decide) (lx_okR (j := 3) rfl) rfl ?_
          obtain ⟨u8, eu8, h⟩ := h.2.2
          refine g_top2 eu8 ?_
          have hk9 := h.1
          refine gX_iast hC hX dX2_first_110 hk9 h.2.1 ?_
          exact s_111 (wx_X2_first_79 Q n) ih mc ms (sAI S u8 (Int32.toNatClampNeg (xAI S u4 (Int32.toNatClampNeg a6))) a4) a0 a3 (a4 + (1 : Int32)) a5 a6 h.2.2
  have s_39 : ∀ (n : Nat) (mc ms : Nat) (S : XS) (a0 : Option Nat) (a1 : Option Nat) (a2 : Int32) (a3 : Option Nat) (a4 : Int32) (a5 : Int32) (a6 : Int32), wx_X2_first_39 Q  n mc ms S a0 a1 a2 a3 a4 a5 a6 → GX E C S mc ms 39 [some (va_rf a0), some (va_rf a1), some (.int a2), some (va_rf a3), some (.int a4), some (.int a5), some (.int a6)] [] := by
    intro  n
    induction n with
    | zero =>
      intro mc ms S a0 a1 a2 a3 a4 a5 a6 h
      exact False.elim h
    | succ n ih =>
      intro mc ms S a0 a1 a2 a3 a4 a5 a6 h
      refine g_iload hC dX2_first_39 rfl ?_
      refine g_iload_n hC dX2_first_41 rfl ?_
      refine g_icmp_ge (tgt := 76) hC dX2_first_42 (by decide) (fun c => ?_) (fun c => ?_)
      · have h := it_p c h
        refine g_iconst (v := 0) hC dX2_first_76 (by decide) ?_
        refine g_istore hC dX2_first_77 (by decide) rfl rfl ?_
        refine g_sub [true, false, false, true, true, true, true] rfl ?_
        obtain ⟨n0, h0⟩ := h
        exact s_79 n0 mc ms S a0 a3 a4 a5 (0 : Int32) h0
      · have h := it_n c h
        refine g_aload_nR hC dX2_first_45 rfl ?_
        obtain ⟨u11, eu11, h⟩ := h
        refine g_top0 eu11 ?_
        have hk12 := h.1
        refine gX_get (C0 := RX2) (T := TX2) (N := 7) (n := 2) (k := 6) (q := (206, true)) hC hX dX2_first_46 q191 rfl in_X2 (by decide) (Or.inl rfl) rfl (by decide) hk12 ?_
        show GX _ _ _ _ _ _ _ (va_rf (xFR S 206 u11) :: _)
        refine g_aload_nR hC dX2_first_49 rfl ?_
        refine g_iload hC dX2_first_50 rfl ?_
        obtain ⟨u13, eu13, h⟩ := h.2
        refine g_top1 eu13 ?_
        have hk14 := h.1
        refine gX_iald hC hX dX2_first_52 hk14 h.2.1 ?_
        refine g_iload hC dX2_first_53 rfl ?_
        refine g_iinc (v := (a4 + (1 : Int32))) hC dX2_first_55 rfl rfl (by decide) (lx_okR (j := 3) rfl) rfl ?_
        obtain ⟨u15, eu15, h⟩ := h.2.2
        refine g_top2 eu15 ?_
        have hk16 := h.1
        refine gX_iast hC hX dX2_first_58 hk16 h.2.1 ?_
        refine g_iload hC dX2_first_59 rfl ?_
        refine g_iconst (v := 1) hC dX2_first_61 (by decide) ?_
        refine g_aload_nR hC dX2_first_62 rfl ?_
        refine g_iload hC dX2_first_63 rfl ?_
        refine g_top1 eu13 ?_
        refine gX_iald hC hX dX2_first_65 hk14 h.2.2.1 ?_
        refine g_ishl hC dX2_first_66 ?_
        refine g_ior hC dX2_first_67 ?_
        refine g_istore hC dX2_first_68 (by decide) rfl rfl ?_
        refine g_iinc (v := (a6 + (1 : Int32))) hC dX2_first_70 rfl rfl (by decide) rfl rfl ?_
        refine g_goto (tgt := 39) hC dX2_first_73 (by decide) ?_
        exact ih mc ms (sAI S u15 (Int32.toNatClampNeg (xAI S u13 (Int32.toNatClampNeg a6))) a4) a0 a1 a2 a3 (a4 + (1 : Int32)) (a5 ||| ((1 : Int32) <<< ((xAI (sAI S u15 (Int32.toNatClampNeg (xAI S u13 (Int32.toNatClampNeg a6))) a4) u13 (Int32.toNatClampNeg a6)) &&& 31))) (a6 + (1 : Int32)) h.2.2.2
  have s_7 : ∀ (n : Nat) (mc ms : Nat) (S : XS) (a0 : Option Nat) (a1 : Option Nat) (a2 : Int32) (a3 : Option Nat) (a4 : Int32), wx_X2_first_7 Q  n mc ms S a0 a1 a2 a3 a4 → GX E C S mc ms 7 [some (va_rf a0), some (va_rf a1), some (.int a2), some (va_rf a3), some (.int a4), none, none] [] := by
    intro  n
    induction n with
    | zero =>
      intro mc ms S a0 a1 a2 a3 a4 h
      exact False.elim h
    | succ n ih =>
      intro mc ms S a0 a1 a2 a3 a4 h
      refine g_iload hC dX2_first_7 rfl ?_
      refine g_iconst (v := 5) hC dX2_first_9 (by decide) ?_
      refine g_icmp_ge (tgt := 30) hC dX2_first_10 (by decide) (fun c => ?_) (fun c => ?_)
      · have h := it_p c h
        refine g_iconst (v := 0) hC dX2_first_30 (by decide) ?_
        refine g_istore hC dX2_first_31 (by decide) (lx_okR (j := 3) rfl) rfl ?_
        refine g_iconst (v := 0) hC dX2_first_33 (by decide) ?_
        refine g_istore hC dX2_first_34 (by decide) rfl rfl ?_
        refine g_iconst (v := 0) hC dX2_first_36 (by decide) ?_
        refine g_istore hC dX2_first_37 (by decide) rfl rfl ?_
        obtain ⟨n0, h0⟩ := h
        exact s_39 n0 mc ms S a0 a1 a2 a3 (0 : Int32) (0 : Int32) (0 : Int32) h0
      · have h := it_n c h
        refine g_aload_nR hC dX2_first_13 rfl ?_
        refine g_aload_nR hC dX2_first_14 rfl ?_
        obtain ⟨u18, eu18, h⟩ := h
        refine g_top0 eu18 ?_
        have hk19 := h.1
        refine gX_get (C0 := RX2) (T := TX2) (N := 7) (n := 2) (k := 6) (q := (206, true)) hC hX dX2_first_15 q191 rfl in_X2 (by decide) (Or.inl rfl) rfl (by decide) hk19 ?_
        show GX _ _ _ _ _ _ _ (va_rf (xFR S 206 u18) :: _)
        refine g_iload hC dX2_first_18 rfl ?_
        obtain ⟨u20, eu20, h⟩ := h.2
        refine g_top1 eu20 ?_
        have hk21 := h.1
        refine gX_iald hC hX dX2_first_20 hk21 h.2.1 ?_
        refine g_iload hC dX2_first_21 rfl ?_
        obtain ⟨u22, eu22, h⟩ := h.2.2
        refine g_top2 eu22 ?_
        have hk23 := h.1
        refine gX_iast hC hX dX2_first_23 hk23 h.2.1 ?_
        refine g_iinc (v := (a4 + (1 : Int32))) hC dX2_first_24 rfl rfl (by decide) (lx_okR (j := 3) rfl) rfl ?_
        refine g_goto (tgt := 7) hC dX2_first_27 (by decide) ?_
        exact ih mc ms (sAI S u22 (Int32.toNatClampNeg (xAI S u20 (Int32.toNatClampNeg a4))) a4) a0 a1 a2 a3 (a4 + (1 : Int32)) h.2.2
  refine g_iconst (v := 5) hC dX2_first_0 (by decide) ?_
  refine gX_newi hC hX dX2_first_1 q163 h.1 h.2.1 h.2.2.1 h.2.2.2.1 ?_
  intro q1 hq2
  have h := h.2.2.2.2 q1 hq2
  have hk3 : xKD (sNewA S q1 100 (Int32.toNatClampNeg (5 : Int32))) q1 = some 100 := kd_selfA
  refine g_astore_nR hC dX2_first_3 rfl (by decide) rfl rfl ?_
  refine g_iconst (v := 0) hC dX2_first_4 (by decide) ?_
  refine g_istore hC dX2_first_5 (by decide) (lx_okR (j := 3) rfl) rfl ?_
  obtain ⟨n0, h0⟩ := h
  exact s_7 n0 (mc - 1) (ms - (Int32.toNatClampNeg (5 : Int32))) (sNewA S q1 100 (Int32.toNatClampNeg (5 : Int32))) x0 x1 x2 (some q1) (0 : Int32) h0
theorem mx_X2_first (l : Launch) (E : XE) (mc ms : Nat) (Q : XS → Prop) (S : XS) (x0 : Option Nat) (x1 : Option Nat) (x2 : Int32) (h : wx_X2_first Q mc ms S x0 x1 x2) : XMet E l yX2_first cX2_first 7 none ({ frames := 1, cells := mc, slots := ms, locals := 34 } : Room) [va_rf x0, va_rf x1, .int x2] S (fun sz => va_Qv Q (BX1 E S sz) (xA S sz)) :=
  XMet_of (rm := ({ frames := 1, cells := mc, slots := ms, locals := 34 } : Room)) (by decide) (by simp [lg_sl, va_rf_cat, cat_i, cat_l]) (L0 := [some (va_rf x0), some (va_rf x1), some (.int x2), none, none, none, none]) (by simp [lx_pairs, lv_args, va_rf_cat, cat_i, cat_l, List.range_succ]) (fun sz C hC hX hl hnm hA hQ => bx_X2_first E C S sz Q mc ms S x0 x1 x2 hC hX hA hQ h)
/-! X6_first -/
def wx_X6_first_55 (Q : XS → Prop) (X : Nat → XS → Prop) (K28 : Nat → Nat → XS → Option Nat → Option Nat → Option Nat → Int32 → Int32 → Prop) (mc ms : Nat) (S : XS) (a0 : Option Nat) (a1 : Option Nat) (a2 : Option Nat) (a3 : Int32) (a4 : Int32) (s0 : Option Nat) (s1 : Int32) : Prop :=
  dr s0 (fun u30 => xKD S u30 = some 5 ∧ (∃ k32 n33, k32 ≤ mc ∧ n33 ≤ ms ∧ wx_X6_must (fun S37 => dr a0 (fun u39 => xKD S37 u39 = some 5 ∧ wx_X6_useHere (fun r42 S41 => xKD S41 u39 = some 5 ∧ (∃ k44 n45, k44 ≤ (mc - k32) ∧ n45 ≤ (ms - n33) ∧ wx_X6_use (fun r50 S49 => dr a2 (fun u51 => xKD S49 u51 = some 100 ∧ vp_in a3 (xLN S49 u51) ∧ K28 ((mc - k32) - k44) ((ms - n33) - n45) (sAI S49 u51 (Int32.toNatClampNeg a3) r50) a0 a1 a2 (a3 + (1 : Int32)) (a4 ||| ((1 : Int32) <<< (r42 &&& 31))))) (fun q46 S47 => X q46 S47) k44 n45 S41 (some u39))) S37 (some u39))) (fun q34 S35 => X q34 S35) k32 n33 S (some u30) s1 (3 : Int32)))
def wx_X6_first_28 (Q : XS → Prop) (X : Nat → XS → Prop) : Nat → Nat → Nat → XS → Option Nat → Option Nat → Option Nat → Int32 → Int32 → Prop
  | 0, _, _, _, _, _, _, _, _ => False
  | n + 1, mc, ms, S, a0, a1, a2, a3, a4 => dr a0 (fun u17 => xKD S u17 = some 5 ∧ wx_X6_useHere (fun r20 S19 => (if r20 = (-1000000 : Int32) then dr a1 (fun u21 => xKD S19 u21 = some 2 ∧ (∃ k23 n24, k23 ≤ mc ∧ n24 ≤ ms ∧ wx_X2_first (fun S25 => Q S25) k23 n24 S19 (some u21) a2 a3)) else xKD S19 u17 = some 5 ∧ wx_X6_useHere (fun r29 S28 => (if ((a4 >>> (r29 &&& 31)) &&& (1 : Int32)) = 0 then wx_X6_first_55 Q X (wx_X6_first_28 Q X n) mc ms S28 a0 a1 a2 a3 a4 a0 (1 : Int32) else wx_X6_first_55 Q X (wx_X6_first_28 Q X n) mc ms S28 a0 a1 a2 a3 a4 a0 (0 : Int32))) S19 (some u17))) S (some u17))
def wx_X6_first_24 (Q : XS → Prop) (X : Nat → XS → Prop) (mc ms : Nat) (S : XS) (a0 : Option Nat) (a1 : Option Nat) (a2 : Option Nat) (a3 : Int32) (a4 : Int32) (s0 : Option Nat) (s1 : Int32) : Prop :=
  dr s0 (fun u8 => xKD S u8 = some 5 ∧ (∃ k10 n11, k10 ≤ mc ∧ n11 ≤ ms ∧ wx_X6_must (fun S15 => ∃ n53, wx_X6_first_28 Q X n53 (mc - k10) (ms - n11) S15 a0 a1 a2 a3 a4) (fun q12 S13 => X q12 S13) k10 n11 S (some u8) s1 (1 : Int32)))
def wx_X6_first (Q : XS → Prop) (X : Nat → XS → Prop) (mc ms : Nat) (S : XS) (x0 : Option Nat) (x1 : Option Nat) : Prop :=
  ¬ (5 : Int32) < 0 ∧ (Int32.toNatClampNeg (5 : Int32)) ≤ 100000 ∧ 1 ≤ mc ∧ (Int32.toNatClampNeg (5 : Int32)) ≤ ms ∧ (∀ q1 : Nat, xKD S q1 = none → dr x0 (fun u4 => xKD (sNewA S q1 100 (Int32.toNatClampNeg (5 : Int32))) u4 = some 5 ∧ wx_X6_useHere (fun r7 S6 => (if r7 = (-1000000 : Int32) then wx_X6_first_24 Q X (mc - 1) (ms - (Int32.toNatClampNeg (5 : Int32))) S6 x0 x1 (some q1) (0 : Int32) (0 : Int32) x0 (0 : Int32) else wx_X6_first_24 Q X (mc - 1) (ms - (Int32.toNatClampNeg (5 : Int32))) S6 x0 x1 (some q1) (0 : Int32) (0 : Int32) x0 (1 : Int32))) (sNewA S q1 100 (Int32.toNatClampNeg (5 : Int32))) (some u4)))
theorem hx_X6_first : yX6_first.cls = RX6 ∧ yX6_first.cls ≠ "java/lang/invoke/MethodHandle" ∧ yX6_first.cls ≠ "java/lang/invoke/VarHandle" ∧ (parseMethodDescriptor yX6_first.desc).map (fun d => d.parameters.length) = some 1 := by decide +kernel
set_option maxHeartbeats 4000000 in
set_option maxRecDepth 100000 in
theorem bx_X6_first (E : XE) (C : Cx) (S0 : XS) (sz : Nat) (Q : XS → Prop) (X : Nat → XS → Prop) (mc ms : Nat) (S : XS) (x0 : Option Nat) (x1 : Option Nat) (hC : COk C cX6_first RX6 none 9 209 5) (hX : XOk E C) (hT : ∀ x ∈ (cx_c C).exceptionTable.toList, False) (hA : cx_A C = xA S0 sz) (hQ : cx_Q C = vx_MQ (cx_b C) (va_Qv Q (BX1 E S0 sz) (xA S0 sz)) (XC0 E S0 sz RX7 6 X) (cx_a C) (cx_s C) (cx_MC C) (cx_MS C) (xA S0 sz)) (h : wx_X6_first Q X mc ms S x0 x1) : GX E C S mc ms 0 [some (va_rf x0), some (va_rf x1), none, none, none] [] := by
  have s_55 : ∀ (K28 : Nat → Nat → XS → Option Nat → Option Nat → Option Nat → Int32 → Int32 → Prop) (hK28 : ∀ (mc ms : Nat) (S : XS) (b0 : Option Nat) (b1 : Option Nat) (b2 : Option Nat) (b3 : Int32) (b4 : Int32), K28 mc ms S b0 b1 b2 b3 b4 → GX E C S mc ms 28 [some (va_rf b0), some (va_rf b1), some (va_rf b2), some (.int b3), some (.int b4)] []) (mc ms : Nat) (S : XS) (a0 : Option Nat) (a1 : Option Nat) (a2 : Option Nat) (a3 : Int32) (a4 : Int32) (s0 : Option Nat) (s1 : Int32), wx_X6_first_55 Q X K28 mc ms S a0 a1 a2 a3 a4 s0 s1 → GX E C S mc ms 55 [some (va_rf a0), some (va_rf a1), some (va_rf a2), some (.int a3), some (.int a4)] [.int s1, va_rf s0] := by
    intro K28 hK28 mc ms S a0 a1 a2 a3 a4 s0 s1 h
    refine g_iconst (v := 3) hC dX6_first_55 (by decide) ?_
    obtain ⟨u30, eu30, h⟩ := h
    refine g_top2 eu30 ?_
    have hk31 := h.1
    obtain ⟨k32, n33, hk32, hn33, h⟩ := h.2
    refine gX_xv hX (gX_xrunV (As := [.int s1, .int (3 : Int32)]) (rest := []) (Cr := RX6) hC hX (mx_X6_must (cx_l C) E k32 n33 _ _ _ _ _ _ h) (lw_V q688 q690 qs8 q86 q691) hx_X6_must rfl rfl (Or.inl (Nat.le_of_ble_eq_true rfl)) ⟨Nat.le_of_ble_eq_true rfl, Nat.le_of_ble_eq_true rfl⟩ dX6_first_56 hk32 hn33 hk31 rfl (by decide) rfl) hk32 hn33 (fun q34 S35 h hk36 => ?_) ?_
    · exact gT_out (r := (RX7, TX7, 8)) hC hX hT hA hQ hk36 rfl (by decide) h
    intro S37 h
    refine g_iload hC dX6_first_59 rfl ?_
    refine g_iconst (v := 1) hC dX6_first_61 (by decide) ?_
    refine g_aload_nR hC dX6_first_62 rfl ?_
    obtain ⟨u39, eu39, h⟩ := h
    refine g_top0 eu39 ?_
    have hk40 := h.1
    refine gX_ni hX (gX_runV (As := []) (rest := [.int (1 : Int32), .int a4]) (Cr := RX6) hC hX (mx_X6_useHere (cx_l C) E _ _ _ h.2) (lw_V q729 q731 qs11 q86 q732) hx_X6_useHere rfl rfl (Or.inl (Nat.le_of_ble_eq_true rfl)) ⟨Nat.le_of_ble_eq_true rfl, Nat.le_of_ble_eq_true rfl⟩ dX6_first_63 (Nat.zero_le _) (Nat.zero_le _) hk40 rfl (by decide) rfl) rfl rfl ?_
    intro r42 S41 h
    refine g_ishl hC dX6_first_66 ?_
    refine g_ior hC dX6_first_67 ?_
    refine g_istore hC dX6_first_68 (by decide) rfl rfl ?_
    refine g_aload_nR hC dX6_first_70 rfl ?_
    refine g_iload_n hC dX6_first_71 rfl ?_
    refine g_iinc (v := (a3 + (1 : Int32))) hC dX6_first_72 rfl rfl (by decide) (lx_okR (j := 2) rfl) rfl ?_
    refine g_aload_nR hC dX6_first_75 rfl ?_
    refine g_top0 eu39 ?_
    have hk43 := h.1
    obtain ⟨k44, n45, hk44, hn45, h⟩ := h.2
    refine gX_xi hX (gX_xrunV (As := []) (rest := [.int a3, va_rf a2]) (Cr := RX6) hC hX (mx_X6_use (cx_l C) E k44 n45 _ _ _ _ h) (lw_V q725 q727 qs10 q86 q728) hx_X6_use rfl rfl (Or.inl (Nat.le_of_ble_eq_true rfl)) ⟨Nat.le_of_ble_eq_true rfl, Nat.le_of_ble_eq_true rfl⟩ dX6_first_76 hk44 hn45 hk43 rfl (by decide) rfl) hk44 hn45 (fun q46 S47 h hk48 => ?_) ?_
    · exact gT_out (r := (RX7, TX7, 8)) hC hX hT hA hQ hk48 rfl (by decide) h
    intro r50 S49 h
    obtain ⟨u51, eu51, h⟩ := h
    refine g_top2 eu51 ?_
    have hk52 := h.1
    refine gX_iast hC hX dX6_first_79 hk52 h.2.1 ?_
    refine g_goto (tgt := 28) hC dX6_first_80 (by decide) ?_
    exact hK28 ((mc - k32) - k44) ((ms - n33) - n45) (sAI S49 u51 (Int32.toNatClampNeg a3) r50) a0 a1 a2 (a3 + (1 : Int32)) (a4 ||| ((1 : Int32) <<< (r42 &&& 31))) h.2.2
  have s_28 : ∀ (n : Nat) (mc ms : Nat) (S : XS) (a0 : Option Nat) (a1 : Option Nat) (a2 : Option Nat) (a3 : Int32) (a4 : Int32), wx_X6_first_28 Q X  n mc ms S a0 a1 a2 a3 a4 → GX E C S mc ms 28 [some (va_rf a0), some (va_rf a1), some (va_rf a2), some (.int a3), some (.int a4)] [] := by
    intro  n
    induction n with
    | zero =>
      intro mc ms S a0 a1 a2 a3 a4 h
      exact False.elim h
    | succ n ih =>
      intro mc ms S a0 a1 a2 a3 a4 h
      refine g_aload_nR hC dX6_first_28 rfl ?_
      obtain ⟨u17, eu17, h⟩ := h
      refine g_top0 eu17 ?_
      have hk18 := h.1
      refine gX_ni hX (gX_runV (As := []) (rest := []) (Cr := RX6) hC hX (mx_X6_useHere (cx_l C) E _ _ _ h.2) (lw_V q729 q731 qs11 q86 q732) hx_X6_useHere rfl rfl (Or.inl (Nat.le_of_ble_eq_true rfl)) ⟨Nat.le_of_ble_eq_true rfl, Nat.le_of_ble_eq_true rfl⟩ dX6_first_29 (Nat.zero_le _) (Nat.zero_le _) hk18 rfl (by decide) rfl) rfl rfl ?_
      intro r20 S19 h
      refine g_ldc (v := -1000000) hC dX6_first_32 q485 ?_
      refine g_icmp_eq (tgt := 83) hC dX6_first_34 (by decide) (fun c => ?_) (fun c => ?_)
      · have h := it_p c h
        refine g_aload_nR hC dX6_first_83 rfl ?_
        refine g_aload_nR hC dX6_first_84 rfl ?_
        refine g_iload_n hC dX6_first_85 rfl ?_
        obtain ⟨u21, eu21, h⟩ := h
        refine g_top2 eu21 ?_
        have hk22 := h.1
        obtain ⟨k23, n24, hk23, hn24, h⟩ := h.2
        refine gX_cv hX (gX_runV (As := [va_rf a2, .int a3]) (rest := []) (Cr := RX2) hC hX (mx_X2_first (cx_l C) E k23 n24 _ _ _ _ _ h) (lw_V q739 q740 q741 q75 q742) hx_X2_first rfl rfl (Or.inl (Nat.le_of_ble_eq_true rfl)) ⟨Nat.le_of_ble_eq_true rfl, Nat.le_of_ble_eq_true rfl⟩ dX6_first_86 hk23 hn24 hk22 rfl (by decide) rfl) hk23 hn24 ?_
        intro S25 h
        refine gX_end hQ (gX_vret (C := cx_to C _) hC hA rfl rfl dX6_first_89 h)
      · have h := it_n c h
        refine g_aload_nR hC dX6_first_37 rfl ?_
        refine g_iload hC dX6_first_38 rfl ?_
        refine g_aload_nR hC dX6_first_40 rfl ?_
        refine g_top0 eu17 ?_
        have hk27 := h.1
        refine gX_ni hX (gX_runV (As := []) (rest := [.int a4, va_rf a0]) (Cr := RX6) hC hX (mx_X6_useHere (cx_l C) E _ _ _ h.2) (lw_V q729 q731 qs11 q86 q732) hx_X6_useHere rfl rfl (Or.inl (Nat.le_of_ble_eq_true rfl)) ⟨Nat.le_of_ble_eq_true rfl, Nat.le_of_ble_eq_true rfl⟩ dX6_first_41 (Nat.zero_le _) (Nat.zero_le _) hk27 rfl (by decide) rfl) rfl rfl ?_
        intro r29 S28 h
        refine g_ishr hC dX6_first_44 ?_
        refine g_iconst (v := 1) hC dX6_first_45 (by decide) ?_
        refine g_iand hC dX6_first_46 ?_
        refine g_if_ne (tgt := 54) hC dX6_first_47 (by decide) (fun c => ?_) (fun c => ?_)
        · have h := it_n c h
          refine g_iconst (v := 0) hC dX6_first_54 (by decide) ?_
          exact s_55 (wx_X6_first_28 Q X n) ih mc ms S28 a0 a1 a2 a3 a4 a0 (0 : Int32) h
        · have h := it_p c h
          refine g_iconst (v := 1) hC dX6_first_50 (by decide) ?_
          refine g_goto (tgt := 55) hC dX6_first_51 (by decide) ?_
          exact s_55 (wx_X6_first_28 Q X n) ih mc ms S28 a0 a1 a2 a3 a4 a0 (1 : Int32) h
  have s_24 : ∀ (mc ms : Nat) (S : XS) (a0 : Option Nat) (a1 : Option Nat) (a2 : Option Nat) (a3 : Int32) (a4 : Int32) (s0 : Option Nat) (s1 : Int32), wx_X6_first_24 Q X  mc ms S a0 a1 a2 a3 a4 s0 s1 → GX E C S mc ms 24 [some (va_rf a0), some (va_rf a1), some (va_rf a2), some (.int a3), some (.int a4)] [.int s1, va_rf s0] := by
    intro  mc ms S a0 a1 a2 a3 a4 s0 s1 h
    refine g_iconst (v := 1) hC dX6_first_24 (by decide) ?_
    obtain ⟨u8, eu8, h⟩ := h
    refine g_top2 eu8 ?_
    have hk9 := h.1
    obtain ⟨k10, n11, hk10, hn11, h⟩ := h.2
    refine gX_xv hX (gX_xrunV (As := [.int s1, .int (1 : Int32)]) (rest := []) (Cr := RX6) hC hX (mx_X6_must (cx_l C) E k10 n11 _ _ _ _ _ _ h) (lw_V q688 q690 qs8 q86 q691) hx_X6_must rfl rfl (Or.inl (Nat.le_of_ble_eq_true rfl)) ⟨Nat.le_of_ble_eq_true rfl, Nat.le_of_ble_eq_true rfl⟩ dX6_first_25 hk10 hn11 hk9 rfl (by decide) rfl) hk10 hn11 (fun q12 S13 h hk14 => ?_) ?_
    · exact gT_out (r := (RX7, TX7, 8)) hC hX hT hA hQ hk14 rfl (by decide) h
    intro S15 h
    obtain ⟨n0, h0⟩ := h
    exact s_28 n0 (mc - k10) (ms - n11) S15 a0 a1 a2 a3 a4 h0
  refine g_iconst (v := 5) hC dX6_first_0 (by decide) ?_
  refine gX_newi hC hX dX6_first_1 q163 h.1 h.2.1 h.2.2.1 h.2.2.2.1 ?_
  intro q1 hq2
  have h := h.2.2.2.2 q1 hq2
  have hk3 : xKD (sNewA S q1 100 (Int32.toNatClampNeg (5 : Int32))) q1 = some 100 := kd_selfA
  refine g_astore_nR hC dX6_first_3 rfl (by decide) (lx_okR (j := 1) rfl) rfl ?_
  refine g_iconst (v := 0) hC dX6_first_4 (by decide) ?_
  refine g_istore_n hC dX6_first_5 rfl (by decide) (lx_okR (j := 2) rfl) rfl ?_
  refine g_iconst (v := 0) hC dX6_first_6 (by decide) ?_
  refine g_istore hC dX6_first_7 (by decide) rfl rfl ?_
  refine g_aload_nR hC dX6_first_9 rfl ?_
  refine g_aload_nR hC dX6_first_10 rfl ?_
  obtain ⟨u4, eu4, h⟩ := h
  refine g_top0 eu4 ?_
  have hk5 := h.1
  refine gX_ni hX (gX_runV (As := []) (rest := [va_rf x0]) (Cr := RX6) hC hX (mx_X6_useHere (cx_l C) E _ _ _ h.2) (lw_V q729 q731 qs11 q86 q732) hx_X6_useHere rfl rfl (Or.inl (Nat.le_of_ble_eq_true rfl)) ⟨Nat.le_of_ble_eq_true rfl, Nat.le_of_ble_eq_true rfl⟩ dX6_first_11 (Nat.zero_le _) (Nat.zero_le _) hk5 rfl (by decide) rfl) rfl rfl ?_
  intro r7 S6 h
  refine g_ldc (v := -1000000) hC dX6_first_14 q485 ?_
  refine g_icmp_eq (tgt := 23) hC dX6_first_16 (by decide) (fun c => ?_) (fun c => ?_)
  · have h := it_p c h
    refine g_iconst (v := 0) hC dX6_first_23 (by decide) ?_
    exact s_24 (mc - 1) (ms - (Int32.toNatClampNeg (5 : Int32))) S6 x0 x1 (some q1) (0 : Int32) (0 : Int32) x0 (0 : Int32) h
  · have h := it_n c h
    refine g_iconst (v := 1) hC dX6_first_19 (by decide) ?_
    refine g_goto (tgt := 24) hC dX6_first_20 (by decide) ?_
    exact s_24 (mc - 1) (ms - (Int32.toNatClampNeg (5 : Int32))) S6 x0 x1 (some q1) (0 : Int32) (0 : Int32) x0 (1 : Int32) h
theorem mx_X6_first (l : Launch) (E : XE) (mc ms : Nat) (Q : XS → Prop) (X : Nat → XS → Prop) (S : XS) (x0 : Option Nat) (x1 : Option Nat) (h : wx_X6_first Q X mc ms S x0 x1) : XMetX E l yX6_first cX6_first 5 none ({ frames := 9, cells := mc, slots := ms, locals := 209 } : Room) [va_rf x0, va_rf x1] S (fun sz => va_Qv Q (BX1 E S sz) (xA S sz)) RX7 6 X :=
  XMetX_of (rm := ({ frames := 9, cells := mc, slots := ms, locals := 209 } : Room)) (by decide) (by simp [lg_sl, va_rf_cat, cat_i, cat_l]) (L0 := [some (va_rf x0), some (va_rf x1), none, none, none]) (by simp [lx_pairs, lv_args, va_rf_cat, cat_i, cat_l, List.range_succ]) (fun sz C hC hX hl hnm hT hA hQ => bx_X6_first E C S sz Q X mc ms S x0 x1 hC hX hT hA hQ h)
