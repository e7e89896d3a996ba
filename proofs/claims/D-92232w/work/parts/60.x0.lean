/-! J3_init_2_k3 -/
def wx_J3_init_2_k3_41 (Q : XS → Prop) (S : XS) (a0 : Option Nat) (a1 : Option Nat) (a2 : Option Nat) (a3 : Int32) : Prop :=
  dr a0 (fun u3 => xKD S u3 = some 3 ∧ (if a3 = 0 then Q (sFR (sFR (sFR S 5003 u3 a1) 5000 u3 a2) 5002 u3 none) else Q (sFR (sFR S 5003 u3 a1) 5000 u3 a2)))
def wx_J3_init_2_k3 (Q : XS → Prop) (S : XS) (x0 : Option Nat) (x1 : Option Nat) (x2 : Option Nat) (x3 : Int32) (x4 : Int32) : Prop :=
  dr x0 (fun u1 => xKD S u1 = some 3 ∧ (if x4 = 0 then wx_J3_init_2_k3_41 Q (sFR (sFR (sFR (sFR S 5000 u1 x0) 5001 u1 (some (xST (sFR S 5000 u1 x0) 3))) 5002 u1 (some (xST (sFR (sFR S 5000 u1 x0) 5001 u1 (some (xST (sFR S 5000 u1 x0) 3))) 4))) 5001 u1 none) x0 x1 x2 x3 else False))
theorem hx_J3_init_2_k3 : yJ3_init_2.cls = RJ3 ∧ yJ3_init_2.cls ≠ "java/lang/invoke/MethodHandle" ∧ yJ3_init_2.cls ≠ "java/lang/invoke/VarHandle" ∧ (parseMethodDescriptor yJ3_init_2.desc).map (fun d => d.parameters.length) = some 4 := by decide +kernel
set_option maxHeartbeats 4000000 in
set_option maxRecDepth 100000 in
theorem bx_J3_init_2_k3 (E : XE) (C : Cx) (S0 : XS) (sz : Nat) (Q : XS → Prop) (S : XS) (x0 : Option Nat) (x1 : Option Nat) (x2 : Option Nat) (x3 : Int32) (x4 : Int32) (hC : COk C cJ3_init_2 RJ3 none 1 34 5) (hX : XOk E C) (hA : cx_A C = xA S0 sz) (hini : (cx_h C).name = "<init>") (hQ : cx_Q C = MQ (cx_b C) (va_Qv Q (BX1 E S0 sz) (xA S0 sz)) (cx_a C) (cx_s C) (cx_MC C) (cx_MS C) (xA S0 sz)) (h : wx_J3_init_2_k3 Q S x0 x1 x2 x3 x4) : GX E C S 0 0 0 [some (va_rf x0), some (va_rf x1), some (va_rf x2), some (.int x3), some (.int x4)] [] := by
  have s_41 : ∀ (S : XS) (a0 : Option Nat) (a1 : Option Nat) (a2 : Option Nat) (a3 : Int32), wx_J3_init_2_k3_41 Q  S a0 a1 a2 a3 → GX E C S 0 0 41 [some (va_rf a0), some (va_rf a1), some (va_rf a2), some (.int a3), none] [] := by
    intro  S a0 a1 a2 a3 h
    refine g_aload_nR hC dJ3_init_2_41 rfl ?_
    refine g_aload_nR hC dJ3_init_2_42 rfl ?_
    obtain ⟨u3, eu3, h⟩ := h
    refine g_top1 eu3 ?_
    have hk4 := h.1
    refine gX_putR (C0 := RX4) (T := TX4) (ty0 := tyX4) (N := 7) (n := 3) (k := 3) (f := 5003) hC hX dJ3_init_2_43 q329 rfl in_X4 tyX4_ok nmX4 (by decide) (Or.inl rfl) rfl rfl (narrow_rf (Or.inl ⟨_, rfl⟩) _) (fits_rf (Or.inl ⟨_, rfl⟩) _) rfl (by decide) (Or.inl (by decide)) hk4 ?_
    refine g_aload_nR hC dJ3_init_2_46 rfl ?_
    refine g_aload_nR hC dJ3_init_2_47 rfl ?_
    refine g_top1 eu3 ?_
    refine gX_putR (C0 := RX4) (T := TX4) (ty0 := tyX4) (N := 7) (n := 3) (k := 0) (f := 5000) hC hX dJ3_init_2_48 q330 rfl in_X4 tyX4_ok nmX4 (by decide) (Or.inl rfl) rfl rfl (narrow_rf (Or.inl ⟨_, rfl⟩) _) (fits_rf (Or.inl ⟨_, rfl⟩) _) rfl (by decide) (Or.inl (by decide)) hk4 ?_
    refine g_iload_n hC dJ3_init_2_51 rfl ?_
    refine g_if_ne (tgt := 60) hC dJ3_init_2_52 (by decide) (fun c => ?_) (fun c => ?_)
    · have h := it_n c h.2
      refine gX_vret hC hA hQ rfl dJ3_init_2_60 h
    · have h := it_p c h.2
      refine g_aload_nR hC dJ3_init_2_55 rfl ?_
      refine g_nullR hC dJ3_init_2_56 ?_
      refine g_top1 eu3 ?_
      refine gX_putR (C0 := RX4) (T := TX4) (ty0 := tyX4) (N := 7) (n := 3) (k := 2) (f := 5002) hC hX dJ3_init_2_57 q332 rfl in_X4 tyX4_ok nmX4 (by decide) (Or.inl rfl) rfl rfl (narrow_rf (Or.inl ⟨_, rfl⟩) _) (fits_rf (Or.inl ⟨_, rfl⟩) _) rfl (by decide) (Or.inl (by decide)) hk4 ?_
      refine gX_vret hC hA hQ rfl dJ3_init_2_60 h
  refine g_aload_nR hC dJ3_init_2_0 rfl ?_
  obtain ⟨u1, eu1, h⟩ := h
  refine g_top0 eu1 ?_
  refine gX_oinit hC dJ3_init_2_1 q299 q115 q116 (Nat.le_of_ble_eq_true rfl) (by decide) (by decide) ?_
  refine g_aload_nR hC dJ3_init_2_4 rfl ?_
  refine g_aload_nR hC dJ3_init_2_5 rfl ?_
  refine g_top1 eu1 ?_
  have hk2 := h.1
  refine gX_putR (C0 := RX4) (T := TX4) (ty0 := tyX4) (N := 7) (n := 3) (k := 0) (f := 5000) hC hX dJ3_init_2_6 q330 rfl in_X4 tyX4_ok nmX4 (by decide) (Or.inl rfl) rfl rfl (narrow_rf (Or.inl ⟨_, rfl⟩) _) (fits_rf (Or.inl ⟨_, rfl⟩) _) rfl (by decide) (Or.inl (by decide)) hk2 ?_
  refine g_aload_nR hC dJ3_init_2_9 rfl ?_
  refine gX_gets (j := 3) hC hX dJ3_init_2_10 (List.mem_of_getElem? (i := 2) rfl) q300 rfl ?_
  refine g_top1 eu1 ?_
  refine gX_putR (C0 := RX4) (T := TX4) (ty0 := tyX4) (N := 7) (n := 3) (k := 1) (f := 5001) hC hX dJ3_init_2_13 q331 rfl in_X4 tyX4_ok nmX4 (by decide) (Or.inl rfl) rfl rfl (narrow_rf (Or.inr ⟨_, rfl⟩) _) (fits_rf (Or.inr ⟨_, rfl⟩) _) rfl (by decide) (Or.inl (by decide)) hk2 ?_
  refine g_aload_nR hC dJ3_init_2_16 rfl ?_
  refine gX_gets (j := 4) hC hX dJ3_init_2_17 (List.mem_of_getElem? (i := 3) rfl) q302 rfl ?_
  refine g_top1 eu1 ?_
  refine gX_putR (C0 := RX4) (T := TX4) (ty0 := tyX4) (N := 7) (n := 3) (k := 2) (f := 5002) hC hX dJ3_init_2_20 q332 rfl in_X4 tyX4_ok nmX4 (by decide) (Or.inl rfl) rfl rfl (narrow_rf (Or.inl ⟨_, rfl⟩) _) (fits_rf (Or.inl ⟨_, rfl⟩) _) rfl (by decide) (Or.inl (by decide)) hk2 ?_
  refine g_iload hC dJ3_init_2_23 rfl ?_
  refine g_if_eq (tgt := 36) hC dJ3_init_2_25 (by decide) (fun c => ?_) (fun c => ?_)
  · have h := it_p c h.2
    refine g_aload_nR hC dJ3_init_2_36 rfl ?_
    refine g_nullR hC dJ3_init_2_37 ?_
    refine g_top1 eu1 ?_
    refine gX_putR (C0 := RX4) (T := TX4) (ty0 := tyX4) (N := 7) (n := 3) (k := 1) (f := 5001) hC hX dJ3_init_2_38 q331 rfl in_X4 tyX4_ok nmX4 (by decide) (Or.inl rfl) rfl rfl (narrow_rf (Or.inr ⟨_, rfl⟩) _) (fits_rf (Or.inr ⟨_, rfl⟩) _) rfl (by decide) (Or.inl (by decide)) hk2 ?_
    refine g_sub [true, true, true, true, false] rfl ?_
    exact s_41 (sFR (sFR (sFR (sFR S 5000 u1 x0) 5001 u1 (some (xST (sFR S 5000 u1 x0) 3))) 5002 u1 (some (xST (sFR (sFR S 5000 u1 x0) 5001 u1 (some (xST (sFR S 5000 u1 x0) 3))) 4))) 5001 u1 none) x0 x1 x2 x3 h
  · have h := it_n c h.2
    refine g_aload_nR hC dJ3_init_2_28 rfl ?_
    exact False.elim h
theorem mx_J3_init_2_k3 (l : Launch) (E : XE) (Q : XS → Prop) (S : XS) (x0 : Option Nat) (x1 : Option Nat) (x2 : Option Nat) (x3 : Int32) (x4 : Int32) (h : wx_J3_init_2_k3 Q S x0 x1 x2 x3 x4) : XMet E l yJ3_init_2 cJ3_init_2 5 none ({ frames := 1, cells := 0, slots := 0, locals := 34 } : Room) [va_rf x0, va_rf x1, va_rf x2, .int x3, .int x4] S (fun sz => va_Qv Q (BX1 E S sz) (xA S sz)) :=
  XMet_of (rm := ({ frames := 1, cells := 0, slots := 0, locals := 34 } : Room)) (by decide) (by simp [lg_sl, va_rf_cat, cat_i, cat_l]) (L0 := [some (va_rf x0), some (va_rf x1), some (va_rf x2), some (.int x3), some (.int x4)]) (by simp [lx_pairs, lv_args, va_rf_cat, cat_i, cat_l, List.range_succ]) (fun sz C hC hX hl hnm hA hQ => bx_J3_init_2_k3 E C S sz Q S x0 x1 x2 x3 x4 hC hX hA hnm hQ h)
/-! J3_init_2_k6 -/
def wx_J3_init_2_k6_41 (Q : XS → Prop) (S : XS) (a0 : Option Nat) (a1 : Option Nat) (a2 : Option Nat) (a3 : Int32) : Prop :=
  dr a0 (fun u3 => xKD S u3 = some 6 ∧ (if a3 = 0 then Q (sFR (sFR (sFR S 5003 u3 a1) 5000 u3 a2) 5002 u3 none) else Q (sFR (sFR S 5003 u3 a1) 5000 u3 a2)))
def wx_J3_init_2_k6 (Q : XS → Prop) (S : XS) (x0 : Option Nat) (x1 : Option Nat) (x2 : Option Nat) (x3 : Int32) (x4 : Int32) : Prop :=
  dr x0 (fun u1 => xKD S u1 = some 6 ∧ (if x4 = 0 then wx_J3_init_2_k6_41 Q (sFR (sFR (sFR (sFR S 5000 u1 x0) 5001 u1 (some (xST (sFR S 5000 u1 x0) 3))) 5002 u1 (some (xST (sFR (sFR S 5000 u1 x0) 5001 u1 (some (xST (sFR S 5000 u1 x0) 3))) 4))) 5001 u1 none) x0 x1 x2 x3 else False))
theorem hx_J3_init_2_k6 : yJ3_init_2.cls = RJ3 ∧ yJ3_init_2.cls ≠ "java/lang/invoke/MethodHandle" ∧ yJ3_init_2.cls ≠ "java/lang/invoke/VarHandle" ∧ (parseMethodDescriptor yJ3_init_2.desc).map (fun d => d.parameters.length) = some 4 := by decide +kernel
set_option maxHeartbeats 4000000 in
set_option maxRecDepth 100000 in
theorem bx_J3_init_2_k6 (E : XE) (C : Cx) (S0 : XS) (sz : Nat) (Q : XS → Prop) (S : XS) (x0 : Option Nat) (x1 : Option Nat) (x2 : Option Nat) (x3 : Int32) (x4 : Int32) (hC : COk C cJ3_init_2 RJ3 none 1 34 5) (hX : XOk E C) (hA : cx_A C = xA S0 sz) (hini : (cx_h C).name = "<init>") (hQ : cx_Q C = MQ (cx_b C) (va_Qv Q (BX1 E S0 sz) (xA S0 sz)) (cx_a C) (cx_s C) (cx_MC C) (cx_MS C) (xA S0 sz)) (h : wx_J3_init_2_k6 Q S x0 x1 x2 x3 x4) : GX E C S 0 0 0 [some (va_rf x0), some (va_rf x1), some (va_rf x2), some (.int x3), some (.int x4)] [] := by
  have s_41 : ∀ (S : XS) (a0 : Option Nat) (a1 : Option Nat) (a2 : Option Nat) (a3 : Int32), wx_J3_init_2_k6_41 Q  S a0 a1 a2 a3 → GX E C S 0 0 41 [some (va_rf a0), some (va_rf a1), some (va_rf a2), some (.int a3), none] [] := by
    intro  S a0 a1 a2 a3 h
    refine g_aload_nR hC dJ3_init_2_41 rfl ?_
    refine g_aload_nR hC dJ3_init_2_42 rfl ?_
    obtain ⟨u3, eu3, h⟩ := h
    refine g_top1 eu3 ?_
    have hk4 := h.1
    refine gX_putR (C0 := RX7) (T := TX7) (ty0 := tyX7) (N := 8) (n := 6) (k := 3) (f := 5003) hC hX dJ3_init_2_43 q329 rfl in_X7 tyX7_ok nmX7 (by decide) (Or.inl rfl) rfl rfl (narrow_rf (Or.inl ⟨_, rfl⟩) _) (fits_rf (Or.inl ⟨_, rfl⟩) _) rfl (by decide) (Or.inl (by decide)) hk4 ?_
    refine g_aload_nR hC dJ3_init_2_46 rfl ?_
    refine g_aload_nR hC dJ3_init_2_47 rfl ?_
    refine g_top1 eu3 ?_
    refine gX_putR (C0 := RX7) (T := TX7) (ty0 := tyX7) (N := 8) (n := 6) (k := 0) (f := 5000) hC hX dJ3_init_2_48 q330 rfl in_X7 tyX7_ok nmX7 (by decide) (Or.inl rfl) rfl rfl (narrow_rf (Or.inl ⟨_, rfl⟩) _) (fits_rf (Or.inl ⟨_, rfl⟩) _) rfl (by decide) (Or.inl (by decide)) hk4 ?_
    refine g_iload_n hC dJ3_init_2_51 rfl ?_
    refine g_if_ne (tgt := 60) hC dJ3_init_2_52 (by decide) (fun c => ?_) (fun c => ?_)
    · have h := it_n c h.2
      refine gX_vret hC hA hQ rfl dJ3_init_2_60 h
    · have h := it_p c h.2
      refine g_aload_nR hC dJ3_init_2_55 rfl ?_
      refine g_nullR hC dJ3_init_2_56 ?_
      refine g_top1 eu3 ?_
      refine gX_putR (C0 := RX7) (T := TX7) (ty0 := tyX7) (N := 8) (n := 6) (k := 2) (f := 5002) hC hX dJ3_init_2_57 q332 rfl in_X7 tyX7_ok nmX7 (by decide) (Or.inl rfl) rfl rfl (narrow_rf (Or.inl ⟨_, rfl⟩) _) (fits_rf (Or.inl ⟨_, rfl⟩) _) rfl (by decide) (Or.inl (by decide)) hk4 ?_
      refine gX_vret hC hA hQ rfl dJ3_init_2_60 h
  refine g_aload_nR hC dJ3_init_2_0 rfl ?_
  obtain ⟨u1, eu1, h⟩ := h
  refine g_top0 eu1 ?_
  refine gX_oinit hC dJ3_init_2_1 q299 q115 q116 (Nat.le_of_ble_eq_true rfl) (by decide) (by decide) ?_
  refine g_aload_nR hC dJ3_init_2_4 rfl ?_
  refine g_aload_nR hC dJ3_init_2_5 rfl ?_
  refine g_top1 eu1 ?_
  have hk2 := h.1
  refine gX_putR (C0 := RX7) (T := TX7) (ty0 := tyX7) (N := 8) (n := 6) (k := 0) (f := 5000) hC hX dJ3_init_2_6 q330 rfl in_X7 tyX7_ok nmX7 (by decide) (Or.inl rfl) rfl rfl (narrow_rf (Or.inl ⟨_, rfl⟩) _) (fits_rf (Or.inl ⟨_, rfl⟩) _) rfl (by decide) (Or.inl (by decide)) hk2 ?_
  refine g_aload_nR hC dJ3_init_2_9 rfl ?_
  refine gX_gets (j := 3) hC hX dJ3_init_2_10 (List.mem_of_getElem? (i := 2) rfl) q300 rfl ?_
  refine g_top1 eu1 ?_
  refine gX_putR (C0 := RX7) (T := TX7) (ty0 := tyX7) (N := 8) (n := 6) (k := 1) (f := 5001) hC hX dJ3_init_2_13 q331 rfl in_X7 tyX7_ok nmX7 (by decide) (Or.inl rfl) rfl rfl (narrow_rf (Or.inr ⟨_, rfl⟩) _) (fits_rf (Or.inr ⟨_, rfl⟩) _) rfl (by decide) (Or.inl (by decide)) hk2 ?_
  refine g_aload_nR hC dJ3_init_2_16 rfl ?_
  refine gX_gets (j := 4) hC hX dJ3_init_2_17 (List.mem_of_getElem? (i := 3) rfl) q302 rfl ?_
  refine g_top1 eu1 ?_
  refine gX_putR (C0 := RX7) (T := TX7) (ty0 := tyX7) (N := 8) (n := 6) (k := 2) (f := 5002) hC hX dJ3_init_2_20 q332 rfl in_X7 tyX7_ok nmX7 (by decide) (Or.inl rfl) rfl rfl (narrow_rf (Or.inl ⟨_, rfl⟩) _) (fits_rf (Or.inl ⟨_, rfl⟩) _) rfl (by decide) (Or.inl (by decide)) hk2 ?_
  refine g_iload hC dJ3_init_2_23 rfl ?_
  refine g_if_eq (tgt := 36) hC dJ3_init_2_25 (by decide) (fun c => ?_) (fun c => ?_)
  · have h := it_p c h.2
    refine g_aload_nR hC dJ3_init_2_36 rfl ?_
    refine g_nullR hC dJ3_init_2_37 ?_
    refine g_top1 eu1 ?_
    refine gX_putR (C0 := RX7) (T := TX7) (ty0 := tyX7) (N := 8) (n := 6) (k := 1) (f := 5001) hC hX dJ3_init_2_38 q331 rfl in_X7 tyX7_ok nmX7 (by decide) (Or.inl rfl) rfl rfl (narrow_rf (Or.inr ⟨_, rfl⟩) _) (fits_rf (Or.inr ⟨_, rfl⟩) _) rfl (by decide) (Or.inl (by decide)) hk2 ?_
    refine g_sub [true, true, true, true, false] rfl ?_
    exact s_41 (sFR (sFR (sFR (sFR S 5000 u1 x0) 5001 u1 (some (xST (sFR S 5000 u1 x0) 3))) 5002 u1 (some (xST (sFR (sFR S 5000 u1 x0) 5001 u1 (some (xST (sFR S 5000 u1 x0) 3))) 4))) 5001 u1 none) x0 x1 x2 x3 h
  · have h := it_n c h.2
    refine g_aload_nR hC dJ3_init_2_28 rfl ?_
    exact False.elim h
theorem mx_J3_init_2_k6 (l : Launch) (E : XE) (Q : XS → Prop) (S : XS) (x0 : Option Nat) (x1 : Option Nat) (x2 : Option Nat) (x3 : Int32) (x4 : Int32) (h : wx_J3_init_2_k6 Q S x0 x1 x2 x3 x4) : XMet E l yJ3_init_2 cJ3_init_2 5 none ({ frames := 1, cells := 0, slots := 0, locals := 34 } : Room) [va_rf x0, va_rf x1, va_rf x2, .int x3, .int x4] S (fun sz => va_Qv Q (BX1 E S sz) (xA S sz)) :=
  XMet_of (rm := ({ frames := 1, cells := 0, slots := 0, locals := 34 } : Room)) (by decide) (by simp [lg_sl, va_rf_cat, cat_i, cat_l]) (L0 := [some (va_rf x0), some (va_rf x1), some (va_rf x2), some (.int x3), some (.int x4)]) (by simp [lx_pairs, lv_args, va_rf_cat, cat_i, cat_l, List.range_succ]) (fun sz C hC hX hl hnm hA hQ => bx_J3_init_2_k6 E C S sz Q S x0 x1 x2 x3 x4 hC hX hA hnm hQ h)
/-! J4_init_k3 -/
def wx_J4_init_k3 (Q : XS → Prop) (S : XS) (x0 : Option Nat) (x1 : Option Nat) (x2 : Option Nat) (x3 : Int32) (x4 : Int32) : Prop :=
  dr x0 (fun u1 => wx_J3_init_2_k3 (fun S2 => Q S2) S (some u1) x1 x2 x3 x4)
theorem hx_J4_init_k3 : yJ4_init.cls = RJ4 ∧ yJ4_init.cls ≠ "java/lang/invoke/MethodHandle" ∧ yJ4_init.cls ≠ "java/lang/invoke/VarHandle" ∧ (parseMethodDescriptor yJ4_init.desc).map (fun d => d.parameters.length) = some 4 := by decide +kernel
set_option maxHeartbeats 4000000 in
set_option maxRecDepth 100000 in
theorem bx_J4_init_k3 (E : XE) (C : Cx) (S0 : XS) (sz : Nat) (Q : XS → Prop) (S : XS) (x0 : Option Nat) (x1 : Option Nat) (x2 : Option Nat) (x3 : Int32) (x4 : Int32) (hC : COk C cJ4_init RJ4 none 2 58 5) (hX : XOk E C) (hA : cx_A C = xA S0 sz) (hini : (cx_h C).name = "<init>") (hQ : cx_Q C = MQ (cx_b C) (va_Qv Q (BX1 E S0 sz) (xA S0 sz)) (cx_a C) (cx_s C) (cx_MC C) (cx_MS C) (xA S0 sz)) (h : wx_J4_init_k3 Q S x0 x1 x2 x3 x4) : GX E C S 0 0 0 [some (va_rf x0), some (va_rf x1), some (va_rf x2), some (.int x3), some (.int x4)] [] := by
  refine g_aload_nR hC dJ4_init_0 rfl ?_
  refine g_aload_nR hC dJ4_init_1 rfl ?_
  refine g_aload_nR hC dJ4_init_2 rfl ?_
  refine g_iload_n hC dJ4_init_3 rfl ?_
  refine g_iload hC dJ4_init_4 rfl ?_
  obtain ⟨u1, eu1, h⟩ := h
  refine g_top4 eu1 ?_
  refine gX_nv hX (gX_runI (As := [va_rf x1, va_rf x2, .int x3, .int x4]) (rest := []) hC hX (mx_J3_init_2_k3 (cx_l C) E _ _ _ _ _ _ _ h) q325 q77 q323 q324 rfl hx_J3_init_2_k3.2 rfl rfl (Or.inl (Nat.le_of_ble_eq_true rfl)) ⟨Nat.le_of_ble_eq_true rfl, Nat.le_of_ble_eq_true rfl⟩ dJ4_init_6 (Nat.zero_le _) (Nat.zero_le _)) rfl rfl ?_
  intro S2 h
  refine gX_vret hC hA hQ rfl dJ4_init_9 h
theorem mx_J4_init_k3 (l : Launch) (E : XE) (Q : XS → Prop) (S : XS) (x0 : Option Nat) (x1 : Option Nat) (x2 : Option Nat) (x3 : Int32) (x4 : Int32) (h : wx_J4_init_k3 Q S x0 x1 x2 x3 x4) : XMet E l yJ4_init cJ4_init 5 none ({ frames := 2, cells := 0, slots := 0, locals := 58 } : Room) [va_rf x0, va_rf x1, va_rf x2, .int x3, .int x4] S (fun sz => va_Qv Q (BX1 E S sz) (xA S sz)) :=
  XMet_of (rm := ({ frames := 2, cells := 0, slots := 0, locals := 58 } : Room)) (by decide) (by simp [lg_sl, va_rf_cat, cat_i, cat_l]) (L0 := [some (va_rf x0), some (va_rf x1), some (va_rf x2), some (.int x3), some (.int x4)]) (by simp [lx_pairs, lv_args, va_rf_cat, cat_i, cat_l, List.range_succ]) (fun sz C hC hX hl hnm hA hQ => bx_J4_init_k3 E C S sz Q S x0 x1 x2 x3 x4 hC hX hA hnm hQ h)
/-! J4_init_k6 -/
def wx_J4_init_k6 (Q : XS → Prop) (S : XS) (x0 : Option Nat) (x1 : Option Nat) (x2 : Option Nat) (x3 : Int32) (x4 : Int32) : Prop :=
  dr x0 (fun u1 => wx_J3_init_2_k6 (fun S2 => Q S2) S (some u1) x1 x2 x3 x4)
theorem hx_J4_init_k6 : yJ4_init.cls = RJ4 ∧ yJ4_init.cls ≠ "java/lang/invoke/MethodHandle" ∧ yJ4_init.cls ≠ "java/lang/invoke/VarHandle" ∧ (parseMethodDescriptor yJ4_init.desc).map (fun d => d.parameters.length) = some 4 := by decide +kernel
set_option maxHeartbeats 4000000 in
set_option maxRecDepth 100000 in
theorem bx_J4_init_k6 (E : XE) (C : Cx) (S0 : XS) (sz : Nat) (Q : XS → Prop) (S : XS) (x0 : Option Nat) (x1 : Option Nat) (x2 : Option Nat) (x3 : Int32) (x4 : Int32) (hC : COk C cJ4_init RJ4 none 2 58 5) (hX : XOk E C) (hA : cx_A C = xA S0 sz) (hini : (cx_h C).name = "<init>") (hQ : cx_Q C = MQ (cx_b C) (va_Qv Q (BX1 E S0 sz) (xA S0 sz)) (cx_a C) (cx_s C) (cx_MC C) (cx_MS C) (xA S0 sz)) (h : wx_J4_init_k6 Q S x0 x1 x2 x3 x4) : GX E C S 0 0 0 [some (va_rf x0), some (va_rf x1), some (va_rf x2), some (.int x3), some (.int x4)] [] := by
  refine g_aload_nR hC dJ4_init_0 rfl ?_
  refine g_aload_nR hC dJ4_init_1 rfl ?_
  refine g_aload_nR hC dJ4_init_2 rfl ?_
  refine g_iload_n hC dJ4_init_3 rfl ?_
  refine g_iload hC dJ4_init_4 rfl ?_
  obtain ⟨u1, eu1, h⟩ := h
  refine g_top4 eu1 ?_
  refine gX_nv hX (gX_runI (As := [va_rf x1, va_rf x2, .int x3, .int x4]) (rest := []) hC hX (mx_J3_init_2_k6 (cx_l C) E _ _ _ _ _ _ _ h) q325 q77 q323 q324 rfl hx_J3_init_2_k6.2 rfl rfl (Or.inl (Nat.le_of_ble_eq_true rfl)) ⟨Nat.le_of_ble_eq_true rfl, Nat.le_of_ble_eq_true rfl⟩ dJ4_init_6 (Nat.zero_le _) (Nat.zero_le _)) rfl rfl ?_
  intro S2 h
  refine gX_vret hC hA hQ rfl dJ4_init_9 h
theorem mx_J4_init_k6 (l : Launch) (E : XE) (Q : XS → Prop) (S : XS) (x0 : Option Nat) (x1 : Option Nat) (x2 : Option Nat) (x3 : Int32) (x4 : Int32) (h : wx_J4_init_k6 Q S x0 x1 x2 x3 x4) : XMet E l yJ4_init cJ4_init 5 none ({ frames := 2, cells := 0, slots := 0, locals := 58 } : Room) [va_rf x0, va_rf x1, va_rf x2, .int x3, .int x4] S (fun sz => va_Qv Q (BX1 E S sz) (xA S sz)) :=
  XMet_of (rm := ({ frames := 2, cells := 0, slots := 0, locals := 58 } : Room)) (by decide) (by simp [lg_sl, va_rf_cat, cat_i, cat_l]) (L0 := [some (va_rf x0), some (va_rf x1), some (va_rf x2), some (.int x3), some (.int x4)]) (by simp [lx_pairs, lv_args, va_rf_cat, cat_i, cat_l, List.range_succ]) (fun sz C hC hX hl hnm hA hQ => bx_J4_init_k6 E C S sz Q S x0 x1 x2 x3 x4 hC hX hA hnm hQ h)
/-! J0_init -/
def wx_J0_init (Q : XS → Prop) (S : XS) (x0 : Option Nat) : Prop :=
  dr x0 (fun u1 => Q S)
theorem hx_J0_init : yJ0_init.cls = RJ0 ∧ yJ0_init.cls ≠ "java/lang/invoke/MethodHandle" ∧ yJ0_init.cls ≠ "java/lang/invoke/VarHandle" ∧ (parseMethodDescriptor yJ0_init.desc).map (fun d => d.parameters.length) = some 0 := by decide +kernel
set_option maxHeartbeats 4000000 in
set_option maxRecDepth 100000 in
theorem bx_J0_init (E : XE) (C : Cx) (S0 : XS) (sz : Nat) (Q : XS → Prop) (S : XS) (x0 : Option Nat) (hC : COk C cJ0_init RJ0 none 1 34 1) (hX : XOk E C) (hA : cx_A C = xA S0 sz) (hini : (cx_h C).name = "<init>") (hQ : cx_Q C = MQ (cx_b C) (va_Qv Q (BX1 E S0 sz) (xA S0 sz)) (cx_a C) (cx_s C) (cx_MC C) (cx_MS C) (xA S0 sz)) (h : wx_J0_init Q S x0) : GX E C S 0 0 0 [some (va_rf x0)] [] := by
  refine g_aload_nR hC dJ0_init_0 rfl ?_
  obtain ⟨u1, eu1, h⟩ := h
  refine g_top0 eu1 ?_
  refine gX_oinit hC dJ0_init_1 q132 q115 q116 (Nat.le_of_ble_eq_true rfl) (by decide) (by decide) ?_
  refine gX_vret hC hA hQ rfl dJ0_init_4 h
theorem mx_J0_init (l : Launch) (E : XE) (Q : XS → Prop) (S : XS) (x0 : Option Nat) (h : wx_J0_init Q S x0) : XMet E l yJ0_init cJ0_init 1 none ({ frames := 1, cells := 0, slots := 0, locals := 34 } : Room) [va_rf x0] S (fun sz => va_Qv Q (BX1 E S sz) (xA S sz)) :=
  XMet_of (rm := ({ frames := 1, cells := 0, slots := 0, locals := 34 } : Room)) (by decide) (by simp [lg_sl, va_rf_cat, cat_i, cat_l]) (L0 := [some (va_rf x0)]) (by simp [lx_pairs, lv_args, va_rf_cat, cat_i, cat_l, List.range_succ]) (fun sz C hC hX hl hnm hA hQ => bx_J0_init E C S sz Q S x0 hC hX hA hnm hQ h)
/-! J1_init -/
def wx_J1_init (Q : XS → Prop) (S : XS) (x0 : Option Nat) : Prop :=
  dr x0 (fun u1 => wx_J0_init (fun S2 => xKD S2 u1 = some 16 ∧ Q (sFI S2 5100 u1 (0 : Int32))) S (some u1))
theorem hx_J1_init : yJ1_init.cls = RJ1 ∧ yJ1_init.cls ≠ "java/lang/invoke/MethodHandle" ∧ yJ1_init.cls ≠ "java/lang/invoke/VarHandle" ∧ (parseMethodDescriptor yJ1_init.desc).map (fun d => d.parameters.length) = some 0 := by decide +kernel
set_option maxHeartbeats 4000000 in
set_option maxRecDepth 100000 in
theorem bx_J1_init (E : XE) (C : Cx) (S0 : XS) (sz : Nat) (Q : XS → Prop) (S : XS) (x0 : Option Nat) (hC : COk C cJ1_init RJ1 none 2 54 1) (hX : XOk E C) (hA : cx_A C = xA S0 sz) (hini : (cx_h C).name = "<init>") (hQ : cx_Q C = MQ (cx_b C) (va_Qv Q (BX1 E S0 sz) (xA S0 sz)) (cx_a C) (cx_s C) (cx_MC C) (cx_MS C) (xA S0 sz)) (h : wx_J1_init Q S x0) : GX E C S 0 0 0 [some (va_rf x0)] [] := by
  refine g_aload_nR hC dJ1_init_0 rfl ?_
  obtain ⟨u1, eu1, h⟩ := h
  refine g_top0 eu1 ?_
  refine gX_nv hX (gX_runI (As := []) (rest := []) hC hX (mx_J0_init (cx_l C) E _ _ _ h) q131 q71 q129 q130 rfl hx_J0_init.2 rfl rfl (Or.inl (Nat.le_of_ble_eq_true rfl)) ⟨Nat.le_of_ble_eq_true rfl, Nat.le_of_ble_eq_true rfl⟩ dJ1_init_1 (Nat.zero_le _) (Nat.zero_le _)) rfl rfl ?_
  intro S2 h
  refine g_aload_nR hC dJ1_init_4 rfl ?_
  refine g_iconst (v := 0) hC dJ1_init_5 (by decide) ?_
  refine g_top1 eu1 ?_
  have hk4 := h.1
  refine gX_putI (C0 := RJ2) (T := TJ2) (ty0 := tyJ2) (N := 3) (n := 16) (k := 0) (f := 5100) hC hX dJ1_init_6 q137 rfl in_J2 tyJ2_ok nmJ2 (by decide) (Or.inl rfl) rfl rfl rfl rfl rfl (by decide) (Or.inl (by decide)) hk4 ?_
  refine gX_vret hC hA hQ rfl dJ1_init_9 h.2
theorem mx_J1_init (l : Launch) (E : XE) (Q : XS → Prop) (S : XS) (x0 : Option Nat) (h : wx_J1_init Q S x0) : XMet E l yJ1_init cJ1_init 1 none ({ frames := 2, cells := 0, slots := 0, locals := 54 } : Room) [va_rf x0] S (fun sz => va_Qv Q (BX1 E S sz) (xA S sz)) :=
  XMet_of (rm := ({ frames := 2, cells := 0, slots := 0, locals := 54 } : Room)) (by decide) (by simp [lg_sl, va_rf_cat, cat_i, cat_l]) (L0 := [some (va_rf x0)]) (by simp [lx_pairs, lv_args, va_rf_cat, cat_i, cat_l, List.range_succ]) (fun sz C hC hX hl hnm hA hQ => bx_J1_init E C S sz Q S x0 hC hX hA hnm hQ h)
/-! J2_init -/
def wx_J2_init (Q : XS → Prop) (S : XS) (x0 : Option Nat) : Prop :=
  dr x0 (fun u1 => wx_J1_init (fun S2 => xKD S2 u1 = some 16 ∧ Q (sFR S2 1600 u1 (some (xST S2 0)))) S (some u1))
theorem hx_J2_init : yJ2_init.cls = RJ2 ∧ yJ2_init.cls ≠ "java/lang/invoke/MethodHandle" ∧ yJ2_init.cls ≠ "java/lang/invoke/VarHandle" ∧ (parseMethodDescriptor yJ2_init.desc).map (fun d => d.parameters.length) = some 0 := by decide +kernel
set_option maxHeartbeats 4000000 in
set_option maxRecDepth 100000 in
theorem bx_J2_init (E : XE) (C : Cx) (S0 : XS) (sz : Nat) (Q : XS → Prop) (S : XS) (x0 : Option Nat) (hC : COk C cJ2_init RJ2 none 3 74 1) (hX : XOk E C) (hA : cx_A C = xA S0 sz) (hini : (cx_h C).name = "<init>") (hQ : cx_Q C = MQ (cx_b C) (va_Qv Q (BX1 E S0 sz) (xA S0 sz)) (cx_a C) (cx_s C) (cx_MC C) (cx_MS C) (xA S0 sz)) (h : wx_J2_init Q S x0) : GX E C S 0 0 0 [some (va_rf x0)] [] := by
  refine g_aload_nR hC dJ2_init_0 rfl ?_
  obtain ⟨u1, eu1, h⟩ := h
  refine g_top0 eu1 ?_
  refine gX_nv hX (gX_runI (As := []) (rest := []) hC hX (mx_J1_init (cx_l C) E _ _ _ h) q128 q72 q126 q127 rfl hx_J1_init.2 rfl rfl (Or.inl (Nat.le_of_ble_eq_true rfl)) ⟨Nat.le_of_ble_eq_true rfl, Nat.le_of_ble_eq_true rfl⟩ dJ2_init_1 (Nat.zero_le _) (Nat.zero_le _)) rfl rfl ?_
  intro S2 h
  refine g_aload_nR hC dJ2_init_4 rfl ?_
  refine gX_gets (j := 0) hC hX dJ2_init_5 (List.mem_of_getElem? (i := 0) rfl) q133 rfl ?_
  refine g_top1 eu1 ?_
  have hk4 := h.1
  refine gX_putR (C0 := RJ2) (T := TJ2) (ty0 := tyJ2) (N := 3) (n := 16) (k := 1) (f := 1600) hC hX dJ2_init_8 q135 rfl in_J2 tyJ2_ok nmJ2 (by decide) (Or.inl rfl) rfl rfl (narrow_rf (Or.inr ⟨_, rfl⟩) _) (fits_rf (Or.inr ⟨_, rfl⟩) _) rfl (by decide) (Or.inl (by decide)) hk4 ?_
  refine gX_vret hC hA hQ rfl dJ2_init_11 h.2
theorem mx_J2_init (l : Launch) (E : XE) (Q : XS → Prop) (S : XS) (x0 : Option Nat) (h : wx_J2_init Q S x0) : XMet E l yJ2_init cJ2_init 1 none ({ frames := 3, cells := 0, slots := 0, locals := 74 } : Room) [va_rf x0] S (fun sz => va_Qv Q (BX1 E S sz) (xA S sz)) :=
  XMet_of (rm := ({ frames := 3, cells := 0, slots := 0, locals := 74 } : Room)) (by decide) (by simp [lg_sl, va_rf_cat, cat_i, cat_l]) (L0 := [some (va_rf x0)]) (by simp [lx_pairs, lv_args, va_rf_cat, cat_i, cat_l, List.range_succ]) (fun sz C hC hX hl hnm hA hQ => bx_J2_init E C S sz Q S x0 hC hX hA hnm hQ h)
/-! J2_size -/
def wx_J2_size (Q : Int32 → XS → Prop) (S : XS) (x0 : Option Nat) : Prop :=
  dr x0 (fun u1 => xKD S u1 = some 16 ∧ Q (xFI S 1601 u1) S)
theorem hx_J2_size : yJ2_size.cls = RJ2 ∧ yJ2_size.cls ≠ "java/lang/invoke/MethodHandle" ∧ yJ2_size.cls ≠ "java/lang/invoke/VarHandle" ∧ (parseMethodDescriptor yJ2_size.desc).map (fun d => d.parameters.length) = some 0 := by decide +kernel
set_option maxHeartbeats 4000000 in
set_option maxRecDepth 100000 in
theorem bx_J2_size (E : XE) (C : Cx) (S0 : XS) (sz : Nat) (Q : Int32 → XS → Prop) (S : XS) (x0 : Option Nat) (hC : COk C cJ2_size RJ2 (some .int) 1 34 1) (hX : XOk E C) (hA : cx_A C = xA S0 sz) (hQ : cx_Q C = MQ (cx_b C) (va_Qi Q (BX1 E S0 sz) (xA S0 sz)) (cx_a C) (cx_s C) (cx_MC C) (cx_MS C) (xA S0 sz)) (h : wx_J2_size Q S x0) : GX E C S 0 0 0 [some (va_rf x0)] [] := by
  refine g_aload_nR hC dJ2_size_0 rfl ?_
  obtain ⟨u1, eu1, h⟩ := h
  refine g_top0 eu1 ?_
  have hk2 := h.1
  refine gX_get (C0 := RJ2) (T := TJ2) (N := 3) (n := 16) (k := 2) (q := (1601, false)) hC hX dJ2_size_1 q136 rfl in_J2 (by decide) (Or.inl rfl) rfl (by decide) hk2 ?_
  show GX _ _ _ _ _ _ _ (.int (xFI S 1601 u1) :: _)
  refine gX_iret rfl hC hA hQ dJ2_size_4 h.2
theorem mx_J2_size (l : Launch) (E : XE) (Q : Int32 → XS → Prop) (S : XS) (x0 : Option Nat) (h : wx_J2_size Q S x0) : XMet E l yJ2_size cJ2_size 1 (some .int) ({ frames := 1, cells := 0, slots := 0, locals := 34 } : Room) [va_rf x0] S (fun sz => va_Qi Q (BX1 E S sz) (xA S sz)) :=
  XMet_of (rm := ({ frames := 1, cells := 0, slots := 0, locals := 34 } : Room)) (by decide) (by simp [lg_sl, va_rf_cat, cat_i, cat_l]) (L0 := [some (va_rf x0)]) (by simp [lx_pairs, lv_args, va_rf_cat, cat_i, cat_l, List.range_succ]) (fun sz C hC hX hl hnm hA hQ => bx_J2_size E C S sz Q S x0 hC hX hA hQ h)
/-! J12_newLength -/
def wx_J12_newLength_21 (Q : Int32 → XS → Prop) (S : XS) (a0 : Int32) (a1 : Int32) : Prop :=
  False
def wx_J12_newLength (Q : Int32 → XS → Prop) (S : XS) (x0 : Int32) (x1 : Int32) (x2 : Int32) : Prop :=
  (if (x0 + (if x1 < x2 then x2 else x1)) ≤ (0 : Int32) then wx_J12_newLength_21 Q S x0 x1 else (if (2147483639 : Int32) < (x0 + (if x1 < x2 then x2 else x1)) then wx_J12_newLength_21 Q S x0 x1 else Q (x0 + (if x1 < x2 then x2 else x1)) S))
theorem hx_J12_newLength : yJ12_newLength.cls = RJ12 ∧ yJ12_newLength.cls ≠ "java/lang/invoke/MethodHandle" ∧ yJ12_newLength.cls ≠ "java/lang/invoke/VarHandle" ∧ (parseMethodDescriptor yJ12_newLength.desc).map (fun d => d.parameters.length) = some 3 := by decide +kernel
set_option maxHeartbeats 4000000 in
set_option maxRecDepth 100000 in
theorem bx_J12_newLength (E : XE) (C : Cx) (S0 : XS) (sz : Nat) (Q : Int32 → XS → Prop) (S : XS) (x0 : Int32) (x1 : Int32) (x2 : Int32) (hC : COk C cJ12_newLength RJ12 (some .int) 1 34 4) (hX : XOk E C) (hA : cx_A C = xA S0 sz) (hQ : cx_Q C = MQ (cx_b C) (va_Qi Q (BX1 E S0 sz) (xA S0 sz)) (cx_a C) (cx_s C) (cx_MC C) (cx_MS C) (xA S0 sz)) (h : wx_J12_newLength Q S x0 x1 x2) : GX E C S 0 0 0 [some (.int x0), some (.int x1), some (.int x2), none] [] := by
  have s_21 : ∀ (S : XS) (a0 : Int32) (a1 : Int32), wx_J12_newLength_21 Q  S a0 a1 → GX E C S 0 0 21 [some (.int a0), some (.int a1), none, none] [] := by
    intro  S a0 a1 h
    refine g_iload_n hC dJ12_newLength_21 rfl ?_
    refine g_iload_n hC dJ12_newLength_22 rfl ?_
    exact False.elim h
  refine g_iload_n hC dJ12_newLength_0 rfl ?_
  refine g_iload_n hC dJ12_newLength_1 rfl ?_
  refine g_iload_n hC dJ12_newLength_2 rfl ?_
  refine g_mmax hC dJ12_newLength_3 q538 q539 q91 q540 (Nat.le_of_ble_eq_true rfl) (by decide) (by decide) ?_
  refine g_iadd hC dJ12_newLength_6 ?_
  refine g_istore_n hC dJ12_newLength_7 rfl (by decide) rfl rfl ?_
  refine g_sub [true, true, false, true] rfl ?_
  refine g_iconst (v := 0) hC dJ12_newLength_8 (by decide) ?_
  refine g_iload_n hC dJ12_newLength_9 rfl ?_
  refine g_icmp_ge (tgt := 21) hC dJ12_newLength_10 (by decide) (fun c => ?_) (fun c => ?_)
  · have h := it_p c h
    refine g_sub [true, true, false, false] rfl ?_
    exact s_21 S x0 x1 h
  · have h := it_n c h
    refine g_iload_n hC dJ12_newLength_13 rfl ?_
    refine g_ldc (v := 2147483639) hC dJ12_newLength_14 q541 ?_
    refine g_icmp_gt (tgt := 21) hC dJ12_newLength_16 (by decide) (fun c => ?_) (fun c => ?_)
    · have h := it_p c h
      refine g_sub [true, true, false, false] rfl ?_
      exact s_21 S x0 x1 h
    · have h := it_n c h
      refine g_iload_n hC dJ12_newLength_19 rfl ?_
      refine gX_iret rfl hC hA hQ dJ12_newLength_20 h
theorem mx_J12_newLength (l : Launch) (E : XE) (Q : Int32 → XS → Prop) (S : XS) (x0 : Int32) (x1 : Int32) (x2 : Int32) (h : wx_J12_newLength Q S x0 x1 x2) : XMet E l yJ12_newLength cJ12_newLength 4 (some .int) ({ frames := 1, cells := 0, slots := 0, locals := 34 } : Room) [.int x0, .int x1, .int x2] S (fun sz => va_Qi Q (BX1 E S sz) (xA S sz)) :=
  XMet_of (rm := ({ frames := 1, cells := 0, slots := 0, locals := 34 } : Room)) (by decide) (by simp [lg_sl, va_rf_cat, cat_i, cat_l]) (L0 := [some (.int x0), some (.int x1), some (.int x2), none]) (by simp [lx_pairs, lv_args, va_rf_cat, cat_i, cat_l, List.range_succ]) (fun sz C hC hX hl hnm hA hQ => bx_J12_newLength E C S sz Q S x0 x1 x2 hC hX hA hQ h)
/-! J14_copyOf_3 -/
def wx_J14_copyOf_3_24 (Q : Option Nat → XS → Prop) (mc ms : Nat) (S : XS) (a0 : Option Nat) (a1 : Int32) (s0 : Option Nat) : Prop :=
  dr a0 (fun u4 => xKD S u4 = some 102 ∧ dr s0 (fun u6 => xKD S u6 = some 102 ∧ xRO S u4 = false ∧ xRO S u6 = false ∧ ¬ (0 : Int32) < 0 ∧ ¬ (0 : Int32) < 0 ∧ ¬ (if a1 < (Int32.ofNat (xLN S u4)) then a1 else (Int32.ofNat (xLN S u4))) < 0 ∧ (Int32.toNatClampNeg (0 : Int32)) + (Int32.toNatClampNeg (if a1 < (Int32.ofNat (xLN S u4)) then a1 else (Int32.ofNat (xLN S u4)))) ≤ xLN S u4 ∧ (Int32.toNatClampNeg (0 : Int32)) + (Int32.toNatClampNeg (if a1 < (Int32.ofNat (xLN S u4)) then a1 else (Int32.ofNat (xLN S u4)))) ≤ xLN S u6 ∧ (∀ j, j < (Int32.toNatClampNeg (if a1 < (Int32.ofNat (xLN S u4)) then a1 else (Int32.ofNat (xLN S u4)))) → ∀ y, xAR S u4 ((Int32.toNatClampNeg (0 : Int32)) + j) = some y → xOb S y) ∧ Q s0 (sARf S u6 (va_cpy (xAR S u4) (xAR S u6) (Int32.toNatClampNeg (0 : Int32)) (Int32.toNatClampNeg (0 : Int32)) (Int32.toNatClampNeg (if a1 < (Int32.ofNat (xLN S u4)) then a1 else (Int32.ofNat (xLN S u4))))))))
def wx_J14_copyOf_3 (Q : Option Nat → XS → Prop) (mc ms : Nat) (S : XS) (x0 : Option Nat) (x1 : Int32) (x2 : Option Nat) : Prop :=
  (if x2 = (some (xST S 2)) then ¬ x1 < 0 ∧ (Int32.toNatClampNeg x1) ≤ 100000 ∧ 1 ≤ mc ∧ (Int32.toNatClampNeg x1) ≤ ms ∧ (∀ q1 : Nat, xKD S q1 = none → wx_J14_copyOf_3_24 Q (mc - 1) (ms - (Int32.toNatClampNeg x1)) (sNewA S q1 102 (Int32.toNatClampNeg x1)) x0 x1 (some q1)) else False)
theorem hx_J14_copyOf_3 : yJ14_copyOf_3.cls = RJ14 ∧ yJ14_copyOf_3.cls ≠ "java/lang/invoke/MethodHandle" ∧ yJ14_copyOf_3.cls ≠ "java/lang/invoke/VarHandle" ∧ (parseMethodDescriptor yJ14_copyOf_3.desc).map (fun d => d.parameters.length) = some 3 := by decide +kernel
set_option maxHeartbeats 4000000 in
set_option maxRecDepth 100000 in
theorem bx_J14_copyOf_3 (E : XE) (C : Cx) (S0 : XS) (sz : Nat) (Q : Option Nat → XS → Prop) (mc ms : Nat) (S : XS) (x0 : Option Nat) (x1 : Int32) (x2 : Option Nat) (hC : COk C cJ14_copyOf_3 RJ14 (some (.array (.object "java/lang/Object"))) 1 34 4) (hX : XOk E C) (hA : cx_A C = xA S0 sz) (hQ : cx_Q C = MQ (cx_b C) (va_Qq Q (BX1 E S0 sz) (xA S0 sz)) (cx_a C) (cx_s C) (cx_MC C) (cx_MS C) (xA S0 sz)) (h : wx_J14_copyOf_3 Q mc ms S x0 x1 x2) : GX E C S mc ms 0 [some (va_rf x0), some (.int x1), some (va_rf x2), none] [] := by
  have s_24 : ∀ (mc ms : Nat) (S : XS) (a0 : Option Nat) (a1 : Int32) (s0 : Option Nat), wx_J14_copyOf_3_24 Q  mc ms S a0 a1 s0 → GX E C S mc ms 24 [some (va_rf a0), some (.int a1), none, none] [va_rf s0] := by
    intro  mc ms S a0 a1 s0 h
    refine g_astore_nR hC dJ14_copyOf_3_24 rfl (by decide) rfl rfl ?_
    refine g_aload_nR hC dJ14_copyOf_3_25 rfl ?_
    refine g_iconst (v := 0) hC dJ14_copyOf_3_26 (by decide) ?_
    refine g_aload_nR hC dJ14_copyOf_3_27 rfl ?_
    refine g_iconst (v := 0) hC dJ14_copyOf_3_28 (by decide) ?_
    refine g_aload_nR hC dJ14_copyOf_3_29 rfl ?_
    obtain ⟨u4, eu4, h⟩ := h
    refine g_top0 eu4 ?_
    have hk5 := h.1
    refine gX_alen (n := 102) hC hX dJ14_copyOf_3_30 (by decide) hk5 ?_
    refine g_iload_n hC dJ14_copyOf_3_31 rfl ?_
    refine g_mmin hC dJ14_copyOf_3_32 q556 q557 q91 q558 (Nat.le_of_ble_eq_true rfl) (by decide) (by decide) ?_
    obtain ⟨u6, eu6, h⟩ := h.2
    refine g_top2 eu6 ?_
    refine g_top4 eu4 ?_
    have hk7 := h.1
    refine gX_acopyX hC hX dJ14_copyOf_3_35 q559 q418 q417 q85 hk5 hk7 h.2.1 h.2.2.1 h.2.2.2.1 h.2.2.2.2.1 h.2.2.2.2.2.1 h.2.2.2.2.2.2.1 h.2.2.2.2.2.2.2.1 h.2.2.2.2.2.2.2.2.1 (Nat.le_of_ble_eq_true rfl) (by decide) (by decide) ?_
    refine g_aload_nR hC dJ14_copyOf_3_38 rfl ?_
    refine gX_aret hC hA hQ rfl (Or.inr ⟨_, rfl⟩) dJ14_copyOf_3_39 h.2.2.2.2.2.2.2.2.2
  refine g_aload_nR hC dJ14_copyOf_3_0 rfl ?_
  refine gX_ldcM hC hX dJ14_copyOf_3_1 q914 ?_
  refine g_acmp_ne (tgt := 13) hC dJ14_copyOf_3_3 (by decide) (fun c => ?_) (fun c => ?_)
  · have h := it_n c h
    refine g_aload_nR hC dJ14_copyOf_3_13 rfl ?_
    exact False.elim h
  · have h := it_p c h
    refine g_iload_n hC dJ14_copyOf_3_6 rfl ?_
    refine gX_newq (n := 102) hC hX dJ14_copyOf_3_7 q916 (by decide) (by decide) rfl h.1 h.2.1 h.2.2.1 h.2.2.2.1 ?_
    intro q1 hq2
    have h := h.2.2.2.2 q1 hq2
    have hk3 : xKD (sNewA S q1 102 (Int32.toNatClampNeg x1)) q1 = some 102 := kd_selfA
    refine g_goto (tgt := 24) hC dJ14_copyOf_3_10 (by decide) ?_
    refine g_sub [true, true, false, false] rfl ?_
    exact s_24 (mc - 1) (ms - (Int32.toNatClampNeg x1)) (sNewA S q1 102 (Int32.toNatClampNeg x1)) x0 x1 (some q1) h
theorem mx_J14_copyOf_3 (l : Launch) (E : XE) (mc ms : Nat) (Q : Option Nat → XS → Prop) (S : XS) (x0 : Option Nat) (x1 : Int32) (x2 : Option Nat) (h : wx_J14_copyOf_3 Q mc ms S x0 x1 x2) : XMet E l yJ14_copyOf_3 cJ14_copyOf_3 4 (some (.array (.object "java/lang/Object"))) ({ frames := 1, cells := mc, slots := ms, locals := 34 } : Room) [va_rf x0, .int x1, va_rf x2] S (fun sz => va_Qq Q (BX1 E S sz) (xA S sz)) :=
  XMet_of (rm := ({ frames := 1, cells := mc, slots := ms, locals := 34 } : Room)) (by decide) (by simp [lg_sl, va_rf_cat, cat_i, cat_l]) (L0 := [some (va_rf x0), some (.int x1), some (va_rf x2), none]) (by simp [lx_pairs, lv_args, va_rf_cat, cat_i, cat_l, List.range_succ]) (fun sz C hC hX hl hnm hA hQ => bx_J14_copyOf_3 E C S sz Q mc ms S x0 x1 x2 hC hX hA hQ h)
/-! J14_copyOf_2 -/
def wx_J14_copyOf_2 (Q : Option Nat → XS → Prop) (mc ms : Nat) (S : XS) (x0 : Option Nat) (x1 : Int32) : Prop :=
  dr x0 (fun u1 => xKD S u1 = some 102 ∧ xRO S u1 = false ∧ (∃ k3 n4, k3 ≤ mc ∧ n4 ≤ ms ∧ wx_J14_copyOf_3 (fun r6 S5 => Q r6 S5) k3 n4 S x0 x1 (some (xST S 2))))
theorem hx_J14_copyOf_2 : yJ14_copyOf_2.cls = RJ14 ∧ yJ14_copyOf_2.cls ≠ "java/lang/invoke/MethodHandle" ∧ yJ14_copyOf_2.cls ≠ "java/lang/invoke/VarHandle" ∧ (parseMethodDescriptor yJ14_copyOf_2.desc).map (fun d => d.parameters.length) = some 2 := by decide +kernel
set_option maxHeartbeats 4000000 in
set_option maxRecDepth 100000 in
theorem bx_J14_copyOf_2 (E : XE) (C : Cx) (S0 : XS) (sz : Nat) (Q : Option Nat → XS → Prop) (mc ms : Nat) (S : XS) (x0 : Option Nat) (x1 : Int32) (hC : COk C cJ14_copyOf_2 RJ14 (some (.array (.object "java/lang/Object"))) 2 57 2) (hX : XOk E C) (hA : cx_A C = xA S0 sz) (hQ : cx_Q C = MQ (cx_b C) (va_Qq Q (BX1 E S0 sz) (xA S0 sz)) (cx_a C) (cx_s C) (cx_MC C) (cx_MS C) (xA S0 sz)) (h : wx_J14_copyOf_2 Q mc ms S x0 x1) : GX E C S mc ms 0 [some (va_rf x0), some (.int x1)] [] := by
  refine g_aload_nR hC dJ14_copyOf_2_0 rfl ?_
  refine g_iload_n hC dJ14_copyOf_2_1 rfl ?_
  refine g_aload_nR hC dJ14_copyOf_2_2 rfl ?_
  obtain ⟨u1, eu1, h⟩ := h
  refine g_top0 eu1 ?_
  have hk2 := h.1
  refine gX_getC hC hX dJ14_copyOf_2_3 q884 q2031 q2030 q885 q910 hk2 h.2.1 (Nat.le_of_ble_eq_true rfl) (by decide) (by decide) ?_
  obtain ⟨k3, n4, hk3, hn4, h⟩ := h.2.2
  refine gX_cq hX (gX_runS (As := [va_rf x0, .int x1, va_rf (some (xST S 2))]) (rest := []) hC hX (mx_J14_copyOf_3 (cx_l C) E k3 n4 _ _ _ _ _ h) (lw_S q911 q912 q92 q913) hx_J14_copyOf_3.2 rfl rfl (Or.inl (Nat.le_of_ble_eq_true rfl)) ⟨Nat.le_of_ble_eq_true rfl, Nat.le_of_ble_eq_true rfl⟩ dJ14_copyOf_2_6 hk3 hn4) hk3 hn4 ?_
  intro r6 S5 h
  refine gX_aret hC hA hQ rfl (Or.inr ⟨_, rfl⟩) dJ14_copyOf_2_9 h
theorem mx_J14_copyOf_2 (l : Launch) (E : XE) (mc ms : Nat) (Q : Option Nat → XS → Prop) (S : XS) (x0 : Option Nat) (x1 : Int32) (h : wx_J14_copyOf_2 Q mc ms S x0 x1) : XMet E l yJ14_copyOf_2 cJ14_copyOf_2 2 (some (.array (.object "java/lang/Object"))) ({ frames := 2, cells := mc, slots := ms, locals := 57 } : Room) [va_rf x0, .int x1] S (fun sz => va_Qq Q (BX1 E S sz) (xA S sz)) :=
  XMet_of (rm := ({ frames := 2, cells := mc, slots := ms, locals := 57 } : Room)) (by decide) (by simp [lg_sl, va_rf_cat, cat_i, cat_l]) (L0 := [some (va_rf x0), some (.int x1)]) (by simp [lx_pairs, lv_args, va_rf_cat, cat_i, cat_l, List.range_succ]) (fun sz C hC hX hl hnm hA hQ => bx_J14_copyOf_2 E C S sz Q mc ms S x0 x1 hC hX hA hQ h)
/-! J2_grow_2 -/
def wx_J2_grow_2_20 (Q : Option Nat → XS → Prop) (mc ms : Nat) (S : XS) (a0 : Option Nat) (a1 : Int32) (a2 : Int32) : Prop :=
  wx_J12_newLength (fun r6 S5 => dr a0 (fun u7 => xKD S5 u7 = some 16 ∧ (∃ k9 n10, k9 ≤ mc ∧ n10 ≤ ms ∧ wx_J14_copyOf_2 (fun r12 S11 => xKD S11 u7 = some 16 ∧ Q r12 (sFR S11 1600 u7 r12)) k9 n10 S5 (xFR S5 1600 u7) r6))) S a2 (a1 - a2) (a2 >>> ((1 : Int32) &&& 31))
def wx_J2_grow_2 (Q : Option Nat → XS → Prop) (mc ms : Nat) (S : XS) (x0 : Option Nat) (x1 : Int32) : Prop :=
  dr x0 (fun u1 => xKD S u1 = some 16 ∧ dr (xFR S 1600 u1) (fun u3 => xKD S u3 = some 102 ∧ (if 0 < (Int32.ofNat (xLN S u3)) then wx_J2_grow_2_20 Q mc ms S x0 x1 (Int32.ofNat (xLN S u3)) else (if (xFR S 1600 u1) = (some (xST S 0)) then ¬ (if (10 : Int32) < x1 then x1 else (10 : Int32)) < 0 ∧ (Int32.toNatClampNeg (if (10 : Int32) < x1 then x1 else (10 : Int32))) ≤ 100000 ∧ 1 ≤ mc ∧ (Int32.toNatClampNeg (if (10 : Int32) < x1 then x1 else (10 : Int32))) ≤ ms ∧ (∀ q14 : Nat, xKD S q14 = none → Q (some q14) (sFR (sNewA S q14 102 (Int32.toNatClampNeg (if (10 : Int32) < x1 then x1 else (10 : Int32)))) 1600 u1 (some q14))) else wx_J2_grow_2_20 Q mc ms S x0 x1 (Int32.ofNat (xLN S u3))))))
theorem hx_J2_grow_2 : yJ2_grow_2.cls = RJ2 ∧ yJ2_grow_2.cls ≠ "java/lang/invoke/MethodHandle" ∧ yJ2_grow_2.cls ≠ "java/lang/invoke/VarHandle" ∧ (parseMethodDescriptor yJ2_grow_2.desc).map (fun d => d.parameters.length) = some 1 := by decide +kernel
set_option maxHeartbeats 4000000 in
set_option maxRecDepth 100000 in
theorem bx_J2_grow_2 (E : XE) (C : Cx) (S0 : XS) (sz : Nat) (Q : Option Nat → XS → Prop) (mc ms : Nat) (S : XS) (x0 : Option Nat) (x1 : Int32) (hC : COk C cJ2_grow_2 RJ2 (some (.array (.object "java/lang/Object"))) 3 78 4) (hX : XOk E C) (hA : cx_A C = xA S0 sz) (hQ : cx_Q C = MQ (cx_b C) (va_Qq Q (BX1 E S0 sz) (xA S0 sz)) (cx_a C) (cx_s C) (cx_MC C) (cx_MS C) (xA S0 sz)) (h : wx_J2_grow_2 Q mc ms S x0 x1) : GX E C S mc ms 0 [some (va_rf x0), some (.int x1), none, none] [] := by
  have s_20 : ∀ (mc ms : Nat) (S : XS) (a0 : Option Nat) (a1 : Int32) (a2 : Int32), wx_J2_grow_2_20 Q  mc ms S a0 a1 a2 → GX E C S mc ms 20 [some (va_rf a0), some (.int a1), some (.int a2), none] [] := by
    intro  mc ms S a0 a1 a2 h
    refine g_iload_n hC dJ2_grow_2_20 rfl ?_
    refine g_iload_n hC dJ2_grow_2_21 rfl ?_
    refine g_iload_n hC dJ2_grow_2_22 rfl ?_
    refine g_isub hC dJ2_grow_2_23 ?_
    refine g_iload_n hC dJ2_grow_2_24 rfl ?_
    refine g_iconst (v := 1) hC dJ2_grow_2_25 (by decide) ?_
    refine g_ishr hC dJ2_grow_2_26 ?_
    refine gX_ni hX (gX_runS (As := [.int a2, .int (a1 - a2), .int (a2 >>> ((1 : Int32) &&& 31))]) (rest := []) hC hX (mx_J12_newLength (cx_l C) E _ _ _ _ _ h) (lw_S q880 q536 q90 q537) hx_J12_newLength.2 rfl rfl (Or.inl (Nat.le_of_ble_eq_true rfl)) ⟨Nat.le_of_ble_eq_true rfl, Nat.le_of_ble_eq_true rfl⟩ dJ2_grow_2_27 (Nat.zero_le _) (Nat.zero_le _)) rfl rfl ?_
    intro r6 S5 h
    refine g_istore_n hC dJ2_grow_2_30 rfl (by decide) rfl rfl ?_
    refine g_sub [true, false, false, true] rfl ?_
    refine g_aload_nR hC dJ2_grow_2_31 rfl ?_
    refine g_aload_nR hC dJ2_grow_2_32 rfl ?_
    obtain ⟨u7, eu7, h⟩ := h
    refine g_top0 eu7 ?_
    have hk8 := h.1
    refine gX_get (C0 := RJ2) (T := TJ2) (N := 3) (n := 16) (k := 1) (q := (1600, true)) hC hX dJ2_grow_2_33 q135 rfl in_J2 (by decide) (Or.inl rfl) rfl (by decide) hk8 ?_
    show GX _ _ _ _ _ _ _ (va_rf (xFR S5 1600 u7) :: _)
    refine g_iload_n hC dJ2_grow_2_36 rfl ?_
    obtain ⟨k9, n10, hk9, hn10, h⟩ := h.2
    refine gX_cq hX (gX_runS (As := [va_rf (xFR S5 1600 u7), .int r6]) (rest := [va_rf a0]) hC hX (mx_J14_copyOf_2 (cx_l C) E k9 n10 _ _ _ _ h) (lw_S q881 q882 q92 q883) hx_J14_copyOf_2.2 rfl rfl (Or.inl (Nat.le_of_ble_eq_true rfl)) ⟨Nat.le_of_ble_eq_true rfl, Nat.le_of_ble_eq_true rfl⟩ dJ2_grow_2_37 hk9 hn10) hk9 hn10 ?_
    intro r12 S11 h
    refine g_dup_x1 hC dJ2_grow_2_40 (va_rf_cat _) (va_rf_cat _) ?_
    refine g_top1 eu7 ?_
    have hk13 := h.1
    refine gX_putR (C0 := RJ2) (T := TJ2) (ty0 := tyJ2) (N := 3) (n := 16) (k := 1) (f := 1600) hC hX dJ2_grow_2_41 q135 rfl in_J2 tyJ2_ok nmJ2 (by decide) (Or.inl rfl) rfl rfl (narrow_rf (Or.inr ⟨_, rfl⟩) _) (fits_rf (Or.inr ⟨_, rfl⟩) _) rfl (by decide) (Or.inl (by decide)) hk13 ?_
    refine gX_aret hC hA hQ rfl (Or.inr ⟨_, rfl⟩) dJ2_grow_2_44 h.2
  refine g_aload_nR hC dJ2_grow_2_0 rfl ?_
  obtain ⟨u1, eu1, h⟩ := h
  refine g_top0 eu1 ?_
  have hk2 := h.1
  refine gX_get (C0 := RJ2) (T := TJ2) (N := 3) (n := 16) (k := 1) (q := (1600, true)) hC hX dJ2_grow_2_1 q135 rfl in_J2 (by decide) (Or.inl rfl) rfl (by decide) hk2 ?_
  show GX _ _ _ _ _ _ _ (va_rf (xFR S 1600 u1) :: _)
  obtain ⟨u3, eu3, h⟩ := h.2
  refine g_top0 eu3 ?_
  have hk4 := h.1
  refine gX_alen (n := 102) hC hX dJ2_grow_2_4 (by decide) hk4 ?_
  refine g_istore_n hC dJ2_grow_2_5 rfl (by decide) rfl rfl ?_
  refine g_iload_n hC dJ2_grow_2_6 rfl ?_
  refine g_if_gt (tgt := 20) hC dJ2_grow_2_7 (by decide) (fun c => ?_) (fun c => ?_)
  · have h := it_p c h.2
    exact s_20 mc ms S x0 x1 (Int32.ofNat (xLN S u3)) h
  · have h := it_n c h.2
    refine g_aload_nR hC dJ2_grow_2_10 rfl ?_
    refine g_top0 eu1 ?_
    refine gX_get (C0 := RJ2) (T := TJ2) (N := 3) (n := 16) (k := 1) (q := (1600, true)) hC hX dJ2_grow_2_11 q135 rfl in_J2 (by decide) (Or.inl rfl) rfl (by decide) hk2 ?_
    show GX _ _ _ _ _ _ _ (va_rf (xFR S 1600 u1) :: _)
    refine gX_gets (j := 0) hC hX dJ2_grow_2_14 (List.mem_of_getElem? (i := 0) rfl) q133 rfl ?_
    refine g_acmp_eq (tgt := 45) hC dJ2_grow_2_17 (by decide) (fun c => ?_) (fun c => ?_)
    · have h := it_p c h
      refine g_aload_nR hC dJ2_grow_2_45 rfl ?_
      refine g_bipush (v := 10) hC dJ2_grow_2_46 (by decide) ?_
      refine g_iload_n hC dJ2_grow_2_48 rfl ?_
      refine g_mmax hC dJ2_grow_2_49 q917 q539 q91 q540 (Nat.le_of_ble_eq_true rfl) (by decide) (by decide) ?_
      refine gX_newq (n := 102) hC hX dJ2_grow_2_52 q918 (by decide) (by decide) rfl h.1 h.2.1 h.2.2.1 h.2.2.2.1 ?_
      intro q14 hq15
      have h := h.2.2.2.2 q14 hq15
      have hk16 := kd_newA (q := q14) (n := 102) (k := (Int32.toNatClampNeg (if (10 : Int32) < x1 then x1 else (10 : Int32)))) hk2 hq15
      have hk17 := kd_newA (q := q14) (n := 102) (k := (Int32.toNatClampNeg (if (10 : Int32) < x1 then x1 else (10 : Int32)))) hk4 hq15
      have hk18 : xKD (sNewA S q14 102 (Int32.toNatClampNeg (if (10 : Int32) < x1 then x1 else (10 : Int32)))) q14 = some 102 := kd_selfA
      refine g_dup_x1 hC dJ2_grow_2_55 (va_rf_cat _) (va_rf_cat _) ?_
      refine g_top1 eu1 ?_
      refine gX_putR (C0 := RJ2) (T := TJ2) (ty0 := tyJ2) (N := 3) (n := 16) (k := 1) (f := 1600) hC hX dJ2_grow_2_56 q135 rfl in_J2 tyJ2_ok nmJ2 (by decide) (Or.inl rfl) rfl rfl (narrow_rf (Or.inr ⟨_, rfl⟩) _) (fits_rf (Or.inr ⟨_, rfl⟩) _) rfl (by decide) (Or.inl (by decide)) hk16 ?_
      refine gX_aret hC hA hQ rfl (Or.inr ⟨_, rfl⟩) dJ2_grow_2_59 h
    · have h := it_n c h
      exact s_20 mc ms S x0 x1 (Int32.ofNat (xLN S u3)) h
theorem mx_J2_grow_2 (l : Launch) (E : XE) (mc ms : Nat) (Q : Option Nat → XS → Prop) (S : XS) (x0 : Option Nat) (x1 : Int32) (h : wx_J2_grow_2 Q mc ms S x0 x1) : XMet E l yJ2_grow_2 cJ2_grow_2 4 (some (.array (.object "java/lang/Object"))) ({ frames := 3, cells := mc, slots := ms, locals := 78 } : Room) [va_rf x0, .int x1] S (fun sz => va_Qq Q (BX1 E S sz) (xA S sz)) :=
  XMet_of (rm := ({ frames := 3, cells := mc, slots := ms, locals := 78 } : Room)) (by decide) (by simp [lg_sl, va_rf_cat, cat_i, cat_l]) (L0 := [some (va_rf x0), some (.int x1), none, none]) (by simp [lx_pairs, lv_args, va_rf_cat, cat_i, cat_l, List.range_succ]) (fun sz C hC hX hl hnm hA hQ => bx_J2_grow_2 E C S sz Q mc ms S x0 x1 hC hX hA hQ h)
/-! J2_grow -/
def wx_J2_grow (Q : Option Nat → XS → Prop) (mc ms : Nat) (S : XS) (x0 : Option Nat) : Prop :=
  dr x0 (fun u1 => xKD S u1 = some 16 ∧ (∃ k3 n4, k3 ≤ mc ∧ n4 ≤ ms ∧ wx_J2_grow_2 (fun r6 S5 => Q r6 S5) k3 n4 S (some u1) ((xFI S 1601 u1) + (1 : Int32))))
theorem hx_J2_grow : yJ2_grow.cls = RJ2 ∧ yJ2_grow.cls ≠ "java/lang/invoke/MethodHandle" ∧ yJ2_grow.cls ≠ "java/lang/invoke/VarHandle" ∧ (parseMethodDescriptor yJ2_grow.desc).map (fun d => d.parameters.length) = some 0 := by decide +kernel
set_option maxHeartbeats 4000000 in
set_option maxRecDepth 100000 in
theorem bx_J2_grow (E : XE) (C : Cx) (S0 : XS) (sz : Nat) (Q : Option Nat → XS → Prop) (mc ms : Nat) (S : XS) (x0 : Option Nat) (hC : COk C cJ2_grow RJ2 (some (.array (.object "java/lang/Object"))) 4 101 1) (hX : XOk E C) (hA : cx_A C = xA S0 sz) (hQ : cx_Q C = MQ (cx_b C) (va_Qq Q (BX1 E S0 sz) (xA S0 sz)) (cx_a C) (cx_s C) (cx_MC C) (cx_MS C) (xA S0 sz)) (h : wx_J2_grow Q mc ms S x0) : GX E C S mc ms 0 [some (va_rf x0)] [] := by
  refine g_aload_nR hC dJ2_grow_0 rfl ?_
  refine g_aload_nR hC dJ2_grow_1 rfl ?_
  obtain ⟨u1, eu1, h⟩ := h
  refine g_top0 eu1 ?_
  have hk2 := h.1
  refine gX_get (C0 := RJ2) (T := TJ2) (N := 3) (n := 16) (k := 2) (q := (1601, false)) hC hX dJ2_grow_2 q136 rfl in_J2 (by decide) (Or.inl rfl) rfl (by decide) hk2 ?_
  show GX _ _ _ _ _ _ _ (.int (xFI S 1601 u1) :: _)
  refine g_iconst (v := 1) hC dJ2_grow_5 (by decide) ?_
  refine g_iadd hC dJ2_grow_6 ?_
  refine g_top1 eu1 ?_
  obtain ⟨k3, n4, hk3, hn4, h⟩ := h.2
  refine gX_cq hX (gX_runV (As := [.int ((xFI S 1601 u1) + (1 : Int32))]) (rest := []) (Cr := RJ2) hC hX (mx_J2_grow_2 (cx_l C) E k3 n4 _ _ _ _ h) (lw_V q876 q878 qs15 q73 q879) hx_J2_grow_2 rfl rfl (Or.inl (Nat.le_of_ble_eq_true rfl)) ⟨Nat.le_of_ble_eq_true rfl, Nat.le_of_ble_eq_true rfl⟩ dJ2_grow_7 hk3 hn4 hk2 rfl (by decide) rfl) hk3 hn4 ?_
  intro r6 S5 h
  refine gX_aret hC hA hQ rfl (Or.inr ⟨_, rfl⟩) dJ2_grow_10 h
theorem mx_J2_grow (l : Launch) (E : XE) (mc ms : Nat) (Q : Option Nat → XS → Prop) (S : XS) (x0 : Option Nat) (h : wx_J2_grow Q mc ms S x0) : XMet E l yJ2_grow cJ2_grow 1 (some (.array (.object "java/lang/Object"))) ({ frames := 4, cells := mc, slots := ms, locals := 101 } : Room) [va_rf x0] S (fun sz => va_Qq Q (BX1 E S sz) (xA S sz)) :=
  XMet_of (rm := ({ frames := 4, cells := mc, slots := ms, locals := 101 } : Room)) (by decide) (by simp [lg_sl, va_rf_cat, cat_i, cat_l]) (L0 := [some (va_rf x0)]) (by simp [lx_pairs, lv_args, va_rf_cat, cat_i, cat_l, List.range_succ]) (fun sz C hC hX hl hnm hA hQ => bx_J2_grow E C S sz Q mc ms S x0 hC hX hA hQ h)
/-! J2_add_2 -/
def wx_J2_add_2_11 (Q : XS → Prop) (mc ms : Nat) (S : XS) (a0 : Option Nat) (a1 : Option Nat) (a2 : Option Nat) (a3 : Int32) : Prop :=
  dr a2 (fun u3 => xKD S u3 = some 102 ∧ dr a1 (fun u5 => xRO S u3 = false ∧ vp_in a3 (xLN S u3) ∧ xOb S u5 ∧ dr a0 (fun u6 => xKD (sAR S u3 (Int32.toNatClampNeg a3) (some u5)) u6 = some 16 ∧ Q (sFI (sAR S u3 (Int32.toNatClampNeg a3) (some u5)) 1601 u6 (a3 + (1 : Int32))))))
def wx_J2_add_2 (Q : XS → Prop) (mc ms : Nat) (S : XS) (x0 : Option Nat) (x1 : Option Nat) (x2 : Option Nat) (x3 : Int32) : Prop :=
  dr x2 (fun u1 => xKD S u1 = some 102 ∧ (if x3 = (Int32.ofNat (xLN S u1)) then dr x0 (fun u8 => xKD S u8 = some 16 ∧ (∃ k10 n11, k10 ≤ mc ∧ n11 ≤ ms ∧ wx_J2_grow (fun r13 S12 => wx_J2_add_2_11 Q (mc - k10) (ms - n11) S12 x0 x1 r13 x3) k10 n11 S (some u8))) else wx_J2_add_2_11 Q mc ms S x0 x1 x2 x3))
theorem hx_J2_add_2 : yJ2_add_2.cls = RJ2 ∧ yJ2_add_2.cls ≠ "java/lang/invoke/MethodHandle" ∧ yJ2_add_2.cls ≠ "java/lang/invoke/VarHandle" ∧ (parseMethodDescriptor yJ2_add_2.desc).map (fun d => d.parameters.length) = some 3 := by decide +kernel
set_option maxHeartbeats 4000000 in
set_option maxRecDepth 100000 in
theorem bx_J2_add_2 (E : XE) (C : Cx) (S0 : XS) (sz : Nat) (Q : XS → Prop) (mc ms : Nat) (S : XS) (x0 : Option Nat) (x1 : Option Nat) (x2 : Option Nat) (x3 : Int32) (hC : COk C cJ2_add_2 RJ2 none 5 121 4) (hX : XOk E C) (hA : cx_A C = xA S0 sz) (hQ : cx_Q C = MQ (cx_b C) (va_Qv Q (BX1 E S0 sz) (xA S0 sz)) (cx_a C) (cx_s C) (cx_MC C) (cx_MS C) (xA S0 sz)) (h : wx_J2_add_2 Q mc ms S x0 x1 x2 x3) : GX E C S mc ms 0 [some (va_rf x0), some (va_rf x1), some (va_rf x2), some (.int x3)] [] := by
  have s_11 : ∀ (mc ms : Nat) (S : XS) (a0 : Option Nat) (a1 : Option Nat) (a2 : Option Nat) (a3 : Int32), wx_J2_add_2_11 Q  mc ms S a0 a1 a2 a3 → GX E C S mc ms 11 [some (va_rf a0), some (va_rf a1), some (va_rf a2), some (.int a3)] [] := by
    intro  mc ms S a0 a1 a2 a3 h
    refine g_aload_nR hC dJ2_add_2_11 rfl ?_
    refine g_iload_n hC dJ2_add_2_12 rfl ?_
    refine g_aload_nR hC dJ2_add_2_13 rfl ?_
    obtain ⟨u3, eu3, h⟩ := h
    refine g_top2 eu3 ?_
    have hk4 := h.1
    obtain ⟨u5, eu5, h⟩ := h.2
    refine g_top0 eu5 ?_
    refine gX_aastX hC hX dJ2_add_2_14 hk4 h.1 h.2.1 h.2.2.1 ?_
    refine g_aload_nR hC dJ2_add_2_15 rfl ?_
    refine g_iload_n hC dJ2_add_2_16 rfl ?_
    refine g_iconst (v := 1) hC dJ2_add_2_17 (by decide) ?_
    refine g_iadd hC dJ2_add_2_18 ?_
    obtain ⟨u6, eu6, h⟩ := h.2.2.2
    refine g_top1 eu6 ?_
    have hk7 := h.1
    refine gX_putI (C0 := RJ2) (T := TJ2) (ty0 := tyJ2) (N := 3) (n := 16) (k := 2) (f := 1601) hC hX dJ2_add_2_19 q136 rfl in_J2 tyJ2_ok nmJ2 (by decide) (Or.inl rfl) rfl rfl rfl rfl rfl (by decide) (Or.inl (by decide)) hk7 ?_
    refine gX_vret hC hA hQ rfl dJ2_add_2_22 h.2
  refine g_iload_n hC dJ2_add_2_0 rfl ?_
  refine g_aload_nR hC dJ2_add_2_1 rfl ?_
  obtain ⟨u1, eu1, h⟩ := h
  refine g_top0 eu1 ?_
  have hk2 := h.1
  refine gX_alen (n := 102) hC hX dJ2_add_2_2 (by decide) hk2 ?_
  refine g_icmp_ne (tgt := 11) hC dJ2_add_2_3 (by decide) (fun c => ?_) (fun c => ?_)
  · have h := it_n c h.2
    exact s_11 mc ms S x0 x1 x2 x3 h
  · have h := it_p c h.2
    refine g_aload_nR hC dJ2_add_2_6 rfl ?_
    obtain ⟨u8, eu8, h⟩ := h
    refine g_top0 eu8 ?_
    have hk9 := h.1
    obtain ⟨k10, n11, hk10, hn11, h⟩ := h.2
    refine gX_cq hX (gX_runV (As := []) (rest := []) (Cr := RJ2) hC hX (mx_J2_grow (cx_l C) E k10 n11 _ _ _ h) (lw_V q872 q874 qs14 q73 q875) hx_J2_grow rfl rfl (Or.inl (Nat.le_of_ble_eq_true rfl)) ⟨Nat.le_of_ble_eq_true rfl, Nat.le_of_ble_eq_true rfl⟩ dJ2_add_2_7 hk10 hn11 hk9 rfl (by decide) rfl) hk10 hn11 ?_
    intro r13 S12 h
    refine g_astore_nR hC dJ2_add_2_10 rfl (by decide) (lx_okR (j := 1) rfl) rfl ?_
    exact s_11 (mc - k10) (ms - n11) S12 x0 x1 r13 x3 h
theorem mx_J2_add_2 (l : Launch) (E : XE) (mc ms : Nat) (Q : XS → Prop) (S : XS) (x0 : Option Nat) (x1 : Option Nat) (x2 : Option Nat) (x3 : Int32) (h : wx_J2_add_2 Q mc ms S x0 x1 x2 x3) : XMet E l yJ2_add_2 cJ2_add_2 4 none ({ frames := 5, cells := mc, slots := ms, locals := 121 } : Room) [va_rf x0, va_rf x1, va_rf x2, .int x3] S (fun sz => va_Qv Q (BX1 E S sz) (xA S sz)) :=
  XMet_of (rm := ({ frames := 5, cells := mc, slots := ms, locals := 121 } : Room)) (by decide) (by simp [lg_sl, va_rf_cat, cat_i, cat_l]) (L0 := [some (va_rf x0), some (va_rf x1), some (va_rf x2), some (.int x3)]) (by simp [lx_pairs, lv_args, va_rf_cat, cat_i, cat_l, List.range_succ]) (fun sz C hC hX hl hnm hA hQ => bx_J2_add_2 E C S sz Q mc ms S x0 x1 x2 x3 hC hX hA hQ h)
/-! J2_add -/
def wx_J2_add (Q : Int32 → XS → Prop) (mc ms : Nat) (S : XS) (x0 : Option Nat) (x1 : Option Nat) : Prop :=
  dr x0 (fun u1 => xKD S u1 = some 16 ∧ (∃ k3 n4, k3 ≤ mc ∧ n4 ≤ ms ∧ wx_J2_add_2 (fun S5 => Q (1 : Int32) S5) k3 n4 (sFI S 5100 u1 ((xFI S 5100 u1) + (1 : Int32))) (some u1) x1 (xFR (sFI S 5100 u1 ((xFI S 5100 u1) + (1 : Int32))) 1600 u1) (xFI (sFI S 5100 u1 ((xFI S 5100 u1) + (1 : Int32))) 1601 u1)))
theorem hx_J2_add : yJ2_add.cls = RJ2 ∧ yJ2_add.cls ≠ "java/lang/invoke/MethodHandle" ∧ yJ2_add.cls ≠ "java/lang/invoke/VarHandle" ∧ (parseMethodDescriptor yJ2_add.desc).map (fun d => d.parameters.length) = some 1 := by decide +kernel
set_option maxHeartbeats 4000000 in
set_option maxRecDepth 100000 in
theorem bx_J2_add (E : XE) (C : Cx) (S0 : XS) (sz : Nat) (Q : Int32 → XS → Prop) (mc ms : Nat) (S : XS) (x0 : Option Nat) (x1 : Option Nat) (hC : COk C cJ2_add RJ2 (some .boolean) 6 144 2) (hX : XOk E C) (hA : cx_A C = xA S0 sz) (hQ : cx_Q C = MQ (cx_b C) (va_Qi Q (BX1 E S0 sz) (xA S0 sz)) (cx_a C) (cx_s C) (cx_MC C) (cx_MS C) (xA S0 sz)) (h : wx_J2_add Q mc ms S x0 x1) : GX E C S mc ms 0 [some (va_rf x0), some (va_rf x1)] [] := by
  refine g_aload_nR hC dJ2_add_0 rfl ?_
  refine g_dup hC dJ2_add_1 (va_rf_cat _) ?_
  obtain ⟨u1, eu1, h⟩ := h
  refine g_top0 eu1 ?_
  have hk2 := h.1
  refine gX_get (C0 := RJ2) (T := TJ2) (N := 3) (n := 16) (k := 0) (q := (5100, false)) hC hX dJ2_add_2 q138 rfl in_J2 (by decide) (Or.inr q139) rfl (by decide) hk2 ?_
  show GX _ _ _ _ _ _ _ (.int (xFI S 5100 u1) :: _)
  refine g_iconst (v := 1) hC dJ2_add_5 (by decide) ?_
  refine g_iadd hC dJ2_add_6 ?_
  refine g_top1 eu1 ?_
  refine gX_putI (C0 := RJ2) (T := TJ2) (ty0 := tyJ2) (N := 3) (n := 16) (k := 0) (f := 5100) hC hX dJ2_add_7 q138 rfl in_J2 tyJ2_ok nmJ2 (by decide) (Or.inr q139) rfl rfl rfl rfl rfl (by decide) (Or.inl (by decide)) hk2 ?_
  refine g_aload_nR hC dJ2_add_10 rfl ?_
  refine g_aload_nR hC dJ2_add_11 rfl ?_
  refine g_aload_nR hC dJ2_add_12 rfl ?_
  refine g_top0 eu1 ?_
  refine gX_get (C0 := RJ2) (T := TJ2) (N := 3) (n := 16) (k := 1) (q := (1600, true)) hC hX dJ2_add_13 q135 rfl in_J2 (by decide) (Or.inl rfl) rfl (by decide) hk2 ?_
  show GX _ _ _ _ _ _ _ (va_rf (xFR (sFI S 5100 u1 ((xFI S 5100 u1) + (1 : Int32))) 1600 u1) :: _)
  refine g_aload_nR hC dJ2_add_16 rfl ?_
  refine g_top0 eu1 ?_
  refine gX_get (C0 := RJ2) (T := TJ2) (N := 3) (n := 16) (k := 2) (q := (1601, false)) hC hX dJ2_add_17 q136 rfl in_J2 (by decide) (Or.inl rfl) rfl (by decide) hk2 ?_
  show GX _ _ _ _ _ _ _ (.int (xFI (sFI S 5100 u1 ((xFI S 5100 u1) + (1 : Int32))) 1601 u1) :: _)
  refine g_top3 eu1 ?_
  obtain ⟨k3, n4, hk3, hn4, h⟩ := h.2
  refine gX_cv hX (gX_runV (As := [va_rf x1, va_rf (xFR (sFI S 5100 u1 ((xFI S 5100 u1) + (1 : Int32))) 1600 u1), .int (xFI (sFI S 5100 u1 ((xFI S 5100 u1) + (1 : Int32))) 1601 u1)]) (rest := []) (Cr := RJ2) hC hX (mx_J2_add_2 (cx_l C) E k3 n4 _ _ _ _ _ _ h) (lw_V q868 q870 qs13 q73 q871) hx_J2_add_2 rfl rfl (Or.inl (Nat.le_of_ble_eq_true rfl)) ⟨Nat.le_of_ble_eq_true rfl, Nat.le_of_ble_eq_true rfl⟩ dJ2_add_20 hk3 hn4 hk2 rfl (by decide) rfl) hk3 hn4 ?_
  intro S5 h
  refine g_iconst (v := 1) hC dJ2_add_23 (by decide) ?_
  refine gX_zret rfl rfl hC hA hQ dJ2_add_24 h
theorem mx_J2_add (l : Launch) (E : XE) (mc ms : Nat) (Q : Int32 → XS → Prop) (S : XS) (x0 : Option Nat) (x1 : Option Nat) (h : wx_J2_add Q mc ms S x0 x1) : XMet E l yJ2_add cJ2_add 2 (some .boolean) ({ frames := 6, cells := mc, slots := ms, locals := 144 } : Room) [va_rf x0, va_rf x1] S (fun sz => va_Qi Q (BX1 E S sz) (xA S sz)) :=
  XMet_of (rm := ({ frames := 6, cells := mc, slots := ms, locals := 144 } : Room)) (by decide) (by simp [lg_sl, va_rf_cat, cat_i, cat_l]) (L0 := [some (va_rf x0), some (va_rf x1)]) (by simp [lx_pairs, lv_args, va_rf_cat, cat_i, cat_l, List.range_succ]) (fun sz C hC hX hl hnm hA hQ => bx_J2_add E C S sz Q mc ms S x0 x1 hC hX hA hQ h)
/-! J2_rangeCheckForAdd -/
def wx_J2_rangeCheckForAdd_12 (Q : XS → Prop) (S : XS) (a0 : Option Nat) (a1 : Int32) : Prop :=
  False
def wx_J2_rangeCheckForAdd (Q : XS → Prop) (S : XS) (x0 : Option Nat) (x1 : Int32) : Prop :=
  dr x0 (fun u1 => xKD S u1 = some 16 ∧ (if (xFI S 1601 u1) < x1 then wx_J2_rangeCheckForAdd_12 Q S x0 x1 else (if 0 ≤ x1 then Q S else wx_J2_rangeCheckForAdd_12 Q S x0 x1)))
theorem hx_J2_rangeCheckForAdd : yJ2_rangeCheckForAdd.cls = RJ2 ∧ yJ2_rangeCheckForAdd.cls ≠ "java/lang/invoke/MethodHandle" ∧ yJ2_rangeCheckForAdd.cls ≠ "java/lang/invoke/VarHandle" ∧ (parseMethodDescriptor yJ2_rangeCheckForAdd.desc).map (fun d => d.parameters.length) = some 1 := by decide +kernel
set_option maxHeartbeats 4000000 in
set_option maxRecDepth 100000 in
theorem bx_J2_rangeCheckForAdd (E : XE) (C : Cx) (S0 : XS) (sz : Nat) (Q : XS → Prop) (S : XS) (x0 : Option Nat) (x1 : Int32) (hC : COk C cJ2_rangeCheckForAdd RJ2 none 1 34 2) (hX : XOk E C) (hA : cx_A C = xA S0 sz) (hQ : cx_Q C = MQ (cx_b C) (va_Qv Q (BX1 E S0 sz) (xA S0 sz)) (cx_a C) (cx_s C) (cx_MC C) (cx_MS C) (xA S0 sz)) (h : wx_J2_rangeCheckForAdd Q S x0 x1) : GX E C S 0 0 0 [some (va_rf x0), some (.int x1)] [] := by
  have s_12 : ∀ (S : XS) (a0 : Option Nat) (a1 : Int32), wx_J2_rangeCheckForAdd_12 Q  S a0 a1 → GX E C S 0 0 12 [some (va_rf a0), some (.int a1)] [] := by
    intro  S a0 a1 h
    exact False.elim h
  refine g_iload_n hC dJ2_rangeCheckForAdd_0 rfl ?_
  refine g_aload_nR hC dJ2_rangeCheckForAdd_1 rfl ?_
  obtain ⟨u1, eu1, h⟩ := h
  refine g_top0 eu1 ?_
  have hk2 := h.1
  refine gX_get (C0 := RJ2) (T := TJ2) (N := 3) (n := 16) (k := 2) (q := (1601, false)) hC hX dJ2_rangeCheckForAdd_2 q136 rfl in_J2 (by decide) (Or.inl rfl) rfl (by decide) hk2 ?_
  show GX _ _ _ _ _ _ _ (.int (xFI S 1601 u1) :: _)
  refine g_icmp_gt (tgt := 12) hC dJ2_rangeCheckForAdd_5 (by decide) (fun c => ?_) (fun c => ?_)
  · have h := it_p c h.2
    exact s_12 S x0 x1 h
  · have h := it_n c h.2
    refine g_iload_n hC dJ2_rangeCheckForAdd_8 rfl ?_
    refine g_if_ge (tgt := 25) hC dJ2_rangeCheckForAdd_9 (by decide) (fun c => ?_) (fun c => ?_)
    · have h := it_p c h
      refine gX_vret hC hA hQ rfl dJ2_rangeCheckForAdd_25 h
    · have h := it_n c h
      exact s_12 S x0 x1 h
theorem mx_J2_rangeCheckForAdd (l : Launch) (E : XE) (Q : XS → Prop) (S : XS) (x0 : Option Nat) (x1 : Int32) (h : wx_J2_rangeCheckForAdd Q S x0 x1) : XMet E l yJ2_rangeCheckForAdd cJ2_rangeCheckForAdd 2 none ({ frames := 1, cells := 0, slots := 0, locals := 34 } : Room) [va_rf x0, .int x1] S (fun sz => va_Qv Q (BX1 E S sz) (xA S sz)) :=
  XMet_of (rm := ({ frames := 1, cells := 0, slots := 0, locals := 34 } : Room)) (by decide) (by simp [lg_sl, va_rf_cat, cat_i, cat_l]) (L0 := [some (va_rf x0), some (.int x1)]) (by simp [lx_pairs, lv_args, va_rf_cat, cat_i, cat_l, List.range_succ]) (fun sz C hC hX hl hnm hA hQ => bx_J2_rangeCheckForAdd E C S sz Q S x0 x1 hC hX hA hQ h)
/-! J2_add_3 -/
def wx_J2_add_3_38 (Q : XS → Prop) (mc ms : Nat) (S : XS) (a0 : Option Nat) (a1 : Int32) (a2 : Option Nat) (a3 : Int32) (a4 : Option Nat) : Prop :=
  dr a4 (fun u8 => xKD S u8 = some 102 ∧ xRO S u8 = false ∧ xRO S u8 = false ∧ ¬ a1 < 0 ∧ ¬ (a1 + (1 : Int32)) < 0 ∧ ¬ (a3 - a1) < 0 ∧ (Int32.toNatClampNeg a1) + (Int32.toNatClampNeg (a3 - a1)) ≤ xLN S u8 ∧ (Int32.toNatClampNeg (a1 + (1 : Int32))) + (Int32.toNatClampNeg (a3 - a1)) ≤ xLN S u8 ∧ (∀ j, j < (Int32.toNatClampNeg (a3 - a1)) → ∀ y, xAR S u8 ((Int32.toNatClampNeg a1) + j) = some y → xOb S y) ∧ dr a2 (fun u10 => xRO (sARf S u8 (va_cpy (xAR S u8) (xAR S u8) (Int32.toNatClampNeg a1) (Int32.toNatClampNeg (a1 + (1 : Int32))) (Int32.toNatClampNeg (a3 - a1)))) u8 = false ∧ vp_in a1 (xLN (sARf S u8 (va_cpy (xAR S u8) (xAR S u8) (Int32.toNatClampNeg a1) (Int32.toNatClampNeg (a1 + (1 : Int32))) (Int32.toNatClampNeg (a3 - a1)))) u8) ∧ xOb (sARf S u8 (va_cpy (xAR S u8) (xAR S u8) (Int32.toNatClampNeg a1) (Int32.toNatClampNeg (a1 + (1 : Int32))) (Int32.toNatClampNeg (a3 - a1)))) u10 ∧ dr a0 (fun u11 => xKD (sAR (sARf S u8 (va_cpy (xAR S u8) (xAR S u8) (Int32.toNatClampNeg a1) (Int32.toNatClampNeg (a1 + (1 : Int32))) (Int32.toNatClampNeg (a3 - a1)))) u8 (Int32.toNatClampNeg a1) (some u10)) u11 = some 16 ∧ Q (sFI (sAR (sARf S u8 (va_cpy (xAR S u8) (xAR S u8) (Int32.toNatClampNeg a1) (Int32.toNatClampNeg (a1 + (1 : Int32))) (Int32.toNatClampNeg (a3 - a1)))) u8 (Int32.toNatClampNeg a1) (some u10)) 1601 u11 (a3 + (1 : Int32))))))
def wx_J2_add_3 (Q : XS → Prop) (mc ms : Nat) (S : XS) (x0 : Option Nat) (x1 : Int32) (x2 : Option Nat) : Prop :=
  dr x0 (fun u1 => xKD S u1 = some 16 ∧ wx_J2_rangeCheckForAdd (fun S3 => xKD S3 u1 = some 16 ∧ dr (xFR (sFI S3 5100 u1 ((xFI S3 5100 u1) + (1 : Int32))) 1600 u1) (fun u6 => xKD (sFI S3 5100 u1 ((xFI S3 5100 u1) + (1 : Int32))) u6 = some 102 ∧ (if (xFI (sFI S3 5100 u1 ((xFI S3 5100 u1) + (1 : Int32))) 1601 u1) = (Int32.ofNat (xLN (sFI S3 5100 u1 ((xFI S3 5100 u1) + (1 : Int32))) u6)) then (∃ k13 n14, k13 ≤ mc ∧ n14 ≤ ms ∧ wx_J2_grow (fun r16 S15 => wx_J2_add_3_38 Q (mc - k13) (ms - n14) S15 x0 x1 x2 (xFI (sFI S3 5100 u1 ((xFI S3 5100 u1) + (1 : Int32))) 1601 u1) r16) k13 n14 (sFI S3 5100 u1 ((xFI S3 5100 u1) + (1 : Int32))) (some u1)) else wx_J2_add_3_38 Q mc ms (sFI S3 5100 u1 ((xFI S3 5100 u1) + (1 : Int32))) x0 x1 x2 (xFI (sFI S3 5100 u1 ((xFI S3 5100 u1) + (1 : Int32))) 1601 u1) (xFR (sFI S3 5100 u1 ((xFI S3 5100 u1) + (1 : Int32))) 1600 u1)))) S (some u1) x1)
theorem hx_J2_add_3 : yJ2_add_3.cls = RJ2 ∧ yJ2_add_3.cls ≠ "java/lang/invoke/MethodHandle" ∧ yJ2_add_3.cls ≠ "java/lang/invoke/VarHandle" ∧ (parseMethodDescriptor yJ2_add_3.desc).map (fun d => d.parameters.length) = some 2 := by decide +kernel
set_option maxHeartbeats 4000000 in
set_option maxRecDepth 100000 in
theorem bx_J2_add_3 (E : XE) (C : Cx) (S0 : XS) (sz : Nat) (Q : XS → Prop) (mc ms : Nat) (S : XS) (x0 : Option Nat) (x1 : Int32) (x2 : Option Nat) (hC : COk C cJ2_add_3 RJ2 none 5 121 5) (hX : XOk E C) (hA : cx_A C = xA S0 sz) (hQ : cx_Q C = MQ (cx_b C) (va_Qv Q (BX1 E S0 sz) (xA S0 sz)) (cx_a C) (cx_s C) (cx_MC C) (cx_MS C) (xA S0 sz)) (h : wx_J2_add_3 Q mc ms S x0 x1 x2) : GX E C S mc ms 0 [some (va_rf x0), some (.int x1), some (va_rf x2), none, none] [] := by
  have s_38 : ∀ (mc ms : Nat) (S : XS) (a0 : Option Nat) (a1 : Int32) (a2 : Option Nat) (a3 : Int32) (a4 : Option Nat), wx_J2_add_3_38 Q  mc ms S a0 a1 a2 a3 a4 → GX E C S mc ms 38 [some (va_rf a0), some (.int a1), some (va_rf a2), some (.int a3), some (va_rf a4)] [] := by
    intro  mc ms S a0 a1 a2 a3 a4 h
    refine g_aloadR hC dJ2_add_3_38 rfl ?_
    refine g_iload_n hC dJ2_add_3_40 rfl ?_
    refine g_aloadR hC dJ2_add_3_41 rfl ?_
    refine g_iload_n hC dJ2_add_3_43 rfl ?_
    refine g_iconst (v := 1) hC dJ2_add_3_44 (by decide) ?_
    refine g_iadd hC dJ2_add_3_45 ?_
    refine g_iload_n hC dJ2_add_3_46 rfl ?_
    refine g_iload_n hC dJ2_add_3_47 rfl ?_
    refine g_isub hC dJ2_add_3_48 ?_
    obtain ⟨u8, eu8, h⟩ := h
    refine g_top2 eu8 ?_
    refine g_top4 eu8 ?_
    have hk9 := h.1
    refine gX_acopyX hC hX dJ2_add_3_49 q1220 q418 q417 q85 hk9 hk9 h.2.1 h.2.2.1 h.2.2.2.1 h.2.2.2.2.1 h.2.2.2.2.2.1 h.2.2.2.2.2.2.1 h.2.2.2.2.2.2.2.1 h.2.2.2.2.2.2.2.2.1 (Nat.le_of_ble_eq_true rfl) (by decide) (by decide) ?_
    refine g_aloadR hC dJ2_add_3_52 rfl ?_
    refine g_iload_n hC dJ2_add_3_54 rfl ?_
    refine g_aload_nR hC dJ2_add_3_55 rfl ?_
    refine g_top2 eu8 ?_
    obtain ⟨u10, eu10, h⟩ := h.2.2.2.2.2.2.2.2.2
    refine g_top0 eu10 ?_
    refine gX_aastX hC hX dJ2_add_3_56 hk9 h.1 h.2.1 h.2.2.1 ?_
    refine g_aload_nR hC dJ2_add_3_57 rfl ?_
    refine g_iload_n hC dJ2_add_3_58 rfl ?_
    refine g_iconst (v := 1) hC dJ2_add_3_59 (by decide) ?_
    refine g_iadd hC dJ2_add_3_60 ?_
    obtain ⟨u11, eu11, h⟩ := h.2.2.2
    refine g_top1 eu11 ?_
    have hk12 := h.1
    refine gX_putI (C0 := RJ2) (T := TJ2) (ty0 := tyJ2) (N := 3) (n := 16) (k := 2) (f := 1601) hC hX dJ2_add_3_61 q136 rfl in_J2 tyJ2_ok nmJ2 (by decide) (Or.inl rfl) rfl rfl rfl rfl rfl (by decide) (Or.inl (by decide)) hk12 ?_
    refine gX_vret hC hA hQ rfl dJ2_add_3_64 h.2
  refine g_aload_nR hC dJ2_add_3_0 rfl ?_
  refine g_iload_n hC dJ2_add_3_1 rfl ?_
  obtain ⟨u1, eu1, h⟩ := h
  refine g_top1 eu1 ?_
  have hk2 := h.1
  refine gX_nv hX (gX_runV (As := [.int x1]) (rest := []) (Cr := RJ2) hC hX (mx_J2_rangeCheckForAdd (cx_l C) E _ _ _ _ h.2) (lw_V q1124 q1126 qs29 q73 q1127) hx_J2_rangeCheckForAdd rfl rfl (Or.inl (Nat.le_of_ble_eq_true rfl)) ⟨Nat.le_of_ble_eq_true rfl, Nat.le_of_ble_eq_true rfl⟩ dJ2_add_3_2 (Nat.zero_le _) (Nat.zero_le _) hk2 rfl (by decide) rfl) rfl rfl ?_
  intro S3 h
  refine g_aload_nR hC dJ2_add_3_5 rfl ?_
  refine g_dup hC dJ2_add_3_6 (va_rf_cat _) ?_
  refine g_top0 eu1 ?_
  have hk5 := h.1
  refine gX_get (C0 := RJ2) (T := TJ2) (N := 3) (n := 16) (k := 0) (q := (5100, false)) hC hX dJ2_add_3_7 q138 rfl in_J2 (by decide) (Or.inr q139) rfl (by decide) hk5 ?_
  show GX _ _ _ _ _ _ _ (.int (xFI S3 5100 u1) :: _)
  refine g_iconst (v := 1) hC dJ2_add_3_10 (by decide) ?_
  refine g_iadd hC dJ2_add_3_11 ?_
  refine g_top1 eu1 ?_
  refine gX_putI (C0 := RJ2) (T := TJ2) (ty0 := tyJ2) (N := 3) (n := 16) (k := 0) (f := 5100) hC hX dJ2_add_3_12 q138 rfl in_J2 tyJ2_ok nmJ2 (by decide) (Or.inr q139) rfl rfl rfl rfl rfl (by decide) (Or.inl (by decide)) hk5 ?_
  refine g_aload_nR hC dJ2_add_3_15 rfl ?_
  refine g_top0 eu1 ?_
  refine gX_get (C0 := RJ2) (T := TJ2) (N := 3) (n := 16) (k := 2) (q := (1601, false)) hC hX dJ2_add_3_16 q136 rfl in_J2 (by decide) (Or.inl rfl) rfl (by decide) hk5 ?_
  show GX _ _ _ _ _ _ _ (.int (xFI (sFI S3 5100 u1 ((xFI S3 5100 u1) + (1 : Int32))) 1601 u1) :: _)
  refine g_dup hC dJ2_add_3_19 rfl ?_
  refine g_istore_n hC dJ2_add_3_20 rfl (by decide) (lx_okR (j := 2) rfl) rfl ?_
  refine g_aload_nR hC dJ2_add_3_21 rfl ?_
  refine g_top0 eu1 ?_
  refine gX_get (C0 := RJ2) (T := TJ2) (N := 3) (n := 16) (k := 1) (q := (1600, true)) hC hX dJ2_add_3_22 q135 rfl in_J2 (by decide) (Or.inl rfl) rfl (by decide) hk5 ?_
  show GX _ _ _ _ _ _ _ (va_rf (xFR (sFI S3 5100 u1 ((xFI S3 5100 u1) + (1 : Int32))) 1600 u1) :: _)
  refine g_dup hC dJ2_add_3_25 (va_rf_cat _) ?_
  refine g_astoreR hC dJ2_add_3_26 (by decide) rfl rfl ?_
  obtain ⟨u6, eu6, h⟩ := h.2
  refine g_top0 eu6 ?_
  have hk7 := h.1
  refine gX_alen (n := 102) hC hX dJ2_add_3_28 (by decide) hk7 ?_
  refine g_icmp_ne (tgt := 38) hC dJ2_add_3_29 (by decide) (fun c => ?_) (fun c => ?_)
  · have h := it_n c h.2
    exact s_38 mc ms (sFI S3 5100 u1 ((xFI S3 5100 u1) + (1 : Int32))) x0 x1 x2 (xFI (sFI S3 5100 u1 ((xFI S3 5100 u1) + (1 : Int32))) 1601 u1) (xFR (sFI S3 5100 u1 ((xFI S3 5100 u1) + (1 : Int32))) 1600 u1) h
  · have h := it_p c h.2
    refine g_aload_nR hC dJ2_add_3_32 rfl ?_
    refine g_top0 eu1 ?_
    obtain ⟨k13, n14, hk13, hn14, h⟩ := h
    refine gX_cq hX (gX_runV (As := []) (rest := []) (Cr := RJ2) hC hX (mx_J2_grow (cx_l C) E k13 n14 _ _ _ h) (lw_V q872 q874 qs14 q73 q875) hx_J2_grow rfl rfl (Or.inl (Nat.le_of_ble_eq_true rfl)) ⟨Nat.le_of_ble_eq_true rfl, Nat.le_of_ble_eq_true rfl⟩ dJ2_add_3_33 hk13 hn14 hk5 rfl (by decide) rfl) hk13 hn14 ?_
    intro r16 S15 h
    refine g_astoreR hC dJ2_add_3_36 (by decide) rfl rfl ?_
    exact s_38 (mc - k13) (ms - n14) S15 x0 x1 x2 (xFI (sFI S3 5100 u1 ((xFI S3 5100 u1) + (1 : Int32))) 1601 u1) r16 h
theorem mx_J2_add_3 (l : Launch) (E : XE) (mc ms : Nat) (Q : XS → Prop) (S : XS) (x0 : Option Nat) (x1 : Int32) (x2 : Option Nat) (h : wx_J2_add_3 Q mc ms S x0 x1 x2) : XMet E l yJ2_add_3 cJ2_add_3 5 none ({ frames := 5, cells := mc, slots := ms, locals := 121 } : Room) [va_rf x0, .int x1, va_rf x2] S (fun sz => va_Qv Q (BX1 E S sz) (xA S sz)) :=
  XMet_of (rm := ({ frames := 5, cells := mc, slots := ms, locals := 121 } : Room)) (by decide) (by simp [lg_sl, va_rf_cat, cat_i, cat_l]) (L0 := [some (va_rf x0), some (.int x1), some (va_rf x2), none, none]) (by simp [lx_pairs, lv_args, va_rf_cat, cat_i, cat_l, List.range_succ]) (fun sz C hC hX hl hnm hA hQ => bx_J2_add_3 E C S sz Q mc ms S x0 x1 x2 hC hX hA hQ h)
/-! J16_checkIndex -/
def wx_J16_checkIndex_9 (Q : Int32 → XS → Prop) (S : XS) (a0 : Int32) (a1 : Int32) (a2 : Option Nat) : Prop :=
  False
def wx_J16_checkIndex (Q : Int32 → XS → Prop) (S : XS) (x0 : Int32) (x1 : Int32) (x2 : Option Nat) : Prop :=
  (if x0 < 0 then wx_J16_checkIndex_9 Q S x0 x1 x2 else (if x0 < x1 then Q x0 S else wx_J16_checkIndex_9 Q S x0 x1 x2))
theorem hx_J16_checkIndex : yJ16_checkIndex.cls = RJ16 ∧ yJ16_checkIndex.cls ≠ "java/lang/invoke/MethodHandle" ∧ yJ16_checkIndex.cls ≠ "java/lang/invoke/VarHandle" ∧ (parseMethodDescriptor yJ16_checkIndex.desc).map (fun d => d.parameters.length) = some 3 := by decide +kernel
set_option maxHeartbeats 4000000 in
set_option maxRecDepth 100000 in
theorem bx_J16_checkIndex (E : XE) (C : Cx) (S0 : XS) (sz : Nat) (Q : Int32 → XS → Prop) (S : XS) (x0 : Int32) (x1 : Int32) (x2 : Option Nat) (hC : COk C cJ16_checkIndex RJ16 (some .int) 1 34 3) (hX : XOk E C) (hA : cx_A C = xA S0 sz) (hQ : cx_Q C = MQ (cx_b C) (va_Qi Q (BX1 E S0 sz) (xA S0 sz)) (cx_a C) (cx_s C) (cx_MC C) (cx_MS C) (xA S0 sz)) (h : wx_J16_checkIndex Q S x0 x1 x2) : GX E C S 0 0 0 [some (.int x0), some (.int x1), some (va_rf x2)] [] := by
  have s_9 : ∀ (S : XS) (a0 : Int32) (a1 : Int32) (a2 : Option Nat), wx_J16_checkIndex_9 Q  S a0 a1 a2 → GX E C S 0 0 9 [some (.int a0), some (.int a1), some (va_rf a2)] [] := by
    intro  S a0 a1 a2 h
    refine g_aload_nR hC dJ16_checkIndex_9 rfl ?_
    refine g_iload_n hC dJ16_checkIndex_10 rfl ?_
    refine g_iload_n hC dJ16_checkIndex_11 rfl ?_
    exact False.elim h
  refine g_iload_n hC dJ16_checkIndex_0 rfl ?_
  refine g_if_lt (tgt := 9) hC dJ16_checkIndex_1 (by decide) (fun c => ?_) (fun c => ?_)
  · have h := it_p c h
    exact s_9 S x0 x1 x2 h
  · have h := it_n c h
    refine g_iload_n hC dJ16_checkIndex_4 rfl ?_
    refine g_iload_n hC dJ16_checkIndex_5 rfl ?_
    refine g_icmp_lt (tgt := 16) hC dJ16_checkIndex_6 (by decide) (fun c => ?_) (fun c => ?_)
    · have h := it_p c h
      refine g_iload_n hC dJ16_checkIndex_16 rfl ?_
      refine gX_iret rfl hC hA hQ dJ16_checkIndex_17 h
    · have h := it_n c h
      exact s_9 S x0 x1 x2 h
theorem mx_J16_checkIndex (l : Launch) (E : XE) (Q : Int32 → XS → Prop) (S : XS) (x0 : Int32) (x1 : Int32) (x2 : Option Nat) (h : wx_J16_checkIndex Q S x0 x1 x2) : XMet E l yJ16_checkIndex cJ16_checkIndex 3 (some .int) ({ frames := 1, cells := 0, slots := 0, locals := 34 } : Room) [.int x0, .int x1, va_rf x2] S (fun sz => va_Qi Q (BX1 E S sz) (xA S sz)) :=
  XMet_of (rm := ({ frames := 1, cells := 0, slots := 0, locals := 34 } : Room)) (by decide) (by simp [lg_sl, va_rf_cat, cat_i, cat_l]) (L0 := [some (.int x0), some (.int x1), some (va_rf x2)]) (by simp [lx_pairs, lv_args, va_rf_cat, cat_i, cat_l, List.range_succ]) (fun sz C hC hX hl hnm hA hQ => bx_J16_checkIndex E C S sz Q S x0 x1 x2 hC hX hA hQ h)
/-! J17_checkIndex -/
def wx_J17_checkIndex (Q : Int32 → XS → Prop) (S : XS) (x0 : Int32) (x1 : Int32) : Prop :=
  wx_J16_checkIndex (fun r2 S1 => Q r2 S1) S x0 x1 none
theorem hx_J17_checkIndex : yJ17_checkIndex.cls = RJ17 ∧ yJ17_checkIndex.cls ≠ "java/lang/invoke/MethodHandle" ∧ yJ17_checkIndex.cls ≠ "java/lang/invoke/VarHandle" ∧ (parseMethodDescriptor yJ17_checkIndex.desc).map (fun d => d.parameters.length) = some 2 := by decide +kernel
set_option maxHeartbeats 4000000 in
set_option maxRecDepth 100000 in
theorem bx_J17_checkIndex (E : XE) (C : Cx) (S0 : XS) (sz : Nat) (Q : Int32 → XS → Prop) (S : XS) (x0 : Int32) (x1 : Int32) (hC : COk C cJ17_checkIndex RJ17 (some .int) 2 56 2) (hX : XOk E C) (hA : cx_A C = xA S0 sz) (hQ : cx_Q C = MQ (cx_b C) (va_Qi Q (BX1 E S0 sz) (xA S0 sz)) (cx_a C) (cx_s C) (cx_MC C) (cx_MS C) (xA S0 sz)) (h : wx_J17_checkIndex Q S x0 x1) : GX E C S 0 0 0 [some (.int x0), some (.int x1)] [] := by
  refine g_iload_n hC dJ17_checkIndex_0 rfl ?_
  refine g_iload_n hC dJ17_checkIndex_1 rfl ?_
  refine g_nullR hC dJ17_checkIndex_2 ?_
  refine gX_ni hX (gX_runS (As := [.int x0, .int x1, va_rf none]) (rest := []) hC hX (mx_J16_checkIndex (cx_l C) E _ _ _ _ _ h) (lw_S q939 q611 q94 q612) hx_J16_checkIndex.2 rfl rfl (Or.inl (Nat.le_of_ble_eq_true rfl)) ⟨Nat.le_of_ble_eq_true rfl, Nat.le_of_ble_eq_true rfl⟩ dJ17_checkIndex_3 (Nat.zero_le _) (Nat.zero_le _)) rfl rfl ?_
  intro r2 S1 h
  refine gX_iret rfl hC hA hQ dJ17_checkIndex_6 h
theorem mx_J17_checkIndex (l : Launch) (E : XE) (Q : Int32 → XS → Prop) (S : XS) (x0 : Int32) (x1 : Int32) (h : wx_J17_checkIndex Q S x0 x1) : XMet E l yJ17_checkIndex cJ17_checkIndex 2 (some .int) ({ frames := 2, cells := 0, slots := 0, locals := 56 } : Room) [.int x0, .int x1] S (fun sz => va_Qi Q (BX1 E S sz) (xA S sz)) :=
  XMet_of (rm := ({ frames := 2, cells := 0, slots := 0, locals := 56 } : Room)) (by decide) (by simp [lg_sl, va_rf_cat, cat_i, cat_l]) (L0 := [some (.int x0), some (.int x1)]) (by simp [lx_pairs, lv_args, va_rf_cat, cat_i, cat_l, List.range_succ]) (fun sz C hC hX hl hnm hA hQ => bx_J17_checkIndex E C S sz Q S x0 x1 hC hX hA hQ h)
/-! J2_elementData -/
def wx_J2_elementData (Q : Option Nat → XS → Prop) (S : XS) (x0 : Option Nat) (x1 : Int32) : Prop :=
  dr x0 (fun u1 => xKD S u1 = some 16 ∧ dr (xFR S 1600 u1) (fun u3 => xKD S u3 = some 102 ∧ vp_in x1 (xLN S u3) ∧ Q (xAR S u3 (Int32.toNatClampNeg x1)) S))
theorem hx_J2_elementData : yJ2_elementData.cls = RJ2 ∧ yJ2_elementData.cls ≠ "java/lang/invoke/MethodHandle" ∧ yJ2_elementData.cls ≠ "java/lang/invoke/VarHandle" ∧ (parseMethodDescriptor yJ2_elementData.desc).map (fun d => d.parameters.length) = some 1 := by decide +kernel
set_option maxHeartbeats 4000000 in
set_option maxRecDepth 100000 in
theorem bx_J2_elementData (E : XE) (C : Cx) (S0 : XS) (sz : Nat) (Q : Option Nat → XS → Prop) (S : XS) (x0 : Option Nat) (x1 : Int32) (hC : COk C cJ2_elementData RJ2 (some (.object "java/lang/Object")) 1 34 2) (hX : XOk E C) (hA : cx_A C = xA S0 sz) (hQ : cx_Q C = MQ (cx_b C) (va_Qq Q (BX1 E S0 sz) (xA S0 sz)) (cx_a C) (cx_s C) (cx_MC C) (cx_MS C) (xA S0 sz)) (h : wx_J2_elementData Q S x0 x1) : GX E C S 0 0 0 [some (va_rf x0), some (.int x1)] [] := by
  refine g_aload_nR hC dJ2_elementData_0 rfl ?_
  obtain ⟨u1, eu1, h⟩ := h
  refine g_top0 eu1 ?_
  have hk2 := h.1
  refine gX_get (C0 := RJ2) (T := TJ2) (N := 3) (n := 16) (k := 1) (q := (1600, true)) hC hX dJ2_elementData_1 q135 rfl in_J2 (by decide) (Or.inl rfl) rfl (by decide) hk2 ?_
  show GX _ _ _ _ _ _ _ (va_rf (xFR S 1600 u1) :: _)
  refine g_iload_n hC dJ2_elementData_4 rfl ?_
  obtain ⟨u3, eu3, h⟩ := h.2
  refine g_top1 eu3 ?_
  have hk4 := h.1
  refine gX_aald (n := 102) hC hX dJ2_elementData_5 (by decide) hk4 h.2.1 ?_
  refine gX_aret hC hA hQ rfl (Or.inl ⟨_, rfl⟩) dJ2_elementData_6 h.2.2
theorem mx_J2_elementData (l : Launch) (E : XE) (Q : Option Nat → XS → Prop) (S : XS) (x0 : Option Nat) (x1 : Int32) (h : wx_J2_elementData Q S x0 x1) : XMet E l yJ2_elementData cJ2_elementData 2 (some (.object "java/lang/Object")) ({ frames := 1, cells := 0, slots := 0, locals := 34 } : Room) [va_rf x0, .int x1] S (fun sz => va_Qq Q (BX1 E S sz) (xA S sz)) :=
  XMet_of (rm := ({ frames := 1, cells := 0, slots := 0, locals := 34 } : Room)) (by decide) (by simp [lg_sl, va_rf_cat, cat_i, cat_l]) (L0 := [some (va_rf x0), some (.int x1)]) (by simp [lx_pairs, lv_args, va_rf_cat, cat_i, cat_l, List.range_succ]) (fun sz C hC hX hl hnm hA hQ => bx_J2_elementData E C S sz Q S x0 x1 hC hX hA hQ h)
/-! J2_get -/
def wx_J2_get (Q : Option Nat → XS → Prop) (S : XS) (x0 : Option Nat) (x1 : Int32) : Prop :=
  dr x0 (fun u1 => xKD S u1 = some 16 ∧ wx_J17_checkIndex (fun r4 S3 => xKD S3 u1 = some 16 ∧ wx_J2_elementData (fun r7 S6 => Q r7 S6) S3 (some u1) x1) S x1 (xFI S 1601 u1))
theorem hx_J2_get : yJ2_get.cls = RJ2 ∧ yJ2_get.cls ≠ "java/lang/invoke/MethodHandle" ∧ yJ2_get.cls ≠ "java/lang/invoke/VarHandle" ∧ (parseMethodDescriptor yJ2_get.desc).map (fun d => d.parameters.length) = some 1 := by decide +kernel
set_option maxHeartbeats 4000000 in
set_option maxRecDepth 100000 in
theorem bx_J2_get (E : XE) (C : Cx) (S0 : XS) (sz : Nat) (Q : Option Nat → XS → Prop) (S : XS) (x0 : Option Nat) (x1 : Int32) (hC : COk C cJ2_get RJ2 (some (.object "java/lang/Object")) 3 77 2) (hX : XOk E C) (hA : cx_A C = xA S0 sz) (hQ : cx_Q C = MQ (cx_b C) (va_Qq Q (BX1 E S0 sz) (xA S0 sz)) (cx_a C) (cx_s C) (cx_MC C) (cx_MS C) (xA S0 sz)) (h : wx_J2_get Q S x0 x1) : GX E C S 0 0 0 [some (va_rf x0), some (.int x1)] [] := by
  refine g_iload_n hC dJ2_get_0 rfl ?_
  refine g_aload_nR hC dJ2_get_1 rfl ?_
  obtain ⟨u1, eu1, h⟩ := h
  refine g_top0 eu1 ?_
  have hk2 := h.1
  refine gX_get (C0 := RJ2) (T := TJ2) (N := 3) (n := 16) (k := 2) (q := (1601, false)) hC hX dJ2_get_2 q136 rfl in_J2 (by decide) (Or.inl rfl) rfl (by decide) hk2 ?_
  show GX _ _ _ _ _ _ _ (.int (xFI S 1601 u1) :: _)
  refine gX_ni hX (gX_runS (As := [.int x1, .int (xFI S 1601 u1)]) (rest := []) hC hX (mx_J17_checkIndex (cx_l C) E _ _ _ _ h.2) (lw_S q936 q937 q97 q938) hx_J17_checkIndex.2 rfl rfl (Or.inl (Nat.le_of_ble_eq_true rfl)) ⟨Nat.le_of_ble_eq_true rfl, Nat.le_of_ble_eq_true rfl⟩ dJ2_get_5 (Nat.zero_le _) (Nat.zero_le _)) rfl rfl ?_
  intro r4 S3 h
  refine g_pop hC dJ2_get_8 rfl ?_
  refine g_aload_nR hC dJ2_get_9 rfl ?_
  refine g_iload_n hC dJ2_get_10 rfl ?_
  refine g_top1 eu1 ?_
  have hk5 := h.1
  refine gX_nq hX (gX_runV (As := [.int x1]) (rest := []) (Cr := RJ2) hC hX (mx_J2_elementData (cx_l C) E _ _ _ _ h.2) (lw_V q940 q941 q942 q73 q943) hx_J2_elementData rfl rfl (Or.inl (Nat.le_of_ble_eq_true rfl)) ⟨Nat.le_of_ble_eq_true rfl, Nat.le_of_ble_eq_true rfl⟩ dJ2_get_11 (Nat.zero_le _) (Nat.zero_le _) hk5 rfl (by decide) rfl) rfl rfl ?_
  intro r7 S6 h
  refine gX_aret hC hA hQ rfl (Or.inl ⟨_, rfl⟩) dJ2_get_14 h
theorem mx_J2_get (l : Launch) (E : XE) (Q : Option Nat → XS → Prop) (S : XS) (x0 : Option Nat) (x1 : Int32) (h : wx_J2_get Q S x0 x1) : XMet E l yJ2_get cJ2_get 2 (some (.object "java/lang/Object")) ({ frames := 3, cells := 0, slots := 0, locals := 77 } : Room) [va_rf x0, .int x1] S (fun sz => va_Qq Q (BX1 E S sz) (xA S sz)) :=
  XMet_of (rm := ({ frames := 3, cells := 0, slots := 0, locals := 77 } : Room)) (by decide) (by simp [lg_sl, va_rf_cat, cat_i, cat_l]) (L0 := [some (va_rf x0), some (.int x1)]) (by simp [lx_pairs, lv_args, va_rf_cat, cat_i, cat_l, List.range_succ]) (fun sz C hC hX hl hnm hA hQ => bx_J2_get E C S sz Q S x0 x1 hC hX hA hQ h)
/-! J18_bitCount -/
def wx_J18_bitCount (Q : Int32 → XS → Prop) (S : XS) (x0 : Int32) : Prop :=
  Q ((((((((x0 - ((UInt32.toInt32 (Int32.toUInt32 x0 >>> (Int32.toUInt32 (1 : Int32) &&& Int32.toUInt32 31))) &&& (1431655765 : Int32))) &&& (858993459 : Int32)) + ((UInt32.toInt32 (Int32.toUInt32 (x0 - ((UInt32.toInt32 (Int32.toUInt32 x0 >>> (Int32.toUInt32 (1 : Int32) &&& Int32.toUInt32 31))) &&& (1431655765 : Int32))) >>> (Int32.toUInt32 (2 : Int32) &&& Int32.toUInt32 31))) &&& (858993459 : Int32))) + (UInt32.toInt32 (Int32.toUInt32 (((x0 - ((UInt32.toInt32 (Int32.toUInt32 x0 >>> (Int32.toUInt32 (1 : Int32) &&& Int32.toUInt32 31))) &&& (1431655765 : Int32))) &&& (858993459 : Int32)) + ((UInt32.toInt32 (Int32.toUInt32 (x0 - ((UInt32.toInt32 (Int32.toUInt32 x0 >>> (Int32.toUInt32 (1 : Int32) &&& Int32.toUInt32 31))) &&& (1431655765 : Int32))) >>> (Int32.toUInt32 (2 : Int32) &&& Int32.toUInt32 31))) &&& (858993459 : Int32))) >>> (Int32.toUInt32 (4 : Int32) &&& Int32.toUInt32 31)))) &&& (252645135 : Int32)) + (UInt32.toInt32 (Int32.toUInt32 (((((x0 - ((UInt32.toInt32 (Int32.toUInt32 x0 >>> (Int32.toUInt32 (1 : Int32) &&& Int32.toUInt32 31))) &&& (1431655765 : Int32))) &&& (858993459 : Int32)) + ((UInt32.toInt32 (Int32.toUInt32 (x0 - ((UInt32.toInt32 (Int32.toUInt32 x0 >>> (Int32.toUInt32 (1 : Int32) &&& Int32.toUInt32 31))) &&& (1431655765 : Int32))) >>> (Int32.toUInt32 (2 : Int32) &&& Int32.toUInt32 31))) &&& (858993459 : Int32))) + (UInt32.toInt32 (Int32.toUInt32 (((x0 - ((UInt32.toInt32 (Int32.toUInt32 x0 >>> (Int32.toUInt32 (1 : Int32) &&& Int32.toUInt32 31))) &&& (1431655765 : Int32))) &&& (858993459 : Int32)) + ((UInt32.toInt32 (Int32.toUInt32 (x0 - ((UInt32.toInt32 (Int32.toUInt32 x0 >>> (Int32.toUInt32 (1 : Int32) &&& Int32.toUInt32 31))) &&& (1431655765 : Int32))) >>> (Int32.toUInt32 (2 : Int32) &&& Int32.toUInt32 31))) &&& (858993459 : Int32))) >>> (Int32.toUInt32 (4 : Int32) &&& Int32.toUInt32 31)))) &&& (252645135 : Int32)) >>> (Int32.toUInt32 (8 : Int32) &&& Int32.toUInt32 31)))) + (UInt32.toInt32 (Int32.toUInt32 ((((((x0 - ((UInt32.toInt32 (Int32.toUInt32 x0 >>> (Int32.toUInt32 (1 : Int32) &&& Int32.toUInt32 31))) &&& (1431655765 : Int32))) &&& (858993459 : Int32)) + ((UInt32.toInt32 (Int32.toUInt32 (x0 - ((UInt32.toInt32 (Int32.toUInt32 x0 >>> (Int32.toUInt32 (1 : Int32) &&& Int32.toUInt32 31))) &&& (1431655765 : Int32))) >>> (Int32.toUInt32 (2 : Int32) &&& Int32.toUInt32 31))) &&& (858993459 : Int32))) + (UInt32.toInt32 (Int32.toUInt32 (((x0 - ((UInt32.toInt32 (Int32.toUInt32 x0 >>> (Int32.toUInt32 (1 : Int32) &&& Int32.toUInt32 31))) &&& (1431655765 : Int32))) &&& (858993459 : Int32)) + ((UInt32.toInt32 (Int32.toUInt32 (x0 - ((UInt32.toInt32 (Int32.toUInt32 x0 >>> (Int32.toUInt32 (1 : Int32) &&& Int32.toUInt32 31))) &&& (1431655765 : Int32))) >>> (Int32.toUInt32 (2 : Int32) &&& Int32.toUInt32 31))) &&& (858993459 : Int32))) >>> (Int32.toUInt32 (4 : Int32) &&& Int32.toUInt32 31)))) &&& (252645135 : Int32)) + (UInt32.toInt32 (Int32.toUInt32 (((((x0 - ((UInt32.toInt32 (Int32.toUInt32 x0 >>> (Int32.toUInt32 (1 : Int32) &&& Int32.toUInt32 31))) &&& (1431655765 : Int32))) &&& (858993459 : Int32)) + ((UInt32.toInt32 (Int32.toUInt32 (x0 - ((UInt32.toInt32 (Int32.toUInt32 x0 >>> (Int32.toUInt32 (1 : Int32) &&& Int32.toUInt32 31))) &&& (1431655765 : Int32))) >>> (Int32.toUInt32 (2 : Int32) &&& Int32.toUInt32 31))) &&& (858993459 : Int32))) + (UInt32.toInt32 (Int32.toUInt32 (((x0 - ((UInt32.toInt32 (Int32.toUInt32 x0 >>> (Int32.toUInt32 (1 : Int32) &&& Int32.toUInt32 31))) &&& (1431655765 : Int32))) &&& (858993459 : Int32)) + ((UInt32.toInt32 (Int32.toUInt32 (x0 - ((UInt32.toInt32 (Int32.toUInt32 x0 >>> (Int32.toUInt32 (1 : Int32) &&& Int32.toUInt32 31))) &&& (1431655765 : Int32))) >>> (Int32.toUInt32 (2 : Int32) &&& Int32.toUInt32 31))) &&& (858993459 : Int32))) >>> (Int32.toUInt32 (4 : Int32) &&& Int32.toUInt32 31)))) &&& (252645135 : Int32)) >>> (Int32.toUInt32 (8 : Int32) &&& Int32.toUInt32 31)))) >>> (Int32.toUInt32 (16 : Int32) &&& Int32.toUInt32 31)))) &&& (63 : Int32)) S
theorem hx_J18_bitCount : yJ18_bitCount.cls = RJ18 ∧ yJ18_bitCount.cls ≠ "java/lang/invoke/MethodHandle" ∧ yJ18_bitCount.cls ≠ "java/lang/invoke/VarHandle" ∧ (parseMethodDescriptor yJ18_bitCount.desc).map (fun d => d.parameters.length) = some 1 := by decide +kernel
set_option maxHeartbeats 4000000 in
set_option maxRecDepth 100000 in
theorem bx_J18_bitCount (E : XE) (C : Cx) (S0 : XS) (sz : Nat) (Q : Int32 → XS → Prop) (S : XS) (x0 : Int32) (hC : COk C cJ18_bitCount RJ18 (some .int) 1 34 1) (hX : XOk E C) (hA : cx_A C = xA S0 sz) (hQ : cx_Q C = MQ (cx_b C) (va_Qi Q (BX1 E S0 sz) (xA S0 sz)) (cx_a C) (cx_s C) (cx_MC C) (cx_MS C) (xA S0 sz)) (h : wx_J18_bitCount Q S x0) : GX E C S 0 0 0 [some (.int x0)] [] := by
  refine g_iload_n hC dJ18_bitCount_0 rfl ?_
  refine g_iload_n hC dJ18_bitCount_1 rfl ?_
  refine g_iconst (v := 1) hC dJ18_bitCount_2 (by decide) ?_
  refine g_iushr hC dJ18_bitCount_3 ?_
  refine g_ldcw (v := 1431655765) hC dJ18_bitCount_4 q1034 ?_
  refine g_iand hC dJ18_bitCount_7 ?_
  refine g_isub hC dJ18_bitCount_8 ?_
  refine g_istore_n hC dJ18_bitCount_9 rfl (by decide) rfl rfl ?_
  refine g_iload_n hC dJ18_bitCount_10 rfl ?_
  refine g_ldcw (v := 858993459) hC dJ18_bitCount_11 q1035 ?_
  refine g_iand hC dJ18_bitCount_14 ?_
  refine g_iload_n hC dJ18_bitCount_15 rfl ?_
  refine g_iconst (v := 2) hC dJ18_bitCount_16 (by decide) ?_
  refine g_iushr hC dJ18_bitCount_17 ?_
  refine g_ldcw (v := 858993459) hC dJ18_bitCount_18 q1035 ?_
  refine g_iand hC dJ18_bitCount_21 ?_
  refine g_iadd hC dJ18_bitCount_22 ?_
  refine g_istore_n hC dJ18_bitCount_23 rfl (by decide) rfl rfl ?_
  refine g_iload_n hC dJ18_bitCount_24 rfl ?_
  refine g_iload_n hC dJ18_bitCount_25 rfl ?_
  refine g_iconst (v := 4) hC dJ18_bitCount_26 (by decide) ?_
  refine g_iushr hC dJ18_bitCount_27 ?_
  refine g_iadd hC dJ18_bitCount_28 ?_
  refine g_ldcw (v := 252645135) hC dJ18_bitCount_29 q1036 ?_
  refine g_iand hC dJ18_bitCount_32 ?_
  refine g_istore_n hC dJ18_bitCount_33 rfl (by decide) rfl rfl ?_
  refine g_iload_n hC dJ18_bitCount_34 rfl ?_
  refine g_iload_n hC dJ18_bitCount_35 rfl ?_
  refine g_bipush (v := 8) hC dJ18_bitCount_36 (by decide) ?_
  refine g_iushr hC dJ18_bitCount_38 ?_
  refine g_iadd hC dJ18_bitCount_39 ?_
  refine g_istore_n hC dJ18_bitCount_40 rfl (by decide) rfl rfl ?_
  refine g_iload_n hC dJ18_bitCount_41 rfl ?_
  refine g_iload_n hC dJ18_bitCount_42 rfl ?_
  refine g_bipush (v := 16) hC dJ18_bitCount_43 (by decide) ?_
  refine g_iushr hC dJ18_bitCount_45 ?_
  refine g_iadd hC dJ18_bitCount_46 ?_
  refine g_istore_n hC dJ18_bitCount_47 rfl (by decide) rfl rfl ?_
  refine g_iload_n hC dJ18_bitCount_48 rfl ?_
  refine g_bipush (v := 63) hC dJ18_bitCount_49 (by decide) ?_
  refine g_iand hC dJ18_bitCount_51 ?_
  refine gX_iret rfl hC hA hQ dJ18_bitCount_52 h
theorem mx_J18_bitCount (l : Launch) (E : XE) (Q : Int32 → XS → Prop) (S : XS) (x0 : Int32) (h : wx_J18_bitCount Q S x0) : XMet E l yJ18_bitCount cJ18_bitCount 1 (some .int) ({ frames := 1, cells := 0, slots := 0, locals := 34 } : Room) [.int x0] S (fun sz => va_Qi Q (BX1 E S sz) (xA S sz)) :=
  XMet_of (rm := ({ frames := 1, cells := 0, slots := 0, locals := 34 } : Room)) (by decide) (by simp [lg_sl, va_rf_cat, cat_i, cat_l]) (L0 := [some (.int x0)]) (by simp [lx_pairs, lv_args, va_rf_cat, cat_i, cat_l, List.range_succ]) (fun sz C hC hX hl hnm hA hQ => bx_J18_bitCount E C S sz Q S x0 hC hX hA hQ h)
/-! X1_init -/
def wx_X1_init (Q : XS → Prop) (mc ms : Nat) (S : XS) (x0 : Option Nat) : Prop :=
  dr x0 (fun u1 => ¬ (16 : Int32) < 0 ∧ (Int32.toNatClampNeg (16 : Int32)) ≤ 100000 ∧ 1 ≤ mc ∧ (Int32.toNatClampNeg (16 : Int32)) ≤ ms ∧ (∀ q2 : Nat, xKD S q2 = none → xKD (sNewA S q2 100 (Int32.toNatClampNeg (16 : Int32))) u1 = some 1 ∧ Q (sFR (sNewA S q2 100 (Int32.toNatClampNeg (16 : Int32))) 100 u1 (some q2))))
theorem hx_X1_init : yX1_init.cls = RX1 ∧ yX1_init.cls ≠ "java/lang/invoke/MethodHandle" ∧ yX1_init.cls ≠ "java/lang/invoke/VarHandle" ∧ (parseMethodDescriptor yX1_init.desc).map (fun d => d.parameters.length) = some 0 := by decide +kernel
set_option maxHeartbeats 4000000 in
set_option maxRecDepth 100000 in
theorem bx_X1_init (E : XE) (C : Cx) (S0 : XS) (sz : Nat) (Q : XS → Prop) (mc ms : Nat) (S : XS) (x0 : Option Nat) (hC : COk C cX1_init RX1 none 1 34 1) (hX : XOk E C) (hA : cx_A C = xA S0 sz) (hini : (cx_h C).name = "<init>") (hQ : cx_Q C = MQ (cx_b C) (va_Qv Q (BX1 E S0 sz) (xA S0 sz)) (cx_a C) (cx_s C) (cx_MC C) (cx_MS C) (xA S0 sz)) (h : wx_X1_init Q mc ms S x0) : GX E C S mc ms 0 [some (va_rf x0)] [] := by
  refine g_aload_nR hC dX1_init_0 rfl ?_
  obtain ⟨u1, eu1, h⟩ := h
  refine g_top0 eu1 ?_
  refine gX_oinit hC dX1_init_1 q152 q115 q116 (Nat.le_of_ble_eq_true rfl) (by decide) (by decide) ?_
  refine g_aload_nR hC dX1_init_4 rfl ?_
  refine g_bipush (v := 16) hC dX1_init_5 (by decide) ?_
  refine gX_newi hC hX dX1_init_7 q163 h.1 h.2.1 h.2.2.1 h.2.2.2.1 ?_
  intro q2 hq3
  have h := h.2.2.2.2 q2 hq3
  have hk4 : xKD (sNewA S q2 100 (Int32.toNatClampNeg (16 : Int32))) q2 = some 100 := kd_selfA
  refine g_top1 eu1 ?_
  have hk5 := h.1
  refine gX_putRF (C0 := RX1) (T := TX1) (ty0 := tyX1) (N := 2) (n := 1) (k := 0) (f := 100) hC hX dX1_init_9 q153 rfl in_X1 tyX1_ok nmX1 (by decide) rfl rfl hini rfl rfl (narrow_rf (Or.inr ⟨_, rfl⟩) _) (fits_rf (Or.inr ⟨_, rfl⟩) _) rfl (by decide) (Or.inl (by decide)) hk5 ?_
  refine gX_vret hC hA hQ rfl dX1_init_12 h.2
theorem mx_X1_init (l : Launch) (E : XE) (mc ms : Nat) (Q : XS → Prop) (S : XS) (x0 : Option Nat) (h : wx_X1_init Q mc ms S x0) : XMet E l yX1_init cX1_init 1 none ({ frames := 1, cells := mc, slots := ms, locals := 34 } : Room) [va_rf x0] S (fun sz => va_Qv Q (BX1 E S sz) (xA S sz)) :=
  XMet_of (rm := ({ frames := 1, cells := mc, slots := ms, locals := 34 } : Room)) (by decide) (by simp [lg_sl, va_rf_cat, cat_i, cat_l]) (L0 := [some (va_rf x0)]) (by simp [lx_pairs, lv_args, va_rf_cat, cat_i, cat_l, List.range_succ]) (fun sz C hC hX hl hnm hA hQ => bx_X1_init E C S sz Q mc ms S x0 hC hX hA hnm hQ h)
/-! X2_init -/
def wx_X2_init (Q : XS → Prop) (mc ms : Nat) (S : XS) (x0 : Option Nat) : Prop :=
  dr x0 (fun u1 => xKD S u1 = some 2 ∧ ¬ (2 : Int32) < 0 ∧ (Int32.toNatClampNeg (2 : Int32)) ≤ 100000 ∧ 1 ≤ mc ∧ (Int32.toNatClampNeg (2 : Int32)) ≤ ms ∧ (∀ q3 : Nat, xKD (sFI (sFI (sFI (sFI S 200 u1 (2 : Int32)) 201 u1 (12 : Int32)) 202 u1 (7 : Int32)) 203 u1 (50 : Int32)) q3 = none → vp_in (0 : Int32) (xLN (sNewA (sFI (sFI (sFI (sFI S 200 u1 (2 : Int32)) 201 u1 (12 : Int32)) 202 u1 (7 : Int32)) 203 u1 (50 : Int32)) q3 100 (Int32.toNatClampNeg (2 : Int32))) q3) ∧ vp_in (1 : Int32) (xLN (sAI (sNewA (sFI (sFI (sFI (sFI S 200 u1 (2 : Int32)) 201 u1 (12 : Int32)) 202 u1 (7 : Int32)) 203 u1 (50 : Int32)) q3 100 (Int32.toNatClampNeg (2 : Int32))) q3 (Int32.toNatClampNeg (0 : Int32)) (100 : Int32)) q3) ∧ ¬ (5 : Int32) < 0 ∧ (Int32.toNatClampNeg (5 : Int32)) ≤ 100000 ∧ 1 ≤ (mc - 1) ∧ (Int32.toNatClampNeg (5 : Int32)) ≤ (ms - (Int32.toNatClampNeg (2 : Int32))) ∧ (∀ q7 : Nat, xKD (sFR (sAI (sAI (sNewA (sFI (sFI (sFI (sFI S 200 u1 (2 : Int32)) 201 u1 (12 : Int32)) 202 u1 (7 : Int32)) 203 u1 (50 : Int32)) q3 100 (Int32.toNatClampNeg (2 : Int32))) q3 (Int32.toNatClampNeg (0 : Int32)) (100 : Int32)) q3 (Int32.toNatClampNeg (1 : Int32)) (100 : Int32)) 204 u1 (some q3)) q7 = none → vp_in (0 : Int32) (xLN (sNewA (sFR (sAI (sAI (sNewA (sFI (sFI (sFI (sFI S 200 u1 (2 : Int32)) 201 u1 (12 : Int32)) 202 u1 (7 : Int32)) 203 u1 (50 : Int32)) q3 100 (Int32.toNatClampNeg (2 : Int32))) q3 (Int32.toNatClampNeg (0 : Int32)) (100 : Int32)) q3 (Int32.toNatClampNeg (1 : Int32)) (100 : Int32)) 204 u1 (some q3)) q7 100 (Int32.toNatClampNeg (5 : Int32))) q7) ∧ vp_in (1 : Int32) (xLN (sAI (sNewA (sFR (sAI (sAI (sNewA (sFI (sFI (sFI (sFI S 200 u1 (2 : Int32)) 201 u1 (12 : Int32)) 202 u1 (7 : Int32)) 203 u1 (50 : Int32)) q3 100 (Int32.toNatClampNeg (2 : Int32))) q3 (Int32.toNatClampNeg (0 : Int32)) (100 : Int32)) q3 (Int32.toNatClampNeg (1 : Int32)) (100 : Int32)) 204 u1 (some q3)) q7 100 (Int32.toNatClampNeg (5 : Int32))) q7 (Int32.toNatClampNeg (0 : Int32)) (10 : Int32)) q7) ∧ vp_in (2 : Int32) (xLN (sAI (sAI (sNewA (sFR (sAI (sAI (sNewA (sFI (sFI (sFI (sFI S 200 u1 (2 : Int32)) 201 u1 (12 : Int32)) 202 u1 (7 : Int32)) 203 u1 (50 : Int32)) q3 100 (Int32.toNatClampNeg (2 : Int32))) q3 (Int32.toNatClampNeg (0 : Int32)) (100 : Int32)) q3 (Int32.toNatClampNeg (1 : Int32)) (100 : Int32)) 204 u1 (some q3)) q7 100 (Int32.toNatClampNeg (5 : Int32))) q7 (Int32.toNatClampNeg (0 : Int32)) (10 : Int32)) q7 (Int32.toNatClampNeg (1 : Int32)) (10 : Int32)) q7) ∧ vp_in (3 : Int32) (xLN (sAI (sAI (sAI (sNewA (sFR (sAI (sAI (sNewA (sFI (sFI (sFI (sFI S 200 u1 (2 : Int32)) 201 u1 (12 : Int32)) 202 u1 (7 : Int32)) 203 u1 (50 : Int32)) q3 100 (Int32.toNatClampNeg (2 : Int32))) q3 (Int32.toNatClampNeg (0 : Int32)) (100 : Int32)) q3 (Int32.toNatClampNeg (1 : Int32)) (100 : Int32)) 204 u1 (some q3)) q7 100 (Int32.toNatClampNeg (5 : Int32))) q7 (Int32.toNatClampNeg (0 : Int32)) (10 : Int32)) q7 (Int32.toNatClampNeg (1 : Int32)) (10 : Int32)) q7 (Int32.toNatClampNeg (2 : Int32)) (10 : Int32)) q7) ∧ vp_in (4 : Int32) (xLN (sAI (sAI (sAI (sAI (sNewA (sFR (sAI (sAI (sNewA (sFI (sFI (sFI (sFI S 200 u1 (2 : Int32)) 201 u1 (12 : Int32)) 202 u1 (7 : Int32)) 203 u1 (50 : Int32)) q3 100 (Int32.toNatClampNeg (2 : Int32))) q3 (Int32.toNatClampNeg (0 : Int32)) (100 : Int32)) q3 (Int32.toNatClampNeg (1 : Int32)) (100 : Int32)) 204 u1 (some q3)) q7 100 (Int32.toNatClampNeg (5 : Int32))) q7 (Int32.toNatClampNeg (0 : Int32)) (10 : Int32)) q7 (Int32.toNatClampNeg (1 : Int32)) (10 : Int32)) q7 (Int32.toNatClampNeg (2 : Int32)) (10 : Int32)) q7 (Int32.toNatClampNeg (3 : Int32)) (10 : Int32)) q7) ∧ ¬ (5 : Int32) < 0 ∧ (Int32.toNatClampNeg (5 : Int32)) ≤ 100000 ∧ 1 ≤ ((mc - 1) - 1) ∧ (Int32.toNatClampNeg (5 : Int32)) ≤ ((ms - (Int32.toNatClampNeg (2 : Int32))) - (Int32.toNatClampNeg (5 : Int32))) ∧ (∀ q12 : Nat, xKD (sFR (sAI (sAI (sAI (sAI (sAI (sNewA (sFR (sAI (sAI (sNewA (sFI (sFI (sFI (sFI S 200 u1 (2 : Int32)) 201 u1 (12 : Int32)) 202 u1 (7 : Int32)) 203 u1 (50 : Int32)) q3 100 (Int32.toNatClampNeg (2 : Int32))) q3 (Int32.toNatClampNeg (0 : Int32)) (100 : Int32)) q3 (Int32.toNatClampNeg (1 : Int32)) (100 : Int32)) 204 u1 (some q3)) q7 100 (Int32.toNatClampNeg (5 : Int32))) q7 (Int32.toNatClampNeg (0 : Int32)) (10 : Int32)) q7 (Int32.toNatClampNeg (1 : Int32)) (10 : Int32)) q7 (Int32.toNatClampNeg (2 : Int32)) (10 : Int32)) q7 (Int32.toNatClampNeg (3 : Int32)) (10 : Int32)) q7 (Int32.toNatClampNeg (4 : Int32)) (10 : Int32)) 205 u1 (some q7)) q12 = none → vp_in (0 : Int32) (xLN (sNewA (sFR (sAI (sAI (sAI (sAI (sAI (sNewA (sFR (sAI (sAI (sNewA (sFI (sFI (sFI (sFI S 200 u1 (2 : Int32)) 201 u1 (12 : Int32)) 202 u1 (7 : Int32)) 203 u1 (50 : Int32)) q3 100 (Int32.toNatClampNeg (2 : Int32))) q3 (Int32.toNatClampNeg (0 : Int32)) (100 : Int32)) q3 (Int32.toNatClampNeg (1 : Int32)) (100 : Int32)) 204 u1 (some q3)) q7 100 (Int32.toNatClampNeg (5 : Int32))) q7 (Int32.toNatClampNeg (0 : Int32)) (10 : Int32)) q7 (Int32.toNatClampNeg (1 : Int32)) (10 : Int32)) q7 (Int32.toNatClampNeg (2 : Int32)) (10 : Int32)) q7 (Int32.toNatClampNeg (3 : Int32)) (10 : Int32)) q7 (Int32.toNatClampNeg (4 : Int32)) (10 : Int32)) 205 u1 (some q7)) q12 100 (Int32.toNatClampNeg (5 : Int32))) q12) ∧ vp_in (1 : Int32) (xLN (sAI (sNewA (sFR (sAI (sAI (sAI (sAI (sAI (sNewA (sFR (sAI (sAI (sNewA (sFI (sFI (sFI (sFI S 200 u1 (2 : Int32)) 201 u1 (12 : Int32)) 202 u1 (7 : Int32)) 203 u1 (50 : Int32)) q3 100 (Int32.toNatClampNeg (2 : Int32))) q3 (Int32.toNatClampNeg (0 : Int32)) (100 : Int32)) q3 (Int32.toNatClampNeg (1 : Int32)) (100 : Int32)) 204 u1 (some q3)) q7 100 (Int32.toNatClampNeg (5 : Int32))) q7 (Int32.toNatClampNeg (0 : Int32)) (10 : Int32)) q7 (Int32.toNatClampNeg (1 : Int32)) (10 : Int32)) q7 (Int32.toNatClampNeg (2 : Int32)) (10 : Int32)) q7 (Int32.toNatClampNeg (3 : Int32)) (10 : Int32)) q7 (Int32.toNatClampNeg (4 : Int32)) (10 : Int32)) 205 u1 (some q7)) q12 100 (Int32.toNatClampNeg (5 : Int32))) q12 (Int32.toNatClampNeg (0 : Int32)) (0 : Int32)) q12) ∧ vp_in (2 : Int32) (xLN (sAI (sAI (sNewA (sFR (sAI (sAI (sAI (sAI (sAI (sNewA (sFR (sAI (sAI (sNewA (sFI (sFI (sFI (sFI S 200 u1 (2 : Int32)) 201 u1 (12 : Int32)) 202 u1 (7 : Int32)) 203 u1 (50 : Int32)) q3 100 (Int32.toNatClampNeg (2 : Int32))) q3 (Int32.toNatClampNeg (0 : Int32)) (100 : Int32)) q3 (Int32.toNatClampNeg (1 : Int32)) (100 : Int32)) 204 u1 (some q3)) q7 100 (Int32.toNatClampNeg (5 : Int32))) q7 (Int32.toNatClampNeg (0 : Int32)) (10 : Int32)) q7 (Int32.toNatClampNeg (1 : Int32)) (10 : Int32)) q7 (Int32.toNatClampNeg (2 : Int32)) (10 : Int32)) q7 (Int32.toNatClampNeg (3 : Int32)) (10 : Int32)) q7 (Int32.toNatClampNeg (4 : Int32)) (10 : Int32)) 205 u1 (some q7)) q12 100 (Int32.toNatClampNeg (5 : Int32))) q12 (Int32.toNatClampNeg (0 : Int32)) (0 : Int32)) q12 (Int32.toNatClampNeg (1 : Int32)) (1 : Int32)) q12) ∧ vp_in (3 : Int32) (xLN (sAI (sAI (sAI (sNewA (sFR (sAI (sAI (sAI (sAI (sAI (sNewA (sFR (sAI (sAI (sNewA (sFI (sFI (sFI (sFI S 200 u1 (2 : Int32)) 201 u1 (12 : Int32)) 202 u1 (7 : Int32)) 203 u1 (50 : Int32)) q3 100 (Int32.toNatClampNeg (2 : Int32))) q3 (Int32.toNatClampNeg (0 : Int32)) (100 : Int32)) q3 (Int32.toNatClampNeg (1 : Int32)) (100 : Int32)) 204 u1 (some q3)) q7 100 (Int32.toNatClampNeg (5 : Int32))) q7 (Int32.toNatClampNeg (0 : Int32)) (10 : Int32)) q7 (Int32.toNatClampNeg (1 : Int32)) (10 : Int32)) q7 (Int32.toNatClampNeg (2 : Int32)) (10 : Int32)) q7 (Int32.toNatClampNeg (3 : Int32)) (10 : Int32)) q7 (Int32.toNatClampNeg (4 : Int32)) (10 : Int32)) 205 u1 (some q7)) q12 100 (Int32.toNatClampNeg (5 : Int32))) q12 (Int32.toNatClampNeg (0 : Int32)) (0 : Int32)) q12 (Int32.toNatClampNeg (1 : Int32)) (1 : Int32)) q12 (Int32.toNatClampNeg (2 : Int32)) (2 : Int32)) q12) ∧ vp_in (4 : Int32) (xLN (sAI (sAI (sAI (sAI (sNewA (sFR (sAI (sAI (sAI (sAI (sAI (sNewA (sFR (sAI (sAI (sNewA (sFI (sFI (sFI (sFI S 200 u1 (2 : Int32)) 201 u1 (12 : Int32)) 202 u1 (7 : Int32)) 203 u1 (50 : Int32)) q3 100 (Int32.toNatClampNeg (2 : Int32))) q3 (Int32.toNatClampNeg (0 : Int32)) (100 : Int32)) q3 (Int32.toNatClampNeg (1 : Int32)) (100 : Int32)) 204 u1 (some q3)) q7 100 (Int32.toNatClampNeg (5 : Int32))) q7 (Int32.toNatClampNeg (0 : Int32)) (10 : Int32)) q7 (Int32.toNatClampNeg (1 : Int32)) (10 : Int32)) q7 (Int32.toNatClampNeg (2 : Int32)) (10 : Int32)) q7 (Int32.toNatClampNeg (3 : Int32)) (10 : Int32)) q7 (Int32.toNatClampNeg (4 : Int32)) (10 : Int32)) 205 u1 (some q7)) q12 100 (Int32.toNatClampNeg (5 : Int32))) q12 (Int32.toNatClampNeg (0 : Int32)) (0 : Int32)) q12 (Int32.toNatClampNeg (1 : Int32)) (1 : Int32)) q12 (Int32.toNatClampNeg (2 : Int32)) (2 : Int32)) q12 (Int32.toNatClampNeg (3 : Int32)) (3 : Int32)) q12) ∧ Q (sFR (sAI (sAI (sAI (sAI (sAI (sNewA (sFR (sAI (sAI (sAI (sAI (sAI (sNewA (sFR (sAI (sAI (sNewA (sFI (sFI (sFI (sFI S 200 u1 (2 : Int32)) 201 u1 (12 : Int32)) 202 u1 (7 : Int32)) 203 u1 (50 : Int32)) q3 100 (Int32.toNatClampNeg (2 : Int32))) q3 (Int32.toNatClampNeg (0 : Int32)) (100 : Int32)) q3 (Int32.toNatClampNeg (1 : Int32)) (100 : Int32)) 204 u1 (some q3)) q7 100 (Int32.toNatClampNeg (5 : Int32))) q7 (Int32.toNatClampNeg (0 : Int32)) (10 : Int32)) q7 (Int32.toNatClampNeg (1 : Int32)) (10 : Int32)) q7 (Int32.toNatClampNeg (2 : Int32)) (10 : Int32)) q7 (Int32.toNatClampNeg (3 : Int32)) (10 : Int32)) q7 (Int32.toNatClampNeg (4 : Int32)) (10 : Int32)) 205 u1 (some q7)) q12 100 (Int32.toNatClampNeg (5 : Int32))) q12 (Int32.toNatClampNeg (0 : Int32)) (0 : Int32)) q12 (Int32.toNatClampNeg (1 : Int32)) (1 : Int32)) q12 (Int32.toNatClampNeg (2 : Int32)) (2 : Int32)) q12 (Int32.toNatClampNeg (3 : Int32)) (3 : Int32)) q12 (Int32.toNatClampNeg (4 : Int32)) (4 : Int32)) 206 u1 (some q12))))))
theorem hx_X2_init : yX2_init.cls = RX2 ∧ yX2_init.cls ≠ "java/lang/invoke/MethodHandle" ∧ yX2_init.cls ≠ "java/lang/invoke/VarHandle" ∧ (parseMethodDescriptor yX2_init.desc).map (fun d => d.parameters.length) = some 0 := by decide +kernel
set_option maxHeartbeats 4000000 in
set_option maxRecDepth 100000 in
theorem bx_X2_init (E : XE) (C : Cx) (S0 : XS) (sz : Nat) (Q : XS → Prop) (mc ms : Nat) (S : XS) (x0 : Option Nat) (hC : COk C cX2_init RX2 none 1 34 1) (hX : XOk E C) (hA : cx_A C = xA S0 sz) (hini : (cx_h C).name = "<init>") (hQ : cx_Q C = MQ (cx_b C) (va_Qv Q (BX1 E S0 sz) (xA S0 sz)) (cx_a C) (cx_s C) (cx_MC C) (cx_MS C) (xA S0 sz)) (h : wx_X2_init Q mc ms S x0) : GX E C S mc ms 0 [some (va_rf x0)] [] := by
  refine g_aload_nR hC dX2_init_0 rfl ?_
  obtain ⟨u1, eu1, h⟩ := h
  refine g_top0 eu1 ?_
  refine gX_oinit hC dX2_init_1 q170 q115 q116 (Nat.le_of_ble_eq_true rfl) (by decide) (by decide) ?_
  refine g_aload_nR hC dX2_init_4 rfl ?_
  refine g_iconst (v := 2) hC dX2_init_5 (by decide) ?_
  refine g_top1 eu1 ?_
  have hk2 := h.1
  refine gX_putI (C0 := RX2) (T := TX2) (ty0 := tyX2) (N := 7) (n := 2) (k := 0) (f := 200) hC hX dX2_init_6 q171 rfl in_X2 tyX2_ok nmX2 (by decide) (Or.inl rfl) rfl rfl rfl rfl rfl (by decide) (Or.inl (by decide)) hk2 ?_
  refine g_aload_nR hC dX2_init_9 rfl ?_
  refine g_bipush (v := 12) hC dX2_init_10 (by decide) ?_
  refine g_top1 eu1 ?_
  refine gX_putI (C0 := RX2) (T := TX2) (ty0 := tyX2) (N := 7) (n := 2) (k := 1) (f := 201) hC hX dX2_init_12 q175 rfl in_X2 tyX2_ok nmX2 (by decide) (Or.inl rfl) rfl rfl rfl rfl rfl (by decide) (Or.inl (by decide)) hk2 ?_
  refine g_aload_nR hC dX2_init_15 rfl ?_
  refine g_bipush (v := 7) hC dX2_init_16 (by decide) ?_
  refine g_top1 eu1 ?_
  refine gX_putI (C0 := RX2) (T := TX2) (ty0 := tyX2) (N := 7) (n := 2) (k := 2) (f := 202) hC hX dX2_init_18 q178 rfl in_X2 tyX2_ok nmX2 (by decide) (Or.inl rfl) rfl rfl rfl rfl rfl (by decide) (Or.inl (by decide)) hk2 ?_
  refine g_aload_nR hC dX2_init_21 rfl ?_
  refine g_bipush (v := 50) hC dX2_init_22 (by decide) ?_
  refine g_top1 eu1 ?_
  refine gX_putI (C0 := RX2) (T := TX2) (ty0 := tyX2) (N := 7) (n := 2) (k := 3) (f := 203) hC hX dX2_init_24 q181 rfl in_X2 tyX2_ok nmX2 (by decide) (Or.inl rfl) rfl rfl rfl rfl rfl (by decide) (Or.inl (by decide)) hk2 ?_
  refine g_aload_nR hC dX2_init_27 rfl ?_
  refine g_iconst (v := 2) hC dX2_init_28 (by decide) ?_
  refine gX_newi hC hX dX2_init_29 q163 h.2.1 h.2.2.1 h.2.2.2.1 h.2.2.2.2.1 ?_
  intro q3 hq4
  have h := h.2.2.2.2.2 q3 hq4
  have hk5 := kd_newA (q := q3) (n := 100) (k := (Int32.toNatClampNeg (2 : Int32))) hk2 hq4
  have hk6 : xKD (sNewA (sFI (sFI (sFI (sFI S 200 u1 (2 : Int32)) 201 u1 (12 : Int32)) 202 u1 (7 : Int32)) 203 u1 (50 : Int32)) q3 100 (Int32.toNatClampNeg (2 : Int32))) q3 = some 100 := kd_selfA
  refine g_dup hC dX2_init_31 (va_rf_cat _) ?_
  refine g_iconst (v := 0) hC dX2_init_32 (by decide) ?_
  refine g_bipush (v := 100) hC dX2_init_33 (by decide) ?_
  refine gX_iast hC hX dX2_init_35 hk6 h.1 ?_
  refine g_dup hC dX2_init_36 (va_rf_cat _) ?_
  refine g_iconst (v := 1) hC dX2_init_37 (by decide) ?_
  refine g_bipush (v := 100) hC dX2_init_38 (by decide) ?_
  refine gX_iast hC hX dX2_init_40 hk6 h.2.1 ?_
  refine g_top1 eu1 ?_
  refine gX_putRF (C0 := RX2) (T := TX2) (ty0 := tyX2) (N := 7) (n := 2) (k := 4) (f := 204) hC hX dX2_init_41 q184 rfl in_X2 tyX2_ok nmX2 (by decide) rfl rfl hini rfl rfl (narrow_rf (Or.inr ⟨_, rfl⟩) _) (fits_rf (Or.inr ⟨_, rfl⟩) _) rfl (by decide) (Or.inl (by decide)) hk5 ?_
  refine g_aload_nR hC dX2_init_44 rfl ?_
  refine g_iconst (v := 5) hC dX2_init_45 (by decide) ?_
  refine gX_newi hC hX dX2_init_46 q163 h.2.2.1 h.2.2.2.1 h.2.2.2.2.1 h.2.2.2.2.2.1 ?_
  intro q7 hq8
  have h := h.2.2.2.2.2.2 q7 hq8
  have hk9 := kd_newA (q := q7) (n := 100) (k := (Int32.toNatClampNeg (5 : Int32))) hk5 hq8
  have hk10 := kd_newA (q := q7) (n := 100) (k := (Int32.toNatClampNeg (5 : Int32))) hk6 hq8
  have hk11 : xKD (sNewA (sFR (sAI (sAI (sNewA (sFI (sFI (sFI (sFI S 200 u1 (2 : Int32)) 201 u1 (12 : Int32)) 202 u1 (7 : Int32)) 203 u1 (50 : Int32)) q3 100 (Int32.toNatClampNeg (2 : Int32))) q3 (Int32.toNatClampNeg (0 : Int32)) (100 : Int32)) q3 (Int32.toNatClampNeg (1 : Int32)) (100 : Int32)) 204 u1 (some q3)) q7 100 (Int32.toNatClampNeg (5 : Int32))) q7 = some 100 := kd_selfA
  refine g_dup hC dX2_init_48 (va_rf_cat _) ?_
  refine g_iconst (v := 0) hC dX2_init_49 (by decide) ?_
  refine g_bipush (v := 10) hC dX2_init_50 (by decide) ?_
  refine gX_iast hC hX dX2_init_52 hk11 h.1 ?_
  refine g_dup hC dX2_init_53 (va_rf_cat _) ?_
  refine g_iconst (v := 1) hC dX2_init_54 (by decide) ?_
  refine g_bipush (v := 10) hC dX2_init_55 (by decide) ?_
  refine gX_iast hC hX dX2_init_57 hk11 h.2.1 ?_
  refine g_dup hC dX2_init_58 (va_rf_cat _) ?_
  refine g_iconst (v := 2) hC dX2_init_59 (by decide) ?_
  refine g_bipush (v := 10) hC dX2_init_60 (by decide) ?_
  refine gX_iast hC hX dX2_init_62 hk11 h.2.2.1 ?_
  refine g_dup hC dX2_init_63 (va_rf_cat _) ?_
  refine g_iconst (v := 3) hC dX2_init_64 (by decide) ?_
  refine g_bipush (v := 10) hC dX2_init_65 (by decide) ?_
  refine gX_iast hC hX dX2_init_67 hk11 h.2.2.2.1 ?_
  refine g_dup hC dX2_init_68 (va_rf_cat _) ?_
  refine g_iconst (v := 4) hC dX2_init_69 (by decide) ?_
  refine g_bipush (v := 10) hC dX2_init_70 (by decide) ?_
  refine gX_iast hC hX dX2_init_72 hk11 h.2.2.2.2.1 ?_
  refine g_top1 eu1 ?_
  refine gX_putRF (C0 := RX2) (T := TX2) (ty0 := tyX2) (N := 7) (n := 2) (k := 5) (f := 205) hC hX dX2_init_73 q188 rfl in_X2 tyX2_ok nmX2 (by decide) rfl rfl hini rfl rfl (narrow_rf (Or.inr ⟨_, rfl⟩) _) (fits_rf (Or.inr ⟨_, rfl⟩) _) rfl (by decide) (Or.inl (by decide)) hk9 ?_
  refine g_aload_nR hC dX2_init_76 rfl ?_
  refine g_iconst (v := 5) hC dX2_init_77 (by decide) ?_
  refine gX_newi hC hX dX2_init_78 q163 h.2.2.2.2.2.1 h.2.2.2.2.2.2.1 h.2.2.2.2.2.2.2.1 h.2.2.2.2.2.2.2.2.1 ?_
  intro q12 hq13
  have h := h.2.2.2.2.2.2.2.2.2 q12 hq13
  have hk14 := kd_newA (q := q12) (n := 100) (k := (Int32.toNatClampNeg (5 : Int32))) hk9 hq13
  have hk15 := kd_newA (q := q12) (n := 100) (k := (Int32.toNatClampNeg (5 : Int32))) hk10 hq13
  have hk16 := kd_newA (q := q12) (n := 100) (k := (Int32.toNatClampNeg (5 : Int32))) hk11 hq13
  have hk17 : xKD (sNewA (sFR (sAI (sAI (sAI (sAI (sAI (sNewA (sFR (sAI (sAI (sNewA (sFI (sFI (sFI (sFI S 200 u1 (2 : Int32)) 201 u1 (12 : Int32)) 202 u1 (7 : Int32)) 203 u1 (50 : Int32)) q3 100 (Int32.toNatClampNeg (2 : Int32))) q3 (Int32.toNatClampNeg (0 : Int32)) (100 : Int32)) q3 (Int32.toNatClampNeg (1 : Int32)) (100 : Int32)) 204 u1 (some q3)) q7 100 (Int32.toNatClampNeg (5 : Int32))) q7 (Int32.toNatClampNeg (0 : Int32)) (10 : Int32)) q7 (Int32.toNatClampNeg (1 : Int32)) (10 : Int32)) q7 (Int32.toNatClampNeg (2 : Int32)) (10 : Int32)) q7 (Int32.toNatClampNeg (3 : Int32)) (10 : Int32)) q7 (Int32.toNatClampNeg (4 : Int32)) (10 : Int32)) 205 u1 (some q7)) q12 100 (Int32.toNatClampNeg (5 : Int32))) q12 = some 100 := kd_selfA
  refine g_dup hC dX2_init_80 (va_rf_cat _) ?_
  refine g_iconst (v := 0) hC dX2_init_81 (by decide) ?_
  refine g_iconst (v := 0) hC dX2_init_82 (by decide) ?_
  refine gX_iast hC hX dX2_init_83 hk17 h.1 ?_
  refine g_dup hC dX2_init_84 (va_rf_cat _) ?_
  refine g_iconst (v := 1) hC dX2_init_85 (by decide) ?_
  refine g_iconst (v := 1) hC dX2_init_86 (by decide) ?_
  refine gX_iast hC hX dX2_init_87 hk17 h.2.1 ?_
  refine g_dup hC dX2_init_88 (va_rf_cat _) ?_
  refine g_iconst (v := 2) hC dX2_init_89 (by decide) ?_
  refine g_iconst (v := 2) hC dX2_init_90 (by decide) ?_
  refine gX_iast hC hX dX2_init_91 hk17 h.2.2.1 ?_
  refine g_dup hC dX2_init_92 (va_rf_cat _) ?_
  refine g_iconst (v := 3) hC dX2_init_93 (by decide) ?_
  refine g_iconst (v := 3) hC dX2_init_94 (by decide) ?_
  refine gX_iast hC hX dX2_init_95 hk17 h.2.2.2.1 ?_
  refine g_dup hC dX2_init_96 (va_rf_cat _) ?_
  refine g_iconst (v := 4) hC dX2_init_97 (by decide) ?_
  refine g_iconst (v := 4) hC dX2_init_98 (by decide) ?_
  refine gX_iast hC hX dX2_init_99 hk17 h.2.2.2.2.1 ?_
  refine g_top1 eu1 ?_
  refine gX_putRF (C0 := RX2) (T := TX2) (ty0 := tyX2) (N := 7) (n := 2) (k := 6) (f := 206) hC hX dX2_init_100 q191 rfl in_X2 tyX2_ok nmX2 (by decide) rfl rfl hini rfl rfl (narrow_rf (Or.inr ⟨_, rfl⟩) _) (fits_rf (Or.inr ⟨_, rfl⟩) _) rfl (by decide) (Or.inl (by decide)) hk14 ?_
  refine gX_vret hC hA hQ rfl dX2_init_103 h.2.2.2.2.2
theorem mx_X2_init (l : Launch) (E : XE) (mc ms : Nat) (Q : XS → Prop) (S : XS) (x0 : Option Nat) (h : wx_X2_init Q mc ms S x0) : XMet E l yX2_init cX2_init 1 none ({ frames := 1, cells := mc, slots := ms, locals := 34 } : Room) [va_rf x0] S (fun sz => va_Qv Q (BX1 E S sz) (xA S sz)) :=
  XMet_of (rm := ({ frames := 1, cells := mc, slots := ms, locals := 34 } : Room)) (by decide) (by simp [lg_sl, va_rf_cat, cat_i, cat_l]) (L0 := [some (va_rf x0)]) (by simp [lx_pairs, lv_args, va_rf_cat, cat_i, cat_l, List.range_succ]) (fun sz C hC hX hl hnm hA hQ => bx_X2_init E C S sz Q mc ms S x0 hC hX hA hnm hQ h)
/-! X0_init -/
def wx_X0_init_115 (Q : XS → Prop) : Nat → Nat → Nat → XS → Option Nat → Int32 → Prop
  | 0, _, _, _, _, _ => False
  | n + 1, mc, ms, S, a0, a1 => (if (4 : Int32) ≤ a1 then Q S else dr a0 (fun u71 => xKD S u71 = some 0 ∧ 1 ≤ mc ∧ 7 ≤ ms ∧ (∀ q73 : Nat, xKD S q73 = none → (∃ k77 n78, k77 ≤ (mc - 1) ∧ n78 ≤ (ms - 7) ∧ wx_X2_init (fun S79 => dr (xFR S 1 u71) (fun u81 => xKD S79 u81 = some 104 ∧ xRO S79 u81 = false ∧ vp_in a1 (xLN S79 u81) ∧ xKD S79 q73 = some 2 ∧ wx_X0_init_115 Q n ((mc - 1) - k77) ((ms - 7) - n78) (sAR S79 u81 (Int32.toNatClampNeg a1) (some q73)) a0 (a1 + (1 : Int32)))) k77 n78 (sNew S q73 2) (some q73)))))
def wx_X0_init (Q : XS → Prop) (mc ms : Nat) (S : XS) (x0 : Option Nat) : Prop :=
  dr x0 (fun u1 => ¬ (8 : Int32) < 0 ∧ (Int32.toNatClampNeg (8 : Int32)) ≤ 100000 ∧ 1 ≤ mc ∧ (Int32.toNatClampNeg (8 : Int32)) ≤ ms ∧ (∀ q2 : Nat, xKD S q2 = none → xKD (sNewA S q2 105 (Int32.toNatClampNeg (8 : Int32))) u1 = some 0 ∧ ¬ (4 : Int32) < 0 ∧ (Int32.toNatClampNeg (4 : Int32)) ≤ 100000 ∧ 1 ≤ (mc - 1) ∧ (Int32.toNatClampNeg (4 : Int32)) ≤ (ms - (Int32.toNatClampNeg (8 : Int32))) ∧ (∀ q6 : Nat, xKD (sFR (sNewA S q2 105 (Int32.toNatClampNeg (8 : Int32))) 0 u1 (some q2)) q6 = none → 1 ≤ ((mc - 1) - 1) ∧ 3 ≤ ((ms - (Int32.toNatClampNeg (8 : Int32))) - (Int32.toNatClampNeg (4 : Int32))) ∧ (∀ q11 : Nat, xKD (sFR (sNewA (sFR (sNewA S q2 105 (Int32.toNatClampNeg (8 : Int32))) 0 u1 (some q2)) q6 104 (Int32.toNatClampNeg (4 : Int32))) 1 u1 (some q6)) q11 = none → wx_J2_init (fun S17 => xKD S17 u1 = some 0 ∧ 1 ≤ (((mc - 1) - 1) - 1) ∧ 3 ≤ (((ms - (Int32.toNatClampNeg (8 : Int32))) - (Int32.toNatClampNeg (4 : Int32))) - 3) ∧ (∀ q20 : Nat, xKD (sFR S17 2 u1 (some q11)) q20 = none → wx_J2_init (fun S24 => xKD S24 u1 = some 0 ∧ 1 ≤ ((((mc - 1) - 1) - 1) - 1) ∧ 3 ≤ ((((ms - (Int32.toNatClampNeg (8 : Int32))) - (Int32.toNatClampNeg (4 : Int32))) - 3) - 3) ∧ (∀ q27 : Nat, xKD (sFR S24 3 u1 (some q20)) q27 = none → wx_J2_init (fun S31 => xKD S31 u1 = some 0 ∧ 1 ≤ (((((mc - 1) - 1) - 1) - 1) - 1) ∧ 3 ≤ (((((ms - (Int32.toNatClampNeg (8 : Int32))) - (Int32.toNatClampNeg (4 : Int32))) - 3) - 3) - 3) ∧ (∀ q34 : Nat, xKD (sFR S31 4 u1 (some q27)) q34 = none → wx_J2_init (fun S38 => xKD S38 u1 = some 0 ∧ 1 ≤ ((((((mc - 1) - 1) - 1) - 1) - 1) - 1) ∧ 3 ≤ ((((((ms - (Int32.toNatClampNeg (8 : Int32))) - (Int32.toNatClampNeg (4 : Int32))) - 3) - 3) - 3) - 3) ∧ (∀ q41 : Nat, xKD (sFR S38 5 u1 (some q34)) q41 = none → wx_J2_init (fun S45 => xKD S45 u1 = some 0 ∧ ¬ (400 : Int32) < 0 ∧ (Int32.toNatClampNeg (400 : Int32)) ≤ 100000 ∧ 1 ≤ (((((((mc - 1) - 1) - 1) - 1) - 1) - 1) - 1) ∧ (Int32.toNatClampNeg (400 : Int32)) ≤ (((((((ms - (Int32.toNatClampNeg (8 : Int32))) - (Int32.toNatClampNeg (4 : Int32))) - 3) - 3) - 3) - 3) - 3) ∧ (∀ q48 : Nat, xKD (sFR S45 6 u1 (some q41)) q48 = none → 1 ≤ ((((((((mc - 1) - 1) - 1) - 1) - 1) - 1) - 1) - 1) ∧ 2 ≤ ((((((((ms - (Int32.toNatClampNeg (8 : Int32))) - (Int32.toNatClampNeg (4 : Int32))) - 3) - 3) - 3) - 3) - 3) - (Int32.toNatClampNeg (400 : Int32))) ∧ (∀ q52 : Nat, xKD (sFR (sNewA (sFR S45 6 u1 (some q41)) q48 101 (Int32.toNatClampNeg (400 : Int32))) 7 u1 (some q48)) q52 = none → (∃ k57 n58, k57 ≤ (((((((((mc - 1) - 1) - 1) - 1) - 1) - 1) - 1) - 1) - 1) ∧ n58 ≤ (((((((((ms - (Int32.toNatClampNeg (8 : Int32))) - (Int32.toNatClampNeg (4 : Int32))) - 3) - 3) - 3) - 3) - 3) - (Int32.toNatClampNeg (400 : Int32))) - 2) ∧ wx_X1_init (fun S59 => xKD S59 u1 = some 0 ∧ ¬ (16 : Int32) < 0 ∧ (Int32.toNatClampNeg (16 : Int32)) ≤ 100000 ∧ 1 ≤ ((((((((((mc - 1) - 1) - 1) - 1) - 1) - 1) - 1) - 1) - 1) - k57) ∧ (Int32.toNatClampNeg (16 : Int32)) ≤ ((((((((((ms - (Int32.toNatClampNeg (8 : Int32))) - (Int32.toNatClampNeg (4 : Int32))) - 3) - 3) - 3) - 3) - 3) - (Int32.toNatClampNeg (400 : Int32))) - 2) - n58) ∧ (∀ q62 : Nat, xKD (sFR S59 11 u1 (some q52)) q62 = none → ¬ (16 : Int32) < 0 ∧ (Int32.toNatClampNeg (16 : Int32)) ≤ 100000 ∧ 1 ≤ (((((((((((mc - 1) - 1) - 1) - 1) - 1) - 1) - 1) - 1) - 1) - k57) - 1) ∧ (Int32.toNatClampNeg (16 : Int32)) ≤ (((((((((((ms - (Int32.toNatClampNeg (8 : Int32))) - (Int32.toNatClampNeg (4 : Int32))) - 3) - 3) - 3) - 3) - 3) - (Int32.toNatClampNeg (400 : Int32))) - 2) - n58) - (Int32.toNatClampNeg (16 : Int32))) ∧ (∀ q66 : Nat, xKD (sFR (sNewA (sFR S59 11 u1 (some q52)) q62 103 (Int32.toNatClampNeg (16 : Int32))) 13 u1 (some q62)) q66 = none → ∃ n84, wx_X0_init_115 Q n84 ((((((((((((mc - 1) - 1) - 1) - 1) - 1) - 1) - 1) - 1) - 1) - k57) - 1) - 1) ((((((((((((ms - (Int32.toNatClampNeg (8 : Int32))) - (Int32.toNatClampNeg (4 : Int32))) - 3) - 3) - 3) - 3) - 3) - (Int32.toNatClampNeg (400 : Int32))) - 2) - n58) - (Int32.toNatClampNeg (16 : Int32))) - (Int32.toNatClampNeg (16 : Int32))) (sFR (sNewA (sFR (sNewA (sFR S59 11 u1 (some q52)) q62 103 (Int32.toNatClampNeg (16 : Int32))) 13 u1 (some q62)) q66 100 (Int32.toNatClampNeg (16 : Int32))) 14 u1 (some q66)) x0 (0 : Int32)))) k57 n58 (sNew (sFR (sNewA (sFR S45 6 u1 (some q41)) q48 101 (Int32.toNatClampNeg (400 : Int32))) 7 u1 (some q48)) q52 1) (some q52))))) (sNew (sFR S38 5 u1 (some q34)) q41 16) (some q41))) (sNew (sFR S31 4 u1 (some q27)) q34 16) (some q34))) (sNew (sFR S24 3 u1 (some q20)) q27 16) (some q27))) (sNew (sFR S17 2 u1 (some q11)) q20 16) (some q20))) (sNew (sFR (sNewA (sFR (sNewA S q2 105 (Int32.toNatClampNeg (8 : Int32))) 0 u1 (some q2)) q6 104 (Int32.toNatClampNeg (4 : Int32))) 1 u1 (some q6)) q11 16) (some q11)))))
theorem hx_X0_init : yX0_init.cls = RX0 ∧ yX0_init.cls ≠ "java/lang/invoke/MethodHandle" ∧ yX0_init.cls ≠ "java/lang/invoke/VarHandle" ∧ (parseMethodDescriptor yX0_init.desc).map (fun d => d.parameters.length) = some 0 := by decide +kernel
set_option maxHeartbeats 4000000 in
set_option maxRecDepth 100000 in
theorem bx_X0_init (E : XE) (C : Cx) (S0 : XS) (sz : Nat) (Q : XS → Prop) (mc ms : Nat) (S : XS) (x0 : Option Nat) (hC : COk C cX0_init RX0 none 4 94 2) (hX : XOk E C) (hA : cx_A C = xA S0 sz) (hini : (cx_h C).name = "<init>") (hQ : cx_Q C = MQ (cx_b C) (va_Qv Q (BX1 E S0 sz) (xA S0 sz)) (cx_a C) (cx_s C) (cx_MC C) (cx_MS C) (xA S0 sz)) (h : wx_X0_init Q mc ms S x0) : GX E C S mc ms 0 [some (va_rf x0), none] [] := by
  have s_115 : ∀ (n : Nat) (mc ms : Nat) (S : XS) (a0 : Option Nat) (a1 : Int32), wx_X0_init_115 Q  n mc ms S a0 a1 → GX E C S mc ms 115 [some (va_rf a0), some (.int a1)] [] := by
    intro  n
    induction n with
    | zero =>
      intro mc ms S a0 a1 h
      exact False.elim h
    | succ n ih =>
      intro mc ms S a0 a1 h
      refine g_iload_n hC dX0_init_115 rfl ?_
      refine g_iconst (v := 4) hC dX0_init_116 (by decide) ?_
      refine g_icmp_ge (tgt := 139) hC dX0_init_117 (by decide) (fun c => ?_) (fun c => ?_)
      · have h := it_p c h
        refine gX_vret hC hA hQ rfl dX0_init_139 h
      · have h := it_n c h
        refine g_aload_nR hC dX0_init_120 rfl ?_
        obtain ⟨u71, eu71, h⟩ := h
        refine g_top0 eu71 ?_
        have hk72 := h.1
        refine gX_get (C0 := RX0) (T := TX0) (N := 15) (n := 0) (k := 1) (q := (1, true)) hC hX dX0_init_121 q211 rfl in_X0 (by decide) (Or.inl rfl) rfl (by decide) hk72 ?_
        show GX _ _ _ _ _ _ _ (va_rf (xFR S 1 u71) :: _)
        refine g_iload_n hC dX0_init_124 rfl ?_
        refine gX_new (C0 := RX2) (T := TX2) (ty0 := tyX2) (N := 7) (n := 2) hC hX dX0_init_125 q119 q166 q75 rfl in_X2 tyX2_ok (by decide) dv_X2 h.2.1 h.2.2.1 ?_
        intro q73 hq74
        have h := h.2.2.2 q73 hq74
        have hk75 := kd_new (q := q73) (n := 2) hk72 hq74
        have hk76 : xKD (sNew S q73 2) q73 = some 2 := kd_self
        refine g_dup hC dX0_init_128 (va_rf_cat _) ?_
        obtain ⟨k77, n78, hk77, hn78, h⟩ := h
        refine gX_cv hX (gX_runI (As := []) (rest := [va_rf (some q73), .int a1, va_rf (xFR S 1 u71)]) hC hX (mx_X2_init (cx_l C) E k77 n78 _ _ _ h) q169 q75 q167 q168 rfl hx_X2_init.2 rfl rfl (Or.inl (Nat.le_of_ble_eq_true rfl)) ⟨Nat.le_of_ble_eq_true rfl, Nat.le_of_ble_eq_true rfl⟩ dX0_init_129 hk77 hn78) hk77 hn78 ?_
        intro S79 h
        obtain ⟨u81, eu81, h⟩ := h
        refine g_top2 eu81 ?_
        have hk82 := h.1
        have hk83 := h.2.2.2.1
        refine gX_aast (n := 104) (nv := 2) hC hX dX0_init_132 (by decide) hk82 h.2.1 h.2.2.1 hk83 rfl (by decide) rfl ?_
        refine g_iinc (v := (a1 + (1 : Int32))) hC dX0_init_133 rfl rfl (by decide) (lx_okR (j := 0) rfl) rfl ?_
        refine g_goto (tgt := 115) hC dX0_init_136 (by decide) ?_
        exact ih ((mc - 1) - k77) ((ms - 7) - n78) (sAR S79 u81 (Int32.toNatClampNeg a1) (some q73)) a0 (a1 + (1 : Int32)) h.2.2.2.2
  refine g_aload_nR hC dX0_init_0 rfl ?_
  obtain ⟨u1, eu1, h⟩ := h
  refine g_top0 eu1 ?_
  refine gX_oinit hC dX0_init_1 q114 q115 q116 (Nat.le_of_ble_eq_true rfl) (by decide) (by decide) ?_
  refine g_aload_nR hC dX0_init_4 rfl ?_
  refine g_bipush (v := 8) hC dX0_init_5 (by decide) ?_
  refine gX_newq (n := 105) hC hX dX0_init_7 q117 (by decide) (by decide) rfl h.1 h.2.1 h.2.2.1 h.2.2.2.1 ?_
  intro q2 hq3
  have h := h.2.2.2.2 q2 hq3
  have hk4 : xKD (sNewA S q2 105 (Int32.toNatClampNeg (8 : Int32))) q2 = some 105 := kd_selfA
  refine g_top1 eu1 ?_
  have hk5 := h.1
  refine gX_putRF (C0 := RX0) (T := TX0) (ty0 := tyX0) (N := 15) (n := 0) (k := 0) (f := 0) hC hX dX0_init_10 q208 rfl in_X0 tyX0_ok nmX0 (by decide) rfl rfl hini rfl rfl (narrow_rf (Or.inr ⟨_, rfl⟩) _) (fits_rf (Or.inr ⟨_, rfl⟩) _) rfl (by decide) (Or.inl (by decide)) hk5 ?_
  refine g_aload_nR hC dX0_init_13 rfl ?_
  refine g_iconst (v := 4) hC dX0_init_14 (by decide) ?_
  refine gX_newq (n := 104) hC hX dX0_init_15 q119 (by decide) (by decide) rfl h.2.1 h.2.2.1 h.2.2.2.1 h.2.2.2.2.1 ?_
  intro q6 hq7
  have h := h.2.2.2.2.2 q6 hq7
  have hk8 := kd_newA (q := q6) (n := 104) (k := (Int32.toNatClampNeg (4 : Int32))) hk4 hq7
  have hk9 := kd_newA (q := q6) (n := 104) (k := (Int32.toNatClampNeg (4 : Int32))) hk5 hq7
  have hk10 : xKD (sNewA (sFR (sNewA S q2 105 (Int32.toNatClampNeg (8 : Int32))) 0 u1 (some q2)) q6 104 (Int32.toNatClampNeg (4 : Int32))) q6 = some 104 := kd_selfA
  refine g_top1 eu1 ?_
  refine gX_putRF (C0 := RX0) (T := TX0) (ty0 := tyX0) (N := 15) (n := 0) (k := 1) (f := 1) hC hX dX0_init_18 q211 rfl in_X0 tyX0_ok nmX0 (by decide) rfl rfl hini rfl rfl (narrow_rf (Or.inr ⟨_, rfl⟩) _) (fits_rf (Or.inr ⟨_, rfl⟩) _) rfl (by decide) (Or.inl (by decide)) hk9 ?_
  refine g_aload_nR hC dX0_init_21 rfl ?_
  refine gX_new (C0 := RJ2) (T := TJ2) (ty0 := tyJ2) (N := 3) (n := 16) hC hX dX0_init_22 q121 q122 q73 rfl in_J2 tyJ2_ok (by decide) dv_J2 h.1 h.2.1 ?_
  intro q11 hq12
  have h := h.2.2 q11 hq12
  have hk13 := kd_new (q := q11) (n := 16) hk8 hq12
  have hk14 := kd_new (q := q11) (n := 16) hk9 hq12
  have hk15 := kd_new (q := q11) (n := 16) hk10 hq12
  have hk16 : xKD (sNew (sFR (sNewA (sFR (sNewA S q2 105 (Int32.toNatClampNeg (8 : Int32))) 0 u1 (some q2)) q6 104 (Int32.toNatClampNeg (4 : Int32))) 1 u1 (some q6)) q11 16) q11 = some 16 := kd_self
  refine g_dup hC dX0_init_25 (va_rf_cat _) ?_
  refine gX_nv hX (gX_runI (As := []) (rest := [va_rf (some q11), va_rf x0]) hC hX (mx_J2_init (cx_l C) E _ _ _ h) q125 q73 q123 q124 rfl hx_J2_init.2 rfl rfl (Or.inl (Nat.le_of_ble_eq_true rfl)) ⟨Nat.le_of_ble_eq_true rfl, Nat.le_of_ble_eq_true rfl⟩ dX0_init_26 (Nat.zero_le _) (Nat.zero_le _)) rfl rfl ?_
  intro S17 h
  refine g_top1 eu1 ?_
  have hk19 := h.1
  refine gX_putRF (C0 := RX0) (T := TX0) (ty0 := tyX0) (N := 15) (n := 0) (k := 2) (f := 2) hC hX dX0_init_29 q213 rfl in_X0 tyX0_ok nmX0 (by decide) rfl rfl hini rfl rfl (narrow_rf (Or.inl ⟨_, rfl⟩) _) (fits_rf (Or.inl ⟨_, rfl⟩) _) rfl (by decide) (Or.inl (by decide)) hk19 ?_
  refine g_aload_nR hC dX0_init_32 rfl ?_
  refine gX_new (C0 := RJ2) (T := TJ2) (ty0 := tyJ2) (N := 3) (n := 16) hC hX dX0_init_33 q121 q122 q73 rfl in_J2 tyJ2_ok (by decide) dv_J2 h.2.1 h.2.2.1 ?_
  intro q20 hq21
  have h := h.2.2.2 q20 hq21
  have hk22 := kd_new (q := q20) (n := 16) hk19 hq21
  have hk23 : xKD (sNew (sFR S17 2 u1 (some q11)) q20 16) q20 = some 16 := kd_self
  refine g_dup hC dX0_init_36 (va_rf_cat _) ?_
  refine gX_nv hX (gX_runI (As := []) (rest := [va_rf (some q20), va_rf x0]) hC hX (mx_J2_init (cx_l C) E _ _ _ h) q125 q73 q123 q124 rfl hx_J2_init.2 rfl rfl (Or.inl (Nat.le_of_ble_eq_true rfl)) ⟨Nat.le_of_ble_eq_true rfl, Nat.le_of_ble_eq_true rfl⟩ dX0_init_37 (Nat.zero_le _) (Nat.zero_le _)) rfl rfl ?_
  intro S24 h
  refine g_top1 eu1 ?_
  have hk26 := h.1
  refine gX_putRF (C0 := RX0) (T := TX0) (ty0 := tyX0) (N := 15) (n := 0) (k := 3) (f := 3) hC hX dX0_init_40 q214 rfl in_X0 tyX0_ok nmX0 (by decide) rfl rfl hini rfl rfl (narrow_rf (Or.inl ⟨_, rfl⟩) _) (fits_rf (Or.inl ⟨_, rfl⟩) _) rfl (by decide) (Or.inl (by decide)) hk26 ?_
  refine g_aload_nR hC dX0_init_43 rfl ?_
  refine gX_new (C0 := RJ2) (T := TJ2) (ty0 := tyJ2) (N := 3) (n := 16) hC hX dX0_init_44 q121 q122 q73 rfl in_J2 tyJ2_ok (by decide) dv_J2 h.2.1 h.2.2.1 ?_
  intro q27 hq28
  have h := h.2.2.2 q27 hq28
  have hk29 := kd_new (q := q27) (n := 16) hk26 hq28
  have hk30 : xKD (sNew (sFR S24 3 u1 (some q20)) q27 16) q27 = some 16 := kd_self
  refine g_dup hC dX0_init_47 (va_rf_cat _) ?_
  refine gX_nv hX (gX_runI (As := []) (rest := [va_rf (some q27), va_rf x0]) hC hX (mx_J2_init (cx_l C) E _ _ _ h) q125 q73 q123 q124 rfl hx_J2_init.2 rfl rfl (Or.inl (Nat.le_of_ble_eq_true rfl)) ⟨Nat.le_of_ble_eq_true rfl, Nat.le_of_ble_eq_true rfl⟩ dX0_init_48 (Nat.zero_le _) (Nat.zero_le _)) rfl rfl ?_
  intro S31 h
  refine g_top1 eu1 ?_
  have hk33 := h.1
  refine gX_putRF (C0 := RX0) (T := TX0) (ty0 := tyX0) (N := 15) (n := 0) (k := 4) (f := 4) hC hX dX0_init_51 q215 rfl in_X0 tyX0_ok nmX0 (by decide) rfl rfl hini rfl rfl (narrow_rf (Or.inl ⟨_, rfl⟩) _) (fits_rf (Or.inl ⟨_, rfl⟩) _) rfl (by decide) (Or.inl (by decide)) hk33 ?_
  refine g_aload_nR hC dX0_init_54 rfl ?_
  refine gX_new (C0 := RJ2) (T := TJ2) (ty0 := tyJ2) (N := 3) (n := 16) hC hX dX0_init_55 q121 q122 q73 rfl in_J2 tyJ2_ok (by decide) dv_J2 h.2.1 h.2.2.1 ?_
  intro q34 hq35
  have h := h.2.2.2 q34 hq35
  have hk36 := kd_new (q := q34) (n := 16) hk33 hq35
  have hk37 : xKD (sNew (sFR S31 4 u1 (some q27)) q34 16) q34 = some 16 := kd_self
  refine g_dup hC dX0_init_58 (va_rf_cat _) ?_
  refine gX_nv hX (gX_runI (As := []) (rest := [va_rf (some q34), va_rf x0]) hC hX (mx_J2_init (cx_l C) E _ _ _ h) q125 q73 q123 q124 rfl hx_J2_init.2 rfl rfl (Or.inl (Nat.le_of_ble_eq_true rfl)) ⟨Nat.le_of_ble_eq_true rfl, Nat.le_of_ble_eq_true rfl⟩ dX0_init_59 (Nat.zero_le _) (Nat.zero_le _)) rfl rfl ?_
  intro S38 h
  refine g_top1 eu1 ?_
  have hk40 := h.1
  refine gX_putRF (C0 := RX0) (T := TX0) (ty0 := tyX0) (N := 15) (n := 0) (k := 5) (f := 5) hC hX dX0_init_62 q216 rfl in_X0 tyX0_ok nmX0 (by decide) rfl rfl hini rfl rfl (narrow_rf (Or.inl ⟨_, rfl⟩) _) (fits_rf (Or.inl ⟨_, rfl⟩) _) rfl (by decide) (Or.inl (by decide)) hk40 ?_
  refine g_aload_nR hC dX0_init_65 rfl ?_
  refine gX_new (C0 := RJ2) (T := TJ2) (ty0 := tyJ2) (N := 3) (n := 16) hC hX dX0_init_66 q121 q122 q73 rfl in_J2 tyJ2_ok (by decide) dv_J2 h.2.1 h.2.2.1 ?_
  intro q41 hq42
  have h := h.2.2.2 q41 hq42
  have hk43 := kd_new (q := q41) (n := 16) hk40 hq42
  have hk44 : xKD (sNew (sFR S38 5 u1 (some q34)) q41 16) q41 = some 16 := kd_self
  refine g_dup hC dX0_init_69 (va_rf_cat _) ?_
  refine gX_nv hX (gX_runI (As := []) (rest := [va_rf (some q41), va_rf x0]) hC hX (mx_J2_init (cx_l C) E _ _ _ h) q125 q73 q123 q124 rfl hx_J2_init.2 rfl rfl (Or.inl (Nat.le_of_ble_eq_true rfl)) ⟨Nat.le_of_ble_eq_true rfl, Nat.le_of_ble_eq_true rfl⟩ dX0_init_70 (Nat.zero_le _) (Nat.zero_le _)) rfl rfl ?_
  intro S45 h
  refine g_top1 eu1 ?_
  have hk47 := h.1
  refine gX_putRF (C0 := RX0) (T := TX0) (ty0 := tyX0) (N := 15) (n := 0) (k := 6) (f := 6) hC hX dX0_init_73 q217 rfl in_X0 tyX0_ok nmX0 (by decide) rfl rfl hini rfl rfl (narrow_rf (Or.inl ⟨_, rfl⟩) _) (fits_rf (Or.inl ⟨_, rfl⟩) _) rfl (by decide) (Or.inl (by decide)) hk47 ?_
  refine g_aload_nR hC dX0_init_76 rfl ?_
  refine g_sipush (v := 400) hC dX0_init_77 (by decide) ?_
  refine gX_newb hC hX dX0_init_80 q162 h.2.1 h.2.2.1 h.2.2.2.1 h.2.2.2.2.1 ?_
  intro q48 hq49
  have h := h.2.2.2.2.2 q48 hq49
  have hk50 := kd_newA (q := q48) (n := 101) (k := (Int32.toNatClampNeg (400 : Int32))) hk47 hq49
  have hk51 : xKD (sNewA (sFR S45 6 u1 (some q41)) q48 101 (Int32.toNatClampNeg (400 : Int32))) q48 = some 101 := kd_selfA
  refine g_top1 eu1 ?_
  refine gX_putRF (C0 := RX0) (T := TX0) (ty0 := tyX0) (N := 15) (n := 0) (k := 7) (f := 7) hC hX dX0_init_82 q219 rfl in_X0 tyX0_ok nmX0 (by decide) rfl rfl hini rfl rfl (narrow_rf (Or.inr ⟨_, rfl⟩) _) (fits_rf (Or.inr ⟨_, rfl⟩) _) rfl (by decide) (Or.inl (by decide)) hk50 ?_
  refine g_aload_nR hC dX0_init_85 rfl ?_
  refine gX_new (C0 := RX1) (T := TX1) (ty0 := tyX1) (N := 2) (n := 1) hC hX dX0_init_86 q147 q148 q74 rfl in_X1 tyX1_ok (by decide) dv_X1 h.1 h.2.1 ?_
  intro q52 hq53
  have h := h.2.2 q52 hq53
  have hk54 := kd_new (q := q52) (n := 1) hk50 hq53
  have hk55 := kd_new (q := q52) (n := 1) hk51 hq53
  have hk56 : xKD (sNew (sFR (sNewA (sFR S45 6 u1 (some q41)) q48 101 (Int32.toNatClampNeg (400 : Int32))) 7 u1 (some q48)) q52 1) q52 = some 1 := kd_self
  refine g_dup hC dX0_init_89 (va_rf_cat _) ?_
  obtain ⟨k57, n58, hk57, hn58, h⟩ := h
  refine gX_cv hX (gX_runIN (As := []) (rest := [va_rf (some q52), va_rf x0]) hC hX (mx_X1_init (cx_l C) E k57 n58 _ _ _ h) q151 q149 q74 q150 rfl hx_X1_init.2 rfl rfl (Or.inl (Nat.le_of_ble_eq_true rfl)) ⟨Nat.le_of_ble_eq_true rfl, Nat.le_of_ble_eq_true rfl⟩ dX0_init_90 hk57 hn58) hk57 hn58 ?_
  intro S59 h
  refine g_top1 eu1 ?_
  have hk61 := h.1
  refine gX_putR (C0 := RX0) (T := TX0) (ty0 := tyX0) (N := 15) (n := 0) (k := 11) (f := 11) hC hX dX0_init_93 q225 rfl in_X0 tyX0_ok nmX0 (by decide) (Or.inl rfl) rfl rfl (narrow_rf (Or.inl ⟨_, rfl⟩) _) (fits_rf (Or.inl ⟨_, rfl⟩) _) rfl (by decide) (Or.inl (by decide)) hk61 ?_
  refine g_aload_nR hC dX0_init_96 rfl ?_
  refine g_bipush (v := 16) hC dX0_init_97 (by decide) ?_
  refine gX_newq (n := 103) hC hX dX0_init_99 q164 (by decide) (by decide) rfl h.2.1 h.2.2.1 h.2.2.2.1 h.2.2.2.2.1 ?_
  intro q62 hq63
  have h := h.2.2.2.2.2 q62 hq63
  have hk64 := kd_newA (q := q62) (n := 103) (k := (Int32.toNatClampNeg (16 : Int32))) hk61 hq63
  have hk65 : xKD (sNewA (sFR S59 11 u1 (some q52)) q62 103 (Int32.toNatClampNeg (16 : Int32))) q62 = some 103 := kd_selfA
  refine g_top1 eu1 ?_
  refine gX_putRF (C0 := RX0) (T := TX0) (ty0 := tyX0) (N := 15) (n := 0) (k := 13) (f := 13) hC hX dX0_init_102 q227 rfl in_X0 tyX0_ok nmX0 (by decide) rfl rfl hini rfl rfl (narrow_rf (Or.inr ⟨_, rfl⟩) _) (fits_rf (Or.inr ⟨_, rfl⟩) _) rfl (by decide) (Or.inl (by decide)) hk64 ?_
  refine g_aload_nR hC dX0_init_105 rfl ?_
  refine g_bipush (v := 16) hC dX0_init_106 (by decide) ?_
  refine gX_newi hC hX dX0_init_108 q163 h.1 h.2.1 h.2.2.1 h.2.2.2.1 ?_
  intro q66 hq67
  have h := h.2.2.2.2 q66 hq67
  have hk68 := kd_newA (q := q66) (n := 100) (k := (Int32.toNatClampNeg (16 : Int32))) hk64 hq67
  have hk69 := kd_newA (q := q66) (n := 100) (k := (Int32.toNatClampNeg (16 : Int32))) hk65 hq67
  have hk70 : xKD (sNewA (sFR (sNewA (sFR S59 11 u1 (some q52)) q62 103 (Int32.toNatClampNeg (16 : Int32))) 13 u1 (some q62)) q66 100 (Int32.toNatClampNeg (16 : Int32))) q66 = some 100 := kd_selfA
  refine g_top1 eu1 ?_
  refine gX_putRF (C0 := RX0) (T := TX0) (ty0 := tyX0) (N := 15) (n := 0) (k := 14) (f := 14) hC hX dX0_init_110 q228 rfl in_X0 tyX0_ok nmX0 (by decide) rfl rfl hini rfl rfl (narrow_rf (Or.inr ⟨_, rfl⟩) _) (fits_rf (Or.inr ⟨_, rfl⟩) _) rfl (by decide) (Or.inl (by decide)) hk68 ?_
  refine g_iconst (v := 0) hC dX0_init_113 (by decide) ?_
  refine g_istore_n hC dX0_init_114 rfl (by decide) (lx_okR (j := 0) rfl) rfl ?_
  obtain ⟨n0, h0⟩ := h
  exact s_115 n0 ((((((((((((mc - 1) - 1) - 1) - 1) - 1) - 1) - 1) - 1) - 1) - k57) - 1) - 1) ((((((((((((ms - (Int32.toNatClampNeg (8 : Int32))) - (Int32.toNatClampNeg (4 : Int32))) - 3) - 3) - 3) - 3) - 3) - (Int32.toNatClampNeg (400 : Int32))) - 2) - n58) - (Int32.toNatClampNeg (16 : Int32))) - (Int32.toNatClampNeg (16 : Int32))) (sFR (sNewA (sFR (sNewA (sFR S59 11 u1 (some q52)) q62 103 (Int32.toNatClampNeg (16 : Int32))) 13 u1 (some q62)) q66 100 (Int32.toNatClampNeg (16 : Int32))) 14 u1 (some q66)) x0 (0 : Int32) h0
theorem mx_X0_init (l : Launch) (E : XE) (mc ms : Nat) (Q : XS → Prop) (S : XS) (x0 : Option Nat) (h : wx_X0_init Q mc ms S x0) : XMet E l yX0_init cX0_init 2 none ({ frames := 4, cells := mc, slots := ms, locals := 94 } : Room) [va_rf x0] S (fun sz => va_Qv Q (BX1 E S sz) (xA S sz)) :=
  XMet_of (rm := ({ frames := 4, cells := mc, slots := ms, locals := 94 } : Room)) (by decide) (by simp [lg_sl, va_rf_cat, cat_i, cat_l]) (L0 := [some (va_rf x0), none]) (by simp [lx_pairs, lv_args, va_rf_cat, cat_i, cat_l, List.range_succ]) (fun sz C hC hX hl hnm hA hQ => bx_X0_init E C S sz Q mc ms S x0 hC hX hA hnm hQ h)
/-! X0_isIn -/
def wx_X0_isIn (Q : Int32 → XS → Prop) (S : XS) (x0 : Int64) (x2 : Int64) (x4 : Int64) : Prop :=
  (if (lg_cmp x0 x2) < 0 then Q (0 : Int32) S else (if 0 < (lg_cmp x0 x4) then Q (0 : Int32) S else Q (1 : Int32) S))
theorem hx_X0_isIn : yX0_isIn.cls = RX0 ∧ yX0_isIn.cls ≠ "java/lang/invoke/MethodHandle" ∧ yX0_isIn.cls ≠ "java/lang/invoke/VarHandle" ∧ (parseMethodDescriptor yX0_isIn.desc).map (fun d => d.parameters.length) = some 3 := by decide +kernel
set_option maxHeartbeats 4000000 in
set_option maxRecDepth 100000 in
theorem bx_X0_isIn (E : XE) (C : Cx) (S0 : XS) (sz : Nat) (Q : Int32 → XS → Prop) (S : XS) (x0 : Int64) (x2 : Int64) (x4 : Int64) (hC : COk C cX0_isIn RX0 (some .boolean) 1 34 6) (hX : XOk E C) (hA : cx_A C = xA S0 sz) (hQ : cx_Q C = MQ (cx_b C) (va_Qi Q (BX1 E S0 sz) (xA S0 sz)) (cx_a C) (cx_s C) (cx_MC C) (cx_MS C) (xA S0 sz)) (h : wx_X0_isIn Q S x0 x2 x4) : GX E C S 0 0 0 [some (.long x0), none, some (.long x2), none, some (.long x4), none] [] := by
  refine g_lload_n hC dX0_isIn_0 rfl ?_
  refine g_lload_n hC dX0_isIn_1 rfl ?_
  refine g_lcmp hC dX0_isIn_2 ?_
  refine g_if_lt (tgt := 17) hC dX0_isIn_3 (by decide) (fun c => ?_) (fun c => ?_)
  · have h := it_p c h
    refine g_iconst (v := 0) hC dX0_isIn_17 (by decide) ?_
    refine gX_zret rfl rfl hC hA hQ dX0_isIn_18 h
  · have h := it_n c h
    refine g_lload_n hC dX0_isIn_6 rfl ?_
    refine g_lload hC dX0_isIn_7 rfl ?_
    refine g_lcmp hC dX0_isIn_9 ?_
    refine g_if_gt (tgt := 17) hC dX0_isIn_10 (by decide) (fun c => ?_) (fun c => ?_)
    · have h := it_p c h
      refine g_iconst (v := 0) hC dX0_isIn_17 (by decide) ?_
      refine gX_zret rfl rfl hC hA hQ dX0_isIn_18 h
    · have h := it_n c h
      refine g_iconst (v := 1) hC dX0_isIn_13 (by decide) ?_
      refine g_goto (tgt := 18) hC dX0_isIn_14 (by decide) ?_
      refine gX_zret rfl rfl hC hA hQ dX0_isIn_18 h
theorem mx_X0_isIn (l : Launch) (E : XE) (Q : Int32 → XS → Prop) (S : XS) (x0 : Int64) (x2 : Int64) (x4 : Int64) (h : wx_X0_isIn Q S x0 x2 x4) : XMet E l yX0_isIn cX0_isIn 6 (some .boolean) ({ frames := 1, cells := 0, slots := 0, locals := 34 } : Room) [.long x0, .long x2, .long x4] S (fun sz => va_Qi Q (BX1 E S sz) (xA S sz)) :=
  XMet_of (rm := ({ frames := 1, cells := 0, slots := 0, locals := 34 } : Room)) (by decide) (by simp [lg_sl, va_rf_cat, cat_i, cat_l]) (L0 := [some (.long x0), none, some (.long x2), none, some (.long x4), none]) (by simp [lx_pairs, lv_args, va_rf_cat, cat_i, cat_l, List.range_succ]) (fun sz C hC hX hl hnm hA hQ => bx_X0_isIn E C S sz Q S x0 x2 x4 hC hX hA hQ h)
/-! X0_isSheet -/
def wx_X0_isSheet (Q : Int32 → XS → Prop) (S : XS) (x0 : Int32) : Prop :=
  wx_X0_isIn (fun r2 S1 => narrow .boolean (.int r2) = .int r2 ∧ Q r2 S1) S (Int32.toInt64 x0) (0 : Int64) (7 : Int64)
theorem hx_X0_isSheet : yX0_isSheet.cls = RX0 ∧ yX0_isSheet.cls ≠ "java/lang/invoke/MethodHandle" ∧ yX0_isSheet.cls ≠ "java/lang/invoke/VarHandle" ∧ (parseMethodDescriptor yX0_isSheet.desc).map (fun d => d.parameters.length) = some 1 := by decide +kernel
set_option maxHeartbeats 4000000 in
set_option maxRecDepth 100000 in
theorem bx_X0_isSheet (E : XE) (C : Cx) (S0 : XS) (sz : Nat) (Q : Int32 → XS → Prop) (S : XS) (x0 : Int32) (hC : COk C cX0_isSheet RX0 (some .boolean) 2 59 1) (hX : XOk E C) (hA : cx_A C = xA S0 sz) (hQ : cx_Q C = MQ (cx_b C) (va_Qi Q (BX1 E S0 sz) (xA S0 sz)) (cx_a C) (cx_s C) (cx_MC C) (cx_MS C) (xA S0 sz)) (h : wx_X0_isSheet Q S x0) : GX E C S 0 0 0 [some (.int x0)] [] := by
  refine g_iload_n hC dX0_isSheet_0 rfl ?_
  refine g_i2l hC dX0_isSheet_1 ?_
  refine g_lconst (v := 0) hC dX0_isSheet_2 (by decide) ?_
  refine g_ldc2 (v := 7) hC dX0_isSheet_3 q268 ?_
  refine gX_ni hX (gX_runS (As := [.long (Int32.toInt64 x0), .long (0 : Int64), .long (7 : Int64)]) (rest := []) hC hX (mx_X0_isIn (cx_l C) E _ _ _ _ _ h) (lw_S q269 q270 q70 q271) hx_X0_isIn.2 rfl rfl (Or.inl (Nat.le_of_ble_eq_true rfl)) ⟨Nat.le_of_ble_eq_true rfl, Nat.le_of_ble_eq_true rfl⟩ dX0_isSheet_6 (Nat.zero_le _) (Nat.zero_le _)) rfl rfl ?_
  intro r2 S1 h
  refine gX_zret rfl h.1 hC hA hQ dX0_isSheet_9 h.2
theorem mx_X0_isSheet (l : Launch) (E : XE) (Q : Int32 → XS → Prop) (S : XS) (x0 : Int32) (h : wx_X0_isSheet Q S x0) : XMet E l yX0_isSheet cX0_isSheet 1 (some .boolean) ({ frames := 2, cells := 0, slots := 0, locals := 59 } : Room) [.int x0] S (fun sz => va_Qi Q (BX1 E S sz) (xA S sz)) :=
  XMet_of (rm := ({ frames := 2, cells := 0, slots := 0, locals := 59 } : Room)) (by decide) (by simp [lg_sl, va_rf_cat, cat_i, cat_l]) (L0 := [some (.int x0)]) (by simp [lx_pairs, lv_args, va_rf_cat, cat_i, cat_l, List.range_succ]) (fun sz C hC hX hl hnm hA hQ => bx_X0_isSheet E C S sz Q S x0 hC hX hA hQ h)
/-! X4_init -/
def wx_X4_init (Q : XS → Prop) (S : XS) (x0 : Option Nat) (x1 : Int32) : Prop :=
  dr x0 (fun u1 => wx_J4_init_k3 (fun S2 => xKD S2 u1 = some 3 ∧ Q (sFI S2 300 u1 x1)) S (some u1) none none (0 : Int32) (0 : Int32))
theorem hx_X4_init : yX4_init.cls = RX4 ∧ yX4_init.cls ≠ "java/lang/invoke/MethodHandle" ∧ yX4_init.cls ≠ "java/lang/invoke/VarHandle" ∧ (parseMethodDescriptor yX4_init.desc).map (fun d => d.parameters.length) = some 1 := by decide +kernel
set_option maxHeartbeats 4000000 in
set_option maxRecDepth 100000 in
theorem bx_X4_init (E : XE) (C : Cx) (S0 : XS) (sz : Nat) (Q : XS → Prop) (S : XS) (x0 : Option Nat) (x1 : Int32) (hC : COk C cX4_init RX4 none 3 82 2) (hX : XOk E C) (hA : cx_A C = xA S0 sz) (hini : (cx_h C).name = "<init>") (hQ : cx_Q C = MQ (cx_b C) (va_Qv Q (BX1 E S0 sz) (xA S0 sz)) (cx_a C) (cx_s C) (cx_MC C) (cx_MS C) (xA S0 sz)) (h : wx_X4_init Q S x0 x1) : GX E C S 0 0 0 [some (va_rf x0), some (.int x1)] [] := by
  refine g_aload_nR hC dX4_init_0 rfl ?_
  refine g_nullR hC dX4_init_1 ?_
  refine g_nullR hC dX4_init_2 ?_
  refine g_iconst (v := 0) hC dX4_init_3 (by decide) ?_
  refine g_iconst (v := 0) hC dX4_init_4 (by decide) ?_
  obtain ⟨u1, eu1, h⟩ := h
  refine g_top4 eu1 ?_
  refine gX_nv hX (gX_runI (As := [va_rf none, va_rf none, .int (0 : Int32), .int (0 : Int32)]) (rest := []) hC hX (mx_J4_init_k3 (cx_l C) E _ _ _ _ _ _ _ h) q322 q78 q320 q321 rfl hx_J4_init_k3.2 rfl rfl (Or.inl (Nat.le_of_ble_eq_true rfl)) ⟨Nat.le_of_ble_eq_true rfl, Nat.le_of_ble_eq_true rfl⟩ dX4_init_5 (Nat.zero_le _) (Nat.zero_le _)) rfl rfl ?_
  intro S2 h
  refine g_aload_nR hC dX4_init_8 rfl ?_
  refine g_iload_n hC dX4_init_9 rfl ?_
  refine g_top1 eu1 ?_
  have hk4 := h.1
  refine gX_putIF (C0 := RX4) (T := TX4) (ty0 := tyX4) (N := 7) (n := 3) (k := 6) (f := 300) hC hX dX4_init_10 q326 rfl in_X4 tyX4_ok nmX4 (by decide) rfl rfl hini rfl rfl rfl rfl rfl (by decide) (Or.inl (by decide)) hk4 ?_
  refine gX_vret hC hA hQ rfl dX4_init_13 h.2
theorem mx_X4_init (l : Launch) (E : XE) (Q : XS → Prop) (S : XS) (x0 : Option Nat) (x1 : Int32) (h : wx_X4_init Q S x0 x1) : XMet E l yX4_init cX4_init 2 none ({ frames := 3, cells := 0, slots := 0, locals := 82 } : Room) [va_rf x0, .int x1] S (fun sz => va_Qv Q (BX1 E S sz) (xA S sz)) :=
  XMet_of (rm := ({ frames := 3, cells := 0, slots := 0, locals := 82 } : Room)) (by decide) (by simp [lg_sl, va_rf_cat, cat_i, cat_l]) (L0 := [some (va_rf x0), some (.int x1)]) (by simp [lx_pairs, lv_args, va_rf_cat, cat_i, cat_l, List.range_succ]) (fun sz C hC hX hl hnm hA hQ => bx_X4_init E C S sz Q S x0 x1 hC hX hA hnm hQ h)
/-! X0_must -/
def wx_X0_must (Q : XS → Prop) (X : Nat → XS → Prop) (mc ms : Nat) (S : XS) (x0 : Int32) (x1 : Int32) : Prop :=
  (if x0 = 0 then 1 ≤ mc ∧ 7 ≤ ms ∧ (∀ q1 : Nat, xKD S q1 = none → wx_X4_init (fun S4 => xKD S4 q1 = some 3 ∧ X q1 S4) (sNew S q1 3) (some q1) x1) else Q S)
theorem hx_X0_must : yX0_must.cls = RX0 ∧ yX0_must.cls ≠ "java/lang/invoke/MethodHandle" ∧ yX0_must.cls ≠ "java/lang/invoke/VarHandle" ∧ (parseMethodDescriptor yX0_must.desc).map (fun d => d.parameters.length) = some 2 := by decide +kernel
set_option maxHeartbeats 4000000 in
set_option maxRecDepth 100000 in
theorem bx_X0_must (E : XE) (C : Cx) (S0 : XS) (sz : Nat) (Q : XS → Prop) (X : Nat → XS → Prop) (mc ms : Nat) (S : XS) (x0 : Int32) (x1 : Int32) (hC : COk C cX0_must RX0 none 4 103 2) (hX : XOk E C) (hT : ∀ x ∈ (cx_c C).exceptionTable.toList, False) (hA : cx_A C = xA S0 sz) (hQ : cx_Q C = vx_MQ (cx_b C) (va_Qv Q (BX1 E S0 sz) (xA S0 sz)) (XC0 E S0 sz RX4 3 X) (cx_a C) (cx_s C) (cx_MC C) (cx_MS C) (xA S0 sz)) (h : wx_X0_must Q X mc ms S x0 x1) : GX E C S mc ms 0 [some (.int x0), some (.int x1)] [] := by
  refine g_iload_n hC dX0_must_0 rfl ?_
  refine g_if_ne (tgt := 13) hC dX0_must_1 (by decide) (fun c => ?_) (fun c => ?_)
  · have h := it_n c h
    refine gX_end hQ (gX_vret (C := cx_to C _) hC hA rfl rfl dX0_must_13 h)
  · have h := it_p c h
    refine gX_new (C0 := RX4) (T := TX4) (ty0 := tyX4) (N := 7) (n := 3) hC hX dX0_must_4 q264 q277 q79 rfl in_X4 tyX4_ok (by decide) dv_X4 h.1 h.2.1 ?_
    intro q1 hq2
    have h := h.2.2 q1 hq2
    have hk3 : xKD (sNew S q1 3) q1 = some 3 := kd_self
    refine g_dup hC dX0_must_7 (va_rf_cat _) ?_
    refine g_iload_n hC dX0_must_8 rfl ?_
    refine gX_nv hX (gX_runI (As := [.int x1]) (rest := [va_rf (some q1)]) hC hX (mx_X4_init (cx_l C) E _ _ _ _ h) q319 q79 q317 q318 rfl hx_X4_init.2 rfl rfl (Or.inl (Nat.le_of_ble_eq_true rfl)) ⟨Nat.le_of_ble_eq_true rfl, Nat.le_of_ble_eq_true rfl⟩ dX0_must_9 (Nat.zero_le _) (Nat.zero_le _)) rfl rfl ?_
    intro S4 h
    have hk6 := h.1
    refine gX_athrow hC dX0_must_12 ?_
    exact gT_out (r := (RX4, TX4, 7)) hC hX hT hA hQ hk6 rfl (by decide) h.2
theorem mx_X0_must (l : Launch) (E : XE) (mc ms : Nat) (Q : XS → Prop) (X : Nat → XS → Prop) (S : XS) (x0 : Int32) (x1 : Int32) (h : wx_X0_must Q X mc ms S x0 x1) : XMetX E l yX0_must cX0_must 2 none ({ frames := 4, cells := mc, slots := ms, locals := 103 } : Room) [.int x0, .int x1] S (fun sz => va_Qv Q (BX1 E S sz) (xA S sz)) RX4 3 X :=
  XMetX_of (rm := ({ frames := 4, cells := mc, slots := ms, locals := 103 } : Room)) (by decide) (by simp [lg_sl, va_rf_cat, cat_i, cat_l]) (L0 := [some (.int x0), some (.int x1)]) (by simp [lx_pairs, lv_args, va_rf_cat, cat_i, cat_l, List.range_succ]) (fun sz C hC hX hl hnm hT hA hQ => bx_X0_must E C S sz Q X mc ms S x0 x1 hC hX hT hA hQ h)
/-! X5_init -/
def wx_X5_init (Q : XS → Prop) (mc ms : Nat) (S : XS) (x0 : Option Nat) (x1 : Int32) (x2 : Int32) : Prop :=
  dr x0 (fun u1 => xKD S u1 = some 4 ∧ ¬ x2 < 0 ∧ (Int32.toNatClampNeg x2) ≤ 100000 ∧ 1 ≤ mc ∧ (Int32.toNatClampNeg x2) ≤ ms ∧ (∀ q3 : Nat, xKD (sFI S 400 u1 x1) q3 = none → Q (sFR (sNewA (sFI S 400 u1 x1) q3 100 (Int32.toNatClampNeg x2)) 401 u1 (some q3))))
theorem hx_X5_init : yX5_init.cls = RX5 ∧ yX5_init.cls ≠ "java/lang/invoke/MethodHandle" ∧ yX5_init.cls ≠ "java/lang/invoke/VarHandle" ∧ (parseMethodDescriptor yX5_init.desc).map (fun d => d.parameters.length) = some 2 := by decide +kernel
set_option maxHeartbeats 4000000 in
set_option maxRecDepth 100000 in
theorem bx_X5_init (E : XE) (C : Cx) (S0 : XS) (sz : Nat) (Q : XS → Prop) (mc ms : Nat) (S : XS) (x0 : Option Nat) (x1 : Int32) (x2 : Int32) (hC : COk C cX5_init RX5 none 1 34 3) (hX : XOk E C) (hA : cx_A C = xA S0 sz) (hini : (cx_h C).name = "<init>") (hQ : cx_Q C = MQ (cx_b C) (va_Qv Q (BX1 E S0 sz) (xA S0 sz)) (cx_a C) (cx_s C) (cx_MC C) (cx_MS C) (xA S0 sz)) (h : wx_X5_init Q mc ms S x0 x1 x2) : GX E C S mc ms 0 [some (va_rf x0), some (.int x1), some (.int x2)] [] := by
  refine g_aload_nR hC dX5_init_0 rfl ?_
  obtain ⟨u1, eu1, h⟩ := h
  refine g_top0 eu1 ?_
  refine gX_oinit hC dX5_init_1 q347 q115 q116 (Nat.le_of_ble_eq_true rfl) (by decide) (by decide) ?_
  refine g_aload_nR hC dX5_init_4 rfl ?_
  refine g_iload_n hC dX5_init_5 rfl ?_
  refine g_top1 eu1 ?_
  have hk2 := h.1
  refine gX_putIF (C0 := RX5) (T := TX5) (ty0 := tyX5) (N := 2) (n := 4) (k := 0) (f := 400) hC hX dX5_init_6 q348 rfl in_X5 tyX5_ok nmX5 (by decide) rfl rfl hini rfl rfl rfl rfl rfl (by decide) (Or.inl (by decide)) hk2 ?_
  refine g_aload_nR hC dX5_init_9 rfl ?_
  refine g_iload_n hC dX5_init_10 rfl ?_
  refine gX_newi hC hX dX5_init_11 q163 h.2.1 h.2.2.1 h.2.2.2.1 h.2.2.2.2.1 ?_
  intro q3 hq4
  have h := h.2.2.2.2.2 q3 hq4
  have hk5 := kd_newA (q := q3) (n := 100) (k := (Int32.toNatClampNeg x2)) hk2 hq4
  have hk6 : xKD (sNewA (sFI S 400 u1 x1) q3 100 (Int32.toNatClampNeg x2)) q3 = some 100 := kd_selfA
  refine g_top1 eu1 ?_
  refine gX_putRF (C0 := RX5) (T := TX5) (ty0 := tyX5) (N := 2) (n := 4) (k := 1) (f := 401) hC hX dX5_init_13 q350 rfl in_X5 tyX5_ok nmX5 (by decide) rfl rfl hini rfl rfl (narrow_rf (Or.inr ⟨_, rfl⟩) _) (fits_rf (Or.inr ⟨_, rfl⟩) _) rfl (by decide) (Or.inl (by decide)) hk5 ?_
  refine gX_vret hC hA hQ rfl dX5_init_16 h
theorem mx_X5_init (l : Launch) (E : XE) (mc ms : Nat) (Q : XS → Prop) (S : XS) (x0 : Option Nat) (x1 : Int32) (x2 : Int32) (h : wx_X5_init Q mc ms S x0 x1 x2) : XMet E l yX5_init cX5_init 3 none ({ frames := 1, cells := mc, slots := ms, locals := 34 } : Room) [va_rf x0, .int x1, .int x2] S (fun sz => va_Qv Q (BX1 E S sz) (xA S sz)) :=
  XMet_of (rm := ({ frames := 1, cells := mc, slots := ms, locals := 34 } : Room)) (by decide) (by simp [lg_sl, va_rf_cat, cat_i, cat_l]) (L0 := [some (va_rf x0), some (.int x1), some (.int x2)]) (by simp [lx_pairs, lv_args, va_rf_cat, cat_i, cat_l, List.range_succ]) (fun sz C hC hX hl hnm hA hQ => bx_X5_init E C S sz Q mc ms S x0 x1 x2 hC hX hA hnm hQ h)
/-! X0_well -/
def wx_X0_well (Q : Int32 → XS → Prop) (S : XS) (x0 : Option Nat) (x1 : Int32) : Prop :=
  dr x0 (fun u1 => xKD S u1 = some 0 ∧ Q x1 (sFI S 12 u1 (0 : Int32)))
theorem hx_X0_well : yX0_well.cls = RX0 ∧ yX0_well.cls ≠ "java/lang/invoke/MethodHandle" ∧ yX0_well.cls ≠ "java/lang/invoke/VarHandle" ∧ (parseMethodDescriptor yX0_well.desc).map (fun d => d.parameters.length) = some 1 := by decide +kernel
set_option maxHeartbeats 4000000 in
set_option maxRecDepth 100000 in
theorem bx_X0_well (E : XE) (C : Cx) (S0 : XS) (sz : Nat) (Q : Int32 → XS → Prop) (S : XS) (x0 : Option Nat) (x1 : Int32) (hC : COk C cX0_well RX0 (some .int) 1 34 2) (hX : XOk E C) (hA : cx_A C = xA S0 sz) (hQ : cx_Q C = MQ (cx_b C) (va_Qi Q (BX1 E S0 sz) (xA S0 sz)) (cx_a C) (cx_s C) (cx_MC C) (cx_MS C) (xA S0 sz)) (h : wx_X0_well Q S x0 x1) : GX E C S 0 0 0 [some (va_rf x0), some (.int x1)] [] := by
  refine g_aload_nR hC dX0_well_0 rfl ?_
  refine g_iconst (v := 0) hC dX0_well_1 (by decide) ?_
  obtain ⟨u1, eu1, h⟩ := h
  refine g_top1 eu1 ?_
  have hk2 := h.1
  refine gX_putI (C0 := RX0) (T := TX0) (ty0 := tyX0) (N := 15) (n := 0) (k := 12) (f := 12) hC hX dX0_well_2 q226 rfl in_X0 tyX0_ok nmX0 (by decide) (Or.inl rfl) rfl rfl rfl rfl rfl (by decide) (Or.inl (by decide)) hk2 ?_
  refine g_iload_n hC dX0_well_5 rfl ?_
  refine gX_iret rfl hC hA hQ dX0_well_6 h.2
theorem mx_X0_well (l : Launch) (E : XE) (Q : Int32 → XS → Prop) (S : XS) (x0 : Option Nat) (x1 : Int32) (h : wx_X0_well Q S x0 x1) : XMet E l yX0_well cX0_well 2 (some .int) ({ frames := 1, cells := 0, slots := 0, locals := 34 } : Room) [va_rf x0, .int x1] S (fun sz => va_Qi Q (BX1 E S sz) (xA S sz)) :=
  XMet_of (rm := ({ frames := 1, cells := 0, slots := 0, locals := 34 } : Room)) (by decide) (by simp [lg_sl, va_rf_cat, cat_i, cat_l]) (L0 := [some (va_rf x0), some (.int x1)]) (by simp [lx_pairs, lv_args, va_rf_cat, cat_i, cat_l, List.range_succ]) (fun sz C hC hX hl hnm hA hQ => bx_X0_well E C S sz Q S x0 x1 hC hX hA hQ h)
