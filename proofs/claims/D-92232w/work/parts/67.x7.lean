/-! X6_must -/
def wx_X6_must (Q : XS → Prop) (X : Nat → XS → Prop) (mc ms : Nat) (S : XS) (x0 : Option Nat) (x1 : Int32) (x2 : Int32) : Prop :=
  (if x1 = 0 then 1 ≤ mc ∧ 8 ≤ ms ∧ (∀ q1 : Nat, xKD S q1 = none → dr x0 (fun u4 => xKD (sNew S q1 6) u4 = some 5 ∧ wx_X7_init (fun S6 => xKD S6 q1 = some 6 ∧ X q1 S6) (sNew S q1 6) (some q1) x2 (xFI (sNew S q1 6) 502 u4))) else Q S)
theorem hx_X6_must : yX6_must.cls = RX6 ∧ yX6_must.cls ≠ "java/lang/invoke/MethodHandle" ∧ yX6_must.cls ≠ "java/lang/invoke/VarHandle" ∧ (parseMethodDescriptor yX6_must.desc).map (fun d => d.parameters.length) = some 2 := by decide +kernel
set_option maxHeartbeats 4000000 in
set_option maxRecDepth 100000 in
theorem bx_X6_must (E : XE) (C : Cx) (S0 : XS) (sz : Nat) (Q : XS → Prop) (X : Nat → XS → Prop) (mc ms : Nat) (S : XS) (x0 : Option Nat) (x1 : Int32) (x2 : Int32) (hC : COk C cX6_must RX6 none 4 104 3) (hX : XOk E C) (hT : ∀ x ∈ (cx_c C).exceptionTable.toList, False) (hA : cx_A C = xA S0 sz) (hQ : cx_Q C = vx_MQ (cx_b C) (va_Qv Q (BX1 E S0 sz) (xA S0 sz)) (XC0 E S0 sz RX7 6 X) (cx_a C) (cx_s C) (cx_MC C) (cx_MS C) (xA S0 sz)) (h : wx_X6_must Q X mc ms S x0 x1 x2) : GX E C S mc ms 0 [some (va_rf x0), some (.int x1), some (.int x2)] [] := by
  refine g_iload_n hC dX6_must_0 rfl ?_
  refine g_if_ne (tgt := 17) hC dX6_must_1 (by decide) (fun c => ?_) (fun c => ?_)
  · have h := it_n c h
    refine gX_end hQ (gX_vret (C := cx_to C _) hC hA rfl rfl dX6_must_17 h)
  · have h := it_p c h
    refine gX_new (C0 := RX7) (T := TX7) (ty0 := tyX7) (N := 8) (n := 6) hC hX dX6_must_4 q692 q693 q95 rfl in_X7 tyX7_ok (by decide) dv_X7 h.1 h.2.1 ?_
    intro q1 hq2
    have h := h.2.2 q1 hq2
    have hk3 : xKD (sNew S q1 6) q1 = some 6 := kd_self
    refine g_dup hC dX6_must_7 (va_rf_cat _) ?_
    refine g_iload_n hC dX6_must_8 rfl ?_
    refine g_aload_nR hC dX6_must_9 rfl ?_
    obtain ⟨u4, eu4, h⟩ := h
    refine g_top0 eu4 ?_
    have hk5 := h.1
    refine gX_get (C0 := RX6) (T := TX6) (N := 8) (n := 5) (k := 2) (q := (502, false)) hC hX dX6_must_10 q448 rfl in_X6 (by decide) (Or.inl rfl) rfl (by decide) hk5 ?_
    show GX _ _ _ _ _ _ _ (.int (xFI (sNew S q1 6) 502 u4) :: _)
    refine gX_nv hX (gX_runI (As := [.int x2, .int (xFI (sNew S q1 6) 502 u4)]) (rest := [va_rf (some q1)]) hC hX (mx_X7_init (cx_l C) E _ _ _ _ _ h.2) q703 q95 q701 q702 rfl hx_X7_init.2 rfl rfl (Or.inl (Nat.le_of_ble_eq_true rfl)) ⟨Nat.le_of_ble_eq_true rfl, Nat.le_of_ble_eq_true rfl⟩ dX6_must_13 (Nat.zero_le _) (Nat.zero_le _)) rfl rfl ?_
    intro S6 h
    have hk8 := h.1
    refine gX_athrow hC dX6_must_16 ?_
    exact gT_out (r := (RX7, TX7, 8)) hC hX hT hA hQ hk8 rfl (by decide) h.2
theorem mx_X6_must (l : Launch) (E : XE) (mc ms : Nat) (Q : XS → Prop) (X : Nat → XS → Prop) (S : XS) (x0 : Option Nat) (x1 : Int32) (x2 : Int32) (h : wx_X6_must Q X mc ms S x0 x1 x2) : XMetX E l yX6_must cX6_must 3 none ({ frames := 4, cells := mc, slots := ms, locals := 104 } : Room) [va_rf x0, .int x1, .int x2] S (fun sz => va_Qv Q (BX1 E S sz) (xA S sz)) RX7 6 X :=
  XMetX_of (rm := ({ frames := 4, cells := mc, slots := ms, locals := 104 } : Room)) (by decide) (by simp [lg_sl, va_rf_cat, cat_i, cat_l]) (L0 := [some (va_rf x0), some (.int x1), some (.int x2)]) (by simp [lx_pairs, lv_args, va_rf_cat, cat_i, cat_l, List.range_succ]) (fun sz C hC hX hl hnm hT hA hQ => bx_X6_must E C S sz Q X mc ms S x0 x1 x2 hC hX hT hA hQ h)
/-! X6_figure -/
def wx_X6_figure_32 (Q : Int32 → XS → Prop) (X : Nat → XS → Prop) (mc ms : Nat) (S : XS) (a0 : Option Nat) (s0 : Option Nat) (s1 : Int32) : Prop :=
  dr s0 (fun u14 => xKD S u14 = some 5 ∧ (∃ k16 n17, k16 ≤ mc ∧ n17 ≤ ms ∧ wx_X6_must (fun S21 => dr a0 (fun u23 => xKD S21 u23 = some 5 ∧ (∃ k25 n26, k25 ≤ (mc - k16) ∧ n26 ≤ (ms - n17) ∧ wx_X6_next (fun S27 => Q (xFI S21 503 u23) S27) k25 n26 S21 (some u23)))) (fun q18 S19 => X q18 S19) k16 n17 S (some u14) s1 (2 : Int32)))
def wx_X6_figure_14 (Q : Int32 → XS → Prop) (X : Nat → XS → Prop) (mc ms : Nat) (S : XS) (a0 : Option Nat) (a1 : Int32) (s0 : Option Nat) (s1 : Int32) : Prop :=
  dr s0 (fun u3 => xKD S u3 = some 5 ∧ (∃ k5 n6, k5 ≤ mc ∧ n6 ≤ ms ∧ wx_X6_must (fun S10 => dr a0 (fun u12 => xKD S10 u12 = some 5 ∧ (if a1 < (xFI S10 503 u12) then wx_X6_figure_32 Q X (mc - k5) (ms - n6) S10 a0 a0 (0 : Int32) else wx_X6_figure_32 Q X (mc - k5) (ms - n6) S10 a0 a0 (1 : Int32)))) (fun q7 S8 => X q7 S8) k5 n6 S (some u3) s1 (1 : Int32)))
def wx_X6_figure (Q : Int32 → XS → Prop) (X : Nat → XS → Prop) (mc ms : Nat) (S : XS) (x0 : Option Nat) (x1 : Int32) : Prop :=
  dr x0 (fun u1 => xKD S u1 = some 5 ∧ (if (xFI S 501 u1) = (2 : Int32) then wx_X6_figure_14 Q X mc ms S x0 x1 x0 (1 : Int32) else wx_X6_figure_14 Q X mc ms S x0 x1 x0 (0 : Int32)))
theorem hx_X6_figure : yX6_figure.cls = RX6 ∧ yX6_figure.cls ≠ "java/lang/invoke/MethodHandle" ∧ yX6_figure.cls ≠ "java/lang/invoke/VarHandle" ∧ (parseMethodDescriptor yX6_figure.desc).map (fun d => d.parameters.length) = some 1 := by decide +kernel
set_option maxHeartbeats 4000000 in
set_option maxRecDepth 100000 in
theorem bx_X6_figure (E : XE) (C : Cx) (S0 : XS) (sz : Nat) (Q : Int32 → XS → Prop) (X : Nat → XS → Prop) (mc ms : Nat) (S : XS) (x0 : Option Nat) (x1 : Int32) (hC : COk C cX6_figure RX6 (some .int) 5 126 3) (hX : XOk E C) (hT : ∀ x ∈ (cx_c C).exceptionTable.toList, False) (hA : cx_A C = xA S0 sz) (hQ : cx_Q C = vx_MQ (cx_b C) (va_Qi Q (BX1 E S0 sz) (xA S0 sz)) (XC0 E S0 sz RX7 6 X) (cx_a C) (cx_s C) (cx_MC C) (cx_MS C) (xA S0 sz)) (h : wx_X6_figure Q X mc ms S x0 x1) : GX E C S mc ms 0 [some (va_rf x0), some (.int x1), none] [] := by
  have s_32 : ∀ (mc ms : Nat) (S : XS) (a0 : Option Nat) (s0 : Option Nat) (s1 : Int32), wx_X6_figure_32 Q X  mc ms S a0 s0 s1 → GX E C S mc ms 32 [some (va_rf a0), none, none] [.int s1, va_rf s0] := by
    intro  mc ms S a0 s0 s1 h
    refine g_iconst (v := 2) hC dX6_figure_32 (by decide) ?_
    obtain ⟨u14, eu14, h⟩ := h
    refine g_top2 eu14 ?_
    have hk15 := h.1
    obtain ⟨k16, n17, hk16, hn17, h⟩ := h.2
    refine gX_xv hX (gX_xrunV (As := [.int s1, .int (2 : Int32)]) (rest := []) (Cr := RX6) hC hX (mx_X6_must (cx_l C) E k16 n17 _ _ _ _ _ _ h) (lw_V q688 q690 qs8 q86 q691) hx_X6_must rfl rfl (Or.inl (Nat.le_of_ble_eq_true rfl)) ⟨Nat.le_of_ble_eq_true rfl, Nat.le_of_ble_eq_true rfl⟩ dX6_figure_33 hk16 hn17 hk15 rfl (by decide) rfl) hk16 hn17 (fun q18 S19 h hk20 => ?_) ?_
    · exact gT_out (r := (RX7, TX7, 8)) hC hX hT hA hQ hk20 rfl (by decide) h
    intro S21 h
    refine g_aload_nR hC dX6_figure_36 rfl ?_
    obtain ⟨u23, eu23, h⟩ := h
    refine g_top0 eu23 ?_
    have hk24 := h.1
    refine gX_get (C0 := RX6) (T := TX6) (N := 8) (n := 5) (k := 3) (q := (503, false)) hC hX dX6_figure_37 q449 rfl in_X6 (by decide) (Or.inl rfl) rfl (by decide) hk24 ?_
    show GX _ _ _ _ _ _ _ (.int (xFI S21 503 u23) :: _)
    refine g_istore_n hC dX6_figure_40 rfl (by decide) rfl rfl ?_
    refine g_aload_nR hC dX6_figure_41 rfl ?_
    refine g_top0 eu23 ?_
    obtain ⟨k25, n26, hk25, hn26, h⟩ := h.2
    refine gX_cv hX (gX_runV (As := []) (rest := []) (Cr := RX6) hC hX (mx_X6_next (cx_l C) E k25 n26 _ _ _ h) (lw_V q477 q479 qs4 q86 q480) hx_X6_next rfl rfl (Or.inl (Nat.le_of_ble_eq_true rfl)) ⟨Nat.le_of_ble_eq_true rfl, Nat.le_of_ble_eq_true rfl⟩ dX6_figure_42 hk25 hn26 hk24 rfl (by decide) rfl) hk25 hn26 ?_
    intro S27 h
    refine g_iload_n hC dX6_figure_45 rfl ?_
    refine gX_end hQ (gX_iret (C := cx_to C _) rfl hC hA rfl dX6_figure_46 h)
  have s_14 : ∀ (mc ms : Nat) (S : XS) (a0 : Option Nat) (a1 : Int32) (s0 : Option Nat) (s1 : Int32), wx_X6_figure_14 Q X  mc ms S a0 a1 s0 s1 → GX E C S mc ms 14 [some (va_rf a0), some (.int a1), none] [.int s1, va_rf s0] := by
    intro  mc ms S a0 a1 s0 s1 h
    refine g_iconst (v := 1) hC dX6_figure_14 (by decide) ?_
    obtain ⟨u3, eu3, h⟩ := h
    refine g_top2 eu3 ?_
    have hk4 := h.1
    obtain ⟨k5, n6, hk5, hn6, h⟩ := h.2
    refine gX_xv hX (gX_xrunV (As := [.int s1, .int (1 : Int32)]) (rest := []) (Cr := RX6) hC hX (mx_X6_must (cx_l C) E k5 n6 _ _ _ _ _ _ h) (lw_V q688 q690 qs8 q86 q691) hx_X6_must rfl rfl (Or.inl (Nat.le_of_ble_eq_true rfl)) ⟨Nat.le_of_ble_eq_true rfl, Nat.le_of_ble_eq_true rfl⟩ dX6_figure_15 hk5 hn6 hk4 rfl (by decide) rfl) hk5 hn6 (fun q7 S8 h hk9 => ?_) ?_
    · exact gT_out (r := (RX7, TX7, 8)) hC hX hT hA hQ hk9 rfl (by decide) h
    intro S10 h
    refine g_aload_nR hC dX6_figure_18 rfl ?_
    refine g_aload_nR hC dX6_figure_19 rfl ?_
    obtain ⟨u12, eu12, h⟩ := h
    refine g_top0 eu12 ?_
    have hk13 := h.1
    refine gX_get (C0 := RX6) (T := TX6) (N := 8) (n := 5) (k := 3) (q := (503, false)) hC hX dX6_figure_20 q449 rfl in_X6 (by decide) (Or.inl rfl) rfl (by decide) hk13 ?_
    show GX _ _ _ _ _ _ _ (.int (xFI S10 503 u12) :: _)
    refine g_iload_n hC dX6_figure_23 rfl ?_
    refine g_icmp_gt (tgt := 31) hC dX6_figure_24 (by decide) (fun c => ?_) (fun c => ?_)
    · have h := it_p c h.2
      refine g_iconst (v := 0) hC dX6_figure_31 (by decide) ?_
      refine g_sub [true, false, false] rfl ?_
      exact s_32 (mc - k5) (ms - n6) S10 a0 a0 (0 : Int32) h
    · have h := it_n c h.2
      refine g_iconst (v := 1) hC dX6_figure_27 (by decide) ?_
      refine g_goto (tgt := 32) hC dX6_figure_28 (by decide) ?_
      refine g_sub [true, false, false] rfl ?_
      exact s_32 (mc - k5) (ms - n6) S10 a0 a0 (1 : Int32) h
  refine g_aload_nR hC dX6_figure_0 rfl ?_
  refine g_aload_nR hC dX6_figure_1 rfl ?_
  obtain ⟨u1, eu1, h⟩ := h
  refine g_top0 eu1 ?_
  have hk2 := h.1
  refine gX_get (C0 := RX6) (T := TX6) (N := 8) (n := 5) (k := 1) (q := (501, false)) hC hX dX6_figure_2 q447 rfl in_X6 (by decide) (Or.inl rfl) rfl (by decide) hk2 ?_
  show GX _ _ _ _ _ _ _ (.int (xFI S 501 u1) :: _)
  refine g_iconst (v := 2) hC dX6_figure_5 (by decide) ?_
  refine g_icmp_ne (tgt := 13) hC dX6_figure_6 (by decide) (fun c => ?_) (fun c => ?_)
  · have h := it_n c h.2
    refine g_iconst (v := 0) hC dX6_figure_13 (by decide) ?_
    exact s_14 mc ms S x0 x1 x0 (0 : Int32) h
  · have h := it_p c h.2
    refine g_iconst (v := 1) hC dX6_figure_9 (by decide) ?_
    refine g_goto (tgt := 14) hC dX6_figure_10 (by decide) ?_
    exact s_14 mc ms S x0 x1 x0 (1 : Int32) h
theorem mx_X6_figure (l : Launch) (E : XE) (mc ms : Nat) (Q : Int32 → XS → Prop) (X : Nat → XS → Prop) (S : XS) (x0 : Option Nat) (x1 : Int32) (h : wx_X6_figure Q X mc ms S x0 x1) : XMetX E l yX6_figure cX6_figure 3 (some .int) ({ frames := 5, cells := mc, slots := ms, locals := 126 } : Room) [va_rf x0, .int x1] S (fun sz => va_Qi Q (BX1 E S sz) (xA S sz)) RX7 6 X :=
  XMetX_of (rm := ({ frames := 5, cells := mc, slots := ms, locals := 126 } : Room)) (by decide) (by simp [lg_sl, va_rf_cat, cat_i, cat_l]) (L0 := [some (va_rf x0), some (.int x1), none]) (by simp [lx_pairs, lv_args, va_rf_cat, cat_i, cat_l, List.range_succ]) (fun sz C hC hX hl hnm hT hA hQ => bx_X6_figure E C S sz Q X mc ms S x0 x1 hC hX hT hA hQ h)
/-! X6_useHere -/
def wx_X6_useHere_2 (Q : Int32 → XS → Prop) : Nat → XS → Option Nat → Int32 → Prop
  | 0, _, _, _ => False
  | n + 1, S, a0, a1 => dr a0 (fun u1 => xKD S u1 = some 5 ∧ (if (xFI S 501 u1) = (1 : Int32) then (if (5 : Int32) ≤ a1 then Q (-1000000 : Int32) S else xKD S (xST S 1) = some 106 ∧ vp_in a1 (xLN S (xST S 1)) ∧ False) else Q (-1000000 : Int32) S))
def wx_X6_useHere (Q : Int32 → XS → Prop) (S : XS) (x0 : Option Nat) : Prop :=
  ∃ n4, wx_X6_useHere_2 Q n4 S x0 (0 : Int32)
theorem hx_X6_useHere : yX6_useHere.cls = RX6 ∧ yX6_useHere.cls ≠ "java/lang/invoke/MethodHandle" ∧ yX6_useHere.cls ≠ "java/lang/invoke/VarHandle" ∧ (parseMethodDescriptor yX6_useHere.desc).map (fun d => d.parameters.length) = some 0 := by decide +kernel
set_option maxHeartbeats 4000000 in
set_option maxRecDepth 100000 in
theorem bx_X6_useHere (E : XE) (C : Cx) (S0 : XS) (sz : Nat) (Q : Int32 → XS → Prop) (S : XS) (x0 : Option Nat) (hC : COk C cX6_useHere RX6 (some .int) 1 34 2) (hX : XOk E C) (hA : cx_A C = xA S0 sz) (hQ : cx_Q C = MQ (cx_b C) (va_Qi Q (BX1 E S0 sz) (xA S0 sz)) (cx_a C) (cx_s C) (cx_MC C) (cx_MS C) (xA S0 sz)) (h : wx_X6_useHere Q S x0) : GX E C S 0 0 0 [some (va_rf x0), none] [] := by
  have s_2 : ∀ (n : Nat) (S : XS) (a0 : Option Nat) (a1 : Int32), wx_X6_useHere_2 Q  n S a0 a1 → GX E C S 0 0 2 [some (va_rf a0), some (.int a1)] [] := by
    intro  n
    induction n with
    | zero =>
      intro S a0 a1 h
      exact False.elim h
    | succ n ih =>
      intro S a0 a1 h
      refine g_aload_nR hC dX6_useHere_2 rfl ?_
      obtain ⟨u1, eu1, h⟩ := h
      refine g_top0 eu1 ?_
      have hk2 := h.1
      refine gX_get (C0 := RX6) (T := TX6) (N := 8) (n := 5) (k := 1) (q := (501, false)) hC hX dX6_useHere_3 q447 rfl in_X6 (by decide) (Or.inl rfl) rfl (by decide) hk2 ?_
      show GX _ _ _ _ _ _ _ (.int (xFI S 501 u1) :: _)
      refine g_iconst (v := 1) hC dX6_useHere_6 (by decide) ?_
      refine g_icmp_ne (tgt := 38) hC dX6_useHere_7 (by decide) (fun c => ?_) (fun c => ?_)
      · have h := it_n c h.2
        refine g_ldc (v := -1000000) hC dX6_useHere_38 q485 ?_
        refine gX_iret rfl hC hA hQ dX6_useHere_40 h
      · have h := it_p c h.2
        refine g_iload_n hC dX6_useHere_10 rfl ?_
        refine g_iconst (v := 5) hC dX6_useHere_11 (by decide) ?_
        refine g_icmp_ge (tgt := 38) hC dX6_useHere_12 (by decide) (fun c => ?_) (fun c => ?_)
        · have h := it_p c h
          refine g_ldc (v := -1000000) hC dX6_useHere_38 q485 ?_
          refine gX_iret rfl hC hA hQ dX6_useHere_40 h
        · have h := it_n c h
          refine g_aload_nR hC dX6_useHere_15 rfl ?_
          refine g_top0 eu1 ?_
          refine gX_get (C0 := RX6) (T := TX6) (N := 8) (n := 5) (k := 4) (q := (504, true)) hC hX dX6_useHere_16 q450 rfl in_X6 (by decide) (Or.inl rfl) rfl (by decide) hk2 ?_
          show GX _ _ _ _ _ _ _ (va_rf (xFR S 504 u1) :: _)
          refine gX_getsN (j := 1) hC hX dX6_useHere_19 (List.mem_of_getElem? (i := 1) rfl) q733 rfl ?_
          refine g_iload_n hC dX6_useHere_22 rfl ?_
          have hk3 := h.1
          refine gX_aald (n := 106) hC hX dX6_useHere_23 (by decide) hk3 h.2.1 ?_
          exact False.elim h.2.2
  refine g_iconst (v := 0) hC dX6_useHere_0 (by decide) ?_
  refine g_istore_n hC dX6_useHere_1 rfl (by decide) (lx_okR (j := 0) rfl) rfl ?_
  obtain ⟨n0, h0⟩ := h
  exact s_2 n0 S x0 (0 : Int32) h0
theorem mx_X6_useHere (l : Launch) (E : XE) (Q : Int32 → XS → Prop) (S : XS) (x0 : Option Nat) (h : wx_X6_useHere Q S x0) : XMet E l yX6_useHere cX6_useHere 2 (some .int) ({ frames := 1, cells := 0, slots := 0, locals := 34 } : Room) [va_rf x0] S (fun sz => va_Qi Q (BX1 E S sz) (xA S sz)) :=
  XMet_of (rm := ({ frames := 1, cells := 0, slots := 0, locals := 34 } : Room)) (by decide) (by simp [lg_sl, va_rf_cat, cat_i, cat_l]) (L0 := [some (va_rf x0), none]) (by simp [lx_pairs, lv_args, va_rf_cat, cat_i, cat_l, List.range_succ]) (fun sz C hC hX hl hnm hA hQ => bx_X6_useHere E C S sz Q S x0 hC hX hA hQ h)
/-! X6_use -/
def wx_X6_use_17 (Q : Int32 → XS → Prop) (X : Nat → XS → Prop) (mc ms : Nat) (S : XS) (a0 : Option Nat) (a1 : Int32) (s0 : Option Nat) (s1 : Int32) : Prop :=
  dr s0 (fun u5 => xKD S u5 = some 5 ∧ (∃ k7 n8, k7 ≤ mc ∧ n8 ≤ ms ∧ wx_X6_must (fun S12 => dr a0 (fun u14 => xKD S12 u14 = some 5 ∧ (∃ k16 n17, k16 ≤ (mc - k7) ∧ n17 ≤ (ms - n8) ∧ wx_X6_next (fun S18 => Q a1 S18) k16 n17 S12 (some u14)))) (fun q9 S10 => X q9 S10) k7 n8 S (some u5) s1 (1 : Int32)))
def wx_X6_use (Q : Int32 → XS → Prop) (X : Nat → XS → Prop) (mc ms : Nat) (S : XS) (x0 : Option Nat) : Prop :=
  dr x0 (fun u1 => xKD S u1 = some 5 ∧ wx_X6_useHere (fun r4 S3 => (if r4 = (-1000000 : Int32) then wx_X6_use_17 Q X mc ms S3 x0 r4 x0 (0 : Int32) else wx_X6_use_17 Q X mc ms S3 x0 r4 x0 (1 : Int32))) S (some u1))
theorem hx_X6_use : yX6_use.cls = RX6 ∧ yX6_use.cls ≠ "java/lang/invoke/MethodHandle" ∧ yX6_use.cls ≠ "java/lang/invoke/VarHandle" ∧ (parseMethodDescriptor yX6_use.desc).map (fun d => d.parameters.length) = some 0 := by decide +kernel
set_option maxHeartbeats 4000000 in
set_option maxRecDepth 100000 in
theorem bx_X6_use (E : XE) (C : Cx) (S0 : XS) (sz : Nat) (Q : Int32 → XS → Prop) (X : Nat → XS → Prop) (mc ms : Nat) (S : XS) (x0 : Option Nat) (hC : COk C cX6_use RX6 (some .int) 5 126 2) (hX : XOk E C) (hT : ∀ x ∈ (cx_c C).exceptionTable.toList, False) (hA : cx_A C = xA S0 sz) (hQ : cx_Q C = vx_MQ (cx_b C) (va_Qi Q (BX1 E S0 sz) (xA S0 sz)) (XC0 E S0 sz RX7 6 X) (cx_a C) (cx_s C) (cx_MC C) (cx_MS C) (xA S0 sz)) (h : wx_X6_use Q X mc ms S x0) : GX E C S mc ms 0 [some (va_rf x0), none] [] := by
  have s_17 : ∀ (mc ms : Nat) (S : XS) (a0 : Option Nat) (a1 : Int32) (s0 : Option Nat) (s1 : Int32), wx_X6_use_17 Q X  mc ms S a0 a1 s0 s1 → GX E C S mc ms 17 [some (va_rf a0), some (.int a1)] [.int s1, va_rf s0] := by
    intro  mc ms S a0 a1 s0 s1 h
    refine g_iconst (v := 1) hC dX6_use_17 (by decide) ?_
    obtain ⟨u5, eu5, h⟩ := h
    refine g_top2 eu5 ?_
    have hk6 := h.1
    obtain ⟨k7, n8, hk7, hn8, h⟩ := h.2
    refine gX_xv hX (gX_xrunV (As := [.int s1, .int (1 : Int32)]) (rest := []) (Cr := RX6) hC hX (mx_X6_must (cx_l C) E k7 n8 _ _ _ _ _ _ h) (lw_V q688 q690 qs8 q86 q691) hx_X6_must rfl rfl (Or.inl (Nat.le_of_ble_eq_true rfl)) ⟨Nat.le_of_ble_eq_true rfl, Nat.le_of_ble_eq_true rfl⟩ dX6_use_18 hk7 hn8 hk6 rfl (by decide) rfl) hk7 hn8 (fun q9 S10 h hk11 => ?_) ?_
    · exact gT_out (r := (RX7, TX7, 8)) hC hX hT hA hQ hk11 rfl (by decide) h
    intro S12 h
    refine g_aload_nR hC dX6_use_21 rfl ?_
    obtain ⟨u14, eu14, h⟩ := h
    refine g_top0 eu14 ?_
    have hk15 := h.1
    obtain ⟨k16, n17, hk16, hn17, h⟩ := h.2
    refine gX_cv hX (gX_runV (As := []) (rest := []) (Cr := RX6) hC hX (mx_X6_next (cx_l C) E k16 n17 _ _ _ h) (lw_V q477 q479 qs4 q86 q480) hx_X6_next rfl rfl (Or.inl (Nat.le_of_ble_eq_true rfl)) ⟨Nat.le_of_ble_eq_true rfl, Nat.le_of_ble_eq_true rfl⟩ dX6_use_22 hk16 hn17 hk15 rfl (by decide) rfl) hk16 hn17 ?_
    intro S18 h
    refine g_iload_n hC dX6_use_25 rfl ?_
    refine gX_end hQ (gX_iret (C := cx_to C _) rfl hC hA rfl dX6_use_26 h)
  refine g_aload_nR hC dX6_use_0 rfl ?_
  obtain ⟨u1, eu1, h⟩ := h
  refine g_top0 eu1 ?_
  have hk2 := h.1
  refine gX_ni hX (gX_runV (As := []) (rest := []) (Cr := RX6) hC hX (mx_X6_useHere (cx_l C) E _ _ _ h.2) (lw_V q729 q731 qs11 q86 q732) hx_X6_useHere rfl rfl (Or.inl (Nat.le_of_ble_eq_true rfl)) ⟨Nat.le_of_ble_eq_true rfl, Nat.le_of_ble_eq_true rfl⟩ dX6_use_1 (Nat.zero_le _) (Nat.zero_le _) hk2 rfl (by decide) rfl) rfl rfl ?_
  intro r4 S3 h
  refine g_istore_n hC dX6_use_4 rfl (by decide) (lx_okR (j := 0) rfl) rfl ?_
  refine g_aload_nR hC dX6_use_5 rfl ?_
  refine g_iload_n hC dX6_use_6 rfl ?_
  refine g_ldc (v := -1000000) hC dX6_use_7 q485 ?_
  refine g_icmp_eq (tgt := 16) hC dX6_use_9 (by decide) (fun c => ?_) (fun c => ?_)
  · have h := it_p c h
    refine g_iconst (v := 0) hC dX6_use_16 (by decide) ?_
    exact s_17 mc ms S3 x0 r4 x0 (0 : Int32) h
  · have h := it_n c h
    refine g_iconst (v := 1) hC dX6_use_12 (by decide) ?_
    refine g_goto (tgt := 17) hC dX6_use_13 (by decide) ?_
    exact s_17 mc ms S3 x0 r4 x0 (1 : Int32) h
theorem mx_X6_use (l : Launch) (E : XE) (mc ms : Nat) (Q : Int32 → XS → Prop) (X : Nat → XS → Prop) (S : XS) (x0 : Option Nat) (h : wx_X6_use Q X mc ms S x0) : XMetX E l yX6_use cX6_use 2 (some .int) ({ frames := 5, cells := mc, slots := ms, locals := 126 } : Room) [va_rf x0] S (fun sz => va_Qi Q (BX1 E S sz) (xA S sz)) RX7 6 X :=
  XMetX_of (rm := ({ frames := 5, cells := mc, slots := ms, locals := 126 } : Room)) (by decide) (by simp [lg_sl, va_rf_cat, cat_i, cat_l]) (L0 := [some (va_rf x0), none]) (by simp [lx_pairs, lv_args, va_rf_cat, cat_i, cat_l, List.range_succ]) (fun sz C hC hX hl hnm hT hA hQ => bx_X6_use E C S sz Q X mc ms S x0 hC hX hT hA hQ h)
/-! X6_first -/
def wx_X6_first_55 (Q : XS → Prop) (X : Nat → XS → Prop) (K28 : Nat → Nat → XS → Option Nat → Option Nat → Option Nat → Int32 → Int32 → Prop) (mc ms : Nat) (S : XS) (a0 : Option Nat) (a1 : Option Nat) (a2 : Option Nat) (a3 : Int32) (a4 : Int32) (s0 : Option Nat) (s1 : Int32) : Prop :=
  dr s0 (fun u30 => xKD S u30 = some 5 ∧ (∃ k32 n33, k32 ≤ mc ∧ n33 ≤ ms ∧ wx_X6_must (fun S37 => dr a0 (fun u39 => xKD S37 u39 = some 5 ∧ wx_X6_useHere (fun r42 S41 => xKD S41 u39 = some 5 ∧ (∃ k44 n45, k44 ≤ (mc - k32) ∧ n45 ≤ (ms - n33) ∧ wx_X6_use (fun r50 S49 => dr a2 (fun u51 => xKD S49 u51 = some 100 ∧ vp_in a3 (xLN S49 u51) ∧ K28 ((mc - k32) - k44) ((ms - n33) - n45) (sAI S49 u51 (Int32.toNatClampNeg a3) r50) a0 a1 a2 (a3 + (1 : Int32)) (a4 ||| ((1 : Int32) <<< (r42 &&& 31))))) (fun q46 S47 => X q46 S47) k44 n45 S41 (some u39))) S37 (some u39))) (fun q34 S35 => X q34 S35) k32 n33 S (some u30) s1 (3 : Int32)))
def wx_X6_first_28 (Q : XS → Prop) (X : Nat → XS → Prop) : Nat → Nat → Nat → XS → Option Nat → Option Nat → Option Nat → Int32 → Int32 → Prop
  | 0, _, _, _, _, _, _, _, _ => False
  | n + 1, mc, ms, S, a0, a1, a2, a3, a4 => dr a0 (fun u17 => xKD S u17 = some 5 ∧ wx_X6_useHere (fun r20 S19 => (if r20 = (-1000000 : Int32) then dr a1 (fun u21 => xKD S19 u21 = some 2 ∧ (∃ k23 n24, k23 ≤ mc ∧ n24 ≤ ms ∧ wx_X2_first (fun S25 => Q S25) k23 n24 S19 (some u21) a2 a3)) else xKD S19 u17 = some 5 ∧ wx_X6_useHere (fun r29 S28 => (if ((a4 >>> (r29 &&& 31)) &&& (1 : Int32)) = 0 then wx_X6_first_55 Q X (wx_X6_first_28 Q X n) mc ms S28 a0 a1 a2 a3 a4 a0 (1 : Int32) else wx_X6_first_55 Q X (wx_X6_first_28 Q X n) mc ms S28 a0 a1 a2 a3 a4 a0 (0 : Int32))) S19 (some u17))) S (some u17))
def wx_X6_first_24 (Q : XS → Prop) (X : Nat → XS → Prop) (mc ms : Nat) (S : XS) (a0 : Option Nat) (a1 : Option Nat) (a2 : Option Nat) (a3 : Int32) (a4 : Int32) (s0 : Option Nat) (s1 : Int32) : Prop :=
  dr s0 (fun u8 => xKD S u8 = some 5 ∧ (∃ k10 n11, k10 ≤ mc ∧ n11 ≤ ms ∧ wx_X6_must (fun S15 => ∃ n53, wx_X6_first_28 Q X n53 (mc - k10) (ms - n11) S15 a0 a1 a2 a3 a4) (fun q12 S13 => X q12 S13) k10 n11 S (some u8) s1 (1 : Int32)))
def wx_X6_first (Q : XS → Prop) (X : Nat → XS → Prop) (mc ms : Nat) (S : XS) (x0 : Option Nat) (x1 : Option Nat) : Prop :=
  ¬ (5 : Int32) < 0 ∧ (Int32.toNatClampNeg (5 : Int32)) ≤ 100000 ∧ 1 ≤ mc ∧ (Int32.toNatClampNeg (5 : Int32)) ≤ ms ∧ (∀ q1 : Nat, xKD S q1 = none → dr x0 (fun u4 => xKD (sNewA S q1 100 (Int32.toNatClampNeg (5 : Int32))) u4 = some 5 ∧ wx_X6_useHere (fun r7 S6 => (if r7 = (-1000000 : Int32) then wx_X6_first_24 Q X (mc - 1) (ms - (Int32.toNatClampNeg (5 : Int32))) S6 x0 x1 (some q1) (0 : Int32) (0 : Int32) x0 (0 : Int32) else wx_X6_first_24 Q X (mc - 1) (ms - (Int32.toNatClampNeg (5 : Int32))) S6 x0 x1 (some q1) (0 : Int32) (0 : Int32) x0 (1 : Int32))) (sNewA S q1 100 (Int32.toNatClampNeg (5 : Int32))) (some u4)))
theorem hx_X6_first : yX6_first.cls = RX6 ∧ yX6_first.cls ≠ "java/lang/invoke/MethodHandle" ∧ yX6_first.cls ≠ "java/lang/invoke/VarHandle" ∧ (parseMethodDescriptor yX6_first.desc).map (fun d => d.parameters.length) = some 1 := by decide +kernel
set_option maxHeartbeats 4000000 in
set_option maxRecDepth 100000 in
theorem bx_X6_first (E : XE) (C : Cx) (S0 : XS) (sz : Nat) (Q : XS → Prop) (X : Nat → XS → Prop) (mc ms : Nat) (S : XS) (x0 : Option Nat) (x1 : Option Nat) (hC : COk C cX6_first RX6 none 6 147 5) (hX : XOk E C) (hT : ∀ x ∈ (cx_c C).exceptionTable.toList, False) (hA : cx_A C = xA S0 sz) (hQ : cx_Q C = vx_MQ (cx_b C) (va_Qv Q (BX1 E S0 sz) (xA S0 sz)) (XC0 E S0 sz RX7 6 X) (cx_a C) (cx_s C) (cx_MC C) (cx_MS C) (xA S0 sz)) (h : wx_X6_first Q X mc ms S x0 x1) : GX E C S mc ms 0 [some (va_rf x0), some (va_rf x1), none, none, none] [] := by
  have s_55 : ∀ (K28 : Nat → Nat → XS → Option Nat → Option Nat → Option Nat → Int32 → Int32 → Prop) (hK28 : ∀ (mc ms : Nat) (S : XS) (b0 : Option Nat) (b1 : Option Nat) (b2 : Option Nat) (b3 : Int32) (b4 : Int32), K28 mc ms S b0 b1 b2 b3 b4 → GX E C S mc ms 28 [some (va_rf b0), some (va_rf b1), some (va_rf b2), some (.int b3), some (.int b4)] []) (mc ms : Nat) (S : XS) (a0 : Option Nat) (a1 : Option Nat) (a2 : Option Nat) (a3 : Int32) (a4 : Int32) (s0 : Option Nat) (s1 : Int32), wx_X6_first_55 Q X K28 mc ms S a0 a1 a2 a3 a4 s0 s1 → GX E C S mc ms 55 [some (va_rf a0), some (va_rf a1), some (va_rf a2), some (.int a3), some (.int a4)] [.int s1, va_rf s0] := by
    intro K28 hK28 mc ms S a0 a1 a2 a3 a4 s0 s1 h
    refine g_iconst (v := 3) hC dX6_first_55 (by decide) ?_
    obtain ⟨u30, eu30, h⟩ := h
    refine g_top2 eu30 ?_
    have hk31 := h.1
    obtain ⟨k32, n33, hk32, hn33, h⟩ := h.2
    refine gX_xv hX (gX_xrunV (As := [.int s1, .int (3 : Int32)]) (rest := []) (Cr := RX6) hC hX (mx_X6_must (cx_l C) E k32 n33 _ _ _ _ _ _ h) (lw_V q688 q690 qs8 q86 q691) hx_X6_must rfl rfl (Or.inl (Nat.le_of_ble_eq_true rfl)) ⟨Nat.le_of_ble_eq_true rfl, Nat.le_of_ble_eq_true rfl⟩ dX6_first_56 hk32 hn33 hk31 rfl (by decide) rfl) hk32 hn33 (fun q34 S35 h hk36 => ?_) ?_
    · exact gT_out (r := (RX7, TX7, 8)) hC hX hT hA hQ hk36 rfl (by decide) h
    intro S37 h
    refine g_iload hC dX6_first_59 rfl ?_
    refine g_iconst (v := 1) hC dX6_first_61 (by decide) ?_
    refine g_aload_nR hC dX6_first_62 rfl ?_
    obtain ⟨u39, eu39, h⟩ := h
    refine g_top0 eu39 ?_
    have hk40 := h.1
    refine gX_ni hX (gX_runV (As := []) (rest := [.int (1 : Int32), .int a4]) (Cr := RX6) hC hX (mx_X6_useHere (cx_l C) E _ _ _ h.2) (lw_V q729 q731 qs11 q86 q732) hx_X6_useHere rfl rfl (Or.inl (Nat.le_of_ble_eq_true rfl)) ⟨Nat.le_of_ble_eq_true rfl, Nat.le_of_ble_eq_true rfl⟩ dX6_first_63 (Nat.zero_le _) (Nat.zero_le _) hk40 rfl (by decide) rfl) rfl rfl ?_
    intro r42 S41 h
    refine g_ishl hC dX6_first_66 ?_
    refine g_ior hC dX6_first_67 ?_
    refine g_istore hC dX6_first_68 (by decide) rfl rfl ?_
    refine g_aload_nR hC dX6_first_70 rfl ?_
    refine g_iload_n hC dX6_first_71 rfl ?_
    refine g_iinc (v := (a3 + (1 : Int32))) hC dX6_first_72 rfl rfl (by decide) (lx_okR (j := 2) rfl) rfl ?_
    refine g_aload_nR hC dX6_first_75 rfl ?_
    refine g_top0 eu39 ?_
    have hk43 := h.1
    obtain ⟨k44, n45, hk44, hn45, h⟩ := h.2
    refine gX_xi hX (gX_xrunV (As := []) (rest := [.int a3, va_rf a2]) (Cr := RX6) hC hX (mx_X6_use (cx_l C) E k44 n45 _ _ _ _ h) (lw_V q725 q727 qs10 q86 q728) hx_X6_use rfl rfl (Or.inl (Nat.le_of_ble_eq_true rfl)) ⟨Nat.le_of_ble_eq_true rfl, Nat.le_of_ble_eq_true rfl⟩ dX6_first_76 hk44 hn45 hk43 rfl (by decide) rfl) hk44 hn45 (fun q46 S47 h hk48 => ?_) ?_
    · exact gT_out (r := (RX7, TX7, 8)) hC hX hT hA hQ hk48 rfl (by decide) h
    intro r50 S49 h
    obtain ⟨u51, eu51, h⟩ := h
    refine g_top2 eu51 ?_
    have hk52 := h.1
    refine gX_iast hC hX dX6_first_79 hk52 h.2.1 ?_
    refine g_goto (tgt := 28) hC dX6_first_80 (by decide) ?_
    exact hK28 ((mc - k32) - k44) ((ms - n33) - n45) (sAI S49 u51 (Int32.toNatClampNeg a3) r50) a0 a1 a2 (a3 + (1 : Int32)) (a4 ||| ((1 : Int32) <<< (r42 &&& 31))) h.2.2
  have s_28 : ∀ (n : Nat) (mc ms : Nat) (S : XS) (a0 : Option Nat) (a1 : Option Nat) (a2 : Option Nat) (a3 : Int32) (a4 : Int32), wx_X6_first_28 Q X  n mc ms S a0 a1 a2 a3 a4 → GX E C S mc ms 28 [some (va_rf a0), some (va_rf a1), some (va_rf a2), some (.int a3), some (.int a4)] [] := by
    intro  n
    induction n with
    | zero =>
      intro mc ms S a0 a1 a2 a3 a4 h
      exact False.elim h
    | succ n ih =>
      intro mc ms S a0 a1 a2 a3 a4 h
      refine g_aload_nR hC dX6_first_28 rfl ?_
      obtain ⟨u17, eu17, h⟩ := h
      refine g_top0 eu17 ?_
      have hk18 := h.1
      refine gX_ni hX (gX_runV (As := []) (rest := []) (Cr := RX6) hC hX (mx_X6_useHere (cx_l C) E _ _ _ h.2) (lw_V q729 q731 qs11 q86 q732) hx_X6_useHere rfl rfl (Or.inl (Nat.le_of_ble_eq_true rfl)) ⟨Nat.le_of_ble_eq_true rfl, Nat.le_of_ble_eq_true rfl⟩ dX6_first_29 (Nat.zero_le _) (Nat.zero_le _) hk18 rfl (by decide) rfl) rfl rfl ?_
      intro r20 S19 h
      refine g_ldc (v := -1000000) hC dX6_first_32 q485 ?_
      refine g_icmp_eq (tgt := 83) hC dX6_first_34 (by decide) (fun c => ?_) (fun c => ?_)
      · have h := it_p c h
        refine g_aload_nR hC dX6_first_83 rfl ?_
        refine g_aload_nR hC dX6_first_84 rfl ?_
        refine g_iload_n hC dX6_first_85 rfl ?_
        obtain ⟨u21, eu21, h⟩ := h
        refine g_top2 eu21 ?_
        have hk22 := h.1
        obtain ⟨k23, n24, hk23, hn24, h⟩ := h.2
        refine gX_cv hX (gX_runV (As := [va_rf a2, .int a3]) (rest := []) (Cr := RX2) hC hX (mx_X2_first (cx_l C) E k23 n24 _ _ _ _ _ h) (lw_V q739 q740 q741 q75 q742) hx_X2_first rfl rfl (Or.inl (Nat.le_of_ble_eq_true rfl)) ⟨Nat.le_of_ble_eq_true rfl, Nat.le_of_ble_eq_true rfl⟩ dX6_first_86 hk23 hn24 hk22 rfl (by decide) rfl) hk23 hn24 ?_
        intro S25 h
        refine gX_end hQ (gX_vret (C := cx_to C _) hC hA rfl rfl dX6_first_89 h)
      · have h := it_n c h
        refine g_aload_nR hC dX6_first_37 rfl ?_
        refine g_iload hC dX6_first_38 rfl ?_
        refine g_aload_nR hC dX6_first_40 rfl ?_
        refine g_top0 eu17 ?_
        have hk27 := h.1
        refine gX_ni hX (gX_runV (As := []) (rest := [.int a4, va_rf a0]) (Cr := RX6) hC hX (mx_X6_useHere (cx_l C) E _ _ _ h.2) (lw_V q729 q731 qs11 q86 q732) hx_X6_useHere rfl rfl (Or.inl (Nat.le_of_ble_eq_true rfl)) ⟨Nat.le_of_ble_eq_true rfl, Nat.le_of_ble_eq_true rfl⟩ dX6_first_41 (Nat.zero_le _) (Nat.zero_le _) hk27 rfl (by decide) rfl) rfl rfl ?_
        intro r29 S28 h
        refine g_ishr hC dX6_first_44 ?_
        refine g_iconst (v := 1) hC dX6_first_45 (by decide) ?_
        refine g_iand hC dX6_first_46 ?_
        refine g_if_ne (tgt := 54) hC dX6_first_47 (by decide) (fun c => ?_) (fun c => ?_)
        · have h := it_n c h
          refine g_iconst (v := 0) hC dX6_first_54 (by decide) ?_
          exact s_55 (wx_X6_first_28 Q X n) ih mc ms S28 a0 a1 a2 a3 a4 a0 (0 : Int32) h
        · have h := it_p c h
          refine g_iconst (v := 1) hC dX6_first_50 (by decide) ?_
          refine g_goto (tgt := 55) hC dX6_first_51 (by decide) ?_
          exact s_55 (wx_X6_first_28 Q X n) ih mc ms S28 a0 a1 a2 a3 a4 a0 (1 : Int32) h
  have s_24 : ∀ (mc ms : Nat) (S : XS) (a0 : Option Nat) (a1 : Option Nat) (a2 : Option Nat) (a3 : Int32) (a4 : Int32) (s0 : Option Nat) (s1 : Int32), wx_X6_first_24 Q X  mc ms S a0 a1 a2 a3 a4 s0 s1 → GX E C S mc ms 24 [some (va_rf a0), some (va_rf a1), some (va_rf a2), some (.int a3), some (.int a4)] [.int s1, va_rf s0] := by
    intro  mc ms S a0 a1 a2 a3 a4 s0 s1 h
    refine g_iconst (v := 1) hC dX6_first_24 (by decide) ?_
    obtain ⟨u8, eu8, h⟩ := h
    refine g_top2 eu8 ?_
    have hk9 := h.1
    obtain ⟨k10, n11, hk10, hn11, h⟩ := h.2
    refine gX_xv hX (gX_xrunV (As := [.int s1, .int (1 : Int32)]) (rest := []) (Cr := RX6) hC hX (mx_X6_must (cx_l C) E k10 n11 _ _ _ _ _ _ h) (lw_V q688 q690 qs8 q86 q691) hx_X6_must rfl rfl (Or.inl (Nat.le_of_ble_eq_true rfl)) ⟨Nat.le_of_ble_eq_true rfl, Nat.le_of_ble_eq_true rfl⟩ dX6_first_25 hk10 hn11 hk9 rfl (by decide) rfl) hk10 hn11 (fun q12 S13 h hk14 => ?_) ?_
    · exact gT_out (r := (RX7, TX7, 8)) hC hX hT hA hQ hk14 rfl (by decide) h
    intro S15 h
    obtain ⟨n0, h0⟩ := h
    exact s_28 n0 (mc - k10) (ms - n11) S15 a0 a1 a2 a3 a4 h0
  refine g_iconst (v := 5) hC dX6_first_0 (by decide) ?_
  refine gX_newi hC hX dX6_first_1 q163 h.1 h.2.1 h.2.2.1 h.2.2.2.1 ?_
  intro q1 hq2
  have h := h.2.2.2.2 q1 hq2
  have hk3 : xKD (sNewA S q1 100 (Int32.toNatClampNeg (5 : Int32))) q1 = some 100 := kd_selfA
  refine g_astore_nR hC dX6_first_3 rfl (by decide) (lx_okR (j := 1) rfl) rfl ?_
  refine g_iconst (v := 0) hC dX6_first_4 (by decide) ?_
  refine g_istore_n hC dX6_first_5 rfl (by decide) (lx_okR (j := 2) rfl) rfl ?_
  refine g_iconst (v := 0) hC dX6_first_6 (by decide) ?_
  refine g_istore hC dX6_first_7 (by decide) rfl rfl ?_
  refine g_aload_nR hC dX6_first_9 rfl ?_
  refine g_aload_nR hC dX6_first_10 rfl ?_
  obtain ⟨u4, eu4, h⟩ := h
  refine g_top0 eu4 ?_
  have hk5 := h.1
  refine gX_ni hX (gX_runV (As := []) (rest := [va_rf x0]) (Cr := RX6) hC hX (mx_X6_useHere (cx_l C) E _ _ _ h.2) (lw_V q729 q731 qs11 q86 q732) hx_X6_useHere rfl rfl (Or.inl (Nat.le_of_ble_eq_true rfl)) ⟨Nat.le_of_ble_eq_true rfl, Nat.le_of_ble_eq_true rfl⟩ dX6_first_11 (Nat.zero_le _) (Nat.zero_le _) hk5 rfl (by decide) rfl) rfl rfl ?_
  intro r7 S6 h
  refine g_ldc (v := -1000000) hC dX6_first_14 q485 ?_
  refine g_icmp_eq (tgt := 23) hC dX6_first_16 (by decide) (fun c => ?_) (fun c => ?_)
  · have h := it_p c h
    refine g_iconst (v := 0) hC dX6_first_23 (by decide) ?_
    exact s_24 (mc - 1) (ms - (Int32.toNatClampNeg (5 : Int32))) S6 x0 x1 (some q1) (0 : Int32) (0 : Int32) x0 (0 : Int32) h
  · have h := it_n c h
    refine g_iconst (v := 1) hC dX6_first_19 (by decide) ?_
    refine g_goto (tgt := 24) hC dX6_first_20 (by decide) ?_
    exact s_24 (mc - 1) (ms - (Int32.toNatClampNeg (5 : Int32))) S6 x0 x1 (some q1) (0 : Int32) (0 : Int32) x0 (1 : Int32) h
theorem mx_X6_first (l : Launch) (E : XE) (mc ms : Nat) (Q : XS → Prop) (X : Nat → XS → Prop) (S : XS) (x0 : Option Nat) (x1 : Option Nat) (h : wx_X6_first Q X mc ms S x0 x1) : XMetX E l yX6_first cX6_first 5 none ({ frames := 6, cells := mc, slots := ms, locals := 147 } : Room) [va_rf x0, va_rf x1] S (fun sz => va_Qv Q (BX1 E S sz) (xA S sz)) RX7 6 X :=
  XMetX_of (rm := ({ frames := 6, cells := mc, slots := ms, locals := 147 } : Room)) (by decide) (by simp [lg_sl, va_rf_cat, cat_i, cat_l]) (L0 := [some (va_rf x0), some (va_rf x1), none, none, none]) (by simp [lx_pairs, lv_args, va_rf_cat, cat_i, cat_l, List.range_succ]) (fun sz C hC hX hl hnm hT hA hQ => bx_X6_first E C S sz Q X mc ms S x0 x1 hC hX hT hA hQ h)
/-! X6_rule -/
def wx_X6_rule_17 (Q : XS → Prop) (X : Nat → XS → Prop) (mc ms : Nat) (S : XS) (a0 : Option Nat) (a1 : Option Nat) (s0 : Option Nat) : Prop :=
  False
def wx_X6_rule (Q : XS → Prop) (X : Nat → XS → Prop) (mc ms : Nat) (S : XS) (x0 : Option Nat) (x1 : Option Nat) : Prop :=
  dr x0 (fun u1 => xKD S u1 = some 5 ∧ (if (xFI S 501 u1) = (1 : Int32) then wx_X6_rule_17 Q X mc ms S x0 x1 (xFR S 504 u1) else wx_X6_rule_17 Q X mc ms S x0 x1 (some (xST S 17))))
theorem hx_X6_rule : yX6_rule.cls = RX6 ∧ yX6_rule.cls ≠ "java/lang/invoke/MethodHandle" ∧ yX6_rule.cls ≠ "java/lang/invoke/VarHandle" ∧ (parseMethodDescriptor yX6_rule.desc).map (fun d => d.parameters.length) = some 1 := by decide +kernel
set_option maxHeartbeats 4000000 in
set_option maxRecDepth 100000 in
theorem bx_X6_rule (E : XE) (C : Cx) (S0 : XS) (sz : Nat) (Q : XS → Prop) (X : Nat → XS → Prop) (mc ms : Nat) (S : XS) (x0 : Option Nat) (x1 : Option Nat) (hC : COk C cX6_rule RX6 none 1 34 4) (hX : XOk E C) (hT : ∀ x ∈ (cx_c C).exceptionTable.toList, False) (hA : cx_A C = xA S0 sz) (hQ : cx_Q C = vx_MQ (cx_b C) (va_Qv Q (BX1 E S0 sz) (xA S0 sz)) (XC0 E S0 sz RX7 6 X) (cx_a C) (cx_s C) (cx_MC C) (cx_MS C) (xA S0 sz)) (h : wx_X6_rule Q X mc ms S x0 x1) : GX E C S mc ms 0 [some (va_rf x0), some (va_rf x1), none, none] [] := by
  have s_17 : ∀ (mc ms : Nat) (S : XS) (a0 : Option Nat) (a1 : Option Nat) (s0 : Option Nat), wx_X6_rule_17 Q X  mc ms S a0 a1 s0 → GX E C S mc ms 17 [some (va_rf a0), some (va_rf a1), none, none] [va_rf s0] := by
    intro  mc ms S a0 a1 s0 h
    refine g_astore_nR hC dX6_rule_17 rfl (by decide) (lx_okR (j := 1) rfl) rfl ?_
    refine g_aload_nR hC dX6_rule_18 rfl ?_
    refine g_aload_nR hC dX6_rule_19 rfl ?_
    refine gX_ldcs (j := 19) (tx := "setup") hC hX dX6_rule_20 (List.mem_of_getElem? (i := 9) rfl) ?_
    exact False.elim h
  refine g_aload_nR hC dX6_rule_0 rfl ?_
  obtain ⟨u1, eu1, h⟩ := h
  refine g_top0 eu1 ?_
  have hk2 := h.1
  refine gX_get (C0 := RX6) (T := TX6) (N := 8) (n := 5) (k := 1) (q := (501, false)) hC hX dX6_rule_1 q447 rfl in_X6 (by decide) (Or.inl rfl) rfl (by decide) hk2 ?_
  show GX _ _ _ _ _ _ _ (.int (xFI S 501 u1) :: _)
  refine g_iconst (v := 1) hC dX6_rule_4 (by decide) ?_
  refine g_icmp_ne (tgt := 15) hC dX6_rule_5 (by decide) (fun c => ?_) (fun c => ?_)
  · have h := it_n c h.2
    refine gX_ldcs (j := 17) (tx := "") hC hX dX6_rule_15 (List.mem_of_getElem? (i := 7) rfl) ?_
    exact s_17 mc ms S x0 x1 (some (xST S 17)) h
  · have h := it_p c h.2
    refine g_aload_nR hC dX6_rule_8 rfl ?_
    refine g_top0 eu1 ?_
    refine gX_get (C0 := RX6) (T := TX6) (N := 8) (n := 5) (k := 4) (q := (504, true)) hC hX dX6_rule_9 q450 rfl in_X6 (by decide) (Or.inl rfl) rfl (by decide) hk2 ?_
    show GX _ _ _ _ _ _ _ (va_rf (xFR S 504 u1) :: _)
    refine g_goto (tgt := 17) hC dX6_rule_12 (by decide) ?_
    exact s_17 mc ms S x0 x1 (xFR S 504 u1) h
theorem mx_X6_rule (l : Launch) (E : XE) (mc ms : Nat) (Q : XS → Prop) (X : Nat → XS → Prop) (S : XS) (x0 : Option Nat) (x1 : Option Nat) (h : wx_X6_rule Q X mc ms S x0 x1) : XMetX E l yX6_rule cX6_rule 4 none ({ frames := 1, cells := mc, slots := ms, locals := 34 } : Room) [va_rf x0, va_rf x1] S (fun sz => va_Qv Q (BX1 E S sz) (xA S sz)) RX7 6 X :=
  XMetX_of (rm := ({ frames := 1, cells := mc, slots := ms, locals := 34 } : Room)) (by decide) (by simp [lg_sl, va_rf_cat, cat_i, cat_l]) (L0 := [some (va_rf x0), some (va_rf x1), none, none]) (by simp [lx_pairs, lv_args, va_rf_cat, cat_i, cat_l, List.range_succ]) (fun sz C hC hX hl hnm hT hA hQ => bx_X6_rule E C S sz Q X mc ms S x0 x1 hC hX hT hA hQ h)
/-! X6_all -/
def wx_X6_all_87 (Q : XS → Prop) (X : Nat → XS → Prop) (mc ms : Nat) (S : XS) (s0 : Option Nat) (s1 : Int32) : Prop :=
  dr s0 (fun u12 => xKD S u12 = some 5 ∧ (∃ k14 n15, k14 ≤ mc ∧ n15 ≤ ms ∧ wx_X6_must (fun S19 => Q S19) (fun q16 S17 => X q16 S17) k14 n15 S (some u12) s1 (1 : Int32)))
def wx_X6_all_63 (Q : XS → Prop) (X : Nat → XS → Prop) (K4 : Nat → Nat → XS → Option Nat → Prop) (mc ms : Nat) (S : XS) (a0 : Option Nat) (s0 : Option Nat) (s1 : Int32) : Prop :=
  dr s0 (fun u46 => xKD S u46 = some 5 ∧ (∃ k48 n49, k48 ≤ mc ∧ n49 ≤ ms ∧ wx_X6_must (fun S53 => dr a0 (fun u55 => xKD S53 u55 = some 5 ∧ (∃ k57 n58, k57 ≤ (mc - k48) ∧ n58 ≤ (ms - n49) ∧ wx_X6_next (fun S59 => K4 ((mc - k48) - k57) ((ms - n49) - n58) S59 a0) k57 n58 S53 (some u55)))) (fun q50 S51 => X q50 S51) k48 n49 S (some u46) s1 (1 : Int32)))
def wx_X6_all_33 (Q : XS → Prop) (X : Nat → XS → Prop) (K4 : Nat → Nat → XS → Option Nat → Prop) : Nat → Nat → Nat → XS → Option Nat → Option Nat → Prop
  | 0, _, _, _, _, _ => False
  | n + 1, mc, ms, S, a0, a1 => dr a0 (fun u44 => xKD S u44 = some 5 ∧ (if (xFI S 501 u44) = (1 : Int32) then (∃ k61 n62, k61 ≤ mc ∧ n62 ≤ ms ∧ wx_X6_rule (fun S66 => wx_X6_all_33 Q X K4 n (mc - k61) (ms - n62) S66 a0 a1) (fun q63 S64 => X q63 S64) k61 n62 S (some u44) a1) else (if (xFI S 501 u44) = (3 : Int32) then wx_X6_all_63 Q X K4 mc ms S a0 a0 (1 : Int32) else wx_X6_all_63 Q X K4 mc ms S a0 a0 (0 : Int32))))
def wx_X6_all_4 (Q : XS → Prop) (X : Nat → XS → Prop) : Nat → Nat → Nat → XS → Option Nat → Prop
  | 0, _, _, _, _ => False
  | n + 1, mc, ms, S, a0 => dr a0 (fun u7 => xKD S u7 = some 5 ∧ wx_X6_isWord (fun r10 S9 => (if r10 = 0 then xKD S9 u7 = some 5 ∧ (if (xFI S9 501 u7) = 0 then wx_X6_all_87 Q X mc ms S9 a0 (1 : Int32) else wx_X6_all_87 Q X mc ms S9 a0 (0 : Int32)) else xKD S9 u7 = some 5 ∧ (∃ k22 n23, k22 ≤ mc ∧ n23 ≤ ms ∧ wx_X6_next (fun S24 => xKD S24 u7 = some 5 ∧ (∃ k27 n28, k27 ≤ (mc - k22) ∧ n28 ≤ (ms - n23) ∧ wx_X6_figure (fun r33 S32 => dr (xFR S24 505 u7) (fun u34 => xKD S32 u34 = some 104 ∧ vp_in r33 (xLN S32 u34) ∧ xKD S32 u7 = some 5 ∧ (∃ k37 n38, k37 ≤ ((mc - k22) - k27) ∧ n38 ≤ ((ms - n23) - n28) ∧ wx_X6_rule (fun S42 => ∃ n68, wx_X6_all_33 Q X (wx_X6_all_4 Q X n) n68 (((mc - k22) - k27) - k37) (((ms - n23) - n28) - n38) S42 a0 (xAR S32 u34 (Int32.toNatClampNeg r33))) (fun q39 S40 => X q39 S40) k37 n38 S32 (some u7) (xAR S32 u34 (Int32.toNatClampNeg r33))))) (fun q29 S30 => X q29 S30) k27 n28 S24 (some u7) (3 : Int32))) k22 n23 S9 (some u7)))) S (some u7) (some (xST S 18)))
def wx_X6_all (Q : XS → Prop) (X : Nat → XS → Prop) (mc ms : Nat) (S : XS) (x0 : Option Nat) : Prop :=
  dr x0 (fun u1 => xKD S u1 = some 5 ∧ (∃ k3 n4, k3 ≤ mc ∧ n4 ≤ ms ∧ wx_X6_next (fun S5 => ∃ n69, wx_X6_all_4 Q X n69 (mc - k3) (ms - n4) S5 x0) k3 n4 S (some u1)))
theorem hx_X6_all : yX6_all.cls = RX6 ∧ yX6_all.cls ≠ "java/lang/invoke/MethodHandle" ∧ yX6_all.cls ≠ "java/lang/invoke/VarHandle" ∧ (parseMethodDescriptor yX6_all.desc).map (fun d => d.parameters.length) = some 0 := by decide +kernel
set_option maxHeartbeats 4000000 in
set_option maxRecDepth 100000 in
theorem bx_X6_all (E : XE) (C : Cx) (S0 : XS) (sz : Nat) (Q : XS → Prop) (X : Nat → XS → Prop) (mc ms : Nat) (S : XS) (x0 : Option Nat) (hC : COk C cX6_all RX6 none 6 148 2) (hX : XOk E C) (hT : ∀ x ∈ (cx_c C).exceptionTable.toList, False) (hA : cx_A C = xA S0 sz) (hQ : cx_Q C = vx_MQ (cx_b C) (va_Qv Q (BX1 E S0 sz) (xA S0 sz)) (XC0 E S0 sz RX7 6 X) (cx_a C) (cx_s C) (cx_MC C) (cx_MS C) (xA S0 sz)) (h : wx_X6_all Q X mc ms S x0) : GX E C S mc ms 0 [some (va_rf x0), none] [] := by
  have s_87 : ∀ (mc ms : Nat) (S : XS) (s0 : Option Nat) (s1 : Int32), wx_X6_all_87 Q X  mc ms S s0 s1 → GX E C S mc ms 87 [none, none] [.int s1, va_rf s0] := by
    intro  mc ms S s0 s1 h
    refine g_iconst (v := 1) hC dX6_all_87 (by decide) ?_
    obtain ⟨u12, eu12, h⟩ := h
    refine g_top2 eu12 ?_
    have hk13 := h.1
    obtain ⟨k14, n15, hk14, hn15, h⟩ := h.2
    refine gX_xv hX (gX_xrunV (As := [.int s1, .int (1 : Int32)]) (rest := []) (Cr := RX6) hC hX (mx_X6_must (cx_l C) E k14 n15 _ _ _ _ _ _ h) (lw_V q688 q690 qs8 q86 q691) hx_X6_must rfl rfl (Or.inl (Nat.le_of_ble_eq_true rfl)) ⟨Nat.le_of_ble_eq_true rfl, Nat.le_of_ble_eq_true rfl⟩ dX6_all_88 hk14 hn15 hk13 rfl (by decide) rfl) hk14 hn15 (fun q16 S17 h hk18 => ?_) ?_
    · exact gT_out (r := (RX7, TX7, 8)) hC hX hT hA hQ hk18 rfl (by decide) h
    intro S19 h
    refine gX_end hQ (gX_vret (C := cx_to C _) hC hA rfl rfl dX6_all_91 h)
  have s_63 : ∀ (K4 : Nat → Nat → XS → Option Nat → Prop) (hK4 : ∀ (mc ms : Nat) (S : XS) (b0 : Option Nat), K4 mc ms S b0 → GX E C S mc ms 4 [some (va_rf b0), none] []) (mc ms : Nat) (S : XS) (a0 : Option Nat) (s0 : Option Nat) (s1 : Int32), wx_X6_all_63 Q X K4 mc ms S a0 s0 s1 → GX E C S mc ms 63 [some (va_rf a0), none] [.int s1, va_rf s0] := by
    intro K4 hK4 mc ms S a0 s0 s1 h
    refine g_iconst (v := 1) hC dX6_all_63 (by decide) ?_
    obtain ⟨u46, eu46, h⟩ := h
    refine g_top2 eu46 ?_
    have hk47 := h.1
    obtain ⟨k48, n49, hk48, hn49, h⟩ := h.2
    refine gX_xv hX (gX_xrunV (As := [.int s1, .int (1 : Int32)]) (rest := []) (Cr := RX6) hC hX (mx_X6_must (cx_l C) E k48 n49 _ _ _ _ _ _ h) (lw_V q688 q690 qs8 q86 q691) hx_X6_must rfl rfl (Or.inl (Nat.le_of_ble_eq_true rfl)) ⟨Nat.le_of_ble_eq_true rfl, Nat.le_of_ble_eq_true rfl⟩ dX6_all_64 hk48 hn49 hk47 rfl (by decide) rfl) hk48 hn49 (fun q50 S51 h hk52 => ?_) ?_
    · exact gT_out (r := (RX7, TX7, 8)) hC hX hT hA hQ hk52 rfl (by decide) h
    intro S53 h
    refine g_aload_nR hC dX6_all_67 rfl ?_
    obtain ⟨u55, eu55, h⟩ := h
    refine g_top0 eu55 ?_
    have hk56 := h.1
    obtain ⟨k57, n58, hk57, hn58, h⟩ := h.2
    refine gX_cv hX (gX_runV (As := []) (rest := []) (Cr := RX6) hC hX (mx_X6_next (cx_l C) E k57 n58 _ _ _ h) (lw_V q477 q479 qs4 q86 q480) hx_X6_next rfl rfl (Or.inl (Nat.le_of_ble_eq_true rfl)) ⟨Nat.le_of_ble_eq_true rfl, Nat.le_of_ble_eq_true rfl⟩ dX6_all_68 hk57 hn58 hk56 rfl (by decide) rfl) hk57 hn58 ?_
    intro S59 h
    refine g_goto (tgt := 4) hC dX6_all_71 (by decide) ?_
    exact hK4 ((mc - k48) - k57) ((ms - n49) - n58) S59 a0 h
  have s_33 : ∀ (K4 : Nat → Nat → XS → Option Nat → Prop) (hK4 : ∀ (mc ms : Nat) (S : XS) (b0 : Option Nat), K4 mc ms S b0 → GX E C S mc ms 4 [some (va_rf b0), none] []) (n : Nat) (mc ms : Nat) (S : XS) (a0 : Option Nat) (a1 : Option Nat), wx_X6_all_33 Q X K4 n mc ms S a0 a1 → GX E C S mc ms 33 [some (va_rf a0), some (va_rf a1)] [] := by
    intro K4 hK4 n
    induction n with
    | zero =>
      intro mc ms S a0 a1 h
      exact False.elim h
    | succ n ih =>
      intro mc ms S a0 a1 h
      refine g_aload_nR hC dX6_all_33 rfl ?_
      obtain ⟨u44, eu44, h⟩ := h
      refine g_top0 eu44 ?_
      have hk45 := h.1
      refine gX_get (C0 := RX6) (T := TX6) (N := 8) (n := 5) (k := 1) (q := (501, false)) hC hX dX6_all_34 q447 rfl in_X6 (by decide) (Or.inl rfl) rfl (by decide) hk45 ?_
      show GX _ _ _ _ _ _ _ (.int (xFI S 501 u44) :: _)
      refine g_iconst (v := 1) hC dX6_all_37 (by decide) ?_
      refine g_icmp_ne (tgt := 49) hC dX6_all_38 (by decide) (fun c => ?_) (fun c => ?_)
      · have h := it_n c h.2
        refine g_aload_nR hC dX6_all_49 rfl ?_
        refine g_aload_nR hC dX6_all_50 rfl ?_
        refine g_top0 eu44 ?_
        refine gX_get (C0 := RX6) (T := TX6) (N := 8) (n := 5) (k := 1) (q := (501, false)) hC hX dX6_all_51 q447 rfl in_X6 (by decide) (Or.inl rfl) rfl (by decide) hk45 ?_
        show GX _ _ _ _ _ _ _ (.int (xFI S 501 u44) :: _)
        refine g_iconst (v := 3) hC dX6_all_54 (by decide) ?_
        refine g_icmp_ne (tgt := 62) hC dX6_all_55 (by decide) (fun c => ?_) (fun c => ?_)
        · have h := it_n c h
          refine g_iconst (v := 0) hC dX6_all_62 (by decide) ?_
          refine g_sub [true, false] rfl ?_
          exact s_63 K4 hK4 mc ms S a0 a0 (0 : Int32) h
        · have h := it_p c h
          refine g_iconst (v := 1) hC dX6_all_58 (by decide) ?_
          refine g_goto (tgt := 63) hC dX6_all_59 (by decide) ?_
          refine g_sub [true, false] rfl ?_
          exact s_63 K4 hK4 mc ms S a0 a0 (1 : Int32) h
      · have h := it_p c h.2
        refine g_aload_nR hC dX6_all_41 rfl ?_
        refine g_aload_nR hC dX6_all_42 rfl ?_
        refine g_top1 eu44 ?_
        obtain ⟨k61, n62, hk61, hn62, h⟩ := h
        refine gX_xv hX (gX_xrunV (As := [va_rf a1]) (rest := []) (Cr := RX6) hC hX (mx_X6_rule (cx_l C) E k61 n62 _ _ _ _ _ h) (lw_V q715 q717 qs9 q86 q718) hx_X6_rule rfl rfl (Or.inl (Nat.le_of_ble_eq_true rfl)) ⟨Nat.le_of_ble_eq_true rfl, Nat.le_of_ble_eq_true rfl⟩ dX6_all_43 hk61 hn62 hk45 rfl (by decide) rfl) hk61 hn62 (fun q63 S64 h hk65 => ?_) ?_
        · exact gT_out (r := (RX7, TX7, 8)) hC hX hT hA hQ hk65 rfl (by decide) h
        intro S66 h
        refine g_goto (tgt := 33) hC dX6_all_46 (by decide) ?_
        exact ih (mc - k61) (ms - n62) S66 a0 a1 h
  have s_4 : ∀ (n : Nat) (mc ms : Nat) (S : XS) (a0 : Option Nat), wx_X6_all_4 Q X  n mc ms S a0 → GX E C S mc ms 4 [some (va_rf a0), none] [] := by
    intro  n
    induction n with
    | zero =>
      intro mc ms S a0 h
      exact False.elim h
    | succ n ih =>
      intro mc ms S a0 h
      refine g_aload_nR hC dX6_all_4 rfl ?_
      refine gX_ldcs (j := 18) (tx := "hall") hC hX dX6_all_5 (List.mem_of_getElem? (i := 8) rfl) ?_
      obtain ⟨u7, eu7, h⟩ := h
      refine g_top1 eu7 ?_
      have hk8 := h.1
      refine gX_ni hX (gX_runV (As := [va_rf (some (xST S 18))]) (rest := []) (Cr := RX6) hC hX (mx_X6_isWord (cx_l C) E _ _ _ _ h.2) (lw_V q672 q674 qs6 q86 q675) hx_X6_isWord rfl rfl (Or.inl (Nat.le_of_ble_eq_true rfl)) ⟨Nat.le_of_ble_eq_true rfl, Nat.le_of_ble_eq_true rfl⟩ dX6_all_7 (Nat.zero_le _) (Nat.zero_le _) hk8 rfl (by decide) rfl) rfl rfl ?_
      intro r10 S9 h
      refine g_if_eq (tgt := 74) hC dX6_all_10 (by decide) (fun c => ?_) (fun c => ?_)
      · have h := it_p c h
        refine g_aload_nR hC dX6_all_74 rfl ?_
        refine g_aload_nR hC dX6_all_75 rfl ?_
        refine g_top0 eu7 ?_
        have hk11 := h.1
        refine gX_get (C0 := RX6) (T := TX6) (N := 8) (n := 5) (k := 1) (q := (501, false)) hC hX dX6_all_76 q447 rfl in_X6 (by decide) (Or.inl rfl) rfl (by decide) hk11 ?_
        show GX _ _ _ _ _ _ _ (.int (xFI S9 501 u7) :: _)
        refine g_if_ne (tgt := 86) hC dX6_all_79 (by decide) (fun c => ?_) (fun c => ?_)
        · have h := it_n c h.2
          refine g_iconst (v := 0) hC dX6_all_86 (by decide) ?_
          refine g_sub [false, false] rfl ?_
          exact s_87 mc ms S9 a0 (0 : Int32) h
        · have h := it_p c h.2
          refine g_iconst (v := 1) hC dX6_all_82 (by decide) ?_
          refine g_goto (tgt := 87) hC dX6_all_83 (by decide) ?_
          refine g_sub [false, false] rfl ?_
          exact s_87 mc ms S9 a0 (1 : Int32) h
      · have h := it_n c h
        refine g_aload_nR hC dX6_all_13 rfl ?_
        refine g_top0 eu7 ?_
        have hk21 := h.1
        obtain ⟨k22, n23, hk22, hn23, h⟩ := h.2
        refine gX_cv hX (gX_runV (As := []) (rest := []) (Cr := RX6) hC hX (mx_X6_next (cx_l C) E k22 n23 _ _ _ h) (lw_V q477 q479 qs4 q86 q480) hx_X6_next rfl rfl (Or.inl (Nat.le_of_ble_eq_true rfl)) ⟨Nat.le_of_ble_eq_true rfl, Nat.le_of_ble_eq_true rfl⟩ dX6_all_14 hk22 hn23 hk21 rfl (by decide) rfl) hk22 hn23 ?_
        intro S24 h
        refine g_aload_nR hC dX6_all_17 rfl ?_
        refine g_top0 eu7 ?_
        have hk26 := h.1
        refine gX_get (C0 := RX6) (T := TX6) (N := 8) (n := 5) (k := 5) (q := (505, true)) hC hX dX6_all_18 q451 rfl in_X6 (by decide) (Or.inl rfl) rfl (by decide) hk26 ?_
        show GX _ _ _ _ _ _ _ (va_rf (xFR S24 505 u7) :: _)
        refine g_aload_nR hC dX6_all_21 rfl ?_
        refine g_iconst (v := 3) hC dX6_all_22 (by decide) ?_
        refine g_top1 eu7 ?_
        obtain ⟨k27, n28, hk27, hn28, h⟩ := h.2
        refine gX_xi hX (gX_xrunV (As := [.int (3 : Int32)]) (rest := [va_rf (xFR S24 505 u7)]) (Cr := RX6) hC hX (mx_X6_figure (cx_l C) E k27 n28 _ _ _ _ _ h) (lw_V q684 q686 qs7 q86 q687) hx_X6_figure rfl rfl (Or.inl (Nat.le_of_ble_eq_true rfl)) ⟨Nat.le_of_ble_eq_true rfl, Nat.le_of_ble_eq_true rfl⟩ dX6_all_23 hk27 hn28 hk26 rfl (by decide) rfl) hk27 hn28 (fun q29 S30 h hk31 => ?_) ?_
        · exact gT_out (r := (RX7, TX7, 8)) hC hX hT hA hQ hk31 rfl (by decide) h
        intro r33 S32 h
        obtain ⟨u34, eu34, h⟩ := h
        refine g_top1 eu34 ?_
        have hk35 := h.1
        refine gX_aald (n := 104) hC hX dX6_all_26 (by decide) hk35 h.2.1 ?_
        refine g_astore_nR hC dX6_all_27 rfl (by decide) (lx_okR (j := 0) rfl) rfl ?_
        refine g_aload_nR hC dX6_all_28 rfl ?_
        refine g_aload_nR hC dX6_all_29 rfl ?_
        refine g_top1 eu7 ?_
        have hk36 := h.2.2.1
        obtain ⟨k37, n38, hk37, hn38, h⟩ := h.2.2.2
        refine gX_xv hX (gX_xrunV (As := [va_rf (xAR S32 u34 (Int32.toNatClampNeg r33))]) (rest := []) (Cr := RX6) hC hX (mx_X6_rule (cx_l C) E k37 n38 _ _ _ _ _ h) (lw_V q715 q717 qs9 q86 q718) hx_X6_rule rfl rfl (Or.inl (Nat.le_of_ble_eq_true rfl)) ⟨Nat.le_of_ble_eq_true rfl, Nat.le_of_ble_eq_true rfl⟩ dX6_all_30 hk37 hn38 hk36 rfl (by decide) rfl) hk37 hn38 (fun q39 S40 h hk41 => ?_) ?_
        · exact gT_out (r := (RX7, TX7, 8)) hC hX hT hA hQ hk41 rfl (by decide) h
        intro S42 h
        obtain ⟨n0, h0⟩ := h
        exact s_33 (wx_X6_all_4 Q X n) ih n0 (((mc - k22) - k27) - k37) (((ms - n23) - n28) - n38) S42 a0 (xAR S32 u34 (Int32.toNatClampNeg r33)) h0
  refine g_aload_nR hC dX6_all_0 rfl ?_
  obtain ⟨u1, eu1, h⟩ := h
  refine g_top0 eu1 ?_
  have hk2 := h.1
  obtain ⟨k3, n4, hk3, hn4, h⟩ := h.2
  refine gX_cv hX (gX_runV (As := []) (rest := []) (Cr := RX6) hC hX (mx_X6_next (cx_l C) E k3 n4 _ _ _ h) (lw_V q477 q479 qs4 q86 q480) hx_X6_next rfl rfl (Or.inl (Nat.le_of_ble_eq_true rfl)) ⟨Nat.le_of_ble_eq_true rfl, Nat.le_of_ble_eq_true rfl⟩ dX6_all_1 hk3 hn4 hk2 rfl (by decide) rfl) hk3 hn4 ?_
  intro S5 h
  obtain ⟨n0, h0⟩ := h
  exact s_4 n0 (mc - k3) (ms - n4) S5 x0 h0
theorem mx_X6_all (l : Launch) (E : XE) (mc ms : Nat) (Q : XS → Prop) (X : Nat → XS → Prop) (S : XS) (x0 : Option Nat) (h : wx_X6_all Q X mc ms S x0) : XMetX E l yX6_all cX6_all 2 none ({ frames := 6, cells := mc, slots := ms, locals := 148 } : Room) [va_rf x0] S (fun sz => va_Qv Q (BX1 E S sz) (xA S sz)) RX7 6 X :=
  XMetX_of (rm := ({ frames := 6, cells := mc, slots := ms, locals := 148 } : Room)) (by decide) (by simp [lg_sl, va_rf_cat, cat_i, cat_l]) (L0 := [some (va_rf x0), none]) (by simp [lx_pairs, lv_args, va_rf_cat, cat_i, cat_l, List.range_succ]) (fun sz C hC hX hl hnm hT hA hQ => bx_X6_all E C S sz Q X mc ms S x0 hC hX hT hA hQ h)
