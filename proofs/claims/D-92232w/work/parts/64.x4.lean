/-! X9_lost -/
def wx_X9_lost_39 (Q : Int32 → XS → Prop) (K4 : XS → Option Nat → Int32 → Int32 → Prop) (S : XS) (a0 : Option Nat) (a2 : Int32) (s0 : Int32) (s1 : Int32) : Prop :=
  K4 S a0 (s0 + s1) (a2 + (1 : Int32))
def wx_X9_lost_38 (Q : Int32 → XS → Prop) (K4 : XS → Option Nat → Int32 → Int32 → Prop) (S : XS) (a0 : Option Nat) (a2 : Int32) (s0 : Int32) : Prop :=
  wx_X9_lost_39 Q K4 S a0 a2 s0 (0 : Int32)
def wx_X9_lost_4 (Q : Int32 → XS → Prop) : Nat → XS → Option Nat → Int32 → Int32 → Prop
  | 0, _, _, _, _ => False
  | n + 1, S, a0, a1, a2 => (if (16 : Int32) ≤ a2 then Q a1 S else dr a0 (fun u1 => xKD S u1 = some 8 ∧ (if (((xFI S 806 u1) >>> (a2 &&& 31)) &&& (1 : Int32)) = (1 : Int32) then dr (xFR S 807 u1) (fun u3 => xKD S u3 = some 100 ∧ vp_in a2 (xLN S u3) ∧ (if (xAI S u3 (Int32.toNatClampNeg a2)) = (-1000000 : Int32) then wx_X9_lost_39 Q (wx_X9_lost_4 Q n) S a0 a2 a1 (1 : Int32) else wx_X9_lost_38 Q (wx_X9_lost_4 Q n) S a0 a2 a1)) else wx_X9_lost_38 Q (wx_X9_lost_4 Q n) S a0 a2 a1)))
def wx_X9_lost (Q : Int32 → XS → Prop) (S : XS) (x0 : Option Nat) : Prop :=
  ∃ n5, wx_X9_lost_4 Q n5 S x0 (0 : Int32) (0 : Int32)
theorem hx_X9_lost : yX9_lost.cls = RX9 ∧ yX9_lost.cls ≠ "java/lang/invoke/MethodHandle" ∧ yX9_lost.cls ≠ "java/lang/invoke/VarHandle" ∧ (parseMethodDescriptor yX9_lost.desc).map (fun d => d.parameters.length) = some 0 := by decide +kernel
set_option maxHeartbeats 4000000 in
set_option maxRecDepth 100000 in
theorem bx_X9_lost (E : XE) (C : Cx) (S0 : XS) (sz : Nat) (Q : Int32 → XS → Prop) (S : XS) (x0 : Option Nat) (hC : COk C cX9_lost RX9 (some .int) 1 34 3) (hX : XOk E C) (hA : cx_A C = xA S0 sz) (hQ : cx_Q C = MQ (cx_b C) (va_Qi Q (BX1 E S0 sz) (xA S0 sz)) (cx_a C) (cx_s C) (cx_MC C) (cx_MS C) (xA S0 sz)) (h : wx_X9_lost Q S x0) : GX E C S 0 0 0 [some (va_rf x0), none, none] [] := by
  have s_39 : ∀ (K4 : XS → Option Nat → Int32 → Int32 → Prop) (hK4 : ∀ (S : XS) (b0 : Option Nat) (b1 : Int32) (b2 : Int32), K4 S b0 b1 b2 → GX E C S 0 0 4 [some (va_rf b0), some (.int b1), some (.int b2)] []) (S : XS) (a0 : Option Nat) (a2 : Int32) (s0 : Int32) (s1 : Int32), wx_X9_lost_39 Q K4 S a0 a2 s0 s1 → GX E C S 0 0 39 [some (va_rf a0), none, some (.int a2)] [.int s1, .int s0] := by
    intro K4 hK4 S a0 a2 s0 s1 h
    refine g_iadd hC dX9_lost_39 ?_
    refine g_istore_n hC dX9_lost_40 rfl (by decide) (lx_okR (j := 0) rfl) rfl ?_
    refine g_iinc (v := (a2 + (1 : Int32))) hC dX9_lost_41 rfl rfl (by decide) rfl rfl ?_
    refine g_goto (tgt := 4) hC dX9_lost_44 (by decide) ?_
    exact hK4 S a0 (s0 + s1) (a2 + (1 : Int32)) h
  have s_38 : ∀ (K4 : XS → Option Nat → Int32 → Int32 → Prop) (hK4 : ∀ (S : XS) (b0 : Option Nat) (b1 : Int32) (b2 : Int32), K4 S b0 b1 b2 → GX E C S 0 0 4 [some (va_rf b0), some (.int b1), some (.int b2)] []) (S : XS) (a0 : Option Nat) (a2 : Int32) (s0 : Int32), wx_X9_lost_38 Q K4 S a0 a2 s0 → GX E C S 0 0 38 [some (va_rf a0), none, some (.int a2)] [.int s0] := by
    intro K4 hK4 S a0 a2 s0 h
    refine g_iconst (v := 0) hC dX9_lost_38 (by decide) ?_
    exact s_39 K4 hK4 S a0 a2 s0 (0 : Int32) h
  have s_4 : ∀ (n : Nat) (S : XS) (a0 : Option Nat) (a1 : Int32) (a2 : Int32), wx_X9_lost_4 Q  n S a0 a1 a2 → GX E C S 0 0 4 [some (va_rf a0), some (.int a1), some (.int a2)] [] := by
    intro  n
    induction n with
    | zero =>
      intro S a0 a1 a2 h
      exact False.elim h
    | succ n ih =>
      intro S a0 a1 a2 h
      refine g_iload_n hC dX9_lost_4 rfl ?_
      refine g_bipush (v := 16) hC dX9_lost_5 (by decide) ?_
      refine g_icmp_ge (tgt := 47) hC dX9_lost_7 (by decide) (fun c => ?_) (fun c => ?_)
      · have h := it_p c h
        refine g_iload_n hC dX9_lost_47 rfl ?_
        refine gX_iret rfl hC hA hQ dX9_lost_48 h
      · have h := it_n c h
        refine g_iload_n hC dX9_lost_10 rfl ?_
        refine g_aload_nR hC dX9_lost_11 rfl ?_
        obtain ⟨u1, eu1, h⟩ := h
        refine g_top0 eu1 ?_
        have hk2 := h.1
        refine gX_get (C0 := RX9) (T := TX9) (N := 9) (n := 8) (k := 6) (q := (806, false)) hC hX dX9_lost_12 q1052 rfl in_X9 (by decide) (Or.inl rfl) rfl (by decide) hk2 ?_
        show GX _ _ _ _ _ _ _ (.int (xFI S 806 u1) :: _)
        refine g_iload_n hC dX9_lost_15 rfl ?_
        refine g_ishr hC dX9_lost_16 ?_
        refine g_iconst (v := 1) hC dX9_lost_17 (by decide) ?_
        refine g_iand hC dX9_lost_18 ?_
        refine g_iconst (v := 1) hC dX9_lost_19 (by decide) ?_
        refine g_icmp_ne (tgt := 38) hC dX9_lost_20 (by decide) (fun c => ?_) (fun c => ?_)
        · have h := it_n c h.2
          refine g_sub [true, false, true] rfl ?_
          exact s_38 (wx_X9_lost_4 Q n) ih S a0 a2 a1 h
        · have h := it_p c h.2
          refine g_aload_nR hC dX9_lost_23 rfl ?_
          refine g_top0 eu1 ?_
          refine gX_get (C0 := RX9) (T := TX9) (N := 9) (n := 8) (k := 7) (q := (807, true)) hC hX dX9_lost_24 q1054 rfl in_X9 (by decide) (Or.inl rfl) rfl (by decide) hk2 ?_
          show GX _ _ _ _ _ _ _ (va_rf (xFR S 807 u1) :: _)
          refine g_iload_n hC dX9_lost_27 rfl ?_
          obtain ⟨u3, eu3, h⟩ := h
          refine g_top1 eu3 ?_
          have hk4 := h.1
          refine gX_iald hC hX dX9_lost_28 hk4 h.2.1 ?_
          refine g_ldc (v := -1000000) hC dX9_lost_29 q1018 ?_
          refine g_icmp_ne (tgt := 38) hC dX9_lost_31 (by decide) (fun c => ?_) (fun c => ?_)
          · have h := it_n c h.2.2
            refine g_sub [true, false, true] rfl ?_
            exact s_38 (wx_X9_lost_4 Q n) ih S a0 a2 a1 h
          · have h := it_p c h.2.2
            refine g_iconst (v := 1) hC dX9_lost_34 (by decide) ?_
            refine g_goto (tgt := 39) hC dX9_lost_35 (by decide) ?_
            refine g_sub [true, false, true] rfl ?_
            exact s_39 (wx_X9_lost_4 Q n) ih S a0 a2 a1 (1 : Int32) h
  refine g_iconst (v := 0) hC dX9_lost_0 (by decide) ?_
  refine g_istore_n hC dX9_lost_1 rfl (by decide) (lx_okR (j := 0) rfl) rfl ?_
  refine g_iconst (v := 0) hC dX9_lost_2 (by decide) ?_
  refine g_istore_n hC dX9_lost_3 rfl (by decide) rfl rfl ?_
  obtain ⟨n0, h0⟩ := h
  exact s_4 n0 S x0 (0 : Int32) (0 : Int32) h0
theorem mx_X9_lost (l : Launch) (E : XE) (Q : Int32 → XS → Prop) (S : XS) (x0 : Option Nat) (h : wx_X9_lost Q S x0) : XMet E l yX9_lost cX9_lost 3 (some .int) ({ frames := 1, cells := 0, slots := 0, locals := 34 } : Room) [va_rf x0] S (fun sz => va_Qi Q (BX1 E S sz) (xA S sz)) :=
  XMet_of (rm := ({ frames := 1, cells := 0, slots := 0, locals := 34 } : Room)) (by decide) (by simp [lg_sl, va_rf_cat, cat_i, cat_l]) (L0 := [some (va_rf x0), none, none]) (by simp [lx_pairs, lv_args, va_rf_cat, cat_i, cat_l, List.range_succ]) (fun sz C hC hX hl hnm hA hQ => bx_X9_lost E C S sz Q S x0 hC hX hA hQ h)
/-! X0_funeral -/
def wx_X0_funeral (Q : Int32 → XS → Prop) (mc ms : Nat) (S : XS) (x0 : Option Nat) (x1 : Int32) (x2 : Int32) (x3 : Int32) (x4 : Int32) (x5 : Int32) (x6 : Int32) : Prop :=
  wx_X0_isHall (fun r2 S1 => (if r2 = 0 then Q (-1000001 : Int32) S1 else wx_X0_isDay (fun r4 S3 => (if r4 = 0 then Q (-1000001 : Int32) S3 else wx_X0_areQuarters (fun r6 S5 => (if r6 = 0 then Q (-1000001 : Int32) S5 else wx_X0_isIn (fun r8 S7 => (if r8 = 0 then Q (-1000001 : Int32) S7 else wx_X0_isIn (fun r10 S9 => (if r10 = 0 then Q (-1000001 : Int32) S9 else 1 ≤ mc ∧ 9 ≤ ms ∧ (∀ q11 : Nat, xKD S9 q11 = none → (∃ k14 n15, k14 ≤ (mc - 1) ∧ n15 ≤ (ms - 9) ∧ wx_X9_init (fun S16 => (if x6 = 0 then xKD S16 q11 = some 8 ∧ Q (xFI S16 805 q11) S16 else (if x6 = (1 : Int32) then xKD S16 q11 = some 8 ∧ wx_J18_bitCount (fun r26 S25 => Q r26 S25) S16 (xFI S16 806 q11) else (if x6 = (2 : Int32) then xKD S16 q11 = some 8 ∧ wx_X9_lost (fun r23 S22 => Q r23 S22) S16 (some q11) else xKD S16 q11 = some 8 ∧ dr (xFR S16 807 q11) (fun u19 => xKD S16 u19 = some 100 ∧ vp_in (x6 - (3 : Int32)) (xLN S16 u19) ∧ Q (xAI S16 u19 (Int32.toNatClampNeg (x6 - (3 : Int32)))) S16))))) k14 n15 (sNew S9 q11 8) (some q11) x0 x1 x2 x3 x4 x5)))) S7 (Int32.toInt64 x6) (0 : Int64) (18 : Int64))) S5 (Int32.toInt64 x5) (1 : Int64) (500 : Int64))) S3 x3 x4)) S1 x2)) S x1
theorem hx_X0_funeral : yX0_funeral.cls = RX0 ∧ yX0_funeral.cls ≠ "java/lang/invoke/MethodHandle" ∧ yX0_funeral.cls ≠ "java/lang/invoke/VarHandle" ∧ (parseMethodDescriptor yX0_funeral.desc).map (fun d => d.parameters.length) = some 6 := by decide +kernel
set_option maxHeartbeats 4000000 in
set_option maxRecDepth 100000 in
theorem bx_X0_funeral (E : XE) (C : Cx) (S0 : XS) (sz : Nat) (Q : Int32 → XS → Prop) (mc ms : Nat) (S : XS) (x0 : Option Nat) (x1 : Int32) (x2 : Int32) (x3 : Int32) (x4 : Int32) (x5 : Int32) (x6 : Int32) (hC : COk C cX0_funeral RX0 (some .int) 7 176 8) (hX : XOk E C) (hA : cx_A C = xA S0 sz) (hQ : cx_Q C = MQ (cx_b C) (va_Qi Q (BX1 E S0 sz) (xA S0 sz)) (cx_a C) (cx_s C) (cx_MC C) (cx_MS C) (xA S0 sz)) (h : wx_X0_funeral Q mc ms S x0 x1 x2 x3 x4 x5 x6) : GX E C S mc ms 0 [some (va_rf x0), some (.int x1), some (.int x2), some (.int x3), some (.int x4), some (.int x5), some (.int x6), none] [] := by
  refine g_iload_n hC dX0_funeral_0 rfl ?_
  refine gX_ni hX (gX_runS (As := [.int x1]) (rest := []) hC hX (mx_X0_isHall (cx_l C) E _ _ _ h) (lw_S q752 q753 q70 q754) hx_X0_isHall.2 rfl rfl (Or.inl (Nat.le_of_ble_eq_true rfl)) ⟨Nat.le_of_ble_eq_true rfl, Nat.le_of_ble_eq_true rfl⟩ dX0_funeral_1 (Nat.zero_le _) (Nat.zero_le _)) rfl rfl ?_
  intro r2 S1 h
  refine g_if_eq (tgt := 49) hC dX0_funeral_4 (by decide) (fun c => ?_) (fun c => ?_)
  · have h := it_p c h
    refine g_ldc (v := -1000001) hC dX0_funeral_49 q273 ?_
    refine gX_iret rfl hC hA hQ dX0_funeral_51 h
  · have h := it_n c h
    refine g_iload_n hC dX0_funeral_7 rfl ?_
    refine gX_ni hX (gX_runS (As := [.int x2]) (rest := []) hC hX (mx_X0_isDay (cx_l C) E _ _ _ h) (lw_S q788 q789 q70 q790) hx_X0_isDay.2 rfl rfl (Or.inl (Nat.le_of_ble_eq_true rfl)) ⟨Nat.le_of_ble_eq_true rfl, Nat.le_of_ble_eq_true rfl⟩ dX0_funeral_8 (Nat.zero_le _) (Nat.zero_le _)) rfl rfl ?_
    intro r4 S3 h
    refine g_if_eq (tgt := 49) hC dX0_funeral_11 (by decide) (fun c => ?_) (fun c => ?_)
    · have h := it_p c h
      refine g_ldc (v := -1000001) hC dX0_funeral_49 q273 ?_
      refine gX_iret rfl hC hA hQ dX0_funeral_51 h
    · have h := it_n c h
      refine g_iload_n hC dX0_funeral_14 rfl ?_
      refine g_iload hC dX0_funeral_15 rfl ?_
      refine gX_ni hX (gX_runS (As := [.int x3, .int x4]) (rest := []) hC hX (mx_X0_areQuarters (cx_l C) E _ _ _ _ h) (lw_S q792 q793 q70 q794) hx_X0_areQuarters.2 rfl rfl (Or.inl (Nat.le_of_ble_eq_true rfl)) ⟨Nat.le_of_ble_eq_true rfl, Nat.le_of_ble_eq_true rfl⟩ dX0_funeral_17 (Nat.zero_le _) (Nat.zero_le _)) rfl rfl ?_
      intro r6 S5 h
      refine g_if_eq (tgt := 49) hC dX0_funeral_20 (by decide) (fun c => ?_) (fun c => ?_)
      · have h := it_p c h
        refine g_ldc (v := -1000001) hC dX0_funeral_49 q273 ?_
        refine gX_iret rfl hC hA hQ dX0_funeral_51 h
      · have h := it_n c h
        refine g_iload hC dX0_funeral_23 rfl ?_
        refine g_i2l hC dX0_funeral_25 ?_
        refine g_lconst (v := 1) hC dX0_funeral_26 (by decide) ?_
        refine g_ldc2 (v := 500) hC dX0_funeral_27 q1010 ?_
        refine gX_ni hX (gX_runS (As := [.long (Int32.toInt64 x5), .long (1 : Int64), .long (500 : Int64)]) (rest := []) hC hX (mx_X0_isIn (cx_l C) E _ _ _ _ _ h) (lw_S q269 q270 q70 q271) hx_X0_isIn.2 rfl rfl (Or.inl (Nat.le_of_ble_eq_true rfl)) ⟨Nat.le_of_ble_eq_true rfl, Nat.le_of_ble_eq_true rfl⟩ dX0_funeral_30 (Nat.zero_le _) (Nat.zero_le _)) rfl rfl ?_
        intro r8 S7 h
        refine g_if_eq (tgt := 49) hC dX0_funeral_33 (by decide) (fun c => ?_) (fun c => ?_)
        · have h := it_p c h
          refine g_ldc (v := -1000001) hC dX0_funeral_49 q273 ?_
          refine gX_iret rfl hC hA hQ dX0_funeral_51 h
        · have h := it_n c h
          refine g_iload hC dX0_funeral_36 rfl ?_
          refine g_i2l hC dX0_funeral_38 ?_
          refine g_lconst (v := 0) hC dX0_funeral_39 (by decide) ?_
          refine g_ldc2 (v := 18) hC dX0_funeral_40 q1011 ?_
          refine gX_ni hX (gX_runS (As := [.long (Int32.toInt64 x6), .long (0 : Int64), .long (18 : Int64)]) (rest := []) hC hX (mx_X0_isIn (cx_l C) E _ _ _ _ _ h) (lw_S q269 q270 q70 q271) hx_X0_isIn.2 rfl rfl (Or.inl (Nat.le_of_ble_eq_true rfl)) ⟨Nat.le_of_ble_eq_true rfl, Nat.le_of_ble_eq_true rfl⟩ dX0_funeral_43 (Nat.zero_le _) (Nat.zero_le _)) rfl rfl ?_
          intro r10 S9 h
          refine g_if_ne (tgt := 52) hC dX0_funeral_46 (by decide) (fun c => ?_) (fun c => ?_)
          · have h := it_n c h
            refine gX_new (C0 := RX9) (T := TX9) (ty0 := tyX9) (N := 9) (n := 8) hC hX dX0_funeral_52 q1012 q1013 q98 rfl in_X9 tyX9_ok (by decide) dv_X9 h.1 h.2.1 ?_
            intro q11 hq12
            have h := h.2.2 q11 hq12
            have hk13 : xKD (sNew S9 q11 8) q11 = some 8 := kd_self
            refine g_dup hC dX0_funeral_55 (va_rf_cat _) ?_
            refine g_aload_nR hC dX0_funeral_56 rfl ?_
            refine g_iload_n hC dX0_funeral_57 rfl ?_
            refine g_iload_n hC dX0_funeral_58 rfl ?_
            refine g_iload_n hC dX0_funeral_59 rfl ?_
            refine g_iload hC dX0_funeral_60 rfl ?_
            refine g_iload hC dX0_funeral_62 rfl ?_
            obtain ⟨k14, n15, hk14, hn15, h⟩ := h
            refine gX_cv hX (gX_runI (As := [va_rf x0, .int x1, .int x2, .int x3, .int x4, .int x5]) (rest := [va_rf (some q11)]) hC hX (mx_X9_init (cx_l C) E k14 n15 _ _ _ _ _ _ _ _ _ h) q1016 q98 q1014 q1015 rfl hx_X9_init.2 rfl rfl (Or.inl (Nat.le_of_ble_eq_true rfl)) ⟨Nat.le_of_ble_eq_true rfl, Nat.le_of_ble_eq_true rfl⟩ dX0_funeral_64 hk14 hn15) hk14 hn15 ?_
            intro S16 h
            refine g_astoreR hC dX0_funeral_67 (by decide) rfl rfl ?_
            refine g_sub [false, false, false, false, false, false, true, true] rfl ?_
            refine g_iload hC dX0_funeral_69 rfl ?_
            refine g_if_ne (tgt := 82) hC dX0_funeral_71 (by decide) (fun c => ?_) (fun c => ?_)
            · have h := it_n c h
              refine g_iload hC dX0_funeral_82 rfl ?_
              refine g_iconst (v := 1) hC dX0_funeral_84 (by decide) ?_
              refine g_icmp_ne (tgt := 99) hC dX0_funeral_85 (by decide) (fun c => ?_) (fun c => ?_)
              · have h := it_n c h
                refine g_iload hC dX0_funeral_99 rfl ?_
                refine g_iconst (v := 2) hC dX0_funeral_101 (by decide) ?_
                refine g_icmp_ne (tgt := 113) hC dX0_funeral_102 (by decide) (fun c => ?_) (fun c => ?_)
                · have h := it_n c h
                  refine g_aloadR hC dX0_funeral_113 rfl ?_
                  have hk18 := h.1
                  refine gX_getN (C0 := RX9) (T := TX9) (N := 9) (n := 8) (k := 7) (q := (807, true)) hC hX dX0_funeral_115 q1055 rfl in_X9 (by decide) rfl rfl (by decide) hk18 ?_
                  show GX _ _ _ _ _ _ _ (va_rf (xFR S16 807 q11) :: _)
                  refine g_iload hC dX0_funeral_118 rfl ?_
                  refine g_iconst (v := 3) hC dX0_funeral_120 (by decide) ?_
                  refine g_isub hC dX0_funeral_121 ?_
                  obtain ⟨u19, eu19, h⟩ := h.2
                  refine g_top1 eu19 ?_
                  have hk20 := h.1
                  refine gX_iald hC hX dX0_funeral_122 hk20 h.2.1 ?_
                  refine gX_iret rfl hC hA hQ dX0_funeral_123 h.2.2
                · have h := it_p c h
                  refine g_aloadR hC dX0_funeral_105 rfl ?_
                  have hk21 := h.1
                  refine gX_ni hX (gX_runV (As := []) (rest := []) (Cr := RX9) hC hX (mx_X9_lost (cx_l C) E _ _ _ h.2) (lw_V q1077 q1078 q1079 q98 q1080) hx_X9_lost rfl rfl (Or.inl (Nat.le_of_ble_eq_true rfl)) ⟨Nat.le_of_ble_eq_true rfl, Nat.le_of_ble_eq_true rfl⟩ dX0_funeral_107 (Nat.zero_le _) (Nat.zero_le _) hk21 rfl (by decide) rfl) rfl rfl ?_
                  intro r23 S22 h
                  refine g_goto (tgt := 123) hC dX0_funeral_110 (by decide) ?_
                  refine gX_iret rfl hC hA hQ dX0_funeral_123 h
              · have h := it_p c h
                refine g_aloadR hC dX0_funeral_88 rfl ?_
                have hk24 := h.1
                refine gX_getN (C0 := RX9) (T := TX9) (N := 9) (n := 8) (k := 6) (q := (806, false)) hC hX dX0_funeral_90 q1053 rfl in_X9 (by decide) rfl rfl (by decide) hk24 ?_
                show GX _ _ _ _ _ _ _ (.int (xFI S16 806 q11) :: _)
                refine gX_ni hX (gX_runS (As := [.int (xFI S16 806 q11)]) (rest := []) hC hX (mx_J18_bitCount (cx_l C) E _ _ _ h.2) (lw_S q1076 q1032 q100 q1033) hx_J18_bitCount.2 rfl rfl (Or.inl (Nat.le_of_ble_eq_true rfl)) ⟨Nat.le_of_ble_eq_true rfl, Nat.le_of_ble_eq_true rfl⟩ dX0_funeral_93 (Nat.zero_le _) (Nat.zero_le _)) rfl rfl ?_
                intro r26 S25 h
                refine g_goto (tgt := 123) hC dX0_funeral_96 (by decide) ?_
                refine gX_iret rfl hC hA hQ dX0_funeral_123 h
            · have h := it_p c h
              refine g_aloadR hC dX0_funeral_74 rfl ?_
              have hk27 := h.1
              refine gX_getN (C0 := RX9) (T := TX9) (N := 9) (n := 8) (k := 5) (q := (805, false)) hC hX dX0_funeral_76 q1051 rfl in_X9 (by decide) rfl rfl (by decide) hk27 ?_
              show GX _ _ _ _ _ _ _ (.int (xFI S16 805 q11) :: _)
              refine g_goto (tgt := 123) hC dX0_funeral_79 (by decide) ?_
              refine gX_iret rfl hC hA hQ dX0_funeral_123 h.2
          · have h := it_p c h
            refine g_ldc (v := -1000001) hC dX0_funeral_49 q273 ?_
            refine gX_iret rfl hC hA hQ dX0_funeral_51 h
theorem mx_X0_funeral (l : Launch) (E : XE) (mc ms : Nat) (Q : Int32 → XS → Prop) (S : XS) (x0 : Option Nat) (x1 : Int32) (x2 : Int32) (x3 : Int32) (x4 : Int32) (x5 : Int32) (x6 : Int32) (h : wx_X0_funeral Q mc ms S x0 x1 x2 x3 x4 x5 x6) : XMet E l yX0_funeral cX0_funeral 8 (some .int) ({ frames := 7, cells := mc, slots := ms, locals := 176 } : Room) [va_rf x0, .int x1, .int x2, .int x3, .int x4, .int x5, .int x6] S (fun sz => va_Qi Q (BX1 E S sz) (xA S sz)) :=
  XMet_of (rm := ({ frames := 7, cells := mc, slots := ms, locals := 176 } : Room)) (by decide) (by simp [lg_sl, va_rf_cat, cat_i, cat_l]) (L0 := [some (va_rf x0), some (.int x1), some (.int x2), some (.int x3), some (.int x4), some (.int x5), some (.int x6), none]) (by simp [lx_pairs, lv_args, va_rf_cat, cat_i, cat_l, List.range_succ]) (fun sz C hC hX hl hnm hA hQ => bx_X0_funeral E C S sz Q mc ms S x0 x1 x2 x3 x4 x5 x6 hC hX hA hQ h)
/-! X0_isTime -/
def wx_X0_isTime (Q : Int32 → XS → Prop) (S : XS) (x0 : Int32) (x1 : Int32) (x2 : Int32) (x3 : Int32) : Prop :=
  wx_X0_isHall (fun r2 S1 => (if r2 = 0 then Q (0 : Int32) S1 else wx_X0_isDay (fun r4 S3 => (if r4 = 0 then Q (0 : Int32) S3 else wx_X0_isIn (fun r6 S5 => (if r6 = 0 then Q (0 : Int32) S5 else Q (1 : Int32) S5)) S3 (Int32.toInt64 x2) (0 : Int64) (Int32.toInt64 x3))) S1 x1)) S x0
theorem hx_X0_isTime : yX0_isTime.cls = RX0 ∧ yX0_isTime.cls ≠ "java/lang/invoke/MethodHandle" ∧ yX0_isTime.cls ≠ "java/lang/invoke/VarHandle" ∧ (parseMethodDescriptor yX0_isTime.desc).map (fun d => d.parameters.length) = some 4 := by decide +kernel
set_option maxHeartbeats 4000000 in
set_option maxRecDepth 100000 in
theorem bx_X0_isTime (E : XE) (C : Cx) (S0 : XS) (sz : Nat) (Q : Int32 → XS → Prop) (S : XS) (x0 : Int32) (x1 : Int32) (x2 : Int32) (x3 : Int32) (hC : COk C cX0_isTime RX0 (some .boolean) 3 79 4) (hX : XOk E C) (hA : cx_A C = xA S0 sz) (hQ : cx_Q C = MQ (cx_b C) (va_Qi Q (BX1 E S0 sz) (xA S0 sz)) (cx_a C) (cx_s C) (cx_MC C) (cx_MS C) (xA S0 sz)) (h : wx_X0_isTime Q S x0 x1 x2 x3) : GX E C S 0 0 0 [some (.int x0), some (.int x1), some (.int x2), some (.int x3)] [] := by
  refine g_iload_n hC dX0_isTime_0 rfl ?_
  refine gX_ni hX (gX_runS (As := [.int x0]) (rest := []) hC hX (mx_X0_isHall (cx_l C) E _ _ _ h) (lw_S q752 q753 q70 q754) hx_X0_isHall.2 rfl rfl (Or.inl (Nat.le_of_ble_eq_true rfl)) ⟨Nat.le_of_ble_eq_true rfl, Nat.le_of_ble_eq_true rfl⟩ dX0_isTime_1 (Nat.zero_le _) (Nat.zero_le _)) rfl rfl ?_
  intro r2 S1 h
  refine g_if_eq (tgt := 29) hC dX0_isTime_4 (by decide) (fun c => ?_) (fun c => ?_)
  · have h := it_p c h
    refine g_iconst (v := 0) hC dX0_isTime_29 (by decide) ?_
    refine gX_zret rfl rfl hC hA hQ dX0_isTime_30 h
  · have h := it_n c h
    refine g_iload_n hC dX0_isTime_7 rfl ?_
    refine gX_ni hX (gX_runS (As := [.int x1]) (rest := []) hC hX (mx_X0_isDay (cx_l C) E _ _ _ h) (lw_S q788 q789 q70 q790) hx_X0_isDay.2 rfl rfl (Or.inl (Nat.le_of_ble_eq_true rfl)) ⟨Nat.le_of_ble_eq_true rfl, Nat.le_of_ble_eq_true rfl⟩ dX0_isTime_8 (Nat.zero_le _) (Nat.zero_le _)) rfl rfl ?_
    intro r4 S3 h
    refine g_if_eq (tgt := 29) hC dX0_isTime_11 (by decide) (fun c => ?_) (fun c => ?_)
    · have h := it_p c h
      refine g_iconst (v := 0) hC dX0_isTime_29 (by decide) ?_
      refine gX_zret rfl rfl hC hA hQ dX0_isTime_30 h
    · have h := it_n c h
      refine g_iload_n hC dX0_isTime_14 rfl ?_
      refine g_i2l hC dX0_isTime_15 ?_
      refine g_lconst (v := 0) hC dX0_isTime_16 (by decide) ?_
      refine g_iload_n hC dX0_isTime_17 rfl ?_
      refine g_i2l hC dX0_isTime_18 ?_
      refine gX_ni hX (gX_runS (As := [.long (Int32.toInt64 x2), .long (0 : Int64), .long (Int32.toInt64 x3)]) (rest := []) hC hX (mx_X0_isIn (cx_l C) E _ _ _ _ _ h) (lw_S q269 q270 q70 q271) hx_X0_isIn.2 rfl rfl (Or.inl (Nat.le_of_ble_eq_true rfl)) ⟨Nat.le_of_ble_eq_true rfl, Nat.le_of_ble_eq_true rfl⟩ dX0_isTime_19 (Nat.zero_le _) (Nat.zero_le _)) rfl rfl ?_
      intro r6 S5 h
      refine g_if_eq (tgt := 29) hC dX0_isTime_22 (by decide) (fun c => ?_) (fun c => ?_)
      · have h := it_p c h
        refine g_iconst (v := 0) hC dX0_isTime_29 (by decide) ?_
        refine gX_zret rfl rfl hC hA hQ dX0_isTime_30 h
      · have h := it_n c h
        refine g_iconst (v := 1) hC dX0_isTime_25 (by decide) ?_
        refine g_goto (tgt := 30) hC dX0_isTime_26 (by decide) ?_
        refine gX_zret rfl rfl hC hA hQ dX0_isTime_30 h
theorem mx_X0_isTime (l : Launch) (E : XE) (Q : Int32 → XS → Prop) (S : XS) (x0 : Int32) (x1 : Int32) (x2 : Int32) (x3 : Int32) (h : wx_X0_isTime Q S x0 x1 x2 x3) : XMet E l yX0_isTime cX0_isTime 4 (some .boolean) ({ frames := 3, cells := 0, slots := 0, locals := 79 } : Room) [.int x0, .int x1, .int x2, .int x3] S (fun sz => va_Qi Q (BX1 E S sz) (xA S sz)) :=
  XMet_of (rm := ({ frames := 3, cells := 0, slots := 0, locals := 79 } : Room)) (by decide) (by simp [lg_sl, va_rf_cat, cat_i, cat_l]) (L0 := [some (.int x0), some (.int x1), some (.int x2), some (.int x3)]) (by simp [lx_pairs, lv_args, va_rf_cat, cat_i, cat_l, List.range_succ]) (fun sz C hC hX hl hnm hA hQ => bx_X0_isTime E C S sz Q S x0 x1 x2 x3 hC hX hA hQ h)
/-! X10_init -/
def wx_X10_init (Q : XS → Prop) (S : XS) (x0 : Option Nat) (x1 : Int32) (x2 : Int32) (x3 : Int32) (x4 : Int32) : Prop :=
  dr x0 (fun u1 => xKD S u1 = some 9 ∧ Q (sFI (sFI (sFI (sFI S 900 u1 x1) 901 u1 x2) 902 u1 x3) 903 u1 x4))
theorem hx_X10_init : yX10_init.cls = RX10 ∧ yX10_init.cls ≠ "java/lang/invoke/MethodHandle" ∧ yX10_init.cls ≠ "java/lang/invoke/VarHandle" ∧ (parseMethodDescriptor yX10_init.desc).map (fun d => d.parameters.length) = some 4 := by decide +kernel
set_option maxHeartbeats 4000000 in
set_option maxRecDepth 100000 in
theorem bx_X10_init (E : XE) (C : Cx) (S0 : XS) (sz : Nat) (Q : XS → Prop) (S : XS) (x0 : Option Nat) (x1 : Int32) (x2 : Int32) (x3 : Int32) (x4 : Int32) (hC : COk C cX10_init RX10 none 1 34 5) (hX : XOk E C) (hA : cx_A C = xA S0 sz) (hini : (cx_h C).name = "<init>") (hQ : cx_Q C = MQ (cx_b C) (va_Qv Q (BX1 E S0 sz) (xA S0 sz)) (cx_a C) (cx_s C) (cx_MC C) (cx_MS C) (xA S0 sz)) (h : wx_X10_init Q S x0 x1 x2 x3 x4) : GX E C S 0 0 0 [some (va_rf x0), some (.int x1), some (.int x2), some (.int x3), some (.int x4)] [] := by
  refine g_aload_nR hC dX10_init_0 rfl ?_
  obtain ⟨u1, eu1, h⟩ := h
  refine g_top0 eu1 ?_
  refine gX_oinit hC dX10_init_1 q1094 q115 q116 (Nat.le_of_ble_eq_true rfl) (by decide) (by decide) ?_
  refine g_aload_nR hC dX10_init_4 rfl ?_
  refine g_iload_n hC dX10_init_5 rfl ?_
  refine g_top1 eu1 ?_
  have hk2 := h.1
  refine gX_putIF (C0 := RX10) (T := TX10) (ty0 := tyX10) (N := 4) (n := 9) (k := 0) (f := 900) hC hX dX10_init_6 q1095 rfl in_X10 tyX10_ok nmX10 (by decide) rfl rfl hini rfl rfl rfl rfl rfl (by decide) (Or.inl (by decide)) hk2 ?_
  refine g_aload_nR hC dX10_init_9 rfl ?_
  refine g_iload_n hC dX10_init_10 rfl ?_
  refine g_top1 eu1 ?_
  refine gX_putIF (C0 := RX10) (T := TX10) (ty0 := tyX10) (N := 4) (n := 9) (k := 1) (f := 901) hC hX dX10_init_11 q1097 rfl in_X10 tyX10_ok nmX10 (by decide) rfl rfl hini rfl rfl rfl rfl rfl (by decide) (Or.inl (by decide)) hk2 ?_
  refine g_aload_nR hC dX10_init_14 rfl ?_
  refine g_iload_n hC dX10_init_15 rfl ?_
  refine g_top1 eu1 ?_
  refine gX_putIF (C0 := RX10) (T := TX10) (ty0 := tyX10) (N := 4) (n := 9) (k := 2) (f := 902) hC hX dX10_init_16 q1099 rfl in_X10 tyX10_ok nmX10 (by decide) rfl rfl hini rfl rfl rfl rfl rfl (by decide) (Or.inl (by decide)) hk2 ?_
  refine g_aload_nR hC dX10_init_19 rfl ?_
  refine g_iload hC dX10_init_20 rfl ?_
  refine g_top1 eu1 ?_
  refine gX_putIF (C0 := RX10) (T := TX10) (ty0 := tyX10) (N := 4) (n := 9) (k := 3) (f := 903) hC hX dX10_init_22 q1101 rfl in_X10 tyX10_ok nmX10 (by decide) rfl rfl hini rfl rfl rfl rfl rfl (by decide) (Or.inl (by decide)) hk2 ?_
  refine gX_vret hC hA hQ rfl dX10_init_25 h.2
theorem mx_X10_init (l : Launch) (E : XE) (Q : XS → Prop) (S : XS) (x0 : Option Nat) (x1 : Int32) (x2 : Int32) (x3 : Int32) (x4 : Int32) (h : wx_X10_init Q S x0 x1 x2 x3 x4) : XMet E l yX10_init cX10_init 5 none ({ frames := 1, cells := 0, slots := 0, locals := 34 } : Room) [va_rf x0, .int x1, .int x2, .int x3, .int x4] S (fun sz => va_Qv Q (BX1 E S sz) (xA S sz)) :=
  XMet_of (rm := ({ frames := 1, cells := 0, slots := 0, locals := 34 } : Room)) (by decide) (by simp [lg_sl, va_rf_cat, cat_i, cat_l]) (L0 := [some (va_rf x0), some (.int x1), some (.int x2), some (.int x3), some (.int x4)]) (by simp [lx_pairs, lv_args, va_rf_cat, cat_i, cat_l, List.range_succ]) (fun sz C hC hX hl hnm hA hQ => bx_X10_init E C S sz Q S x0 x1 x2 x3 x4 hC hX hA hnm hQ h)
/-! X0_come -/
def wx_X0_come_39 (Q : Int32 → XS → Prop) (mc ms : Nat) (S : XS) (a0 : Option Nat) (a1 : Option Nat) (a2 : Int32) : Prop :=
  dr a0 (fun u5 => xKD S u5 = some 16 ∧ (∃ k7 n8, k7 ≤ mc ∧ n8 ≤ ms ∧ wx_J2_add_3 (fun S9 => xKD S9 u5 = some 16 ∧ wx_J2_size (fun r13 S12 => Q r13 S12) S9 (some u5)) k7 n8 S (some u5) a2 a1))
def wx_X0_come_7 (Q : Int32 → XS → Prop) : Nat → Nat → Nat → XS → Option Nat → Option Nat → Int32 → Prop
  | 0, _, _, _, _, _, _ => False
  | n + 1, mc, ms, S, a0, a1, a2 => (if a2 ≤ 0 then wx_X0_come_39 Q mc ms S a0 a1 a2 else dr a1 (fun u14 => xKD S u14 = some 9 ∧ dr a0 (fun u16 => xKD S u16 = some 16 ∧ wx_J2_get (fun r19 S18 => dr r19 (fun u20 => xKD S18 u20 = some 9 ∧ (if (xFI S18 901 u20) ≤ (xFI S 901 u14) then wx_X0_come_39 Q mc ms S18 a0 a1 a2 else wx_X0_come_7 Q n mc ms S18 a0 a1 (a2 + (-1 : Int32))))) S (some u16) (a2 - (1 : Int32)))))
def wx_X0_come (Q : Int32 → XS → Prop) (mc ms : Nat) (S : XS) (x0 : Option Nat) (x1 : Option Nat) : Prop :=
  dr x0 (fun u1 => xKD S u1 = some 16 ∧ wx_J2_size (fun r4 S3 => ∃ n22, wx_X0_come_7 Q n22 mc ms S3 x0 x1 r4) S (some u1))
theorem hx_X0_come : yX0_come.cls = RX0 ∧ yX0_come.cls ≠ "java/lang/invoke/MethodHandle" ∧ yX0_come.cls ≠ "java/lang/invoke/VarHandle" ∧ (parseMethodDescriptor yX0_come.desc).map (fun d => d.parameters.length) = some 2 := by decide +kernel
set_option maxHeartbeats 4000000 in
set_option maxRecDepth 100000 in
theorem bx_X0_come (E : XE) (C : Cx) (S0 : XS) (sz : Nat) (Q : Int32 → XS → Prop) (mc ms : Nat) (S : XS) (x0 : Option Nat) (x1 : Option Nat) (hC : COk C cX0_come RX0 (some .int) 6 145 3) (hX : XOk E C) (hA : cx_A C = xA S0 sz) (hQ : cx_Q C = MQ (cx_b C) (va_Qi Q (BX1 E S0 sz) (xA S0 sz)) (cx_a C) (cx_s C) (cx_MC C) (cx_MS C) (xA S0 sz)) (h : wx_X0_come Q mc ms S x0 x1) : GX E C S mc ms 0 [some (va_rf x0), some (va_rf x1), none] [] := by
  have s_39 : ∀ (mc ms : Nat) (S : XS) (a0 : Option Nat) (a1 : Option Nat) (a2 : Int32), wx_X0_come_39 Q  mc ms S a0 a1 a2 → GX E C S mc ms 39 [some (va_rf a0), some (va_rf a1), some (.int a2)] [] := by
    intro  mc ms S a0 a1 a2 h
    refine g_aload_nR hC dX0_come_39 rfl ?_
    refine g_iload_n hC dX0_come_40 rfl ?_
    refine g_aload_nR hC dX0_come_41 rfl ?_
    obtain ⟨u5, eu5, h⟩ := h
    refine g_top2 eu5 ?_
    have hk6 := h.1
    obtain ⟨k7, n8, hk7, hn8, h⟩ := h.2
    refine gX_cv5 hX (gX_runF (n := 2) (As := [.int a2, va_rf a1]) (rest := []) (Cr := "java/util/ArrayList") (x := ⟨"java/util/List", "add", "(ILjava/lang/Object;)V"⟩) hC hX (mx_J2_add_3 (cx_l C) E k7 n8 _ _ _ _ _ h) (lw_app (lw_4 q1116 q1119 q1121 q73) (lw_meth q1123)) (List.mem_of_getElem? (i := 3) rfl) (by decide +kernel) rfl rfl (Or.inl (Nat.le_of_ble_eq_true rfl)) ⟨Nat.le_of_ble_eq_true rfl, Nat.le_of_ble_eq_true rfl⟩ dX0_come_42 hk7 hn8 hk6 rfl (by decide) rfl) hk7 hn8 ?_
    intro S9 h
    refine g_aload_nR hC dX0_come_47 rfl ?_
    refine g_top0 eu5 ?_
    have hk11 := h.1
    refine gX_ni5 hX (gX_runF (n := 0) (As := []) (rest := []) (Cr := "java/util/ArrayList") (x := ⟨"java/util/List", "size", "()I"⟩) hC hX (mx_J2_size (cx_l C) E _ _ _ h.2) (lw_app (lw_4 q770 q774 q776 q73) (lw_meth q778)) (List.mem_of_getElem? (i := 0) rfl) (by decide +kernel) rfl rfl (Or.inl (Nat.le_of_ble_eq_true rfl)) ⟨Nat.le_of_ble_eq_true rfl, Nat.le_of_ble_eq_true rfl⟩ dX0_come_48 (Nat.zero_le _) (Nat.zero_le _) hk11 rfl (by decide) rfl) rfl rfl ?_
    intro r13 S12 h
    refine gX_iret rfl hC hA hQ dX0_come_53 h
  have s_7 : ∀ (n : Nat) (mc ms : Nat) (S : XS) (a0 : Option Nat) (a1 : Option Nat) (a2 : Int32), wx_X0_come_7 Q  n mc ms S a0 a1 a2 → GX E C S mc ms 7 [some (va_rf a0), some (va_rf a1), some (.int a2)] [] := by
    intro  n
    induction n with
    | zero =>
      intro mc ms S a0 a1 a2 h
      exact False.elim h
    | succ n ih =>
      intro mc ms S a0 a1 a2 h
      refine g_iload_n hC dX0_come_7 rfl ?_
      refine g_if_le (tgt := 39) hC dX0_come_8 (by decide) (fun c => ?_) (fun c => ?_)
      · have h := it_p c h
        exact s_39 mc ms S a0 a1 a2 h
      · have h := it_n c h
        refine g_aload_nR hC dX0_come_11 rfl ?_
        obtain ⟨u14, eu14, h⟩ := h
        refine g_top0 eu14 ?_
        have hk15 := h.1
        refine gX_get (C0 := RX10) (T := TX10) (N := 4) (n := 9) (k := 1) (q := (901, false)) hC hX dX0_come_12 q1098 rfl in_X10 (by decide) (Or.inl rfl) rfl (by decide) hk15 ?_
        show GX _ _ _ _ _ _ _ (.int (xFI S 901 u14) :: _)
        refine g_aload_nR hC dX0_come_15 rfl ?_
        refine g_iload_n hC dX0_come_16 rfl ?_
        refine g_iconst (v := 1) hC dX0_come_17 (by decide) ?_
        refine g_isub hC dX0_come_18 ?_
        obtain ⟨u16, eu16, h⟩ := h.2
        refine g_top1 eu16 ?_
        have hk17 := h.1
        refine gX_nq5 hX (gX_runF (n := 1) (As := [.int (a2 - (1 : Int32))]) (rest := [.int (xFI S 901 u14)]) (Cr := "java/util/ArrayList") (x := ⟨"java/util/List", "get", "(I)Ljava/lang/Object;"⟩) hC hX (mx_J2_get (cx_l C) E _ _ _ _ h.2) (lw_app (lw_4 q928 q931 q933 q73) (lw_meth q935)) (List.mem_of_getElem? (i := 2) rfl) (by decide +kernel) rfl rfl (Or.inl (Nat.le_of_ble_eq_true rfl)) ⟨Nat.le_of_ble_eq_true rfl, Nat.le_of_ble_eq_true rfl⟩ dX0_come_19 (Nat.zero_le _) (Nat.zero_le _) hk17 rfl (by decide) rfl) rfl rfl ?_
        intro r19 S18 h
        obtain ⟨u20, eu20, h⟩ := h
        refine g_top0 eu20 ?_
        have hk21 := h.1
        refine gX_cast (r := (RX10, TX10, 4)) (n := 9) hC hX dX0_come_24 q1089 rfl (by decide) hk21 ?_
        refine gX_get (C0 := RX10) (T := TX10) (N := 4) (n := 9) (k := 1) (q := (901, false)) hC hX dX0_come_27 q1098 rfl in_X10 (by decide) (Or.inl rfl) rfl (by decide) hk21 ?_
        show GX _ _ _ _ _ _ _ (.int (xFI S18 901 u20) :: _)
        refine g_icmp_ge (tgt := 39) hC dX0_come_30 (by decide) (fun c => ?_) (fun c => ?_)
        · have h := it_p c h.2
          exact s_39 mc ms S18 a0 a1 a2 h
        · have h := it_n c h.2
          refine g_iinc (v := (a2 + (-1 : Int32))) hC dX0_come_33 rfl rfl (by decide) (lx_okR (j := 1) rfl) rfl ?_
          refine g_goto (tgt := 7) hC dX0_come_36 (by decide) ?_
          exact ih mc ms S18 a0 a1 (a2 + (-1 : Int32)) h
  refine g_aload_nR hC dX0_come_0 rfl ?_
  obtain ⟨u1, eu1, h⟩ := h
  refine g_top0 eu1 ?_
  have hk2 := h.1
  refine gX_ni5 hX (gX_runF (n := 0) (As := []) (rest := []) (Cr := "java/util/ArrayList") (x := ⟨"java/util/List", "size", "()I"⟩) hC hX (mx_J2_size (cx_l C) E _ _ _ h.2) (lw_app (lw_4 q770 q774 q776 q73) (lw_meth q778)) (List.mem_of_getElem? (i := 0) rfl) (by decide +kernel) rfl rfl (Or.inl (Nat.le_of_ble_eq_true rfl)) ⟨Nat.le_of_ble_eq_true rfl, Nat.le_of_ble_eq_true rfl⟩ dX0_come_1 (Nat.zero_le _) (Nat.zero_le _) hk2 rfl (by decide) rfl) rfl rfl ?_
  intro r4 S3 h
  refine g_istore_n hC dX0_come_6 rfl (by decide) (lx_okR (j := 1) rfl) rfl ?_
  obtain ⟨n0, h0⟩ := h
  exact s_7 n0 mc ms S3 x0 x1 r4 h0
theorem mx_X0_come (l : Launch) (E : XE) (mc ms : Nat) (Q : Int32 → XS → Prop) (S : XS) (x0 : Option Nat) (x1 : Option Nat) (h : wx_X0_come Q mc ms S x0 x1) : XMet E l yX0_come cX0_come 3 (some .int) ({ frames := 6, cells := mc, slots := ms, locals := 145 } : Room) [va_rf x0, va_rf x1] S (fun sz => va_Qi Q (BX1 E S sz) (xA S sz)) :=
  XMet_of (rm := ({ frames := 6, cells := mc, slots := ms, locals := 145 } : Room)) (by decide) (by simp [lg_sl, va_rf_cat, cat_i, cat_l]) (L0 := [some (va_rf x0), some (va_rf x1), none]) (by simp [lx_pairs, lv_args, va_rf_cat, cat_i, cat_l, List.range_succ]) (fun sz C hC hX hl hnm hA hQ => bx_X0_come E C S sz Q mc ms S x0 x1 hC hX hA hQ h)
/-! X0_coin -/
def wx_X0_coin (Q : Int32 → XS → Prop) (mc ms : Nat) (S : XS) (x0 : Option Nat) (x1 : Int32) (x2 : Int32) (x3 : Int32) (x4 : Int32) : Prop :=
  wx_X0_isTime (fun r2 S1 => (if r2 = 0 then Q (-1000001 : Int32) S1 else wx_X0_isIn (fun r4 S3 => (if r4 = 0 then Q (-1000001 : Int32) S3 else dr x0 (fun u5 => xKD S3 u5 = some 0 ∧ dr (xFR S3 3 u5) (fun u7 => xKD S3 u7 = some 16 ∧ wx_J2_size (fun r10 S9 => (if r10 = (40 : Int32) then Q (-1000003 : Int32) S9 else xKD S9 u5 = some 0 ∧ 1 ≤ mc ∧ 4 ≤ ms ∧ (∀ q12 : Nat, xKD S9 q12 = none → wx_X10_init (fun S16 => (∃ k18 n19, k18 ≤ (mc - 1) ∧ n19 ≤ (ms - 4) ∧ wx_X0_come (fun r21 S20 => Q r21 S20) k18 n19 S16 (xFR S9 3 u5) (some q12))) (sNew S9 q12 9) (some q12) x1 (((1440 : Int32) * x2) + ((15 : Int32) * x3)) x4 (0 : Int32)))) S3 (some u7))))) S1 (Int32.toInt64 x4) (1 : Int64) (600 : Int64))) S x1 x2 x3 (95 : Int32)
theorem hx_X0_coin : yX0_coin.cls = RX0 ∧ yX0_coin.cls ≠ "java/lang/invoke/MethodHandle" ∧ yX0_coin.cls ≠ "java/lang/invoke/VarHandle" ∧ (parseMethodDescriptor yX0_coin.desc).map (fun d => d.parameters.length) = some 4 := by decide +kernel
set_option maxHeartbeats 4000000 in
set_option maxRecDepth 100000 in
theorem bx_X0_coin (E : XE) (C : Cx) (S0 : XS) (sz : Nat) (Q : Int32 → XS → Prop) (mc ms : Nat) (S : XS) (x0 : Option Nat) (x1 : Int32) (x2 : Int32) (x3 : Int32) (x4 : Int32) (hC : COk C cX0_coin RX0 (some .int) 7 167 5) (hX : XOk E C) (hA : cx_A C = xA S0 sz) (hQ : cx_Q C = MQ (cx_b C) (va_Qi Q (BX1 E S0 sz) (xA S0 sz)) (cx_a C) (cx_s C) (cx_MC C) (cx_MS C) (xA S0 sz)) (h : wx_X0_coin Q mc ms S x0 x1 x2 x3 x4) : GX E C S mc ms 0 [some (va_rf x0), some (.int x1), some (.int x2), some (.int x3), some (.int x4)] [] := by
  refine g_iload_n hC dX0_coin_0 rfl ?_
  refine g_iload_n hC dX0_coin_1 rfl ?_
  refine g_iload_n hC dX0_coin_2 rfl ?_
  refine g_bipush (v := 95) hC dX0_coin_3 (by decide) ?_
  refine gX_ni hX (gX_runS (As := [.int x1, .int x2, .int x3, .int (95 : Int32)]) (rest := []) hC hX (mx_X0_isTime (cx_l C) E _ _ _ _ _ _ h) (lw_S q1085 q1086 q70 q1087) hx_X0_isTime.2 rfl rfl (Or.inl (Nat.le_of_ble_eq_true rfl)) ⟨Nat.le_of_ble_eq_true rfl, Nat.le_of_ble_eq_true rfl⟩ dX0_coin_5 (Nat.zero_le _) (Nat.zero_le _)) rfl rfl ?_
  intro r2 S1 h
  refine g_if_eq (tgt := 24) hC dX0_coin_8 (by decide) (fun c => ?_) (fun c => ?_)
  · have h := it_p c h
    refine g_ldc (v := -1000001) hC dX0_coin_24 q273 ?_
    refine gX_iret rfl hC hA hQ dX0_coin_26 h
  · have h := it_n c h
    refine g_iload hC dX0_coin_11 rfl ?_
    refine g_i2l hC dX0_coin_13 ?_
    refine g_lconst (v := 1) hC dX0_coin_14 (by decide) ?_
    refine g_ldc2 (v := 600) hC dX0_coin_15 q1088 ?_
    refine gX_ni hX (gX_runS (As := [.long (Int32.toInt64 x4), .long (1 : Int64), .long (600 : Int64)]) (rest := []) hC hX (mx_X0_isIn (cx_l C) E _ _ _ _ _ h) (lw_S q269 q270 q70 q271) hx_X0_isIn.2 rfl rfl (Or.inl (Nat.le_of_ble_eq_true rfl)) ⟨Nat.le_of_ble_eq_true rfl, Nat.le_of_ble_eq_true rfl⟩ dX0_coin_18 (Nat.zero_le _) (Nat.zero_le _)) rfl rfl ?_
    intro r4 S3 h
    refine g_if_ne (tgt := 27) hC dX0_coin_21 (by decide) (fun c => ?_) (fun c => ?_)
    · have h := it_n c h
      refine g_aload_nR hC dX0_coin_27 rfl ?_
      obtain ⟨u5, eu5, h⟩ := h
      refine g_top0 eu5 ?_
      have hk6 := h.1
      refine gX_get (C0 := RX0) (T := TX0) (N := 15) (n := 0) (k := 3) (q := (3, true)) hC hX dX0_coin_28 q214 rfl in_X0 (by decide) (Or.inl rfl) rfl (by decide) hk6 ?_
      show GX _ _ _ _ _ _ _ (va_rf (xFR S3 3 u5) :: _)
      obtain ⟨u7, eu7, h⟩ := h.2
      refine g_top0 eu7 ?_
      have hk8 := h.1
      refine gX_ni5 hX (gX_runF (n := 0) (As := []) (rest := []) (Cr := "java/util/ArrayList") (x := ⟨"java/util/List", "size", "()I"⟩) hC hX (mx_J2_size (cx_l C) E _ _ _ h.2) (lw_app (lw_4 q770 q774 q776 q73) (lw_meth q778)) (List.mem_of_getElem? (i := 0) rfl) (by decide +kernel) rfl rfl (Or.inl (Nat.le_of_ble_eq_true rfl)) ⟨Nat.le_of_ble_eq_true rfl, Nat.le_of_ble_eq_true rfl⟩ dX0_coin_31 (Nat.zero_le _) (Nat.zero_le _) hk8 rfl (by decide) rfl) rfl rfl ?_
      intro r10 S9 h
      refine g_bipush (v := 40) hC dX0_coin_36 (by decide) ?_
      refine g_icmp_ne (tgt := 46) hC dX0_coin_38 (by decide) (fun c => ?_) (fun c => ?_)
      · have h := it_n c h
        refine g_aload_nR hC dX0_coin_46 rfl ?_
        refine g_top0 eu5 ?_
        have hk11 := h.1
        refine gX_get (C0 := RX0) (T := TX0) (N := 15) (n := 0) (k := 3) (q := (3, true)) hC hX dX0_coin_47 q214 rfl in_X0 (by decide) (Or.inl rfl) rfl (by decide) hk11 ?_
        show GX _ _ _ _ _ _ _ (va_rf (xFR S9 3 u5) :: _)
        refine gX_new (C0 := RX10) (T := TX10) (ty0 := tyX10) (N := 4) (n := 9) hC hX dX0_coin_50 q1089 q1090 q101 rfl in_X10 tyX10_ok (by decide) dv_X10 h.2.1 h.2.2.1 ?_
        intro q12 hq13
        have h := h.2.2.2 q12 hq13
        have hk14 := kd_new (q := q12) (n := 9) hk11 hq13
        have hk15 : xKD (sNew S9 q12 9) q12 = some 9 := kd_self
        refine g_dup hC dX0_coin_53 (va_rf_cat _) ?_
        refine g_iload_n hC dX0_coin_54 rfl ?_
        refine g_sipush (v := 1440) hC dX0_coin_55 (by decide) ?_
        refine g_iload_n hC dX0_coin_58 rfl ?_
        refine g_imul hC dX0_coin_59 ?_
        refine g_bipush (v := 15) hC dX0_coin_60 (by decide) ?_
        refine g_iload_n hC dX0_coin_62 rfl ?_
        refine g_imul hC dX0_coin_63 ?_
        refine g_iadd hC dX0_coin_64 ?_
        refine g_iload hC dX0_coin_65 rfl ?_
        refine g_iconst (v := 0) hC dX0_coin_67 (by decide) ?_
        refine gX_nv hX (gX_runI (As := [.int x1, .int (((1440 : Int32) * x2) + ((15 : Int32) * x3)), .int x4, .int (0 : Int32)]) (rest := [va_rf (some q12), va_rf (xFR S9 3 u5)]) hC hX (mx_X10_init (cx_l C) E _ _ _ _ _ _ _ h) q1093 q101 q1091 q1092 rfl hx_X10_init.2 rfl rfl (Or.inl (Nat.le_of_ble_eq_true rfl)) ⟨Nat.le_of_ble_eq_true rfl, Nat.le_of_ble_eq_true rfl⟩ dX0_coin_68 (Nat.zero_le _) (Nat.zero_le _)) rfl rfl ?_
        intro S16 h
        obtain ⟨k18, n19, hk18, hn19, h⟩ := h
        refine gX_ci hX (gX_runS (As := [va_rf (xFR S9 3 u5), va_rf (some q12)]) (rest := []) hC hX (mx_X0_come (cx_l C) E k18 n19 _ _ _ _ h) (lw_S q1112 q1113 q70 q1114) hx_X0_come.2 rfl rfl (Or.inl (Nat.le_of_ble_eq_true rfl)) ⟨Nat.le_of_ble_eq_true rfl, Nat.le_of_ble_eq_true rfl⟩ dX0_coin_71 hk18 hn19) hk18 hn19 ?_
        intro r21 S20 h
        refine gX_iret rfl hC hA hQ dX0_coin_74 h
      · have h := it_p c h
        refine g_ldc (v := -1000003) hC dX0_coin_41 q428 ?_
        refine g_goto (tgt := 74) hC dX0_coin_43 (by decide) ?_
        refine gX_iret rfl hC hA hQ dX0_coin_74 h
    · have h := it_p c h
      refine g_ldc (v := -1000001) hC dX0_coin_24 q273 ?_
      refine gX_iret rfl hC hA hQ dX0_coin_26 h
theorem mx_X0_coin (l : Launch) (E : XE) (mc ms : Nat) (Q : Int32 → XS → Prop) (S : XS) (x0 : Option Nat) (x1 : Int32) (x2 : Int32) (x3 : Int32) (x4 : Int32) (h : wx_X0_coin Q mc ms S x0 x1 x2 x3 x4) : XMet E l yX0_coin cX0_coin 5 (some .int) ({ frames := 7, cells := mc, slots := ms, locals := 167 } : Room) [va_rf x0, .int x1, .int x2, .int x3, .int x4] S (fun sz => va_Qi Q (BX1 E S sz) (xA S sz)) :=
  XMet_of (rm := ({ frames := 7, cells := mc, slots := ms, locals := 167 } : Room)) (by decide) (by simp [lg_sl, va_rf_cat, cat_i, cat_l]) (L0 := [some (va_rf x0), some (.int x1), some (.int x2), some (.int x3), some (.int x4)]) (by simp [lx_pairs, lv_args, va_rf_cat, cat_i, cat_l, List.range_succ]) (fun sz C hC hX hl hnm hA hQ => bx_X0_coin E C S sz Q mc ms S x0 x1 x2 x3 x4 hC hX hA hQ h)
/-! X0_runOf -/
def wx_X0_runOf_96 (Q : Int32 → XS → Prop) (K8 : XS → Option Nat → Int32 → Int32 → Int32 → Int32 → Int32 → Prop) (S : XS) (a0 : Option Nat) (a1 : Int32) (a2 : Int32) (a3 : Int32) (a4 : Int32) (a5 : Int32) : Prop :=
  K8 S a0 a1 a2 a3 a4 (a5 + (1 : Int32))
def wx_X0_runOf_8 (Q : Int32 → XS → Prop) : Nat → XS → Option Nat → Int32 → Int32 → Int32 → Int32 → Int32 → Prop
  | 0, _, _, _, _, _, _, _ => False
  | n + 1, S, a0, a1, a2, a3, a4, a5 => dr a0 (fun u1 => xKD S u1 = some 0 ∧ dr (xFR S 3 u1) (fun u3 => xKD S u3 = some 16 ∧ wx_J2_size (fun r6 S5 => (if r6 ≤ a5 then Q a4 S5 else xKD S5 u1 = some 0 ∧ dr (xFR S5 3 u1) (fun u8 => xKD S5 u8 = some 16 ∧ wx_J2_get (fun r11 S10 => dr r11 (fun u12 => xKD S10 u12 = some 9 ∧ (if (xFI S10 900 u12) = a1 then (if (xFI S10 901 u12) ≤ a2 then wx_X0_runOf_96 Q (wx_X0_runOf_8 Q n) S10 a0 a1 a2 ((if a3 < (xFI S10 901 u12) then (xFI S10 901 u12) else a3) + (xFI S10 902 u12)) (a4 + (if (0 : Int32) < ((if a2 < ((if a3 < (xFI S10 901 u12) then (xFI S10 901 u12) else a3) + (xFI S10 902 u12)) then a2 else ((if a3 < (xFI S10 901 u12) then (xFI S10 901 u12) else a3) + (xFI S10 902 u12))) - (if a3 < (xFI S10 901 u12) then (xFI S10 901 u12) else a3)) then ((if a2 < ((if a3 < (xFI S10 901 u12) then (xFI S10 901 u12) else a3) + (xFI S10 902 u12)) then a2 else ((if a3 < (xFI S10 901 u12) then (xFI S10 901 u12) else a3) + (xFI S10 902 u12))) - (if a3 < (xFI S10 901 u12) then (xFI S10 901 u12) else a3)) else (0 : Int32))) a5 else wx_X0_runOf_96 Q (wx_X0_runOf_8 Q n) S10 a0 a1 a2 a3 a4 a5) else wx_X0_runOf_96 Q (wx_X0_runOf_8 Q n) S10 a0 a1 a2 a3 a4 a5))) S5 (some u8) a5))) S (some u3)))
def wx_X0_runOf (Q : Int32 → XS → Prop) (S : XS) (x0 : Option Nat) (x1 : Int32) (x2 : Int32) : Prop :=
  ∃ n14, wx_X0_runOf_8 Q n14 S x0 x1 x2 (0 : Int32) (0 : Int32) (0 : Int32)
theorem hx_X0_runOf : yX0_runOf.cls = RX0 ∧ yX0_runOf.cls ≠ "java/lang/invoke/MethodHandle" ∧ yX0_runOf.cls ≠ "java/lang/invoke/VarHandle" ∧ (parseMethodDescriptor yX0_runOf.desc).map (fun d => d.parameters.length) = some 2 := by decide +kernel
set_option maxHeartbeats 4000000 in
set_option maxRecDepth 100000 in
theorem bx_X0_runOf (E : XE) (C : Cx) (S0 : XS) (sz : Nat) (Q : Int32 → XS → Prop) (S : XS) (x0 : Option Nat) (x1 : Int32) (x2 : Int32) (hC : COk C cX0_runOf RX0 (some .int) 4 98 8) (hX : XOk E C) (hA : cx_A C = xA S0 sz) (hQ : cx_Q C = MQ (cx_b C) (va_Qi Q (BX1 E S0 sz) (xA S0 sz)) (cx_a C) (cx_s C) (cx_MC C) (cx_MS C) (xA S0 sz)) (h : wx_X0_runOf Q S x0 x1 x2) : GX E C S 0 0 0 [some (va_rf x0), some (.int x1), some (.int x2), none, none, none, none, none] [] := by
  have s_96 : ∀ (K8 : XS → Option Nat → Int32 → Int32 → Int32 → Int32 → Int32 → Prop) (hK8 : ∀ (S : XS) (b0 : Option Nat) (b1 : Int32) (b2 : Int32) (b3 : Int32) (b4 : Int32) (b5 : Int32), K8 S b0 b1 b2 b3 b4 b5 → GX E C S 0 0 8 [some (va_rf b0), some (.int b1), some (.int b2), some (.int b3), some (.int b4), some (.int b5), none, none] []) (S : XS) (a0 : Option Nat) (a1 : Int32) (a2 : Int32) (a3 : Int32) (a4 : Int32) (a5 : Int32), wx_X0_runOf_96 Q K8 S a0 a1 a2 a3 a4 a5 → GX E C S 0 0 96 [some (va_rf a0), some (.int a1), some (.int a2), some (.int a3), some (.int a4), some (.int a5), none, none] [] := by
    intro K8 hK8 S a0 a1 a2 a3 a4 a5 h
    refine g_iinc (v := (a5 + (1 : Int32))) hC dX0_runOf_96 rfl rfl (by decide) rfl rfl ?_
    refine g_goto (tgt := 8) hC dX0_runOf_99 (by decide) ?_
    exact hK8 S a0 a1 a2 a3 a4 (a5 + (1 : Int32)) h
  have s_8 : ∀ (n : Nat) (S : XS) (a0 : Option Nat) (a1 : Int32) (a2 : Int32) (a3 : Int32) (a4 : Int32) (a5 : Int32), wx_X0_runOf_8 Q  n S a0 a1 a2 a3 a4 a5 → GX E C S 0 0 8 [some (va_rf a0), some (.int a1), some (.int a2), some (.int a3), some (.int a4), some (.int a5), none, none] [] := by
    intro  n
    induction n with
    | zero =>
      intro S a0 a1 a2 a3 a4 a5 h
      exact False.elim h
    | succ n ih =>
      intro S a0 a1 a2 a3 a4 a5 h
      refine g_iload hC dX0_runOf_8 rfl ?_
      refine g_aload_nR hC dX0_runOf_10 rfl ?_
      obtain ⟨u1, eu1, h⟩ := h
      refine g_top0 eu1 ?_
      have hk2 := h.1
      refine gX_get (C0 := RX0) (T := TX0) (N := 15) (n := 0) (k := 3) (q := (3, true)) hC hX dX0_runOf_11 q214 rfl in_X0 (by decide) (Or.inl rfl) rfl (by decide) hk2 ?_
      show GX _ _ _ _ _ _ _ (va_rf (xFR S 3 u1) :: _)
      obtain ⟨u3, eu3, h⟩ := h.2
      refine g_top0 eu3 ?_
      have hk4 := h.1
      refine gX_ni5 hX (gX_runF (n := 0) (As := []) (rest := [.int a5]) (Cr := "java/util/ArrayList") (x := ⟨"java/util/List", "size", "()I"⟩) hC hX (mx_J2_size (cx_l C) E _ _ _ h.2) (lw_app (lw_4 q770 q774 q776 q73) (lw_meth q778)) (List.mem_of_getElem? (i := 0) rfl) (by decide +kernel) rfl rfl (Or.inl (Nat.le_of_ble_eq_true rfl)) ⟨Nat.le_of_ble_eq_true rfl, Nat.le_of_ble_eq_true rfl⟩ dX0_runOf_14 (Nat.zero_le _) (Nat.zero_le _) hk4 rfl (by decide) rfl) rfl rfl ?_
      intro r6 S5 h
      refine g_icmp_ge (tgt := 102) hC dX0_runOf_19 (by decide) (fun c => ?_) (fun c => ?_)
      · have h := it_p c h
        refine g_iload hC dX0_runOf_102 rfl ?_
        refine gX_iret rfl hC hA hQ dX0_runOf_104 h
      · have h := it_n c h
        refine g_aload_nR hC dX0_runOf_22 rfl ?_
        refine g_top0 eu1 ?_
        have hk7 := h.1
        refine gX_get (C0 := RX0) (T := TX0) (N := 15) (n := 0) (k := 3) (q := (3, true)) hC hX dX0_runOf_23 q214 rfl in_X0 (by decide) (Or.inl rfl) rfl (by decide) hk7 ?_
        show GX _ _ _ _ _ _ _ (va_rf (xFR S5 3 u1) :: _)
        refine g_iload hC dX0_runOf_26 rfl ?_
        obtain ⟨u8, eu8, h⟩ := h.2
        refine g_top1 eu8 ?_
        have hk9 := h.1
        refine gX_nq5 hX (gX_runF (n := 1) (As := [.int a5]) (rest := []) (Cr := "java/util/ArrayList") (x := ⟨"java/util/List", "get", "(I)Ljava/lang/Object;"⟩) hC hX (mx_J2_get (cx_l C) E _ _ _ _ h.2) (lw_app (lw_4 q928 q931 q933 q73) (lw_meth q935)) (List.mem_of_getElem? (i := 2) rfl) (by decide +kernel) rfl rfl (Or.inl (Nat.le_of_ble_eq_true rfl)) ⟨Nat.le_of_ble_eq_true rfl, Nat.le_of_ble_eq_true rfl⟩ dX0_runOf_28 (Nat.zero_le _) (Nat.zero_le _) hk9 rfl (by decide) rfl) rfl rfl ?_
        intro r11 S10 h
        obtain ⟨u12, eu12, h⟩ := h
        refine g_top0 eu12 ?_
        have hk13 := h.1
        refine gX_cast (r := (RX10, TX10, 4)) (n := 9) hC hX dX0_runOf_33 q1089 rfl (by decide) hk13 ?_
        refine g_astoreR hC dX0_runOf_36 (by decide) rfl rfl ?_
        refine g_aloadR hC dX0_runOf_38 rfl ?_
        refine gX_get (C0 := RX10) (T := TX10) (N := 4) (n := 9) (k := 0) (q := (900, false)) hC hX dX0_runOf_40 q1096 rfl in_X10 (by decide) (Or.inl rfl) rfl (by decide) hk13 ?_
        show GX _ _ _ _ _ _ _ (.int (xFI S10 900 u12) :: _)
        refine g_iload_n hC dX0_runOf_43 rfl ?_
        refine g_icmp_ne (tgt := 96) hC dX0_runOf_44 (by decide) (fun c => ?_) (fun c => ?_)
        · have h := it_n c h.2
          refine g_sub [true, true, true, true, true, true, false, false] rfl ?_
          exact s_96 (wx_X0_runOf_8 Q n) ih S10 a0 a1 a2 a3 a4 a5 h
        · have h := it_p c h.2
          refine g_aloadR hC dX0_runOf_47 rfl ?_
          refine gX_get (C0 := RX10) (T := TX10) (N := 4) (n := 9) (k := 1) (q := (901, false)) hC hX dX0_runOf_49 q1098 rfl in_X10 (by decide) (Or.inl rfl) rfl (by decide) hk13 ?_
          show GX _ _ _ _ _ _ _ (.int (xFI S10 901 u12) :: _)
          refine g_iload_n hC dX0_runOf_52 rfl ?_
          refine g_icmp_le (tgt := 59) hC dX0_runOf_53 (by decide) (fun c => ?_) (fun c => ?_)
          · have h := it_p c h
            refine g_iload_n hC dX0_runOf_59 rfl ?_
            refine g_aloadR hC dX0_runOf_60 rfl ?_
            refine gX_get (C0 := RX10) (T := TX10) (N := 4) (n := 9) (k := 1) (q := (901, false)) hC hX dX0_runOf_62 q1098 rfl in_X10 (by decide) (Or.inl rfl) rfl (by decide) hk13 ?_
            show GX _ _ _ _ _ _ _ (.int (xFI S10 901 u12) :: _)
            refine g_mmax hC dX0_runOf_65 q1229 q539 q91 q540 (Nat.le_of_ble_eq_true rfl) (by decide) (by decide) ?_
            refine g_istore hC dX0_runOf_68 (by decide) (lx_okR (j := 6) rfl) rfl ?_
            refine g_sub [true, true, true, false, true, true, true, true] rfl ?_
            refine g_iload hC dX0_runOf_70 rfl ?_
            refine g_aloadR hC dX0_runOf_72 rfl ?_
            refine gX_get (C0 := RX10) (T := TX10) (N := 4) (n := 9) (k := 2) (q := (902, false)) hC hX dX0_runOf_74 q1100 rfl in_X10 (by decide) (Or.inl rfl) rfl (by decide) hk13 ?_
            show GX _ _ _ _ _ _ _ (.int (xFI S10 902 u12) :: _)
            refine g_iadd hC dX0_runOf_77 ?_
            refine g_istore_n hC dX0_runOf_78 rfl (by decide) rfl rfl ?_
            refine g_sub [true, true, true, true, true, true, false, true] rfl ?_
            refine g_iload hC dX0_runOf_79 rfl ?_
            refine g_iconst (v := 0) hC dX0_runOf_81 (by decide) ?_
            refine g_iload_n hC dX0_runOf_82 rfl ?_
            refine g_iload_n hC dX0_runOf_83 rfl ?_
            refine g_mmin hC dX0_runOf_84 q1230 q557 q91 q558 (Nat.le_of_ble_eq_true rfl) (by decide) (by decide) ?_
            refine g_iload hC dX0_runOf_87 rfl ?_
            refine g_isub hC dX0_runOf_89 ?_
            refine g_mmax hC dX0_runOf_90 q1229 q539 q91 q540 (Nat.le_of_ble_eq_true rfl) (by decide) (by decide) ?_
            refine g_iadd hC dX0_runOf_93 ?_
            refine g_istore hC dX0_runOf_94 (by decide) rfl rfl ?_
            refine g_sub [true, true, true, true, true, true, false, false] rfl ?_
            exact s_96 (wx_X0_runOf_8 Q n) ih S10 a0 a1 a2 ((if a3 < (xFI S10 901 u12) then (xFI S10 901 u12) else a3) + (xFI S10 902 u12)) (a4 + (if (0 : Int32) < ((if a2 < ((if a3 < (xFI S10 901 u12) then (xFI S10 901 u12) else a3) + (xFI S10 902 u12)) then a2 else ((if a3 < (xFI S10 901 u12) then (xFI S10 901 u12) else a3) + (xFI S10 902 u12))) - (if a3 < (xFI S10 901 u12) then (xFI S10 901 u12) else a3)) then ((if a2 < ((if a3 < (xFI S10 901 u12) then (xFI S10 901 u12) else a3) + (xFI S10 902 u12)) then a2 else ((if a3 < (xFI S10 901 u12) then (xFI S10 901 u12) else a3) + (xFI S10 902 u12))) - (if a3 < (xFI S10 901 u12) then (xFI S10 901 u12) else a3)) else (0 : Int32))) a5 h
          · have h := it_n c h
            refine g_goto (tgt := 96) hC dX0_runOf_56 (by decide) ?_
            refine g_sub [true, true, true, true, true, true, false, false] rfl ?_
            exact s_96 (wx_X0_runOf_8 Q n) ih S10 a0 a1 a2 a3 a4 a5 h
  refine g_iconst (v := 0) hC dX0_runOf_0 (by decide) ?_
  refine g_istore_n hC dX0_runOf_1 rfl (by decide) rfl rfl ?_
  refine g_iconst (v := 0) hC dX0_runOf_2 (by decide) ?_
  refine g_istore hC dX0_runOf_3 (by decide) rfl rfl ?_
  refine g_iconst (v := 0) hC dX0_runOf_5 (by decide) ?_
  refine g_istore hC dX0_runOf_6 (by decide) rfl rfl ?_
  obtain ⟨n0, h0⟩ := h
  exact s_8 n0 S x0 x1 x2 (0 : Int32) (0 : Int32) (0 : Int32) h0
theorem mx_X0_runOf (l : Launch) (E : XE) (Q : Int32 → XS → Prop) (S : XS) (x0 : Option Nat) (x1 : Int32) (x2 : Int32) (h : wx_X0_runOf Q S x0 x1 x2) : XMet E l yX0_runOf cX0_runOf 8 (some .int) ({ frames := 4, cells := 0, slots := 0, locals := 98 } : Room) [va_rf x0, .int x1, .int x2] S (fun sz => va_Qi Q (BX1 E S sz) (xA S sz)) :=
  XMet_of (rm := ({ frames := 4, cells := 0, slots := 0, locals := 98 } : Room)) (by decide) (by simp [lg_sl, va_rf_cat, cat_i, cat_l]) (L0 := [some (va_rf x0), some (.int x1), some (.int x2), none, none, none, none, none]) (by simp [lx_pairs, lv_args, va_rf_cat, cat_i, cat_l, List.range_succ]) (fun sz C hC hX hl hnm hA hQ => bx_X0_runOf E C S sz Q S x0 x1 x2 hC hX hA hQ h)
/-! X0_run -/
def wx_X0_run (Q : Int32 → XS → Prop) (S : XS) (x0 : Option Nat) (x1 : Int32) (x2 : Int32) (x3 : Int32) : Prop :=
  wx_X0_isTime (fun r2 S1 => (if r2 = 0 then Q (-1000001 : Int32) S1 else dr x0 (fun u3 => xKD S1 u3 = some 0 ∧ wx_X0_runOf (fun r6 S5 => Q r6 S5) S1 (some u3) x1 (((1440 : Int32) * x2) + ((15 : Int32) * x3))))) S x1 x2 x3 (96 : Int32)
theorem hx_X0_run : yX0_run.cls = RX0 ∧ yX0_run.cls ≠ "java/lang/invoke/MethodHandle" ∧ yX0_run.cls ≠ "java/lang/invoke/VarHandle" ∧ (parseMethodDescriptor yX0_run.desc).map (fun d => d.parameters.length) = some 3 := by decide +kernel
set_option maxHeartbeats 4000000 in
set_option maxRecDepth 100000 in
theorem bx_X0_run (E : XE) (C : Cx) (S0 : XS) (sz : Nat) (Q : Int32 → XS → Prop) (S : XS) (x0 : Option Nat) (x1 : Int32) (x2 : Int32) (x3 : Int32) (hC : COk C cX0_run RX0 (some .int) 5 125 4) (hX : XOk E C) (hA : cx_A C = xA S0 sz) (hQ : cx_Q C = MQ (cx_b C) (va_Qi Q (BX1 E S0 sz) (xA S0 sz)) (cx_a C) (cx_s C) (cx_MC C) (cx_MS C) (xA S0 sz)) (h : wx_X0_run Q S x0 x1 x2 x3) : GX E C S 0 0 0 [some (va_rf x0), some (.int x1), some (.int x2), some (.int x3)] [] := by
  refine g_iload_n hC dX0_run_0 rfl ?_
  refine g_iload_n hC dX0_run_1 rfl ?_
  refine g_iload_n hC dX0_run_2 rfl ?_
  refine g_bipush (v := 96) hC dX0_run_3 (by decide) ?_
  refine gX_ni hX (gX_runS (As := [.int x1, .int x2, .int x3, .int (96 : Int32)]) (rest := []) hC hX (mx_X0_isTime (cx_l C) E _ _ _ _ _ _ h) (lw_S q1085 q1086 q70 q1087) hx_X0_isTime.2 rfl rfl (Or.inl (Nat.le_of_ble_eq_true rfl)) ⟨Nat.le_of_ble_eq_true rfl, Nat.le_of_ble_eq_true rfl⟩ dX0_run_5 (Nat.zero_le _) (Nat.zero_le _)) rfl rfl ?_
  intro r2 S1 h
  refine g_if_eq (tgt := 29) hC dX0_run_8 (by decide) (fun c => ?_) (fun c => ?_)
  · have h := it_p c h
    refine g_ldc (v := -1000001) hC dX0_run_29 q273 ?_
    refine gX_iret rfl hC hA hQ dX0_run_31 h
  · have h := it_n c h
    refine g_aload_nR hC dX0_run_11 rfl ?_
    refine g_iload_n hC dX0_run_12 rfl ?_
    refine g_sipush (v := 1440) hC dX0_run_13 (by decide) ?_
    refine g_iload_n hC dX0_run_16 rfl ?_
    refine g_imul hC dX0_run_17 ?_
    refine g_bipush (v := 15) hC dX0_run_18 (by decide) ?_
    refine g_iload_n hC dX0_run_20 rfl ?_
    refine g_imul hC dX0_run_21 ?_
    refine g_iadd hC dX0_run_22 ?_
    obtain ⟨u3, eu3, h⟩ := h
    refine g_top2 eu3 ?_
    have hk4 := h.1
    refine gX_ni hX (gX_runV (As := [.int x1, .int (((1440 : Int32) * x2) + ((15 : Int32) * x3))]) (rest := []) (Cr := RX0) hC hX (mx_X0_runOf (cx_l C) E _ _ _ _ _ h.2) (lw_V q1225 q1227 qs31 q70 q1228) hx_X0_runOf rfl rfl (Or.inl (Nat.le_of_ble_eq_true rfl)) ⟨Nat.le_of_ble_eq_true rfl, Nat.le_of_ble_eq_true rfl⟩ dX0_run_23 (Nat.zero_le _) (Nat.zero_le _) hk4 rfl (by decide) rfl) rfl rfl ?_
    intro r6 S5 h
    refine g_goto (tgt := 31) hC dX0_run_26 (by decide) ?_
    refine gX_iret rfl hC hA hQ dX0_run_31 h
theorem mx_X0_run (l : Launch) (E : XE) (Q : Int32 → XS → Prop) (S : XS) (x0 : Option Nat) (x1 : Int32) (x2 : Int32) (x3 : Int32) (h : wx_X0_run Q S x0 x1 x2 x3) : XMet E l yX0_run cX0_run 4 (some .int) ({ frames := 5, cells := 0, slots := 0, locals := 125 } : Room) [va_rf x0, .int x1, .int x2, .int x3] S (fun sz => va_Qi Q (BX1 E S sz) (xA S sz)) :=
  XMet_of (rm := ({ frames := 5, cells := 0, slots := 0, locals := 125 } : Room)) (by decide) (by simp [lg_sl, va_rf_cat, cat_i, cat_l]) (L0 := [some (va_rf x0), some (.int x1), some (.int x2), some (.int x3)]) (by simp [lx_pairs, lv_args, va_rf_cat, cat_i, cat_l, List.range_succ]) (fun sz C hC hX hl hnm hA hQ => bx_X0_run E C S sz Q S x0 x1 x2 x3 hC hX hA hQ h)
/-! X0_meter -/
def wx_X0_meter (Q : Int32 → XS → Prop) (S : XS) (x0 : Option Nat) (x1 : Int32) (x2 : Int32) (x3 : Int32) (x4 : Int32) : Prop :=
  wx_X0_isTime (fun r2 S1 => (if r2 = 0 then Q (-1000001 : Int32) S1 else wx_X0_isIn (fun r4 S3 => (if r4 = 0 then Q (-1000001 : Int32) S3 else dr x0 (fun u5 => xKD S3 u5 = some 0 ∧ wx_X0_runOf (fun r8 S7 => (if (15 : Int32) < (if 0 ≤ (x4 - r8) then (x4 - r8) else 0 - (x4 - r8)) then Q (0 : Int32) S7 else Q (1 : Int32) S7)) S3 (some u5) x1 (((1440 : Int32) * x2) + ((15 : Int32) * x3))))) S1 (Int32.toInt64 x4) (0 : Int64) (100000 : Int64))) S x1 x2 x3 (96 : Int32)
theorem hx_X0_meter : yX0_meter.cls = RX0 ∧ yX0_meter.cls ≠ "java/lang/invoke/MethodHandle" ∧ yX0_meter.cls ≠ "java/lang/invoke/VarHandle" ∧ (parseMethodDescriptor yX0_meter.desc).map (fun d => d.parameters.length) = some 4 := by decide +kernel
set_option maxHeartbeats 4000000 in
set_option maxRecDepth 100000 in
theorem bx_X0_meter (E : XE) (C : Cx) (S0 : XS) (sz : Nat) (Q : Int32 → XS → Prop) (S : XS) (x0 : Option Nat) (x1 : Int32) (x2 : Int32) (x3 : Int32) (x4 : Int32) (hC : COk C cX0_meter RX0 (some .int) 5 125 5) (hX : XOk E C) (hA : cx_A C = xA S0 sz) (hQ : cx_Q C = MQ (cx_b C) (va_Qi Q (BX1 E S0 sz) (xA S0 sz)) (cx_a C) (cx_s C) (cx_MC C) (cx_MS C) (xA S0 sz)) (h : wx_X0_meter Q S x0 x1 x2 x3 x4) : GX E C S 0 0 0 [some (va_rf x0), some (.int x1), some (.int x2), some (.int x3), some (.int x4)] [] := by
  refine g_iload_n hC dX0_meter_0 rfl ?_
  refine g_iload_n hC dX0_meter_1 rfl ?_
  refine g_iload_n hC dX0_meter_2 rfl ?_
  refine g_bipush (v := 96) hC dX0_meter_3 (by decide) ?_
  refine gX_ni hX (gX_runS (As := [.int x1, .int x2, .int x3, .int (96 : Int32)]) (rest := []) hC hX (mx_X0_isTime (cx_l C) E _ _ _ _ _ _ h) (lw_S q1085 q1086 q70 q1087) hx_X0_isTime.2 rfl rfl (Or.inl (Nat.le_of_ble_eq_true rfl)) ⟨Nat.le_of_ble_eq_true rfl, Nat.le_of_ble_eq_true rfl⟩ dX0_meter_5 (Nat.zero_le _) (Nat.zero_le _)) rfl rfl ?_
  intro r2 S1 h
  refine g_if_eq (tgt := 24) hC dX0_meter_8 (by decide) (fun c => ?_) (fun c => ?_)
  · have h := it_p c h
    refine g_ldc (v := -1000001) hC dX0_meter_24 q273 ?_
    refine gX_iret rfl hC hA hQ dX0_meter_26 h
  · have h := it_n c h
    refine g_iload hC dX0_meter_11 rfl ?_
    refine g_i2l hC dX0_meter_13 ?_
    refine g_lconst (v := 0) hC dX0_meter_14 (by decide) ?_
    refine g_ldc2 (v := 100000) hC dX0_meter_15 q1235 ?_
    refine gX_ni hX (gX_runS (As := [.long (Int32.toInt64 x4), .long (0 : Int64), .long (100000 : Int64)]) (rest := []) hC hX (mx_X0_isIn (cx_l C) E _ _ _ _ _ h) (lw_S q269 q270 q70 q271) hx_X0_isIn.2 rfl rfl (Or.inl (Nat.le_of_ble_eq_true rfl)) ⟨Nat.le_of_ble_eq_true rfl, Nat.le_of_ble_eq_true rfl⟩ dX0_meter_18 (Nat.zero_le _) (Nat.zero_le _)) rfl rfl ?_
    intro r4 S3 h
    refine g_if_ne (tgt := 27) hC dX0_meter_21 (by decide) (fun c => ?_) (fun c => ?_)
    · have h := it_n c h
      refine g_iload hC dX0_meter_27 rfl ?_
      refine g_aload_nR hC dX0_meter_29 rfl ?_
      refine g_iload_n hC dX0_meter_30 rfl ?_
      refine g_sipush (v := 1440) hC dX0_meter_31 (by decide) ?_
      refine g_iload_n hC dX0_meter_34 rfl ?_
      refine g_imul hC dX0_meter_35 ?_
      refine g_bipush (v := 15) hC dX0_meter_36 (by decide) ?_
      refine g_iload_n hC dX0_meter_38 rfl ?_
      refine g_imul hC dX0_meter_39 ?_
      refine g_iadd hC dX0_meter_40 ?_
      obtain ⟨u5, eu5, h⟩ := h
      refine g_top2 eu5 ?_
      have hk6 := h.1
      refine gX_ni hX (gX_runV (As := [.int x1, .int (((1440 : Int32) * x2) + ((15 : Int32) * x3))]) (rest := [.int x4]) (Cr := RX0) hC hX (mx_X0_runOf (cx_l C) E _ _ _ _ _ h.2) (lw_V q1225 q1227 qs31 q70 q1228) hx_X0_runOf rfl rfl (Or.inl (Nat.le_of_ble_eq_true rfl)) ⟨Nat.le_of_ble_eq_true rfl, Nat.le_of_ble_eq_true rfl⟩ dX0_meter_41 (Nat.zero_le _) (Nat.zero_le _) hk6 rfl (by decide) rfl) rfl rfl ?_
      intro r8 S7 h
      refine g_isub hC dX0_meter_44 ?_
      refine g_mabs hC dX0_meter_45 q1236 q1237 q91 q1238 (Nat.le_of_ble_eq_true rfl) (by decide) (by decide) ?_
      refine g_bipush (v := 15) hC dX0_meter_48 (by decide) ?_
      refine g_icmp_gt (tgt := 57) hC dX0_meter_50 (by decide) (fun c => ?_) (fun c => ?_)
      · have h := it_p c h
        refine g_iconst (v := 0) hC dX0_meter_57 (by decide) ?_
        refine gX_iret rfl hC hA hQ dX0_meter_58 h
      · have h := it_n c h
        refine g_iconst (v := 1) hC dX0_meter_53 (by decide) ?_
        refine g_goto (tgt := 58) hC dX0_meter_54 (by decide) ?_
        refine gX_iret rfl hC hA hQ dX0_meter_58 h
    · have h := it_p c h
      refine g_ldc (v := -1000001) hC dX0_meter_24 q273 ?_
      refine gX_iret rfl hC hA hQ dX0_meter_26 h
theorem mx_X0_meter (l : Launch) (E : XE) (Q : Int32 → XS → Prop) (S : XS) (x0 : Option Nat) (x1 : Int32) (x2 : Int32) (x3 : Int32) (x4 : Int32) (h : wx_X0_meter Q S x0 x1 x2 x3 x4) : XMet E l yX0_meter cX0_meter 5 (some .int) ({ frames := 5, cells := 0, slots := 0, locals := 125 } : Room) [va_rf x0, .int x1, .int x2, .int x3, .int x4] S (fun sz => va_Qi Q (BX1 E S sz) (xA S sz)) :=
  XMet_of (rm := ({ frames := 5, cells := 0, slots := 0, locals := 125 } : Room)) (by decide) (by simp [lg_sl, va_rf_cat, cat_i, cat_l]) (L0 := [some (va_rf x0), some (.int x1), some (.int x2), some (.int x3), some (.int x4)]) (by simp [lx_pairs, lv_args, va_rf_cat, cat_i, cat_l, List.range_succ]) (fun sz C hC hX hl hnm hA hQ => bx_X0_meter E C S sz Q S x0 x1 x2 x3 x4 hC hX hA hQ h)
/-! X0_isKey -/
def wx_X0_isKey (Q : Int32 → XS → Prop) (S : XS) (x0 : Int32) : Prop :=
  wx_X0_isIn (fun r2 S1 => narrow .boolean (.int r2) = .int r2 ∧ Q r2 S1) S (Int32.toInt64 x0) (0 : Int64) (3 : Int64)
theorem hx_X0_isKey : yX0_isKey.cls = RX0 ∧ yX0_isKey.cls ≠ "java/lang/invoke/MethodHandle" ∧ yX0_isKey.cls ≠ "java/lang/invoke/VarHandle" ∧ (parseMethodDescriptor yX0_isKey.desc).map (fun d => d.parameters.length) = some 1 := by decide +kernel
set_option maxHeartbeats 4000000 in
set_option maxRecDepth 100000 in
theorem bx_X0_isKey (E : XE) (C : Cx) (S0 : XS) (sz : Nat) (Q : Int32 → XS → Prop) (S : XS) (x0 : Int32) (hC : COk C cX0_isKey RX0 (some .boolean) 2 59 1) (hX : XOk E C) (hA : cx_A C = xA S0 sz) (hQ : cx_Q C = MQ (cx_b C) (va_Qi Q (BX1 E S0 sz) (xA S0 sz)) (cx_a C) (cx_s C) (cx_MC C) (cx_MS C) (xA S0 sz)) (h : wx_X0_isKey Q S x0) : GX E C S 0 0 0 [some (.int x0)] [] := by
  refine g_iload_n hC dX0_isKey_0 rfl ?_
  refine g_i2l hC dX0_isKey_1 ?_
  refine g_lconst (v := 0) hC dX0_isKey_2 (by decide) ?_
  refine g_ldc2 (v := 3) hC dX0_isKey_3 q755 ?_
  refine gX_ni hX (gX_runS (As := [.long (Int32.toInt64 x0), .long (0 : Int64), .long (3 : Int64)]) (rest := []) hC hX (mx_X0_isIn (cx_l C) E _ _ _ _ _ h) (lw_S q269 q270 q70 q271) hx_X0_isIn.2 rfl rfl (Or.inl (Nat.le_of_ble_eq_true rfl)) ⟨Nat.le_of_ble_eq_true rfl, Nat.le_of_ble_eq_true rfl⟩ dX0_isKey_6 (Nat.zero_le _) (Nat.zero_le _)) rfl rfl ?_
  intro r2 S1 h
  refine gX_zret rfl h.1 hC hA hQ dX0_isKey_9 h.2
theorem mx_X0_isKey (l : Launch) (E : XE) (Q : Int32 → XS → Prop) (S : XS) (x0 : Int32) (h : wx_X0_isKey Q S x0) : XMet E l yX0_isKey cX0_isKey 1 (some .boolean) ({ frames := 2, cells := 0, slots := 0, locals := 59 } : Room) [.int x0] S (fun sz => va_Qi Q (BX1 E S sz) (xA S sz)) :=
  XMet_of (rm := ({ frames := 2, cells := 0, slots := 0, locals := 59 } : Room)) (by decide) (by simp [lg_sl, va_rf_cat, cat_i, cat_l]) (L0 := [some (.int x0)]) (by simp [lx_pairs, lv_args, va_rf_cat, cat_i, cat_l, List.range_succ]) (fun sz C hC hX hl hnm hA hQ => bx_X0_isKey E C S sz Q S x0 hC hX hA hQ h)
/-! X0_isPerson -/
def wx_X0_isPerson (Q : Int32 → XS → Prop) (S : XS) (x0 : Int32) : Prop :=
  wx_X0_isIn (fun r2 S1 => narrow .boolean (.int r2) = .int r2 ∧ Q r2 S1) S (Int32.toInt64 x0) (0 : Int64) (9 : Int64)
theorem hx_X0_isPerson : yX0_isPerson.cls = RX0 ∧ yX0_isPerson.cls ≠ "java/lang/invoke/MethodHandle" ∧ yX0_isPerson.cls ≠ "java/lang/invoke/VarHandle" ∧ (parseMethodDescriptor yX0_isPerson.desc).map (fun d => d.parameters.length) = some 1 := by decide +kernel
set_option maxHeartbeats 4000000 in
set_option maxRecDepth 100000 in
theorem bx_X0_isPerson (E : XE) (C : Cx) (S0 : XS) (sz : Nat) (Q : Int32 → XS → Prop) (S : XS) (x0 : Int32) (hC : COk C cX0_isPerson RX0 (some .boolean) 2 59 1) (hX : XOk E C) (hA : cx_A C = xA S0 sz) (hQ : cx_Q C = MQ (cx_b C) (va_Qi Q (BX1 E S0 sz) (xA S0 sz)) (cx_a C) (cx_s C) (cx_MC C) (cx_MS C) (xA S0 sz)) (h : wx_X0_isPerson Q S x0) : GX E C S 0 0 0 [some (.int x0)] [] := by
  refine g_iload_n hC dX0_isPerson_0 rfl ?_
  refine g_i2l hC dX0_isPerson_1 ?_
  refine g_lconst (v := 0) hC dX0_isPerson_2 (by decide) ?_
  refine g_ldc2 (v := 9) hC dX0_isPerson_3 q1249 ?_
  refine gX_ni hX (gX_runS (As := [.long (Int32.toInt64 x0), .long (0 : Int64), .long (9 : Int64)]) (rest := []) hC hX (mx_X0_isIn (cx_l C) E _ _ _ _ _ h) (lw_S q269 q270 q70 q271) hx_X0_isIn.2 rfl rfl (Or.inl (Nat.le_of_ble_eq_true rfl)) ⟨Nat.le_of_ble_eq_true rfl, Nat.le_of_ble_eq_true rfl⟩ dX0_isPerson_6 (Nat.zero_le _) (Nat.zero_le _)) rfl rfl ?_
  intro r2 S1 h
  refine gX_zret rfl h.1 hC hA hQ dX0_isPerson_9 h.2
theorem mx_X0_isPerson (l : Launch) (E : XE) (Q : Int32 → XS → Prop) (S : XS) (x0 : Int32) (h : wx_X0_isPerson Q S x0) : XMet E l yX0_isPerson cX0_isPerson 1 (some .boolean) ({ frames := 2, cells := 0, slots := 0, locals := 59 } : Room) [.int x0] S (fun sz => va_Qi Q (BX1 E S sz) (xA S sz)) :=
  XMet_of (rm := ({ frames := 2, cells := 0, slots := 0, locals := 59 } : Room)) (by decide) (by simp [lg_sl, va_rf_cat, cat_i, cat_l]) (L0 := [some (.int x0)]) (by simp [lx_pairs, lv_args, va_rf_cat, cat_i, cat_l, List.range_succ]) (fun sz C hC hX hl hnm hA hQ => bx_X0_isPerson E C S sz Q S x0 hC hX hA hQ h)
/-! X0_give -/
def wx_X0_give (Q : Int32 → XS → Prop) (mc ms : Nat) (S : XS) (x0 : Option Nat) (x1 : Int32) (x2 : Int32) (x3 : Int32) (x4 : Int32) : Prop :=
  wx_X0_isKey (fun r2 S1 => (if r2 = 0 then Q (-1000001 : Int32) S1 else wx_X0_isPerson (fun r4 S3 => (if r4 = 0 then Q (-1000001 : Int32) S3 else wx_X0_isPerson (fun r6 S5 => (if r6 = 0 then Q (-1000001 : Int32) S5 else (if x2 = x3 then Q (-1000001 : Int32) S5 else wx_X0_isDay (fun r8 S7 => (if r8 = 0 then Q (-1000001 : Int32) S7 else dr x0 (fun u9 => xKD S7 u9 = some 0 ∧ dr (xFR S7 4 u9) (fun u11 => xKD S7 u11 = some 16 ∧ wx_J2_size (fun r14 S13 => (if r14 = (40 : Int32) then Q (-1000003 : Int32) S13 else xKD S13 u9 = some 0 ∧ 1 ≤ mc ∧ 4 ≤ ms ∧ (∀ q16 : Nat, xKD S13 q16 = none → wx_X10_init (fun S20 => (∃ k22 n23, k22 ≤ (mc - 1) ∧ n23 ≤ (ms - 4) ∧ wx_X0_come (fun r25 S24 => Q r25 S24) k22 n23 S20 (xFR S13 4 u9) (some q16))) (sNew S13 q16 9) (some q16) x1 x4 x2 x3))) S7 (some u11))))) S5 x4))) S3 x3)) S1 x2)) S x1
theorem hx_X0_give : yX0_give.cls = RX0 ∧ yX0_give.cls ≠ "java/lang/invoke/MethodHandle" ∧ yX0_give.cls ≠ "java/lang/invoke/VarHandle" ∧ (parseMethodDescriptor yX0_give.desc).map (fun d => d.parameters.length) = some 4 := by decide +kernel
set_option maxHeartbeats 4000000 in
set_option maxRecDepth 100000 in
theorem bx_X0_give (E : XE) (C : Cx) (S0 : XS) (sz : Nat) (Q : Int32 → XS → Prop) (mc ms : Nat) (S : XS) (x0 : Option Nat) (x1 : Int32) (x2 : Int32) (x3 : Int32) (x4 : Int32) (hC : COk C cX0_give RX0 (some .int) 7 167 5) (hX : XOk E C) (hA : cx_A C = xA S0 sz) (hQ : cx_Q C = MQ (cx_b C) (va_Qi Q (BX1 E S0 sz) (xA S0 sz)) (cx_a C) (cx_s C) (cx_MC C) (cx_MS C) (xA S0 sz)) (h : wx_X0_give Q mc ms S x0 x1 x2 x3 x4) : GX E C S mc ms 0 [some (va_rf x0), some (.int x1), some (.int x2), some (.int x3), some (.int x4)] [] := by
  refine g_iload_n hC dX0_give_0 rfl ?_
  refine gX_ni hX (gX_runS (As := [.int x1]) (rest := []) hC hX (mx_X0_isKey (cx_l C) E _ _ _ h) (lw_S q1243 q1244 q70 q1245) hx_X0_isKey.2 rfl rfl (Or.inl (Nat.le_of_ble_eq_true rfl)) ⟨Nat.le_of_ble_eq_true rfl, Nat.le_of_ble_eq_true rfl⟩ dX0_give_1 (Nat.zero_le _) (Nat.zero_le _)) rfl rfl ?_
  intro r2 S1 h
  refine g_if_eq (tgt := 34) hC dX0_give_4 (by decide) (fun c => ?_) (fun c => ?_)
  · have h := it_p c h
    refine g_ldc (v := -1000001) hC dX0_give_34 q273 ?_
    refine gX_iret rfl hC hA hQ dX0_give_36 h
  · have h := it_n c h
    refine g_iload_n hC dX0_give_7 rfl ?_
    refine gX_ni hX (gX_runS (As := [.int x2]) (rest := []) hC hX (mx_X0_isPerson (cx_l C) E _ _ _ h) (lw_S q1246 q1247 q70 q1248) hx_X0_isPerson.2 rfl rfl (Or.inl (Nat.le_of_ble_eq_true rfl)) ⟨Nat.le_of_ble_eq_true rfl, Nat.le_of_ble_eq_true rfl⟩ dX0_give_8 (Nat.zero_le _) (Nat.zero_le _)) rfl rfl ?_
    intro r4 S3 h
    refine g_if_eq (tgt := 34) hC dX0_give_11 (by decide) (fun c => ?_) (fun c => ?_)
    · have h := it_p c h
      refine g_ldc (v := -1000001) hC dX0_give_34 q273 ?_
      refine gX_iret rfl hC hA hQ dX0_give_36 h
    · have h := it_n c h
      refine g_iload_n hC dX0_give_14 rfl ?_
      refine gX_ni hX (gX_runS (As := [.int x3]) (rest := []) hC hX (mx_X0_isPerson (cx_l C) E _ _ _ h) (lw_S q1246 q1247 q70 q1248) hx_X0_isPerson.2 rfl rfl (Or.inl (Nat.le_of_ble_eq_true rfl)) ⟨Nat.le_of_ble_eq_true rfl, Nat.le_of_ble_eq_true rfl⟩ dX0_give_15 (Nat.zero_le _) (Nat.zero_le _)) rfl rfl ?_
      intro r6 S5 h
      refine g_if_eq (tgt := 34) hC dX0_give_18 (by decide) (fun c => ?_) (fun c => ?_)
      · have h := it_p c h
        refine g_ldc (v := -1000001) hC dX0_give_34 q273 ?_
        refine gX_iret rfl hC hA hQ dX0_give_36 h
      · have h := it_n c h
        refine g_iload_n hC dX0_give_21 rfl ?_
        refine g_iload_n hC dX0_give_22 rfl ?_
        refine g_icmp_eq (tgt := 34) hC dX0_give_23 (by decide) (fun c => ?_) (fun c => ?_)
        · have h := it_p c h
          refine g_ldc (v := -1000001) hC dX0_give_34 q273 ?_
          refine gX_iret rfl hC hA hQ dX0_give_36 h
        · have h := it_n c h
          refine g_iload hC dX0_give_26 rfl ?_
          refine gX_ni hX (gX_runS (As := [.int x4]) (rest := []) hC hX (mx_X0_isDay (cx_l C) E _ _ _ h) (lw_S q788 q789 q70 q790) hx_X0_isDay.2 rfl rfl (Or.inl (Nat.le_of_ble_eq_true rfl)) ⟨Nat.le_of_ble_eq_true rfl, Nat.le_of_ble_eq_true rfl⟩ dX0_give_28 (Nat.zero_le _) (Nat.zero_le _)) rfl rfl ?_
          intro r8 S7 h
          refine g_if_ne (tgt := 37) hC dX0_give_31 (by decide) (fun c => ?_) (fun c => ?_)
          · have h := it_n c h
            refine g_aload_nR hC dX0_give_37 rfl ?_
            obtain ⟨u9, eu9, h⟩ := h
            refine g_top0 eu9 ?_
            have hk10 := h.1
            refine gX_get (C0 := RX0) (T := TX0) (N := 15) (n := 0) (k := 4) (q := (4, true)) hC hX dX0_give_38 q215 rfl in_X0 (by decide) (Or.inl rfl) rfl (by decide) hk10 ?_
            show GX _ _ _ _ _ _ _ (va_rf (xFR S7 4 u9) :: _)
            obtain ⟨u11, eu11, h⟩ := h.2
            refine g_top0 eu11 ?_
            have hk12 := h.1
            refine gX_ni5 hX (gX_runF (n := 0) (As := []) (rest := []) (Cr := "java/util/ArrayList") (x := ⟨"java/util/List", "size", "()I"⟩) hC hX (mx_J2_size (cx_l C) E _ _ _ h.2) (lw_app (lw_4 q770 q774 q776 q73) (lw_meth q778)) (List.mem_of_getElem? (i := 0) rfl) (by decide +kernel) rfl rfl (Or.inl (Nat.le_of_ble_eq_true rfl)) ⟨Nat.le_of_ble_eq_true rfl, Nat.le_of_ble_eq_true rfl⟩ dX0_give_41 (Nat.zero_le _) (Nat.zero_le _) hk12 rfl (by decide) rfl) rfl rfl ?_
            intro r14 S13 h
            refine g_bipush (v := 40) hC dX0_give_46 (by decide) ?_
            refine g_icmp_ne (tgt := 56) hC dX0_give_48 (by decide) (fun c => ?_) (fun c => ?_)
            · have h := it_n c h
              refine g_aload_nR hC dX0_give_56 rfl ?_
              refine g_top0 eu9 ?_
              have hk15 := h.1
              refine gX_get (C0 := RX0) (T := TX0) (N := 15) (n := 0) (k := 4) (q := (4, true)) hC hX dX0_give_57 q215 rfl in_X0 (by decide) (Or.inl rfl) rfl (by decide) hk15 ?_
              show GX _ _ _ _ _ _ _ (va_rf (xFR S13 4 u9) :: _)
              refine gX_new (C0 := RX10) (T := TX10) (ty0 := tyX10) (N := 4) (n := 9) hC hX dX0_give_60 q1089 q1090 q101 rfl in_X10 tyX10_ok (by decide) dv_X10 h.2.1 h.2.2.1 ?_
              intro q16 hq17
              have h := h.2.2.2 q16 hq17
              have hk18 := kd_new (q := q16) (n := 9) hk15 hq17
              have hk19 : xKD (sNew S13 q16 9) q16 = some 9 := kd_self
              refine g_dup hC dX0_give_63 (va_rf_cat _) ?_
              refine g_iload_n hC dX0_give_64 rfl ?_
              refine g_iload hC dX0_give_65 rfl ?_
              refine g_iload_n hC dX0_give_67 rfl ?_
              refine g_iload_n hC dX0_give_68 rfl ?_
              refine gX_nv hX (gX_runI (As := [.int x1, .int x4, .int x2, .int x3]) (rest := [va_rf (some q16), va_rf (xFR S13 4 u9)]) hC hX (mx_X10_init (cx_l C) E _ _ _ _ _ _ _ h) q1093 q101 q1091 q1092 rfl hx_X10_init.2 rfl rfl (Or.inl (Nat.le_of_ble_eq_true rfl)) ⟨Nat.le_of_ble_eq_true rfl, Nat.le_of_ble_eq_true rfl⟩ dX0_give_69 (Nat.zero_le _) (Nat.zero_le _)) rfl rfl ?_
              intro S20 h
              obtain ⟨k22, n23, hk22, hn23, h⟩ := h
              refine gX_ci hX (gX_runS (As := [va_rf (xFR S13 4 u9), va_rf (some q16)]) (rest := []) hC hX (mx_X0_come (cx_l C) E k22 n23 _ _ _ _ h) (lw_S q1112 q1113 q70 q1114) hx_X0_come.2 rfl rfl (Or.inl (Nat.le_of_ble_eq_true rfl)) ⟨Nat.le_of_ble_eq_true rfl, Nat.le_of_ble_eq_true rfl⟩ dX0_give_72 hk22 hn23) hk22 hn23 ?_
              intro r25 S24 h
              refine gX_iret rfl hC hA hQ dX0_give_75 h
            · have h := it_p c h
              refine g_ldc (v := -1000003) hC dX0_give_51 q428 ?_
              refine g_goto (tgt := 75) hC dX0_give_53 (by decide) ?_
              refine gX_iret rfl hC hA hQ dX0_give_75 h
          · have h := it_p c h
            refine g_ldc (v := -1000001) hC dX0_give_34 q273 ?_
            refine gX_iret rfl hC hA hQ dX0_give_36 h
theorem mx_X0_give (l : Launch) (E : XE) (mc ms : Nat) (Q : Int32 → XS → Prop) (S : XS) (x0 : Option Nat) (x1 : Int32) (x2 : Int32) (x3 : Int32) (x4 : Int32) (h : wx_X0_give Q mc ms S x0 x1 x2 x3 x4) : XMet E l yX0_give cX0_give 5 (some .int) ({ frames := 7, cells := mc, slots := ms, locals := 167 } : Room) [va_rf x0, .int x1, .int x2, .int x3, .int x4] S (fun sz => va_Qi Q (BX1 E S sz) (xA S sz)) :=
  XMet_of (rm := ({ frames := 7, cells := mc, slots := ms, locals := 167 } : Room)) (by decide) (by simp [lg_sl, va_rf_cat, cat_i, cat_l]) (L0 := [some (va_rf x0), some (.int x1), some (.int x2), some (.int x3), some (.int x4)]) (by simp [lx_pairs, lv_args, va_rf_cat, cat_i, cat_l, List.range_succ]) (fun sz C hC hX hl hnm hA hQ => bx_X0_give E C S sz Q mc ms S x0 x1 x2 x3 x4 hC hX hA hQ h)
/-! X0_key -/
def wx_X0_key_136 (Q : Int32 → XS → Prop) (S : XS) (a3 : Int32) (a4 : Int32) (a5 : Int32) : Prop :=
  (if a3 = 0 then Q a4 S else Q a5 S)
def wx_X0_key_130 (Q : Int32 → XS → Prop) (K37 : XS → Option Nat → Int32 → Int32 → Int32 → Int32 → Int32 → Int32 → Prop) (S : XS) (a0 : Option Nat) (a1 : Int32) (a2 : Int32) (a3 : Int32) (a4 : Int32) (a5 : Int32) (a6 : Int32) : Prop :=
  K37 S a0 a1 a2 a3 a4 a5 (a6 + (1 : Int32))
def wx_X0_key_123 (Q : Int32 → XS → Prop) (K37 : XS → Option Nat → Int32 → Int32 → Int32 → Int32 → Int32 → Int32 → Prop) (S : XS) (a0 : Option Nat) (a1 : Int32) (a2 : Int32) (a3 : Int32) (a5 : Int32) (a6 : Int32) (a7 : Option Nat) : Prop :=
  dr a7 (fun u27 => xKD S u27 = some 9 ∧ wx_X0_key_130 Q K37 S a0 a1 a2 a3 (xFI S 903 u27) a5 a6)
def wx_X0_key_37 (Q : Int32 → XS → Prop) : Nat → XS → Option Nat → Int32 → Int32 → Int32 → Int32 → Int32 → Int32 → Prop
  | 0, _, _, _, _, _, _, _, _ => False
  | n + 1, S, a0, a1, a2, a3, a4, a5, a6 => dr a0 (fun u7 => xKD S u7 = some 0 ∧ dr (xFR S 4 u7) (fun u9 => xKD S u9 = some 16 ∧ wx_J2_size (fun r12 S11 => (if r12 ≤ a6 then wx_X0_key_136 Q S11 a3 a4 a5 else xKD S11 u7 = some 0 ∧ dr (xFR S11 4 u7) (fun u14 => xKD S11 u14 = some 16 ∧ wx_J2_get (fun r17 S16 => dr r17 (fun u18 => xKD S16 u18 = some 9 ∧ (if a2 < (xFI S16 901 u18) then wx_X0_key_136 Q S16 a3 a4 a5 else xKD S16 u7 = some 0 ∧ dr (xFR S16 4 u7) (fun u21 => xKD S16 u21 = some 16 ∧ wx_J2_get (fun r24 S23 => dr r24 (fun u25 => xKD S23 u25 = some 9 ∧ (if (xFI S23 900 u25) = a1 then (if a4 = (-1000000 : Int32) then wx_X0_key_123 Q (wx_X0_key_37 Q n) S23 a0 a1 a2 a3 a5 a6 (some u25) else (if a4 = (xFI S23 902 u25) then wx_X0_key_123 Q (wx_X0_key_37 Q n) S23 a0 a1 a2 a3 a5 a6 (some u25) else wx_X0_key_130 Q (wx_X0_key_37 Q n) S23 a0 a1 a2 a3 a4 (a5 + (1 : Int32)) a6)) else wx_X0_key_130 Q (wx_X0_key_37 Q n) S23 a0 a1 a2 a3 a4 a5 a6))) S16 (some u21) a6)))) S11 (some u14) a6))) S (some u9)))
def wx_X0_key (Q : Int32 → XS → Prop) (S : XS) (x0 : Option Nat) (x1 : Int32) (x2 : Int32) (x3 : Int32) : Prop :=
  wx_X0_isKey (fun r2 S1 => (if r2 = 0 then Q (-1000001 : Int32) S1 else wx_X0_isDay (fun r4 S3 => (if r4 = 0 then Q (-1000001 : Int32) S3 else wx_X0_isIn (fun r6 S5 => (if r6 = 0 then Q (-1000001 : Int32) S5 else ∃ n29, wx_X0_key_37 Q n29 S5 x0 x1 x2 x3 (-1000000 : Int32) (0 : Int32) (0 : Int32))) S3 (Int32.toInt64 x3) (0 : Int64) (1 : Int64))) S1 x2)) S x1
theorem hx_X0_key : yX0_key.cls = RX0 ∧ yX0_key.cls ≠ "java/lang/invoke/MethodHandle" ∧ yX0_key.cls ≠ "java/lang/invoke/VarHandle" ∧ (parseMethodDescriptor yX0_key.desc).map (fun d => d.parameters.length) = some 3 := by decide +kernel
set_option maxHeartbeats 4000000 in
set_option maxRecDepth 100000 in
theorem bx_X0_key (E : XE) (C : Cx) (S0 : XS) (sz : Nat) (Q : Int32 → XS → Prop) (S : XS) (x0 : Option Nat) (x1 : Int32) (x2 : Int32) (x3 : Int32) (hC : COk C cX0_key RX0 (some .int) 4 98 8) (hX : XOk E C) (hA : cx_A C = xA S0 sz) (hQ : cx_Q C = MQ (cx_b C) (va_Qi Q (BX1 E S0 sz) (xA S0 sz)) (cx_a C) (cx_s C) (cx_MC C) (cx_MS C) (xA S0 sz)) (h : wx_X0_key Q S x0 x1 x2 x3) : GX E C S 0 0 0 [some (va_rf x0), some (.int x1), some (.int x2), some (.int x3), none, none, none, none] [] := by
  have s_136 : ∀ (S : XS) (a3 : Int32) (a4 : Int32) (a5 : Int32), wx_X0_key_136 Q  S a3 a4 a5 → GX E C S 0 0 136 [none, none, none, some (.int a3), some (.int a4), some (.int a5), none, none] [] := by
    intro  S a3 a4 a5 h
    refine g_iload_n hC dX0_key_136 rfl ?_
    refine g_if_ne (tgt := 145) hC dX0_key_137 (by decide) (fun c => ?_) (fun c => ?_)
    · have h := it_n c h
      refine g_iload hC dX0_key_145 rfl ?_
      refine gX_iret rfl hC hA hQ dX0_key_147 h
    · have h := it_p c h
      refine g_iload hC dX0_key_140 rfl ?_
      refine g_goto (tgt := 147) hC dX0_key_142 (by decide) ?_
      refine gX_iret rfl hC hA hQ dX0_key_147 h
  have s_130 : ∀ (K37 : XS → Option Nat → Int32 → Int32 → Int32 → Int32 → Int32 → Int32 → Prop) (hK37 : ∀ (S : XS) (b0 : Option Nat) (b1 : Int32) (b2 : Int32) (b3 : Int32) (b4 : Int32) (b5 : Int32) (b6 : Int32), K37 S b0 b1 b2 b3 b4 b5 b6 → GX E C S 0 0 37 [some (va_rf b0), some (.int b1), some (.int b2), some (.int b3), some (.int b4), some (.int b5), some (.int b6), none] []) (S : XS) (a0 : Option Nat) (a1 : Int32) (a2 : Int32) (a3 : Int32) (a4 : Int32) (a5 : Int32) (a6 : Int32), wx_X0_key_130 Q K37 S a0 a1 a2 a3 a4 a5 a6 → GX E C S 0 0 130 [some (va_rf a0), some (.int a1), some (.int a2), some (.int a3), some (.int a4), some (.int a5), some (.int a6), none] [] := by
    intro K37 hK37 S a0 a1 a2 a3 a4 a5 a6 h
    refine g_iinc (v := (a6 + (1 : Int32))) hC dX0_key_130 rfl rfl (by decide) rfl rfl ?_
    refine g_goto (tgt := 37) hC dX0_key_133 (by decide) ?_
    exact hK37 S a0 a1 a2 a3 a4 a5 (a6 + (1 : Int32)) h
  have s_123 : ∀ (K37 : XS → Option Nat → Int32 → Int32 → Int32 → Int32 → Int32 → Int32 → Prop) (hK37 : ∀ (S : XS) (b0 : Option Nat) (b1 : Int32) (b2 : Int32) (b3 : Int32) (b4 : Int32) (b5 : Int32) (b6 : Int32), K37 S b0 b1 b2 b3 b4 b5 b6 → GX E C S 0 0 37 [some (va_rf b0), some (.int b1), some (.int b2), some (.int b3), some (.int b4), some (.int b5), some (.int b6), none] []) (S : XS) (a0 : Option Nat) (a1 : Int32) (a2 : Int32) (a3 : Int32) (a5 : Int32) (a6 : Int32) (a7 : Option Nat), wx_X0_key_123 Q K37 S a0 a1 a2 a3 a5 a6 a7 → GX E C S 0 0 123 [some (va_rf a0), some (.int a1), some (.int a2), some (.int a3), none, some (.int a5), some (.int a6), some (va_rf a7)] [] := by
    intro K37 hK37 S a0 a1 a2 a3 a5 a6 a7 h
    refine g_aloadR hC dX0_key_123 rfl ?_
    obtain ⟨u27, eu27, h⟩ := h
    refine g_top0 eu27 ?_
    have hk28 := h.1
    refine gX_get (C0 := RX10) (T := TX10) (N := 4) (n := 9) (k := 3) (q := (903, false)) hC hX dX0_key_125 q1102 rfl in_X10 (by decide) (Or.inl rfl) rfl (by decide) hk28 ?_
    show GX _ _ _ _ _ _ _ (.int (xFI S 903 u27) :: _)
    refine g_istore hC dX0_key_128 (by decide) rfl rfl ?_
    refine g_sub [true, true, true, true, true, true, true, false] rfl ?_
    exact s_130 K37 hK37 S a0 a1 a2 a3 (xFI S 903 u27) a5 a6 h.2
  have s_37 : ∀ (n : Nat) (S : XS) (a0 : Option Nat) (a1 : Int32) (a2 : Int32) (a3 : Int32) (a4 : Int32) (a5 : Int32) (a6 : Int32), wx_X0_key_37 Q  n S a0 a1 a2 a3 a4 a5 a6 → GX E C S 0 0 37 [some (va_rf a0), some (.int a1), some (.int a2), some (.int a3), some (.int a4), some (.int a5), some (.int a6), none] [] := by
    intro  n
    induction n with
    | zero =>
      intro S a0 a1 a2 a3 a4 a5 a6 h
      exact False.elim h
    | succ n ih =>
      intro S a0 a1 a2 a3 a4 a5 a6 h
      refine g_iload hC dX0_key_37 rfl ?_
      refine g_aload_nR hC dX0_key_39 rfl ?_
      obtain ⟨u7, eu7, h⟩ := h
      refine g_top0 eu7 ?_
      have hk8 := h.1
      refine gX_get (C0 := RX0) (T := TX0) (N := 15) (n := 0) (k := 4) (q := (4, true)) hC hX dX0_key_40 q215 rfl in_X0 (by decide) (Or.inl rfl) rfl (by decide) hk8 ?_
      show GX _ _ _ _ _ _ _ (va_rf (xFR S 4 u7) :: _)
      obtain ⟨u9, eu9, h⟩ := h.2
      refine g_top0 eu9 ?_
      have hk10 := h.1
      refine gX_ni5 hX (gX_runF (n := 0) (As := []) (rest := [.int a6]) (Cr := "java/util/ArrayList") (x := ⟨"java/util/List", "size", "()I"⟩) hC hX (mx_J2_size (cx_l C) E _ _ _ h.2) (lw_app (lw_4 q770 q774 q776 q73) (lw_meth q778)) (List.mem_of_getElem? (i := 0) rfl) (by decide +kernel) rfl rfl (Or.inl (Nat.le_of_ble_eq_true rfl)) ⟨Nat.le_of_ble_eq_true rfl, Nat.le_of_ble_eq_true rfl⟩ dX0_key_43 (Nat.zero_le _) (Nat.zero_le _) hk10 rfl (by decide) rfl) rfl rfl ?_
      intro r12 S11 h
      refine g_icmp_ge (tgt := 136) hC dX0_key_48 (by decide) (fun c => ?_) (fun c => ?_)
      · have h := it_p c h
        refine g_sub [false, false, false, true, true, true, false, false] rfl ?_
        exact s_136 S11 a3 a4 a5 h
      · have h := it_n c h
        refine g_aload_nR hC dX0_key_51 rfl ?_
        refine g_top0 eu7 ?_
        have hk13 := h.1
        refine gX_get (C0 := RX0) (T := TX0) (N := 15) (n := 0) (k := 4) (q := (4, true)) hC hX dX0_key_52 q215 rfl in_X0 (by decide) (Or.inl rfl) rfl (by decide) hk13 ?_
        show GX _ _ _ _ _ _ _ (va_rf (xFR S11 4 u7) :: _)
        refine g_iload hC dX0_key_55 rfl ?_
        obtain ⟨u14, eu14, h⟩ := h.2
        refine g_top1 eu14 ?_
        have hk15 := h.1
        refine gX_nq5 hX (gX_runF (n := 1) (As := [.int a6]) (rest := []) (Cr := "java/util/ArrayList") (x := ⟨"java/util/List", "get", "(I)Ljava/lang/Object;"⟩) hC hX (mx_J2_get (cx_l C) E _ _ _ _ h.2) (lw_app (lw_4 q928 q931 q933 q73) (lw_meth q935)) (List.mem_of_getElem? (i := 2) rfl) (by decide +kernel) rfl rfl (Or.inl (Nat.le_of_ble_eq_true rfl)) ⟨Nat.le_of_ble_eq_true rfl, Nat.le_of_ble_eq_true rfl⟩ dX0_key_57 (Nat.zero_le _) (Nat.zero_le _) hk15 rfl (by decide) rfl) rfl rfl ?_
        intro r17 S16 h
        obtain ⟨u18, eu18, h⟩ := h
        refine g_top0 eu18 ?_
        have hk19 := h.1
        refine gX_cast (r := (RX10, TX10, 4)) (n := 9) hC hX dX0_key_62 q1089 rfl (by decide) hk19 ?_
        refine gX_get (C0 := RX10) (T := TX10) (N := 4) (n := 9) (k := 1) (q := (901, false)) hC hX dX0_key_65 q1098 rfl in_X10 (by decide) (Or.inl rfl) rfl (by decide) hk19 ?_
        show GX _ _ _ _ _ _ _ (.int (xFI S16 901 u18) :: _)
        refine g_iload_n hC dX0_key_68 rfl ?_
        refine g_icmp_gt (tgt := 136) hC dX0_key_69 (by decide) (fun c => ?_) (fun c => ?_)
        · have h := it_p c h.2
          refine g_sub [false, false, false, true, true, true, false, false] rfl ?_
          exact s_136 S16 a3 a4 a5 h
        · have h := it_n c h.2
          refine g_aload_nR hC dX0_key_72 rfl ?_
          refine g_top0 eu7 ?_
          have hk20 := h.1
          refine gX_get (C0 := RX0) (T := TX0) (N := 15) (n := 0) (k := 4) (q := (4, true)) hC hX dX0_key_73 q215 rfl in_X0 (by decide) (Or.inl rfl) rfl (by decide) hk20 ?_
          show GX _ _ _ _ _ _ _ (va_rf (xFR S16 4 u7) :: _)
          refine g_iload hC dX0_key_76 rfl ?_
          obtain ⟨u21, eu21, h⟩ := h.2
          refine g_top1 eu21 ?_
          have hk22 := h.1
          refine gX_nq5 hX (gX_runF (n := 1) (As := [.int a6]) (rest := []) (Cr := "java/util/ArrayList") (x := ⟨"java/util/List", "get", "(I)Ljava/lang/Object;"⟩) hC hX (mx_J2_get (cx_l C) E _ _ _ _ h.2) (lw_app (lw_4 q928 q931 q933 q73) (lw_meth q935)) (List.mem_of_getElem? (i := 2) rfl) (by decide +kernel) rfl rfl (Or.inl (Nat.le_of_ble_eq_true rfl)) ⟨Nat.le_of_ble_eq_true rfl, Nat.le_of_ble_eq_true rfl⟩ dX0_key_78 (Nat.zero_le _) (Nat.zero_le _) hk22 rfl (by decide) rfl) rfl rfl ?_
          intro r24 S23 h
          obtain ⟨u25, eu25, h⟩ := h
          refine g_top0 eu25 ?_
          have hk26 := h.1
          refine gX_cast (r := (RX10, TX10, 4)) (n := 9) hC hX dX0_key_83 q1089 rfl (by decide) hk26 ?_
          refine g_astoreR hC dX0_key_86 (by decide) rfl rfl ?_
          refine g_aloadR hC dX0_key_88 rfl ?_
          refine gX_get (C0 := RX10) (T := TX10) (N := 4) (n := 9) (k := 0) (q := (900, false)) hC hX dX0_key_90 q1096 rfl in_X10 (by decide) (Or.inl rfl) rfl (by decide) hk26 ?_
          show GX _ _ _ _ _ _ _ (.int (xFI S23 900 u25) :: _)
          refine g_iload_n hC dX0_key_93 rfl ?_
          refine g_icmp_eq (tgt := 100) hC dX0_key_94 (by decide) (fun c => ?_) (fun c => ?_)
          · have h := it_p c h.2
            refine g_iload hC dX0_key_100 rfl ?_
            refine g_ldc (v := -1000000) hC dX0_key_102 q944 ?_
            refine g_icmp_eq (tgt := 123) hC dX0_key_104 (by decide) (fun c => ?_) (fun c => ?_)
            · have h := it_p c h
              refine g_sub [true, true, true, true, false, true, true, true] rfl ?_
              exact s_123 (wx_X0_key_37 Q n) ih S23 a0 a1 a2 a3 a5 a6 (some u25) h
            · have h := it_n c h
              refine g_iload hC dX0_key_107 rfl ?_
              refine g_aloadR hC dX0_key_109 rfl ?_
              refine gX_get (C0 := RX10) (T := TX10) (N := 4) (n := 9) (k := 2) (q := (902, false)) hC hX dX0_key_111 q1100 rfl in_X10 (by decide) (Or.inl rfl) rfl (by decide) hk26 ?_
              show GX _ _ _ _ _ _ _ (.int (xFI S23 902 u25) :: _)
              refine g_icmp_eq (tgt := 123) hC dX0_key_114 (by decide) (fun c => ?_) (fun c => ?_)
              · have h := it_p c h
                refine g_sub [true, true, true, true, false, true, true, true] rfl ?_
                exact s_123 (wx_X0_key_37 Q n) ih S23 a0 a1 a2 a3 a5 a6 (some u25) h
              · have h := it_n c h
                refine g_iinc (v := (a5 + (1 : Int32))) hC dX0_key_117 rfl rfl (by decide) rfl rfl ?_
                refine g_goto (tgt := 130) hC dX0_key_120 (by decide) ?_
                refine g_sub [true, true, true, true, true, true, true, false] rfl ?_
                exact s_130 (wx_X0_key_37 Q n) ih S23 a0 a1 a2 a3 a4 (a5 + (1 : Int32)) a6 h
          · have h := it_n c h.2
            refine g_goto (tgt := 130) hC dX0_key_97 (by decide) ?_
            refine g_sub [true, true, true, true, true, true, true, false] rfl ?_
            exact s_130 (wx_X0_key_37 Q n) ih S23 a0 a1 a2 a3 a4 a5 a6 h
  refine g_iload_n hC dX0_key_0 rfl ?_
  refine gX_ni hX (gX_runS (As := [.int x1]) (rest := []) hC hX (mx_X0_isKey (cx_l C) E _ _ _ h) (lw_S q1243 q1244 q70 q1245) hx_X0_isKey.2 rfl rfl (Or.inl (Nat.le_of_ble_eq_true rfl)) ⟨Nat.le_of_ble_eq_true rfl, Nat.le_of_ble_eq_true rfl⟩ dX0_key_1 (Nat.zero_le _) (Nat.zero_le _)) rfl rfl ?_
  intro r2 S1 h
  refine g_if_eq (tgt := 24) hC dX0_key_4 (by decide) (fun c => ?_) (fun c => ?_)
  · have h := it_p c h
    refine g_ldc (v := -1000001) hC dX0_key_24 q273 ?_
    refine gX_iret rfl hC hA hQ dX0_key_26 h
  · have h := it_n c h
    refine g_iload_n hC dX0_key_7 rfl ?_
    refine gX_ni hX (gX_runS (As := [.int x2]) (rest := []) hC hX (mx_X0_isDay (cx_l C) E _ _ _ h) (lw_S q788 q789 q70 q790) hx_X0_isDay.2 rfl rfl (Or.inl (Nat.le_of_ble_eq_true rfl)) ⟨Nat.le_of_ble_eq_true rfl, Nat.le_of_ble_eq_true rfl⟩ dX0_key_8 (Nat.zero_le _) (Nat.zero_le _)) rfl rfl ?_
    intro r4 S3 h
    refine g_if_eq (tgt := 24) hC dX0_key_11 (by decide) (fun c => ?_) (fun c => ?_)
    · have h := it_p c h
      refine g_ldc (v := -1000001) hC dX0_key_24 q273 ?_
      refine gX_iret rfl hC hA hQ dX0_key_26 h
    · have h := it_n c h
      refine g_iload_n hC dX0_key_14 rfl ?_
      refine g_i2l hC dX0_key_15 ?_
      refine g_lconst (v := 0) hC dX0_key_16 (by decide) ?_
      refine g_lconst (v := 1) hC dX0_key_17 (by decide) ?_
      refine gX_ni hX (gX_runS (As := [.long (Int32.toInt64 x3), .long (0 : Int64), .long (1 : Int64)]) (rest := []) hC hX (mx_X0_isIn (cx_l C) E _ _ _ _ _ h) (lw_S q269 q270 q70 q271) hx_X0_isIn.2 rfl rfl (Or.inl (Nat.le_of_ble_eq_true rfl)) ⟨Nat.le_of_ble_eq_true rfl, Nat.le_of_ble_eq_true rfl⟩ dX0_key_18 (Nat.zero_le _) (Nat.zero_le _)) rfl rfl ?_
      intro r6 S5 h
      refine g_if_ne (tgt := 27) hC dX0_key_21 (by decide) (fun c => ?_) (fun c => ?_)
      · have h := it_n c h
        refine g_ldc (v := -1000000) hC dX0_key_27 q944 ?_
        refine g_istore hC dX0_key_29 (by decide) rfl rfl ?_
        refine g_iconst (v := 0) hC dX0_key_31 (by decide) ?_
        refine g_istore hC dX0_key_32 (by decide) rfl rfl ?_
        refine g_iconst (v := 0) hC dX0_key_34 (by decide) ?_
        refine g_istore hC dX0_key_35 (by decide) rfl rfl ?_
        obtain ⟨n0, h0⟩ := h
        exact s_37 n0 S5 x0 x1 x2 x3 (-1000000 : Int32) (0 : Int32) (0 : Int32) h0
      · have h := it_p c h
        refine g_ldc (v := -1000001) hC dX0_key_24 q273 ?_
        refine gX_iret rfl hC hA hQ dX0_key_26 h
theorem mx_X0_key (l : Launch) (E : XE) (Q : Int32 → XS → Prop) (S : XS) (x0 : Option Nat) (x1 : Int32) (x2 : Int32) (x3 : Int32) (h : wx_X0_key Q S x0 x1 x2 x3) : XMet E l yX0_key cX0_key 8 (some .int) ({ frames := 4, cells := 0, slots := 0, locals := 98 } : Room) [va_rf x0, .int x1, .int x2, .int x3] S (fun sz => va_Qi Q (BX1 E S sz) (xA S sz)) :=
  XMet_of (rm := ({ frames := 4, cells := 0, slots := 0, locals := 98 } : Room)) (by decide) (by simp [lg_sl, va_rf_cat, cat_i, cat_l]) (L0 := [some (va_rf x0), some (.int x1), some (.int x2), some (.int x3), none, none, none, none]) (by simp [lx_pairs, lv_args, va_rf_cat, cat_i, cat_l, List.range_succ]) (fun sz C hC hX hl hnm hA hQ => bx_X0_key E C S sz Q S x0 x1 x2 x3 hC hX hA hQ h)
/-! X0_look -/
def wx_X0_look (Q : Int32 → XS → Prop) (mc ms : Nat) (S : XS) (x0 : Option Nat) (x1 : Int32) (x2 : Int32) (x3 : Int32) (x4 : Int32) : Prop :=
  wx_X0_isTime (fun r2 S1 => (if r2 = 0 then Q (-1000001 : Int32) S1 else wx_X0_isIn (fun r4 S3 => (if r4 = 0 then Q (-1000001 : Int32) S3 else dr x0 (fun u5 => xKD S3 u5 = some 0 ∧ dr (xFR S3 5 u5) (fun u7 => xKD S3 u7 = some 16 ∧ wx_J2_size (fun r10 S9 => (if r10 = (40 : Int32) then Q (-1000003 : Int32) S9 else xKD S9 u5 = some 0 ∧ 1 ≤ mc ∧ 4 ≤ ms ∧ (∀ q12 : Nat, xKD S9 q12 = none → wx_X10_init (fun S16 => (∃ k18 n19, k18 ≤ (mc - 1) ∧ n19 ≤ (ms - 4) ∧ wx_X0_come (fun r21 S20 => Q r21 S20) k18 n19 S16 (xFR S9 5 u5) (some q12))) (sNew S9 q12 9) (some q12) x1 (((96 : Int32) * x2) + x3) x4 (0 : Int32)))) S3 (some u7))))) S1 (Int32.toInt64 x4) (0 : Int64) (255 : Int64))) S x1 x2 x3 (95 : Int32)
theorem hx_X0_look : yX0_look.cls = RX0 ∧ yX0_look.cls ≠ "java/lang/invoke/MethodHandle" ∧ yX0_look.cls ≠ "java/lang/invoke/VarHandle" ∧ (parseMethodDescriptor yX0_look.desc).map (fun d => d.parameters.length) = some 4 := by decide +kernel
set_option maxHeartbeats 4000000 in
set_option maxRecDepth 100000 in
theorem bx_X0_look (E : XE) (C : Cx) (S0 : XS) (sz : Nat) (Q : Int32 → XS → Prop) (mc ms : Nat) (S : XS) (x0 : Option Nat) (x1 : Int32) (x2 : Int32) (x3 : Int32) (x4 : Int32) (hC : COk C cX0_look RX0 (some .int) 7 167 5) (hX : XOk E C) (hA : cx_A C = xA S0 sz) (hQ : cx_Q C = MQ (cx_b C) (va_Qi Q (BX1 E S0 sz) (xA S0 sz)) (cx_a C) (cx_s C) (cx_MC C) (cx_MS C) (xA S0 sz)) (h : wx_X0_look Q mc ms S x0 x1 x2 x3 x4) : GX E C S mc ms 0 [some (va_rf x0), some (.int x1), some (.int x2), some (.int x3), some (.int x4)] [] := by
  refine g_iload_n hC dX0_look_0 rfl ?_
  refine g_iload_n hC dX0_look_1 rfl ?_
  refine g_iload_n hC dX0_look_2 rfl ?_
  refine g_bipush (v := 95) hC dX0_look_3 (by decide) ?_
  refine gX_ni hX (gX_runS (As := [.int x1, .int x2, .int x3, .int (95 : Int32)]) (rest := []) hC hX (mx_X0_isTime (cx_l C) E _ _ _ _ _ _ h) (lw_S q1085 q1086 q70 q1087) hx_X0_isTime.2 rfl rfl (Or.inl (Nat.le_of_ble_eq_true rfl)) ⟨Nat.le_of_ble_eq_true rfl, Nat.le_of_ble_eq_true rfl⟩ dX0_look_5 (Nat.zero_le _) (Nat.zero_le _)) rfl rfl ?_
  intro r2 S1 h
  refine g_if_eq (tgt := 24) hC dX0_look_8 (by decide) (fun c => ?_) (fun c => ?_)
  · have h := it_p c h
    refine g_ldc (v := -1000001) hC dX0_look_24 q273 ?_
    refine gX_iret rfl hC hA hQ dX0_look_26 h
  · have h := it_n c h
    refine g_iload hC dX0_look_11 rfl ?_
    refine g_i2l hC dX0_look_13 ?_
    refine g_lconst (v := 0) hC dX0_look_14 (by decide) ?_
    refine g_ldc2 (v := 255) hC dX0_look_15 q1258 ?_
    refine gX_ni hX (gX_runS (As := [.long (Int32.toInt64 x4), .long (0 : Int64), .long (255 : Int64)]) (rest := []) hC hX (mx_X0_isIn (cx_l C) E _ _ _ _ _ h) (lw_S q269 q270 q70 q271) hx_X0_isIn.2 rfl rfl (Or.inl (Nat.le_of_ble_eq_true rfl)) ⟨Nat.le_of_ble_eq_true rfl, Nat.le_of_ble_eq_true rfl⟩ dX0_look_18 (Nat.zero_le _) (Nat.zero_le _)) rfl rfl ?_
    intro r4 S3 h
    refine g_if_ne (tgt := 27) hC dX0_look_21 (by decide) (fun c => ?_) (fun c => ?_)
    · have h := it_n c h
      refine g_aload_nR hC dX0_look_27 rfl ?_
      obtain ⟨u5, eu5, h⟩ := h
      refine g_top0 eu5 ?_
      have hk6 := h.1
      refine gX_get (C0 := RX0) (T := TX0) (N := 15) (n := 0) (k := 5) (q := (5, true)) hC hX dX0_look_28 q216 rfl in_X0 (by decide) (Or.inl rfl) rfl (by decide) hk6 ?_
      show GX _ _ _ _ _ _ _ (va_rf (xFR S3 5 u5) :: _)
      obtain ⟨u7, eu7, h⟩ := h.2
      refine g_top0 eu7 ?_
      have hk8 := h.1
      refine gX_ni5 hX (gX_runF (n := 0) (As := []) (rest := []) (Cr := "java/util/ArrayList") (x := ⟨"java/util/List", "size", "()I"⟩) hC hX (mx_J2_size (cx_l C) E _ _ _ h.2) (lw_app (lw_4 q770 q774 q776 q73) (lw_meth q778)) (List.mem_of_getElem? (i := 0) rfl) (by decide +kernel) rfl rfl (Or.inl (Nat.le_of_ble_eq_true rfl)) ⟨Nat.le_of_ble_eq_true rfl, Nat.le_of_ble_eq_true rfl⟩ dX0_look_31 (Nat.zero_le _) (Nat.zero_le _) hk8 rfl (by decide) rfl) rfl rfl ?_
      intro r10 S9 h
      refine g_bipush (v := 40) hC dX0_look_36 (by decide) ?_
      refine g_icmp_ne (tgt := 46) hC dX0_look_38 (by decide) (fun c => ?_) (fun c => ?_)
      · have h := it_n c h
        refine g_aload_nR hC dX0_look_46 rfl ?_
        refine g_top0 eu5 ?_
        have hk11 := h.1
        refine gX_get (C0 := RX0) (T := TX0) (N := 15) (n := 0) (k := 5) (q := (5, true)) hC hX dX0_look_47 q216 rfl in_X0 (by decide) (Or.inl rfl) rfl (by decide) hk11 ?_
        show GX _ _ _ _ _ _ _ (va_rf (xFR S9 5 u5) :: _)
        refine gX_new (C0 := RX10) (T := TX10) (ty0 := tyX10) (N := 4) (n := 9) hC hX dX0_look_50 q1089 q1090 q101 rfl in_X10 tyX10_ok (by decide) dv_X10 h.2.1 h.2.2.1 ?_
        intro q12 hq13
        have h := h.2.2.2 q12 hq13
        have hk14 := kd_new (q := q12) (n := 9) hk11 hq13
        have hk15 : xKD (sNew S9 q12 9) q12 = some 9 := kd_self
        refine g_dup hC dX0_look_53 (va_rf_cat _) ?_
        refine g_iload_n hC dX0_look_54 rfl ?_
        refine g_bipush (v := 96) hC dX0_look_55 (by decide) ?_
        refine g_iload_n hC dX0_look_57 rfl ?_
        refine g_imul hC dX0_look_58 ?_
        refine g_iload_n hC dX0_look_59 rfl ?_
        refine g_iadd hC dX0_look_60 ?_
        refine g_iload hC dX0_look_61 rfl ?_
        refine g_iconst (v := 0) hC dX0_look_63 (by decide) ?_
        refine gX_nv hX (gX_runI (As := [.int x1, .int (((96 : Int32) * x2) + x3), .int x4, .int (0 : Int32)]) (rest := [va_rf (some q12), va_rf (xFR S9 5 u5)]) hC hX (mx_X10_init (cx_l C) E _ _ _ _ _ _ _ h) q1093 q101 q1091 q1092 rfl hx_X10_init.2 rfl rfl (Or.inl (Nat.le_of_ble_eq_true rfl)) ⟨Nat.le_of_ble_eq_true rfl, Nat.le_of_ble_eq_true rfl⟩ dX0_look_64 (Nat.zero_le _) (Nat.zero_le _)) rfl rfl ?_
        intro S16 h
        obtain ⟨k18, n19, hk18, hn19, h⟩ := h
        refine gX_ci hX (gX_runS (As := [va_rf (xFR S9 5 u5), va_rf (some q12)]) (rest := []) hC hX (mx_X0_come (cx_l C) E k18 n19 _ _ _ _ h) (lw_S q1112 q1113 q70 q1114) hx_X0_come.2 rfl rfl (Or.inl (Nat.le_of_ble_eq_true rfl)) ⟨Nat.le_of_ble_eq_true rfl, Nat.le_of_ble_eq_true rfl⟩ dX0_look_67 hk18 hn19) hk18 hn19 ?_
        intro r21 S20 h
        refine gX_iret rfl hC hA hQ dX0_look_70 h
      · have h := it_p c h
        refine g_ldc (v := -1000003) hC dX0_look_41 q428 ?_
        refine g_goto (tgt := 70) hC dX0_look_43 (by decide) ?_
        refine gX_iret rfl hC hA hQ dX0_look_70 h
    · have h := it_p c h
      refine g_ldc (v := -1000001) hC dX0_look_24 q273 ?_
      refine gX_iret rfl hC hA hQ dX0_look_26 h
theorem mx_X0_look (l : Launch) (E : XE) (mc ms : Nat) (Q : Int32 → XS → Prop) (S : XS) (x0 : Option Nat) (x1 : Int32) (x2 : Int32) (x3 : Int32) (x4 : Int32) (h : wx_X0_look Q mc ms S x0 x1 x2 x3 x4) : XMet E l yX0_look cX0_look 5 (some .int) ({ frames := 7, cells := mc, slots := ms, locals := 167 } : Room) [va_rf x0, .int x1, .int x2, .int x3, .int x4] S (fun sz => va_Qi Q (BX1 E S sz) (xA S sz)) :=
  XMet_of (rm := ({ frames := 7, cells := mc, slots := ms, locals := 167 } : Room)) (by decide) (by simp [lg_sl, va_rf_cat, cat_i, cat_l]) (L0 := [some (va_rf x0), some (.int x1), some (.int x2), some (.int x3), some (.int x4)]) (by simp [lx_pairs, lv_args, va_rf_cat, cat_i, cat_l, List.range_succ]) (fun sz C hC hX hl hnm hA hQ => bx_X0_look E C S sz Q mc ms S x0 x1 x2 x3 x4 hC hX hA hQ h)
/-! X0_home -/
def wx_X0_home_257 (Q : Int32 → XS → Prop) (K154 : XS → Option Nat → Int32 → Int32 → Int32 → Int32 → Int32 → Int32 → Prop) (S : XS) (a0 : Option Nat) (a1 : Int32) (a3 : Int32) (a4 : Int32) (a5 : Int32) (a6 : Int32) (a7 : Int32) : Prop :=
  K154 S a0 a1 a3 a4 a5 a6 (a7 + (1 : Int32))
def wx_X0_home_154 (Q : Int32 → XS → Prop) : Nat → XS → Option Nat → Int32 → Int32 → Int32 → Int32 → Int32 → Int32 → Prop
  | 0, _, _, _, _, _, _, _, _ => False
  | n + 1, S, a0, a1, a3, a4, a5, a6, a7 => dr a0 (fun u15 => xKD S u15 = some 0 ∧ dr (xFR S 2 u15) (fun u17 => xKD S u17 = some 16 ∧ wx_J2_size (fun r20 S19 => (if r20 ≤ a7 then Q a6 S19 else xKD S19 u15 = some 0 ∧ dr (xFR S19 2 u15) (fun u22 => xKD S19 u22 = some 16 ∧ wx_J2_get (fun r25 S24 => dr r25 (fun u26 => xKD S24 u26 = some 7 ∧ (if ((a5 >>> (a7 &&& 31)) &&& (1 : Int32)) = 0 then wx_X0_home_257 Q (wx_X0_home_154 Q n) S24 a0 a1 a3 a4 a5 a6 a7 else (if (xFI S24 701 u26) = a1 then (if a4 ≤ (((96 : Int32) * (xFI S24 703 u26)) + (xFI S24 704 u26)) then wx_X0_home_257 Q (wx_X0_home_154 Q n) S24 a0 a1 a3 a4 a5 a6 a7 else (if a3 < (((96 : Int32) * (xFI S24 703 u26)) + (xFI S24 705 u26)) then (if a6 = (-1000000 : Int32) then wx_X0_home_257 Q (wx_X0_home_154 Q n) S24 a0 a1 a3 a4 a5 a7 a7 else Q (-1000000 : Int32) S24) else wx_X0_home_257 Q (wx_X0_home_154 Q n) S24 a0 a1 a3 a4 a5 a6 a7)) else wx_X0_home_257 Q (wx_X0_home_154 Q n) S24 a0 a1 a3 a4 a5 a6 a7)))) S19 (some u22) a7))) S (some u17)))
def wx_X0_home_116 (Q : Int32 → XS → Prop) (S : XS) (a0 : Option Nat) (a1 : Int32) (a3 : Int32) (a4 : Int32) : Prop :=
  (if a3 = (-1000000 : Int32) then Q (-1000000 : Int32) S else (if a4 = (-1000000 : Int32) then Q (-1000000 : Int32) S else (if a3 = a4 then Q (-1000000 : Int32) S else dr a0 (fun u11 => xKD S u11 = some 0 ∧ wx_X0_held (fun r14 S13 => ∃ n28, wx_X0_home_154 Q n28 S13 a0 a1 a3 a4 r14 (-1000000 : Int32) (0 : Int32)) S (some u11) (364 : Int32)))))
def wx_X0_home_110 (Q : Int32 → XS → Prop) (K32 : XS → Option Nat → Int32 → Int32 → Int32 → Int32 → Int32 → Prop) (S : XS) (a0 : Option Nat) (a1 : Int32) (a2 : Int32) (a3 : Int32) (a4 : Int32) (a5 : Int32) : Prop :=
  K32 S a0 a1 a2 a3 a4 (a5 + (1 : Int32))
def wx_X0_home_32 (Q : Int32 → XS → Prop) : Nat → XS → Option Nat → Int32 → Int32 → Int32 → Int32 → Int32 → Prop
  | 0, _, _, _, _, _, _, _ => False
  | n + 1, S, a0, a1, a2, a3, a4, a5 => dr a0 (fun u5 => xKD S u5 = some 0 ∧ dr (xFR S 5 u5) (fun u7 => xKD S u7 = some 16 ∧ wx_J2_size (fun r10 S9 => (if r10 ≤ a5 then wx_X0_home_116 Q S9 a0 a1 a3 a4 else (if a4 = (-1000000 : Int32) then xKD S9 u5 = some 0 ∧ dr (xFR S9 5 u5) (fun u30 => xKD S9 u30 = some 16 ∧ wx_J2_get (fun r33 S32 => dr r33 (fun u34 => xKD S32 u34 = some 9 ∧ (if (xFI S32 900 u34) = a1 then (if (((xFI S32 902 u34) >>> (a2 &&& 31)) &&& (1 : Int32)) = (1 : Int32) then wx_X0_home_110 Q (wx_X0_home_32 Q n) S32 a0 a1 a2 a3 (xFI S32 901 u34) a5 else wx_X0_home_110 Q (wx_X0_home_32 Q n) S32 a0 a1 a2 (xFI S32 901 u34) a4 a5) else wx_X0_home_110 Q (wx_X0_home_32 Q n) S32 a0 a1 a2 a3 a4 a5))) S9 (some u30) a5) else wx_X0_home_116 Q S9 a0 a1 a3 a4))) S (some u7)))
def wx_X0_home (Q : Int32 → XS → Prop) (S : XS) (x0 : Option Nat) (x1 : Int32) (x2 : Int32) : Prop :=
  wx_X0_isHall (fun r2 S1 => (if r2 = 0 then Q (-1000001 : Int32) S1 else wx_X0_isIn (fun r4 S3 => (if r4 = 0 then Q (-1000001 : Int32) S3 else ∃ n36, wx_X0_home_32 Q n36 S3 x0 x1 x2 (-1000000 : Int32) (-1000000 : Int32) (0 : Int32))) S1 (Int32.toInt64 x2) (0 : Int64) (7 : Int64))) S x1
theorem hx_X0_home : yX0_home.cls = RX0 ∧ yX0_home.cls ≠ "java/lang/invoke/MethodHandle" ∧ yX0_home.cls ≠ "java/lang/invoke/VarHandle" ∧ (parseMethodDescriptor yX0_home.desc).map (fun d => d.parameters.length) = some 2 := by decide +kernel
set_option maxHeartbeats 4000000 in
set_option maxRecDepth 100000 in
theorem bx_X0_home (E : XE) (C : Cx) (S0 : XS) (sz : Nat) (Q : Int32 → XS → Prop) (S : XS) (x0 : Option Nat) (x1 : Int32) (x2 : Int32) (hC : COk C cX0_home RX0 (some .int) 6 148 9) (hX : XOk E C) (hA : cx_A C = xA S0 sz) (hQ : cx_Q C = MQ (cx_b C) (va_Qi Q (BX1 E S0 sz) (xA S0 sz)) (cx_a C) (cx_s C) (cx_MC C) (cx_MS C) (xA S0 sz)) (h : wx_X0_home Q S x0 x1 x2) : GX E C S 0 0 0 [some (va_rf x0), some (.int x1), some (.int x2), none, none, none, none, none, none] [] := by
  have s_257 : ∀ (K154 : XS → Option Nat → Int32 → Int32 → Int32 → Int32 → Int32 → Int32 → Prop) (hK154 : ∀ (S : XS) (b0 : Option Nat) (b1 : Int32) (b3 : Int32) (b4 : Int32) (b5 : Int32) (b6 : Int32) (b7 : Int32), K154 S b0 b1 b3 b4 b5 b6 b7 → GX E C S 0 0 154 [some (va_rf b0), some (.int b1), none, some (.int b3), some (.int b4), some (.int b5), some (.int b6), some (.int b7), none] []) (S : XS) (a0 : Option Nat) (a1 : Int32) (a3 : Int32) (a4 : Int32) (a5 : Int32) (a6 : Int32) (a7 : Int32), wx_X0_home_257 Q K154 S a0 a1 a3 a4 a5 a6 a7 → GX E C S 0 0 257 [some (va_rf a0), some (.int a1), none, some (.int a3), some (.int a4), some (.int a5), some (.int a6), some (.int a7), none] [] := by
    intro K154 hK154 S a0 a1 a3 a4 a5 a6 a7 h
    refine g_iinc (v := (a7 + (1 : Int32))) hC dX0_home_257 rfl rfl (by decide) rfl rfl ?_
    refine g_goto (tgt := 154) hC dX0_home_260 (by decide) ?_
    exact hK154 S a0 a1 a3 a4 a5 a6 (a7 + (1 : Int32)) h
  have s_154 : ∀ (n : Nat) (S : XS) (a0 : Option Nat) (a1 : Int32) (a3 : Int32) (a4 : Int32) (a5 : Int32) (a6 : Int32) (a7 : Int32), wx_X0_home_154 Q  n S a0 a1 a3 a4 a5 a6 a7 → GX E C S 0 0 154 [some (va_rf a0), some (.int a1), none, some (.int a3), some (.int a4), some (.int a5), some (.int a6), some (.int a7), none] [] := by
    intro  n
    induction n with
    | zero =>
      intro S a0 a1 a3 a4 a5 a6 a7 h
      exact False.elim h
    | succ n ih =>
      intro S a0 a1 a3 a4 a5 a6 a7 h
      refine g_iload hC dX0_home_154 rfl ?_
      refine g_aload_nR hC dX0_home_156 rfl ?_
      obtain ⟨u15, eu15, h⟩ := h
      refine g_top0 eu15 ?_
      have hk16 := h.1
      refine gX_get (C0 := RX0) (T := TX0) (N := 15) (n := 0) (k := 2) (q := (2, true)) hC hX dX0_home_157 q213 rfl in_X0 (by decide) (Or.inl rfl) rfl (by decide) hk16 ?_
      show GX _ _ _ _ _ _ _ (va_rf (xFR S 2 u15) :: _)
      obtain ⟨u17, eu17, h⟩ := h.2
      refine g_top0 eu17 ?_
      have hk18 := h.1
      refine gX_ni5 hX (gX_runF (n := 0) (As := []) (rest := [.int a7]) (Cr := "java/util/ArrayList") (x := ⟨"java/util/List", "size", "()I"⟩) hC hX (mx_J2_size (cx_l C) E _ _ _ h.2) (lw_app (lw_4 q770 q774 q776 q73) (lw_meth q778)) (List.mem_of_getElem? (i := 0) rfl) (by decide +kernel) rfl rfl (Or.inl (Nat.le_of_ble_eq_true rfl)) ⟨Nat.le_of_ble_eq_true rfl, Nat.le_of_ble_eq_true rfl⟩ dX0_home_160 (Nat.zero_le _) (Nat.zero_le _) hk18 rfl (by decide) rfl) rfl rfl ?_
      intro r20 S19 h
      refine g_icmp_ge (tgt := 263) hC dX0_home_165 (by decide) (fun c => ?_) (fun c => ?_)
      · have h := it_p c h
        refine g_iload hC dX0_home_263 rfl ?_
        refine gX_iret rfl hC hA hQ dX0_home_265 h
      · have h := it_n c h
        refine g_aload_nR hC dX0_home_168 rfl ?_
        refine g_top0 eu15 ?_
        have hk21 := h.1
        refine gX_get (C0 := RX0) (T := TX0) (N := 15) (n := 0) (k := 2) (q := (2, true)) hC hX dX0_home_169 q213 rfl in_X0 (by decide) (Or.inl rfl) rfl (by decide) hk21 ?_
        show GX _ _ _ _ _ _ _ (va_rf (xFR S19 2 u15) :: _)
        refine g_iload hC dX0_home_172 rfl ?_
        obtain ⟨u22, eu22, h⟩ := h.2
        refine g_top1 eu22 ?_
        have hk23 := h.1
        refine gX_nq5 hX (gX_runF (n := 1) (As := [.int a7]) (rest := []) (Cr := "java/util/ArrayList") (x := ⟨"java/util/List", "get", "(I)Ljava/lang/Object;"⟩) hC hX (mx_J2_get (cx_l C) E _ _ _ _ h.2) (lw_app (lw_4 q928 q931 q933 q73) (lw_meth q935)) (List.mem_of_getElem? (i := 2) rfl) (by decide +kernel) rfl rfl (Or.inl (Nat.le_of_ble_eq_true rfl)) ⟨Nat.le_of_ble_eq_true rfl, Nat.le_of_ble_eq_true rfl⟩ dX0_home_174 (Nat.zero_le _) (Nat.zero_le _) hk23 rfl (by decide) rfl) rfl rfl ?_
        intro r25 S24 h
        obtain ⟨u26, eu26, h⟩ := h
        refine g_top0 eu26 ?_
        have hk27 := h.1
        refine gX_cast (r := (RX8, TX8, 11)) (n := 7) hC hX dX0_home_179 q164 rfl (by decide) hk27 ?_
        refine g_astoreR hC dX0_home_182 (by decide) rfl rfl ?_
        refine g_iload hC dX0_home_184 rfl ?_
        refine g_iload hC dX0_home_186 rfl ?_
        refine g_ishr hC dX0_home_188 ?_
        refine g_iconst (v := 1) hC dX0_home_189 (by decide) ?_
        refine g_iand hC dX0_home_190 ?_
        refine g_if_eq (tgt := 257) hC dX0_home_191 (by decide) (fun c => ?_) (fun c => ?_)
        · have h := it_p c h.2
          refine g_sub [true, true, false, true, true, true, true, true, false] rfl ?_
          exact s_257 (wx_X0_home_154 Q n) ih S24 a0 a1 a3 a4 a5 a6 a7 h
        · have h := it_n c h.2
          refine g_aloadR hC dX0_home_194 rfl ?_
          refine gX_get (C0 := RX8) (T := TX8) (N := 11) (n := 7) (k := 1) (q := (701, false)) hC hX dX0_home_196 q808 rfl in_X8 (by decide) (Or.inl rfl) rfl (by decide) hk27 ?_
          show GX _ _ _ _ _ _ _ (.int (xFI S24 701 u26) :: _)
          refine g_iload_n hC dX0_home_199 rfl ?_
          refine g_icmp_ne (tgt := 257) hC dX0_home_200 (by decide) (fun c => ?_) (fun c => ?_)
          · have h := it_n c h
            refine g_sub [true, true, false, true, true, true, true, true, false] rfl ?_
            exact s_257 (wx_X0_home_154 Q n) ih S24 a0 a1 a3 a4 a5 a6 a7 h
          · have h := it_p c h
            refine g_bipush (v := 96) hC dX0_home_203 (by decide) ?_
            refine g_aloadR hC dX0_home_205 rfl ?_
            refine gX_get (C0 := RX8) (T := TX8) (N := 11) (n := 7) (k := 3) (q := (703, false)) hC hX dX0_home_207 q815 rfl in_X8 (by decide) (Or.inl rfl) rfl (by decide) hk27 ?_
            show GX _ _ _ _ _ _ _ (.int (xFI S24 703 u26) :: _)
            refine g_imul hC dX0_home_210 ?_
            refine g_aloadR hC dX0_home_211 rfl ?_
            refine gX_get (C0 := RX8) (T := TX8) (N := 11) (n := 7) (k := 4) (q := (704, false)) hC hX dX0_home_213 q818 rfl in_X8 (by decide) (Or.inl rfl) rfl (by decide) hk27 ?_
            show GX _ _ _ _ _ _ _ (.int (xFI S24 704 u26) :: _)
            refine g_iadd hC dX0_home_216 ?_
            refine g_iload hC dX0_home_217 rfl ?_
            refine g_icmp_ge (tgt := 257) hC dX0_home_219 (by decide) (fun c => ?_) (fun c => ?_)
            · have h := it_p c h
              refine g_sub [true, true, false, true, true, true, true, true, false] rfl ?_
              exact s_257 (wx_X0_home_154 Q n) ih S24 a0 a1 a3 a4 a5 a6 a7 h
            · have h := it_n c h
              refine g_bipush (v := 96) hC dX0_home_222 (by decide) ?_
              refine g_aloadR hC dX0_home_224 rfl ?_
              refine gX_get (C0 := RX8) (T := TX8) (N := 11) (n := 7) (k := 3) (q := (703, false)) hC hX dX0_home_226 q815 rfl in_X8 (by decide) (Or.inl rfl) rfl (by decide) hk27 ?_
              show GX _ _ _ _ _ _ _ (.int (xFI S24 703 u26) :: _)
              refine g_imul hC dX0_home_229 ?_
              refine g_aloadR hC dX0_home_230 rfl ?_
              refine gX_get (C0 := RX8) (T := TX8) (N := 11) (n := 7) (k := 5) (q := (705, false)) hC hX dX0_home_232 q821 rfl in_X8 (by decide) (Or.inl rfl) rfl (by decide) hk27 ?_
              show GX _ _ _ _ _ _ _ (.int (xFI S24 705 u26) :: _)
              refine g_iadd hC dX0_home_235 ?_
              refine g_iload_n hC dX0_home_236 rfl ?_
              refine g_icmp_gt (tgt := 243) hC dX0_home_237 (by decide) (fun c => ?_) (fun c => ?_)
              · have h := it_p c h
                refine g_iload hC dX0_home_243 rfl ?_
                refine g_ldc (v := -1000000) hC dX0_home_245 q944 ?_
                refine g_icmp_eq (tgt := 253) hC dX0_home_247 (by decide) (fun c => ?_) (fun c => ?_)
                · have h := it_p c h
                  refine g_iload hC dX0_home_253 rfl ?_
                  refine g_istore hC dX0_home_255 (by decide) rfl rfl ?_
                  refine g_sub [true, true, false, true, true, true, true, true, false] rfl ?_
                  exact s_257 (wx_X0_home_154 Q n) ih S24 a0 a1 a3 a4 a5 a7 a7 h
                · have h := it_n c h
                  refine g_ldc (v := -1000000) hC dX0_home_250 q944 ?_
                  refine gX_iret rfl hC hA hQ dX0_home_252 h
              · have h := it_n c h
                refine g_goto (tgt := 257) hC dX0_home_240 (by decide) ?_
                refine g_sub [true, true, false, true, true, true, true, true, false] rfl ?_
                exact s_257 (wx_X0_home_154 Q n) ih S24 a0 a1 a3 a4 a5 a6 a7 h
  have s_116 : ∀ (S : XS) (a0 : Option Nat) (a1 : Int32) (a3 : Int32) (a4 : Int32), wx_X0_home_116 Q  S a0 a1 a3 a4 → GX E C S 0 0 116 [some (va_rf a0), some (.int a1), none, some (.int a3), some (.int a4), none, none, none, none] [] := by
    intro  S a0 a1 a3 a4 h
    refine g_iload_n hC dX0_home_116 rfl ?_
    refine g_ldc (v := -1000000) hC dX0_home_117 q944 ?_
    refine g_icmp_eq (tgt := 135) hC dX0_home_119 (by decide) (fun c => ?_) (fun c => ?_)
    · have h := it_p c h
      refine g_ldc (v := -1000000) hC dX0_home_135 q944 ?_
      refine gX_iret rfl hC hA hQ dX0_home_137 h
    · have h := it_n c h
      refine g_iload hC dX0_home_122 rfl ?_
      refine g_ldc (v := -1000000) hC dX0_home_124 q944 ?_
      refine g_icmp_eq (tgt := 135) hC dX0_home_126 (by decide) (fun c => ?_) (fun c => ?_)
      · have h := it_p c h
        refine g_ldc (v := -1000000) hC dX0_home_135 q944 ?_
        refine gX_iret rfl hC hA hQ dX0_home_137 h
      · have h := it_n c h
        refine g_iload_n hC dX0_home_129 rfl ?_
        refine g_iload hC dX0_home_130 rfl ?_
        refine g_icmp_ne (tgt := 138) hC dX0_home_132 (by decide) (fun c => ?_) (fun c => ?_)
        · have h := it_n c h
          refine g_aload_nR hC dX0_home_138 rfl ?_
          refine g_sipush (v := 364) hC dX0_home_139 (by decide) ?_
          obtain ⟨u11, eu11, h⟩ := h
          refine g_top1 eu11 ?_
          have hk12 := h.1
          refine gX_ni hX (gX_runV (As := [.int (364 : Int32)]) (rest := []) (Cr := RX0) hC hX (mx_X0_held (cx_l C) E _ _ _ _ h.2) (lw_V q974 q976 qs20 q70 q977) hx_X0_held rfl rfl (Or.inl (Nat.le_of_ble_eq_true rfl)) ⟨Nat.le_of_ble_eq_true rfl, Nat.le_of_ble_eq_true rfl⟩ dX0_home_142 (Nat.zero_le _) (Nat.zero_le _) hk12 rfl (by decide) rfl) rfl rfl ?_
          intro r14 S13 h
          refine g_istore hC dX0_home_145 (by decide) rfl rfl ?_
          refine g_ldc (v := -1000000) hC dX0_home_147 q944 ?_
          refine g_istore hC dX0_home_149 (by decide) rfl rfl ?_
          refine g_iconst (v := 0) hC dX0_home_151 (by decide) ?_
          refine g_istore hC dX0_home_152 (by decide) rfl rfl ?_
          obtain ⟨n0, h0⟩ := h
          exact s_154 n0 S13 a0 a1 a3 a4 r14 (-1000000 : Int32) (0 : Int32) h0
        · have h := it_p c h
          refine g_ldc (v := -1000000) hC dX0_home_135 q944 ?_
          refine gX_iret rfl hC hA hQ dX0_home_137 h
  have s_110 : ∀ (K32 : XS → Option Nat → Int32 → Int32 → Int32 → Int32 → Int32 → Prop) (hK32 : ∀ (S : XS) (b0 : Option Nat) (b1 : Int32) (b2 : Int32) (b3 : Int32) (b4 : Int32) (b5 : Int32), K32 S b0 b1 b2 b3 b4 b5 → GX E C S 0 0 32 [some (va_rf b0), some (.int b1), some (.int b2), some (.int b3), some (.int b4), some (.int b5), none, none, none] []) (S : XS) (a0 : Option Nat) (a1 : Int32) (a2 : Int32) (a3 : Int32) (a4 : Int32) (a5 : Int32), wx_X0_home_110 Q K32 S a0 a1 a2 a3 a4 a5 → GX E C S 0 0 110 [some (va_rf a0), some (.int a1), some (.int a2), some (.int a3), some (.int a4), some (.int a5), none, none, none] [] := by
    intro K32 hK32 S a0 a1 a2 a3 a4 a5 h
    refine g_iinc (v := (a5 + (1 : Int32))) hC dX0_home_110 rfl rfl (by decide) rfl rfl ?_
    refine g_goto (tgt := 32) hC dX0_home_113 (by decide) ?_
    exact hK32 S a0 a1 a2 a3 a4 (a5 + (1 : Int32)) h
  have s_32 : ∀ (n : Nat) (S : XS) (a0 : Option Nat) (a1 : Int32) (a2 : Int32) (a3 : Int32) (a4 : Int32) (a5 : Int32), wx_X0_home_32 Q  n S a0 a1 a2 a3 a4 a5 → GX E C S 0 0 32 [some (va_rf a0), some (.int a1), some (.int a2), some (.int a3), some (.int a4), some (.int a5), none, none, none] [] := by
    intro  n
    induction n with
    | zero =>
      intro S a0 a1 a2 a3 a4 a5 h
      exact False.elim h
    | succ n ih =>
      intro S a0 a1 a2 a3 a4 a5 h
      refine g_iload hC dX0_home_32 rfl ?_
      refine g_aload_nR hC dX0_home_34 rfl ?_
      obtain ⟨u5, eu5, h⟩ := h
      refine g_top0 eu5 ?_
      have hk6 := h.1
      refine gX_get (C0 := RX0) (T := TX0) (N := 15) (n := 0) (k := 5) (q := (5, true)) hC hX dX0_home_35 q216 rfl in_X0 (by decide) (Or.inl rfl) rfl (by decide) hk6 ?_
      show GX _ _ _ _ _ _ _ (va_rf (xFR S 5 u5) :: _)
      obtain ⟨u7, eu7, h⟩ := h.2
      refine g_top0 eu7 ?_
      have hk8 := h.1
      refine gX_ni5 hX (gX_runF (n := 0) (As := []) (rest := [.int a5]) (Cr := "java/util/ArrayList") (x := ⟨"java/util/List", "size", "()I"⟩) hC hX (mx_J2_size (cx_l C) E _ _ _ h.2) (lw_app (lw_4 q770 q774 q776 q73) (lw_meth q778)) (List.mem_of_getElem? (i := 0) rfl) (by decide +kernel) rfl rfl (Or.inl (Nat.le_of_ble_eq_true rfl)) ⟨Nat.le_of_ble_eq_true rfl, Nat.le_of_ble_eq_true rfl⟩ dX0_home_38 (Nat.zero_le _) (Nat.zero_le _) hk8 rfl (by decide) rfl) rfl rfl ?_
      intro r10 S9 h
      refine g_icmp_ge (tgt := 116) hC dX0_home_43 (by decide) (fun c => ?_) (fun c => ?_)
      · have h := it_p c h
        refine g_sub [true, true, false, true, true, false, false, false, false] rfl ?_
        exact s_116 S9 a0 a1 a3 a4 h
      · have h := it_n c h
        refine g_iload hC dX0_home_46 rfl ?_
        refine g_ldc (v := -1000000) hC dX0_home_48 q944 ?_
        refine g_icmp_ne (tgt := 116) hC dX0_home_50 (by decide) (fun c => ?_) (fun c => ?_)
        · have h := it_n c h
          refine g_sub [true, true, false, true, true, false, false, false, false] rfl ?_
          exact s_116 S9 a0 a1 a3 a4 h
        · have h := it_p c h
          refine g_aload_nR hC dX0_home_53 rfl ?_
          refine g_top0 eu5 ?_
          have hk29 := h.1
          refine gX_get (C0 := RX0) (T := TX0) (N := 15) (n := 0) (k := 5) (q := (5, true)) hC hX dX0_home_54 q216 rfl in_X0 (by decide) (Or.inl rfl) rfl (by decide) hk29 ?_
          show GX _ _ _ _ _ _ _ (va_rf (xFR S9 5 u5) :: _)
          refine g_iload hC dX0_home_57 rfl ?_
          obtain ⟨u30, eu30, h⟩ := h.2
          refine g_top1 eu30 ?_
          have hk31 := h.1
          refine gX_nq5 hX (gX_runF (n := 1) (As := [.int a5]) (rest := []) (Cr := "java/util/ArrayList") (x := ⟨"java/util/List", "get", "(I)Ljava/lang/Object;"⟩) hC hX (mx_J2_get (cx_l C) E _ _ _ _ h.2) (lw_app (lw_4 q928 q931 q933 q73) (lw_meth q935)) (List.mem_of_getElem? (i := 2) rfl) (by decide +kernel) rfl rfl (Or.inl (Nat.le_of_ble_eq_true rfl)) ⟨Nat.le_of_ble_eq_true rfl, Nat.le_of_ble_eq_true rfl⟩ dX0_home_59 (Nat.zero_le _) (Nat.zero_le _) hk31 rfl (by decide) rfl) rfl rfl ?_
          intro r33 S32 h
          obtain ⟨u34, eu34, h⟩ := h
          refine g_top0 eu34 ?_
          have hk35 := h.1
          refine gX_cast (r := (RX10, TX10, 4)) (n := 9) hC hX dX0_home_64 q1089 rfl (by decide) hk35 ?_
          refine g_astoreR hC dX0_home_67 (by decide) rfl rfl ?_
          refine g_aloadR hC dX0_home_69 rfl ?_
          refine gX_get (C0 := RX10) (T := TX10) (N := 4) (n := 9) (k := 0) (q := (900, false)) hC hX dX0_home_71 q1096 rfl in_X10 (by decide) (Or.inl rfl) rfl (by decide) hk35 ?_
          show GX _ _ _ _ _ _ _ (.int (xFI S32 900 u34) :: _)
          refine g_iload_n hC dX0_home_74 rfl ?_
          refine g_icmp_eq (tgt := 81) hC dX0_home_75 (by decide) (fun c => ?_) (fun c => ?_)
          · have h := it_p c h.2
            refine g_aloadR hC dX0_home_81 rfl ?_
            refine gX_get (C0 := RX10) (T := TX10) (N := 4) (n := 9) (k := 2) (q := (902, false)) hC hX dX0_home_83 q1100 rfl in_X10 (by decide) (Or.inl rfl) rfl (by decide) hk35 ?_
            show GX _ _ _ _ _ _ _ (.int (xFI S32 902 u34) :: _)
            refine g_iload_n hC dX0_home_86 rfl ?_
            refine g_ishr hC dX0_home_87 ?_
            refine g_iconst (v := 1) hC dX0_home_88 (by decide) ?_
            refine g_iand hC dX0_home_89 ?_
            refine g_iconst (v := 1) hC dX0_home_90 (by decide) ?_
            refine g_icmp_ne (tgt := 104) hC dX0_home_91 (by decide) (fun c => ?_) (fun c => ?_)
            · have h := it_n c h
              refine g_aloadR hC dX0_home_104 rfl ?_
              refine gX_get (C0 := RX10) (T := TX10) (N := 4) (n := 9) (k := 1) (q := (901, false)) hC hX dX0_home_106 q1098 rfl in_X10 (by decide) (Or.inl rfl) rfl (by decide) hk35 ?_
              show GX _ _ _ _ _ _ _ (.int (xFI S32 901 u34) :: _)
              refine g_istore_n hC dX0_home_109 rfl (by decide) rfl rfl ?_
              refine g_sub [true, true, true, true, true, true, false, false, false] rfl ?_
              exact s_110 (wx_X0_home_32 Q n) ih S32 a0 a1 a2 (xFI S32 901 u34) a4 a5 h
            · have h := it_p c h
              refine g_aloadR hC dX0_home_94 rfl ?_
              refine gX_get (C0 := RX10) (T := TX10) (N := 4) (n := 9) (k := 1) (q := (901, false)) hC hX dX0_home_96 q1098 rfl in_X10 (by decide) (Or.inl rfl) rfl (by decide) hk35 ?_
              show GX _ _ _ _ _ _ _ (.int (xFI S32 901 u34) :: _)
              refine g_istore hC dX0_home_99 (by decide) rfl rfl ?_
              refine g_sub [true, true, true, true, true, true, false, false, false] rfl ?_
              refine g_goto (tgt := 110) hC dX0_home_101 (by decide) ?_
              exact s_110 (wx_X0_home_32 Q n) ih S32 a0 a1 a2 a3 (xFI S32 901 u34) a5 h
          · have h := it_n c h.2
            refine g_goto (tgt := 110) hC dX0_home_78 (by decide) ?_
            refine g_sub [true, true, true, true, true, true, false, false, false] rfl ?_
            exact s_110 (wx_X0_home_32 Q n) ih S32 a0 a1 a2 a3 a4 a5 h
  refine g_iload_n hC dX0_home_0 rfl ?_
  refine gX_ni hX (gX_runS (As := [.int x1]) (rest := []) hC hX (mx_X0_isHall (cx_l C) E _ _ _ h) (lw_S q752 q753 q70 q754) hx_X0_isHall.2 rfl rfl (Or.inl (Nat.le_of_ble_eq_true rfl)) ⟨Nat.le_of_ble_eq_true rfl, Nat.le_of_ble_eq_true rfl⟩ dX0_home_1 (Nat.zero_le _) (Nat.zero_le _)) rfl rfl ?_
  intro r2 S1 h
  refine g_if_eq (tgt := 19) hC dX0_home_4 (by decide) (fun c => ?_) (fun c => ?_)
  · have h := it_p c h
    refine g_ldc (v := -1000001) hC dX0_home_19 q273 ?_
    refine gX_iret rfl hC hA hQ dX0_home_21 h
  · have h := it_n c h
    refine g_iload_n hC dX0_home_7 rfl ?_
    refine g_i2l hC dX0_home_8 ?_
    refine g_lconst (v := 0) hC dX0_home_9 (by decide) ?_
    refine g_ldc2 (v := 7) hC dX0_home_10 q268 ?_
    refine gX_ni hX (gX_runS (As := [.long (Int32.toInt64 x2), .long (0 : Int64), .long (7 : Int64)]) (rest := []) hC hX (mx_X0_isIn (cx_l C) E _ _ _ _ _ h) (lw_S q269 q270 q70 q271) hx_X0_isIn.2 rfl rfl (Or.inl (Nat.le_of_ble_eq_true rfl)) ⟨Nat.le_of_ble_eq_true rfl, Nat.le_of_ble_eq_true rfl⟩ dX0_home_13 (Nat.zero_le _) (Nat.zero_le _)) rfl rfl ?_
    intro r4 S3 h
    refine g_if_ne (tgt := 22) hC dX0_home_16 (by decide) (fun c => ?_) (fun c => ?_)
    · have h := it_n c h
      refine g_ldc (v := -1000000) hC dX0_home_22 q944 ?_
      refine g_istore_n hC dX0_home_24 rfl (by decide) rfl rfl ?_
      refine g_ldc (v := -1000000) hC dX0_home_25 q944 ?_
      refine g_istore hC dX0_home_27 (by decide) rfl rfl ?_
      refine g_iconst (v := 0) hC dX0_home_29 (by decide) ?_
      refine g_istore hC dX0_home_30 (by decide) rfl rfl ?_
      obtain ⟨n0, h0⟩ := h
      exact s_32 n0 S3 x0 x1 x2 (-1000000 : Int32) (-1000000 : Int32) (0 : Int32) h0
    · have h := it_p c h
      refine g_ldc (v := -1000001) hC dX0_home_19 q273 ?_
      refine gX_iret rfl hC hA hQ dX0_home_21 h
theorem mx_X0_home (l : Launch) (E : XE) (Q : Int32 → XS → Prop) (S : XS) (x0 : Option Nat) (x1 : Int32) (x2 : Int32) (h : wx_X0_home Q S x0 x1 x2) : XMet E l yX0_home cX0_home 9 (some .int) ({ frames := 6, cells := 0, slots := 0, locals := 148 } : Room) [va_rf x0, .int x1, .int x2] S (fun sz => va_Qi Q (BX1 E S sz) (xA S sz)) :=
  XMet_of (rm := ({ frames := 6, cells := 0, slots := 0, locals := 148 } : Room)) (by decide) (by simp [lg_sl, va_rf_cat, cat_i, cat_l]) (L0 := [some (va_rf x0), some (.int x1), some (.int x2), none, none, none, none, none, none]) (by simp [lx_pairs, lv_args, va_rf_cat, cat_i, cat_l, List.range_succ]) (fun sz C hC hX hl hnm hA hQ => bx_X0_home E C S sz Q S x0 x1 x2 hC hX hA hQ h)
