/-! X0_look -/
def wx_X0_look (Q : Int32 → XS → Prop) (mc ms : Nat) (S : XS) (x0 : Option Nat) (x1 : Int32) (x2 : Int32) (x3 : Int32) (x4 : Int32) : Prop :=
  wx_X0_isTime (fun r2 S1 => (if r2 = 0 then Q (-1000001 : Int32) S1 else wx_X0_isIn (fun r4 S3 => (if r4 = 0 then Q (-1000001 : Int32) S3 else dr x0 (fun u5 => xKD S3 u5 = some 0 ∧ dr (xFR S3 5 u5) (fun u7 => xKD S3 u7 = some 16 ∧ wx_J2_size (fun r10 S9 => (if r10 = (40 : Int32) then Q (-1000003 : Int32) S9 else xKD S9 u5 = some 0 ∧ 1 ≤ mc ∧ 4 ≤ ms ∧ (∀ q12 : Nat, xKD S9 q12 = none → wx_X10_init (fun S16 => (∃ k18 n19, k18 ≤ (mc - 1) ∧ n19 ≤ (ms - 4) ∧ wx_X0_come (fun r21 S20 => Q r21 S20) k18 n19 S16 (xFR S9 5 u5) (some q12))) (sNew S9 q12 9) (some q12) x1 (((96 : Int32) * x2) + x3) x4 (0 : Int32)))) S3 (some u7))))) S1 (Int32.toInt64 x4) (0 : Int64) (255 : Int64))) S x1 x2 x3 (95 : Int32)
theorem hx_X0_look : yX0_look.cls = RX0 ∧ yX0_look.cls ≠ "java/lang/invoke/MethodHandle" ∧ yX0_look.cls ≠ "java/lang/invoke/VarHandle" ∧ (parseMethodDescriptor yX0_look.desc).map (fun d => d.parameters.length) = some 4 := by decide +kernel
set_option maxHeartbeats 4000000 in
set_option maxRecDepth 100000 in
theorem bx_X0_look (E : XE) (C : Cx) (S0 : XS) (sz : Nat) (Q : Int32 → XS → Prop) (mc ms : Nat) (S : XS) (x0 : Option Nat) (x1 : Int32) (x2 : Int32) (x3 : Int32) (x4 : Int32) (hC : COk C cX0_look RX0 (some .int) 7 167 5) (hX : XOk E C) (hA : cx_A C = xA S0 sz) (hQ : cx_Q C = MQ (cx_b C) (va_Qi Q (BX1 E S0 sz) (xA S0 sz)) (cx_a C) (cx_s C) (cx_MC C) (cx_MS C) (xA S0 sz)) (h : wx_X0_look Q mc ms S x0 x1 x2 x3 x4) : GX E C S mc ms 0 [some (va_rf x0), some (.int x1), some (.int x2), some (.int x3), some (.int x4)] [] := by
  refine g_iload_n hC dX0_look_0 rfl ?_
  refine g_iload_n hC dX0_look_1 rfl ?_
  refine g_iload_n hC dX0_look_2 rfl ?_
  refine g_bipush (v := 95) hC dX0_look_3 (by decide) ?_
  refine gX_ni hX (gX_runS (As := [.int x1, .int x2, .int x3, .int (95 : Int32)]) (rest := []) hC hX (mx_X0_isTime (cx_l C) E _ _ _ _ _ _ h) (lw_S q1085 q1086 q70 q1087) hx_X0_isTime.2 rfl rfl (Or.inl (Nat.le_of_ble_eq_true rfl)) ⟨Nat.le_of_ble_eq_true rfl, Nat.le_of_ble_eq_true rfl⟩ dX0_look_5 (Nat.zero_le _) (Nat.zero_le _)) rfl rfl ?_
  intro r2 S1 h
  refine g_if_eq (tgt := 24) hC dX0_look_8 (by decide) (fun c => ?_) (fun c => ?_)
  · have h := it_p c h
    refine g_ldc (v := -1000001) hC dX0_look_24 q273 ?_
    refine gX_iret rfl hC hA hQ dX0_look_26 h
  · have h := it_n c h
    refine g_iload hC dX0_look_11 rfl ?_
    refine g_i2l hC dX0_look_13 ?_
    refine g_lconst (v := 0) hC dX0_look_14 (by decide) ?_
    refine g_ldc2 (v := 255) hC dX0_look_15 q1258 ?_
    refine gX_ni hX (gX_runS (As := [.long (Int32.toInt64 x4), .long (0 : Int64), .long (255 : Int64)]) (rest := []) hC hX (mx_X0_isIn (cx_l C) E _ _ _ _ _ h) (lw_S q269 q270 q70 q271) hx_X0_isIn.2 rfl rfl (Or.inl (Nat.le_of_ble_eq_true rfl)) ⟨Nat.le_of_ble_eq_true rfl, Nat.le_of_ble_eq_true rfl⟩ dX0_look_18 (Nat.zero_le _) (Nat.zero_le _)) rfl rfl ?_
    intro r4 S3 h
    refine g_if_ne (tgt := 27) hC dX0_look_21 (by decide) (fun c => ?_) (fun c => ?_)
    · have h := it_n c h
      refine g_aload_nR hC dX0_look_27 rfl ?_
      obtain ⟨u5, eu5, h⟩ := h
      refine g_top0 eu5 ?_
      have hk6 := h.1
      refine gX_get (C0 := RX0) (T := TX0) (N := 15) (n := 0) (k := 5) (q := (5, true)) hC hX dX0_look_28 q216 rfl in_X0 (by decide) (Or.inl rfl) rfl (by decide) hk6 ?_
      show GX _ _ _ _ _ _ _ (va_rf (xFR S3 5 u5) :: _)
      obtain ⟨u7, eu7, h⟩ := h.2
      refine g_top0 eu7 ?_
      have hk8 := h.1
      refine gX_ni5 hX (gX_runF (n := 0) (As := []) (rest := []) (Cr := "java/util/ArrayList") (x := ⟨"java/util/List", "size", "()I"⟩) hC hX (mx_J2_size (cx_l C) E _ _ _ h.2) (lw_app (lw_4 q770 q774 q776 q73) (lw_meth q778)) (List.mem_of_getElem? (i := 0) rfl) (by decide +kernel) rfl rfl (Or.inl (Nat.le_of_ble_eq_true rfl)) ⟨Nat.le_of_ble_eq_true rfl, Nat.le_of_ble_eq_true rfl⟩ dX0_look_31 (Nat.zero_le _) (Nat.zero_le _) hk8 rfl (by decide) rfl) rfl rfl ?_
      intro r10 S9 h
      refine g_bipush (v := 40) hC dX0_look_36 (by decide) ?_
      refine g_icmp_ne (tgt := 46) hC dX0_look_38 (by decide) (fun c => ?_) (fun c => ?_)
      · have h := it_n c h
        refine g_aload_nR hC dX0_look_46 rfl ?_
        refine g_top0 eu5 ?_
        have hk11 := h.1
        refine gX_get (C0 := RX0) (T := TX0) (N := 15) (n := 0) (k := 5) (q := (5, true)) hC hX dX0_look_47 q216 rfl in_X0 (by decide) (Or.inl rfl) rfl (by decide) hk11 ?_
        show GX _ _ _ _ _ _ _ (va_rf (xFR S9 5 u5) :: _)
        refine gX_new (C0 := RX10) (T := TX10) (ty0 := tyX10) (N := 4) (n := 9) hC hX dX0_look_50 q1089 q1090 q101 rfl in_X10 tyX10_ok (by decide) dv_X10 h.2.1 h.2.2.1 ?_
        intro q12 hq13
        have h := h.2.2.2 q12 hq13
        have hk14 := kd_new (q := q12) (n := 9) hk11 hq13
        have hk15 : xKD (sNew S9 q12 9) q12 = some 9 := kd_self
        refine g_dup hC dX0_look_53 (va_rf_cat _) ?_
        refine g_iload_n hC dX0_look_54 rfl ?_
        refine g_bipush (v := 96) hC dX0_look_55 (by decide) ?_
        refine g_iload_n hC dX0_look_57 rfl ?_
        refine g_imul hC dX0_look_58 ?_
        refine g_iload_n hC dX0_look_59 rfl ?_
        refine g_iadd hC dX0_look_60 ?_
        refine g_iload hC dX0_look_61 rfl ?_
        refine g_iconst (v := 0) hC dX0_look_63 (by decide) ?_
        refine gX_nv hX (gX_runI (As := [.int x1, .int (((96 : Int32) * x2) + x3), .int x4, .int (0 : Int32)]) (rest := [va_rf (some q12), va_rf (xFR S9 5 u5)]) hC hX (mx_X10_init (cx_l C) E _ _ _ _ _ _ _ h) q1093 q101 q1091 q1092 rfl hx_X10_init.2 rfl rfl (Or.inl (Nat.le_of_ble_eq_true rfl)) ⟨Nat.le_of_ble_eq_true rfl, Nat.le_of_ble_eq_true rfl⟩ dX0_look_64 (Nat.zero_le _) (Nat.zero_le _)) rfl rfl ?_
        intro S16 h
        obtain ⟨k18, n19, hk18, hn19, h⟩ := h
        refine gX_ci hX (gX_runS (As := [va_rf (xFR S9 5 u5), va_rf (some q12)]) (rest := []) hC hX (mx_X0_come (cx_l C) E k18 n19 _ _ _ _ h) (lw_S q1112 q1113 q70 q1114) hx_X0_come.2 rfl rfl (Or.inl (Nat.le_of_ble_eq_true rfl)) ⟨Nat.le_of_ble_eq_true rfl, Nat.le_of_ble_eq_true rfl⟩ dX0_look_67 hk18 hn19) hk18 hn19 ?_
        intro r21 S20 h
        refine gX_iret rfl hC hA hQ dX0_look_70 h
      · have h := it_p c h
        refine g_ldc (v := -1000003) hC dX0_look_41 q428 ?_
        refine g_goto (tgt := 70) hC dX0_look_43 (by decide) ?_
        refine gX_iret rfl hC hA hQ dX0_look_70 h
    · have h := it_p c h
      refine g_ldc (v := -1000001) hC dX0_look_24 q273 ?_
      refine gX_iret rfl hC hA hQ dX0_look_26 h
theorem mx_X0_look (l : Launch) (E : XE) (mc ms : Nat) (Q : Int32 → XS → Prop) (S : XS) (x0 : Option Nat) (x1 : Int32) (x2 : Int32) (x3 : Int32) (x4 : Int32) (h : wx_X0_look Q mc ms S x0 x1 x2 x3 x4) : XMet E l yX0_look cX0_look 5 (some .int) ({ frames := 7, cells := mc, slots := ms, locals := 167 } : Room) [va_rf x0, .int x1, .int x2, .int x3, .int x4] S (fun sz => va_Qi Q (BX1 E S sz) (xA S sz)) :=
  XMet_of (rm := ({ frames := 7, cells := mc, slots := ms, locals := 167 } : Room)) (by decide) (by simp [lg_sl, va_rf_cat, cat_i, cat_l]) (L0 := [some (va_rf x0), some (.int x1), some (.int x2), some (.int x3), some (.int x4)]) (by simp [lx_pairs, lv_args, va_rf_cat, cat_i, cat_l, List.range_succ]) (fun sz C hC hX hl hnm hA hQ => bx_X0_look E C S sz Q mc ms S x0 x1 x2 x3 x4 hC hX hA hQ h)
/-! X0_home -/
def wx_X0_home_257 (Q : Int32 → XS → Prop) (K154 : XS → Option Nat → Int32 → Int32 → Int32 → Int32 → Int32 → Int32 → Prop) (S : XS) (a0 : Option Nat) (a1 : Int32) (a3 : Int32) (a4 : Int32) (a5 : Int32) (a6 : Int32) (a7 : Int32) : Prop :=
  K154 S a0 a1 a3 a4 a5 a6 (a7 + (1 : Int32))
def wx_X0_home_154 (Q : Int32 → XS → Prop) : Nat → XS → Option Nat → Int32 → Int32 → Int32 → Int32 → Int32 → Int32 → Prop
  | 0, _, _, _, _, _, _, _, _ => False
  | n + 1, S, a0, a1, a3, a4, a5, a6, a7 => dr a0 (fun u15 => xKD S u15 = some 0 ∧ dr (xFR S 2 u15) (fun u17 => xKD S u17 = some 16 ∧ wx_J2_size (fun r20 S19 => (if r20 ≤ a7 then Q a6 S19 else xKD S19 u15 = some 0 ∧ dr (xFR S19 2 u15) (fun u22 => xKD S19 u22 = some 16 ∧ wx_J2_get (fun r25 S24 => dr r25 (fun u26 => xKD S24 u26 = some 7 ∧ (if ((a5 >>> (a7 &&& 31)) &&& (1 : Int32)) = 0 then wx_X0_home_257 Q (wx_X0_home_154 Q n) S24 a0 a1 a3 a4 a5 a6 a7 else (if (xFI S24 701 u26) = a1 then (if a4 ≤ (((96 : Int32) * (xFI S24 703 u26)) + (xFI S24 704 u26)) then wx_X0_home_257 Q (wx_X0_home_154 Q n) S24 a0 a1 a3 a4 a5 a6 a7 else (if a3 < (((96 : Int32) * (xFI S24 703 u26)) + (xFI S24 705 u26)) then (if a6 = (-1000000 : Int32) then wx_X0_home_257 Q (wx_X0_home_154 Q n) S24 a0 a1 a3 a4 a5 a7 a7 else Q (-1000000 : Int32) S24) else wx_X0_home_257 Q (wx_X0_home_154 Q n) S24 a0 a1 a3 a4 a5 a6 a7)) else wx_X0_home_257 Q (wx_X0_home_154 Q n) S24 a0 a1 a3 a4 a5 a6 a7)))) S19 (some u22) a7))) S (some u17)))
def wx_X0_home_116 (Q : Int32 → XS → Prop) (S : XS) (a0 : Option Nat) (a1 : Int32) (a3 : Int32) (a4 : Int32) : Prop :=
  (if a3 = (-1000000 : Int32) then Q (-1000000 : Int32) S else (if a4 = (-1000000 : Int32) then Q (-1000000 : Int32) S else (if a3 = a4 then Q (-1000000 : Int32) S else dr a0 (fun u11 => xKD S u11 = some 0 ∧ wx_X0_held (fun r14 S13 => ∃ n28, wx_X0_home_154 Q n28 S13 a0 a1 a3 a4 r14 (-1000000 : Int32) (0 : Int32)) S (some u11) (364 : Int32)))))
def wx_X0_home_110 (Q : Int32 → XS → Prop) (K32 : XS → Option Nat → Int32 → Int32 → Int32 → Int32 → Int32 → Prop) (S : XS) (a0 : Option Nat) (a1 : Int32) (a2 : Int32) (a3 : Int32) (a4 : Int32) (a5 : Int32) : Prop :=
  K32 S a0 a1 a2 a3 a4 (a5 + (1 : Int32))
def wx_X0_home_32 (Q : Int32 → XS → Prop) : Nat → XS → Option Nat → Int32 → Int32 → Int32 → Int32 → Int32 → Prop
  | 0, _, _, _, _, _, _, _ => False
  | n + 1, S, a0, a1, a2, a3, a4, a5 => dr a0 (fun u5 => xKD S u5 = some 0 ∧ dr (xFR S 5 u5) (fun u7 => xKD S u7 = some 16 ∧ wx_J2_size (fun r10 S9 => (if r10 ≤ a5 then wx_X0_home_116 Q S9 a0 a1 a3 a4 else (if a4 = (-1000000 : Int32) then xKD S9 u5 = some 0 ∧ dr (xFR S9 5 u5) (fun u30 => xKD S9 u30 = some 16 ∧ wx_J2_get (fun r33 S32 => dr r33 (fun u34 => xKD S32 u34 = some 9 ∧ (if (xFI S32 900 u34) = a1 then (if (((xFI S32 902 u34) >>> (a2 &&& 31)) &&& (1 : Int32)) = (1 : Int32) then wx_X0_home_110 Q (wx_X0_home_32 Q n) S32 a0 a1 a2 a3 (xFI S32 901 u34) a5 else wx_X0_home_110 Q (wx_X0_home_32 Q n) S32 a0 a1 a2 (xFI S32 901 u34) a4 a5) else wx_X0_home_110 Q (wx_X0_home_32 Q n) S32 a0 a1 a2 a3 a4 a5))) S9 (some u30) a5) else wx_X0_home_116 Q S9 a0 a1 a3 a4))) S (some u7)))
def wx_X0_home (Q : Int32 → XS → Prop) (S : XS) (x0 : Option Nat) (x1 : Int32) (x2 : Int32) : Prop :=
  wx_X0_isHall (fun r2 S1 => (if r2 = 0 then Q (-1000001 : Int32) S1 else wx_X0_isIn (fun r4 S3 => (if r4 = 0 then Q (-1000001 : Int32) S3 else ∃ n36, wx_X0_home_32 Q n36 S3 x0 x1 x2 (-1000000 : Int32) (-1000000 : Int32) (0 : Int32))) S1 (Int32.toInt64 x2) (0 : Int64) (7 : Int64))) S x1
theorem hx_X0_home : yX0_home.cls = RX0 ∧ yX0_home.cls ≠ "java/lang/invoke/MethodHandle" ∧ yX0_home.cls ≠ "java/lang/invoke/VarHandle" ∧ (parseMethodDescriptor yX0_home.desc).map (fun d => d.parameters.length) = some 2 := by decide +kernel
set_option maxHeartbeats 4000000 in
set_option maxRecDepth 100000 in
theorem bx_X0_home (E : XE) (C : Cx) (S0 : XS) (sz : Nat) (Q : Int32 → XS → Prop) (S : XS) (x0 : Option Nat) (x1 : Int32) (x2 : Int32) (hC : COk C cX0_home RX0 (some .int) 6 148 9) (hX : XOk E C) (hA : cx_A C = xA S0 sz) (hQ : cx_Q C = MQ (cx_b C) (va_Qi Q (BX1 E S0 sz) (xA S0 sz)) (cx_a C) (cx_s C) (cx_MC C) (cx_MS C) (xA S0 sz)) (h : wx_X0_home Q S x0 x1 x2) : GX E C S 0 0 0 [some (va_rf x0), some (.int x1), some (.int x2), none, none, none, none, none, none] [] := by
  have s_257 : ∀ (K154 : XS → Option Nat → Int32 → Int32 → Int32 → Int32 → Int32 → Int32 → Prop) (hK154 : ∀ (S : XS) (b0 : Option Nat) (b1 : Int32) (b3 : Int32) (b4 : Int32) (b5 : Int32) (b6 : Int32) (b7 : Int32), K154 S b0 b1 b3 b4 b5 b6 b7 → GX E C S 0 0 154 [some (va_rf b0), some (.int b1), none, some (.int b3), some (.int b4), some (.int b5), some (.int b6), some (.int b7), none] []) (S : XS) (a0 : Option Nat) (a1 : Int32) (a3 : Int32) (a4 : Int32) (a5 : Int32) (a6 : Int32) (a7 : Int32), wx_X0_home_257 Q K154 S a0 a1 a3 a4 a5 a6 a7 → GX E C S 0 0 257 [some (va_rf a0), some (.int a1), none, some (.int a3), some (.int a4), some (.int a5), some (.int a6), some (.int a7), none] [] := by
    intro K154 hK154 S a0 a1 a3 a4 a5 a6 a7 h
    refine g_iinc (v := (a7 + (1 : Int32))) hC dX0_home_257 rfl rfl (by decide) rfl rfl ?_
    refine g_goto (tgt := 154) hC dX0_home_260 (by decide) ?_
    exact hK154 S a0 a1 a3 a4 a5 a6 (a7 + (1 : Int32)) h
  have s_154 : ∀ (n : Nat) (S : XS) (a0 : Option Nat) (a1 : Int32) (a3 : Int32) (a4 : Int32) (a5 : Int32) (a6 : Int32) (a7 : Int32), wx_X0_home_154 Q  n S a0 a1 a3 a4 a5 a6 a7 → GX E C S 0 0 154 [some (va_rf a0), some (.int a1), none, some (.int a3), some (.int a4), some (.int a5), some (.int a6), some (.int a7), none] [] := by
    intro  n
    induction n with
    | zero =>
      intro S a0 a1 a3 a4 a5 a6 a7 h
      exact False.elim h
    | succ n ih =>
      intro S a0 a1 a3 a4 a5 a6 a7 h
      refine g_iload hC dX0_home_154 rfl ?_
      refine g_aload_nR hC dX0_home_156 rfl ?_
      obtain ⟨u15, eu15, h⟩ := h
      refine g_top0 eu15 ?_
      have hk16 := h.1
      refine gX_get (C0 := RX0) (T := TX0) (N := 15) (n := 0) (k := 2) (q := (2, true)) hC hX dX0_home_157 q213 rfl in_X0 (by decide) (Or.inl rfl) rfl (by decide) hk16 ?_
      show GX _ _ _ _ _ _ _ (va_rf (xFR S 2 u15) :: _)
      obtain ⟨u17, eu17, h⟩ := h.2
      refine g_top0 eu17 ?_
      have hk18 := h.1
      refine gX_ni5 hX (gX_runF (n := 0) (As := []) (rest := [.int a7]) (Cr := "java/util/ArrayList") (x := ⟨"java/util/List", "size", "()I"⟩) hC hX (mx_J2_size (cx_l C) E _ _ _ h.2) (lw_app (lw_4 q770 q774 q776 q73) (lw_meth q778)) (List.mem_of_getElem? (i := 0) rfl) (by decide +kernel) rfl rfl (Or.inl (Nat.le_of_ble_eq_true rfl)) ⟨Nat.le_of_ble_eq_true rfl, Nat.le_of_ble_eq_true rfl⟩ dX0_home_160 (Nat.zero_le _) (Nat.zero_le _) hk18 rfl (by decide) rfl) rfl rfl ?_
      intro r20 S19 h
      refine g_icmp_ge (tgt := 263) hC dX0_home_165 (by decide) (fun c => ?_) (fun c => ?_)
      · have h := it_p c h
        refine g_iload hC dX0_home_263 rfl ?_
        refine gX_iret rfl hC hA hQ dX0_home_265 h
      · have h := it_n c h
        refine g_aload_nR hC dX0_home_168 rfl ?_
        refine g_top0 eu15 ?_
        have hk21 := h.1
        refine gX_get (C0 := RX0) (T := TX0) (N := 15) (n := 0) (k := 2) (q := (2, true)) hC hX dX0_home_169 q213 rfl in_X0 (by decide) (Or.inl rfl) rfl (by decide) hk21 ?_
        show GX _ _ _ _ _ _ _ (va_rf (xFR S19 2 u15) :: _)
        refine g_iload hC dX0_home_172 rfl ?_
        obtain ⟨u22, eu22, h⟩ := h.2
        refine g_top1 eu22 ?_
        have hk23 := h.1
        refine gX_nq5 hX (gX_runF (n := 1) (As := [.int a7]) (rest := []) (Cr := "java/util/ArrayList") (x := ⟨"java/util/List", "get", "(I)Ljava/lang/Object;"⟩) hC hX (mx_J2_get (cx_l C) E _ _ _ _ h.2) (lw_app (lw_4 q928 q931 q933 q73) (lw_meth q935)) (List.mem_of_getElem? (i := 2) rfl) (by decide +kernel) rfl rfl (Or.inl (Nat.le_of_ble_eq_true rfl)) ⟨Nat.le_of_ble_eq_true rfl, Nat.le_of_ble_eq_true rfl⟩ dX0_home_174 (Nat.zero_le _) (Nat.zero_le _) hk23 rfl (by decide) rfl) rfl rfl ?_
        intro r25 S24 h
        obtain ⟨u26, eu26, h⟩ := h
        refine g_top0 eu26 ?_
        have hk27 := h.1
        refine gX_cast (r := (RX8, TX8, 11)) (n := 7) hC hX dX0_home_179 q164 rfl (by decide) hk27 ?_
        refine g_astoreR hC dX0_home_182 (by decide) rfl rfl ?_
        refine g_iload hC dX0_home_184 rfl ?_
        refine g_iload hC dX0_home_186 rfl ?_
        refine g_ishr hC dX0_home_188 ?_
        refine g_iconst (v := 1) hC dX0_home_189 (by decide) ?_
        refine g_iand hC dX0_home_190 ?_
        refine g_if_eq (tgt := 257) hC dX0_home_191 (by decide) (fun c => ?_) (fun c => ?_)
        · have h := it_p c h.2
          refine g_sub [true, true, false, true, true, true, true, true, false] rfl ?_
          exact s_257 (wx_X0_home_154 Q n) ih S24 a0 a1 a3 a4 a5 a6 a7 h
        · have h := it_n c h.2
          refine g_aloadR hC dX0_home_194 rfl ?_
          refine gX_get (C0 := RX8) (T := TX8) (N := 11) (n := 7) (k := 1) (q := (701, false)) hC hX dX0_home_196 q808 rfl in_X8 (by decide) (Or.inl rfl) rfl (by decide) hk27 ?_
          show GX _ _ _ _ _ _ _ (.int (xFI S24 701 u26) :: _)
          refine g_iload_n hC dX0_home_199 rfl ?_
          refine g_icmp_ne (tgt := 257) hC dX0_home_200 (by decide) (fun c => ?_) (fun c => ?_)
          · have h := it_n c h
            refine g_sub [true, true, false, true, true, true, true, true, false] rfl ?_
            exact s_257 (wx_X0_home_154 Q n) ih S24 a0 a1 a3 a4 a5 a6 a7 h
          · have h := it_p c h
            refine g_bipush (v := 96) hC dX0_home_203 (by decide) ?_
            refine g_aloadR hC dX0_home_205 rfl ?_
            refine gX_get (C0 := RX8) (T := TX8) (N := 11) (n := 7) (k := 3) (q := (703, false)) hC hX dX0_home_207 q815 rfl in_X8 (by decide) (Or.inl rfl) rfl (by decide) hk27 ?_
            show GX _ _ _ _ _ _ _ (.int (xFI S24 703 u26) :: _)
            refine g_imul hC dX0_home_210 ?_
            refine g_aloadR hC dX0_home_211 rfl ?_
            refine gX_get (C0 := RX8) (T := TX8) (N := 11) (n := 7) (k := 4) (q := (704, false)) hC hX dX0_home_213 q818 rfl in_X8 (by decide) (Or.inl rfl) rfl (by decide) hk27 ?_
            show GX _ _ _ _ _ _ _ (.int (xFI S24 704 u26) :: _)
            refine g_iadd hC dX0_home_216 ?_
            refine g_iload hC dX0_home_217 rfl ?_
            refine g_icmp_ge (tgt := 257) hC dX0_home_219 (by decide) (fun c => ?_) (fun c => ?_)
            · have h := it_p c h
              refine g_sub [true, true, false, true, true, true, true, true, false] rfl ?_
              exact s_257 (wx_X0_home_154 Q n) ih S24 a0 a1 a3 a4 a5 a6 a7 h
            · have h := it_n c h
              refine g_bipush (v := 96) hC dX0_home_222 (by decide) ?_
              refine g_aloadR hC dX0_home_224 rfl ?_
              refine gX_get (C0 := RX8) (T := TX8) (N := 11) (n := 7) (k := 3) (q := (703, false)) hC hX dX0_home_226 q815 rfl in_X8 (by decide) (Or.inl rfl) rfl (by decide) hk27 ?_
              show GX _ _ _ _ _ _ _ (.int (xFI S24 703 u26) :: _)
              refine g_imul hC dX0_home_229 ?_
              refine g_aloadR hC dX0_home_230 rfl ?_
              refine gX_get (C0 := RX8) (T := TX8) (N := 11) (n := 7) (k := 5) (q := (705, false)) hC hX dX0_home_232 q821 rfl in_X8 (by decide) (Or.inl rfl) rfl (by decide) hk27 ?_
              show GX _ _ _ _ _ _ _ (.int (xFI S24 705 u26) :: _)
              refine g_iadd hC dX0_home_235 ?_
              refine g_iload_n hC dX0_home_236 rfl ?_
              refine g_icmp_gt (tgt := 243) hC dX0_home_237 (by decide) (fun c => ?_) (fun c => ?_)
              · have h := it_p c h
                refine g_iload hC dX0_home_243 rfl ?_
                refine g_ldc (v := -1000000) hC dX0_home_245 q944 ?_
                refine g_icmp_eq (tgt := 253) hC dX0_home_247 (by decide) (fun c => ?_) (fun c => ?_)
                · have h := it_p c h
                  refine g_iload hC dX0_home_253 rfl ?_
                  refine g_istore hC dX0_home_255 (by decide) rfl rfl ?_
                  refine g_sub [true, true, false, true, true, true, true, true, false] rfl ?_
                  exact s_257 (wx_X0_home_154 Q n) ih S24 a0 a1 a3 a4 a5 a7 a7 h
                · have h := it_n c h
                  refine g_ldc (v := -1000000) hC dX0_home_250 q944 ?_
                  refine gX_iret rfl hC hA hQ dX0_home_252 h
              · have h := it_n c h
                refine g_goto (tgt := 257) hC dX0_home_240 (by decide) ?_
                refine g_sub [true, true, false, true, true, true, true, true, false] rfl ?_
                exact s_257 (wx_X0_home_154 Q n) ih S24 a0 a1 a3 a4 a5 a6 a7 h
  have s_116 : ∀ (S : XS) (a0 : Option Nat) (a1 : Int32) (a3 : Int32) (a4 : Int32), wx_X0_home_116 Q  S a0 a1 a3 a4 → GX E C S 0 0 116 [some (va_rf a0), some (.int a1), none, some (.int a3), some (.int a4), none, none, none, none] [] := by
    intro  S a0 a1 a3 a4 h
    refine g_iload_n hC dX0_home_116 rfl ?_
    refine g_ldc (v := -1000000) hC dX0_home_117 q944 ?_
    refine g_icmp_eq (tgt := 135) hC dX0_home_119 (by decide) (fun c => ?_) (fun c => ?_)
    · have h := it_p c h
      refine g_ldc (v := -1000000) hC dX0_home_135 q944 ?_
      refine gX_iret rfl hC hA hQ dX0_home_137 h
    · have h := it_n c h
      refine g_iload hC dX0_home_122 rfl ?_
      refine g_ldc (v := -1000000) hC dX0_home_124 q944 ?_
      refine g_icmp_eq (tgt := 135) hC dX0_home_126 (by decide) (fun c => ?_) (fun c => ?_)
      · have h := it_p c h
        refine g_ldc (v := -1000000) hC dX0_home_135 q944 ?_
        refine gX_iret rfl hC hA hQ dX0_home_137 h
      · have h := it_n c h
        refine g_iload_n hC dX0_home_129 rfl ?_
        refine g_iload hC dX0_home_130 rfl ?_
        refine g_icmp_ne (tgt := 138) hC dX0_home_132 (by decide) (fun c => ?_) (fun c => ?_)
        · have h := it_n c h
          refine g_aload_nR hC dX0_home_138 rfl ?_
          refine g_sipush (v := 364) hC dX0_home_139 (by decide) ?_
          obtain ⟨u11, eu11, h⟩ := h
          refine g_top1 eu11 ?_
          have hk12 := h.1
          refine gX_ni hX (gX_runV (As := [.int (364 : Int32)]) (rest := []) (Cr := RX0) hC hX (mx_X0_held (cx_l C) E _ _ _ _ h.2) (lw_V q974 q976 qs20 q70 q977) hx_X0_held rfl rfl (Or.inl (Nat.le_of_ble_eq_true rfl)) ⟨Nat.le_of_ble_eq_true rfl, Nat.le_of_ble_eq_true rfl⟩ dX0_home_142 (Nat.zero_le _) (Nat.zero_le _) hk12 rfl (by decide) rfl) rfl rfl ?_
          intro r14 S13 h
          refine g_istore hC dX0_home_145 (by decide) rfl rfl ?_
          refine g_ldc (v := -1000000) hC dX0_home_147 q944 ?_
          refine g_istore hC dX0_home_149 (by decide) rfl rfl ?_
          refine g_iconst (v := 0) hC dX0_home_151 (by decide) ?_
          refine g_istore hC dX0_home_152 (by decide) rfl rfl ?_
          obtain ⟨n0, h0⟩ := h
          exact s_154 n0 S13 a0 a1 a3 a4 r14 (-1000000 : Int32) (0 : Int32) h0
        · have h := it_p c h
          refine g_ldc (v := -1000000) hC dX0_home_135 q944 ?_
          refine gX_iret rfl hC hA hQ dX0_home_137 h
  have s_110 : ∀ (K32 : XS → Option Nat → Int32 → Int32 → Int32 → Int32 → Int32 → Prop) (hK32 : ∀ (S : XS) (b0 : Option Nat) (b1 : Int32) (b2 : Int32) (b3 : Int32) (b4 : Int32) (b5 : Int32), K32 S b0 b1 b2 b3 b4 b5 → GX E C S 0 0 32 [some (va_rf b0), some (.int b1), some (.int b2), some (.int b3), some (.int b4), some (.int b5), none, none, none] []) (S : XS) (a0 : Option Nat) (a1 : Int32) (a2 : Int32) (a3 : Int32) (a4 : Int32) (a5 : Int32), wx_X0_home_110 Q K32 S a0 a1 a2 a3 a4 a5 → GX E C S 0 0 110 [some (va_rf a0), some (.int a1), some (.int a2), some (.int a3), some (.int a4), some (.int a5), none, none, none] [] := by
    intro K32 hK32 S a0 a1 a2 a3 a4 a5 h
    refine g_iinc (v := (a5 + (1 : Int32))) hC dX0_home_110 rfl rfl (by decide) rfl rfl ?_
    refine g_goto (tgt := 32) hC dX0_home_113 (by decide) ?_
    exact hK32 S a0 a1 a2 a3 a4 (a5 + (1 : Int32)) h
  have s_32 : ∀ (n : Nat) (S : XS) (a0 : Option Nat) (a1 : Int32) (a2 : Int32) (a3 : Int32) (a4 : Int32) (a5 : Int32), wx_X0_home_32 Q  n S a0 a1 a2 a3 a4 a5 → GX E C S 0 0 32 [some (va_rf a0), some (.int a1), some (.int a2), some (.int a3), some (.int a4), some (.int a5), none, none, none] [] := by
    intro  n
    induction n with
    | zero =>
      intro S a0 a1 a2 a3 a4 a5 h
      exact False.elim h
    | succ n ih =>
      intro S a0 a1 a2 a3 a4 a5 h
      refine g_iload hC dX0_home_32 rfl ?_
      refine g_aload_nR hC dX0_home_34 rfl ?_
      obtain ⟨u5, eu5, h⟩ := h
      refine g_top0 eu5 ?_
      have hk6 := h.1
      refine gX_get (C0 := RX0) (T := TX0) (N := 15) (n := 0) (k := 5) (q := (5, true)) hC hX dX0_home_35 q216 rfl in_X0 (by decide) (Or.inl rfl) rfl (by decide) hk6 ?_
      show GX _ _ _ _ _ _ _ (va_rf (xFR S 5 u5) :: _)
      obtain ⟨u7, eu7, h⟩ := h.2
      refine g_top0 eu7 ?_
      have hk8 := h.1
      refine gX_ni5 hX (gX_runF (n := 0) (As := []) (rest := [.int a5]) (Cr := "java/util/ArrayList") (x := ⟨"java/util/List", "size", "()I"⟩) hC hX (mx_J2_size (cx_l C) E _ _ _ h.2) (lw_app (lw_4 q770 q774 q776 q73) (lw_meth q778)) (List.mem_of_getElem? (i := 0) rfl) (by decide +kernel) rfl rfl (Or.inl (Nat.le_of_ble_eq_true rfl)) ⟨Nat.le_of_ble_eq_true rfl, Nat.le_of_ble_eq_true rfl⟩ dX0_home_38 (Nat.zero_le _) (Nat.zero_le _) hk8 rfl (by decide) rfl) rfl rfl ?_
      intro r10 S9 h
      refine g_icmp_ge (tgt := 116) hC dX0_home_43 (by decide) (fun c => ?_) (fun c => ?_)
      · have h := it_p c h
        refine g_sub [true, true, false, true, true, false, false, false, false] rfl ?_
        exact s_116 S9 a0 a1 a3 a4 h
      · have h := it_n c h
        refine g_iload hC dX0_home_46 rfl ?_
        refine g_ldc (v := -1000000) hC dX0_home_48 q944 ?_
        refine g_icmp_ne (tgt := 116) hC dX0_home_50 (by decide) (fun c => ?_) (fun c => ?_)
        · have h := it_n c h
          refine g_sub [true, true, false, true, true, false, false, false, false] rfl ?_
          exact s_116 S9 a0 a1 a3 a4 h
        · have h := it_p c h
          refine g_aload_nR hC dX0_home_53 rfl ?_
          refine g_top0 eu5 ?_
          have hk29 := h.1
          refine gX_get (C0 := RX0) (T := TX0) (N := 15) (n := 0) (k := 5) (q := (5, true)) hC hX dX0_home_54 q216 rfl in_X0 (by decide) (Or.inl rfl) rfl (by decide) hk29 ?_
          show GX _ _ _ _ _ _ _ (va_rf (xFR S9 5 u5) :: _)
          refine g_iload hC dX0_home_57 rfl ?_
          obtain ⟨u30, eu30, h⟩ := h.2
          refine g_top1 eu30 ?_
          have hk31 := h.1
          refine gX_nq5 hX (gX_runF (n := 1) (As := [.int a5]) (rest := []) (Cr := "java/util/ArrayList") (x := ⟨"java/util/List", "get", "(I)Ljava/lang/Object;"⟩) hC hX (mx_J2_get (cx_l C) E _ _ _ _ h.2) (lw_app (lw_4 q928 q931 q933 q73) (lw_meth q935)) (List.mem_of_getElem? (i := 2) rfl) (by decide +kernel) rfl rfl (Or.inl (Nat.le_of_ble_eq_true rfl)) ⟨Nat.le_of_ble_eq_true rfl, Nat.le_of_ble_eq_true rfl⟩ dX0_home_59 (Nat.zero_le _) (Nat.zero_le _) hk31 rfl (by decide) rfl) rfl rfl ?_
          intro r33 S32 h
          obtain ⟨u34, eu34, h⟩ := h
          refine g_top0 eu34 ?_
          have hk35 := h.1
          refine gX_cast (r := (RX10, TX10, 4)) (n := 9) hC hX dX0_home_64 q1089 rfl (by decide) hk35 ?_
          refine g_astoreR hC dX0_home_67 (by decide) rfl rfl ?_
          refine g_aloadR hC dX0_home_69 rfl ?_
          refine gX_get (C0 := RX10) (T := TX10) (N := 4) (n := 9) (k := 0) (q := (900, false)) hC hX dX0_home_71 q1096 rfl in_X10 (by decide) (Or.inl rfl) rfl (by decide) hk35 ?_
          show GX _ _ _ _ _ _ _ (.int (xFI S32 900 u34) :: _)
          refine g_iload_n hC dX0_home_74 rfl ?_
          refine g_icmp_eq (tgt := 81) hC dX0_home_75 (by decide) (fun c => ?_) (fun c => ?_)
          · have h := it_p c h.2
            refine g_aloadR hC dX0_home_81 rfl ?_
            refine gX_get (C0 := RX10) (T := TX10) (N := 4) (n := 9) (k := 2) (q := (902, false)) hC hX dX0_home_83 q1100 rfl in_X10 (by decide) (Or.inl rfl) rfl (by decide) hk35 ?_
            show GX _ _ _ _ _ _ _ (.int (xFI S32 902 u34) :: _)
            refine g_iload_n hC dX0_home_86 rfl ?_
            refine g_ishr hC dX0_home_87 ?_
            refine g_iconst (v := 1) hC dX0_home_88 (by decide) ?_
            refine g_iand hC dX0_home_89 ?_
            refine g_iconst (v := 1) hC dX0_home_90 (by decide) ?_
            refine g_icmp_ne (tgt := 104) hC dX0_home_91 (by decide) (fun c => ?_) (fun c => ?_)
            · have h := it_n c h
              refine g_aloadR hC dX0_home_104 rfl ?_
              refine gX_get (C0 := RX10) (T := TX10) (N := 4) (n := 9) (k := 1) (q := (901, false)) hC hX dX0_home_106 q1098 rfl in_X10 (by decide) (Or.inl rfl) rfl (by decide) hk35 ?_
              show GX _ _ _ _ _ _ _ (.int (xFI S32 901 u34) :: _)
              refine g_istore_n hC dX0_home_109 rfl (by decide) rfl rfl ?_
              refine g_sub [true, true, true, true, true, true, false, false, false] rfl ?_
              exact s_110 (wx_X0_home_32 Q n) ih S32 a0 a1 a2 (xFI S32 901 u34) a4 a5 h
            · have h := it_p c h
              refine g_aloadR hC dX0_home_94 rfl ?_
              refine gX_get (C0 := RX10) (T := TX10) (N := 4) (n := 9) (k := 1) (q := (901, false)) hC hX dX0_home_96 q1098 rfl in_X10 (by decide) (Or.inl rfl) rfl (by decide) hk35 ?_
              show GX _ _ _ _ _ _ _ (.int (xFI S32 901 u34) :: _)
              refine g_istore hC dX0_home_99 (by decide) rfl rfl ?_
              refine g_sub [true, true, true, true, true, true, false, false, false] rfl ?_
              refine g_goto (tgt := 110) hC dX0_home_101 (by decide) ?_
              exact s_110 (wx_X0_home_32 Q n) ih S32 a0 a1 a2 a3 (xFI S32 901 u34) a5 h
          · have h := it_n c h.2
            refine g_goto (tgt := 110) hC dX0_home_78 (by decide) ?_
            refine g_sub [true, true, true, true, true, true, false, false, false] rfl ?_
            exact s_110 (wx_X0_home_32 Q n) ih S32 a0 a1 a2 a3 a4 a5 h
  refine g_iload_n hC dX0_home_0 rfl ?_
  refine gX_ni hX (gX_runS (As := [.int x1]) (rest := []) hC hX (mx_X0_isHall (cx_l C) E _ _ _ h) (lw_S q752 q753 q70 q754) hx_X0_isHall.2 rfl rfl (Or.inl (Nat.le_of_ble_eq_true rfl)) ⟨Nat.le_of_ble_eq_true rfl, Nat.le_of_ble_eq_true rfl⟩ dX0_home_1 (Nat.zero_le _) (Nat.zero_le _)) rfl rfl ?_
  intro r2 S1 h
  refine g_if_eq (tgt := 19) hC dX0_home_4 (by decide) (fun c => ?_) (fun c => ?_)
  · have h := it_p c h
    refine g_ldc (v := -1000001) hC dX0_home_19 q273 ?_
    refine gX_iret rfl hC hA hQ dX0_home_21 h
  · have h := it_n c h
    refine g_iload_n hC dX0_home_7 rfl ?_
    refine g_i2l hC dX0_home_8 ?_
    refine g_lconst (v := 0) hC dX0_home_9 (by decide) ?_
    refine g_ldc2 (v := 7) hC dX0_home_10 q268 ?_
    refine gX_ni hX (gX_runS (As := [.long (Int32.toInt64 x2), .long (0 : Int64), .long (7 : Int64)]) (rest := []) hC hX (mx_X0_isIn (cx_l C) E _ _ _ _ _ h) (lw_S q269 q270 q70 q271) hx_X0_isIn.2 rfl rfl (Or.inl (Nat.le_of_ble_eq_true rfl)) ⟨Nat.le_of_ble_eq_true rfl, Nat.le_of_ble_eq_true rfl⟩ dX0_home_13 (Nat.zero_le _) (Nat.zero_le _)) rfl rfl ?_
    intro r4 S3 h
    refine g_if_ne (tgt := 22) hC dX0_home_16 (by decide) (fun c => ?_) (fun c => ?_)
    · have h := it_n c h
      refine g_ldc (v := -1000000) hC dX0_home_22 q944 ?_
      refine g_istore_n hC dX0_home_24 rfl (by decide) rfl rfl ?_
      refine g_ldc (v := -1000000) hC dX0_home_25 q944 ?_
      refine g_istore hC dX0_home_27 (by decide) rfl rfl ?_
      refine g_iconst (v := 0) hC dX0_home_29 (by decide) ?_
      refine g_istore hC dX0_home_30 (by decide) rfl rfl ?_
      obtain ⟨n0, h0⟩ := h
      exact s_32 n0 S3 x0 x1 x2 (-1000000 : Int32) (-1000000 : Int32) (0 : Int32) h0
    · have h := it_p c h
      refine g_ldc (v := -1000001) hC dX0_home_19 q273 ?_
      refine gX_iret rfl hC hA hQ dX0_home_21 h
theorem mx_X0_home (l : Launch) (E : XE) (Q : Int32 → XS → Prop) (S : XS) (x0 : Option Nat) (x1 : Int32) (x2 : Int32) (h : wx_X0_home Q S x0 x1 x2) : XMet E l yX0_home cX0_home 9 (some .int) ({ frames := 6, cells := 0, slots := 0, locals := 148 } : Room) [va_rf x0, .int x1, .int x2] S (fun sz => va_Qi Q (BX1 E S sz) (xA S sz)) :=
  XMet_of (rm := ({ frames := 6, cells := 0, slots := 0, locals := 148 } : Room)) (by decide) (by simp [lg_sl, va_rf_cat, cat_i, cat_l]) (L0 := [some (va_rf x0), some (.int x1), some (.int x2), none, none, none, none, none, none]) (by simp [lx_pairs, lv_args, va_rf_cat, cat_i, cat_l, List.range_succ]) (fun sz C hC hX hl hnm hA hQ => bx_X0_home E C S sz Q S x0 x1 x2 hC hX hA hQ h)
/-! X0_isMeeting -/
def wx_X0_isMeeting (Q : Int32 → XS → Prop) (S : XS) (x0 : Option Nat) (x1 : Int32) : Prop :=
  dr x0 (fun u1 => xKD S u1 = some 0 ∧ dr (xFR S 6 u1) (fun u3 => xKD S u3 = some 16 ∧ wx_J2_size (fun r6 S5 => wx_X0_isIn (fun r8 S7 => narrow .boolean (.int r8) = .int r8 ∧ Q r8 S7) S5 (Int32.toInt64 x1) (0 : Int64) (Int32.toInt64 (r6 - (1 : Int32)))) S (some u3)))
theorem hx_X0_isMeeting : yX0_isMeeting.cls = RX0 ∧ yX0_isMeeting.cls ≠ "java/lang/invoke/MethodHandle" ∧ yX0_isMeeting.cls ≠ "java/lang/invoke/VarHandle" ∧ (parseMethodDescriptor yX0_isMeeting.desc).map (fun d => d.parameters.length) = some 1 := by decide +kernel
set_option maxHeartbeats 4000000 in
set_option maxRecDepth 100000 in
theorem bx_X0_isMeeting (E : XE) (C : Cx) (S0 : XS) (sz : Nat) (Q : Int32 → XS → Prop) (S : XS) (x0 : Option Nat) (x1 : Int32) (hC : COk C cX0_isMeeting RX0 (some .boolean) 2 59 2) (hX : XOk E C) (hA : cx_A C = xA S0 sz) (hQ : cx_Q C = MQ (cx_b C) (va_Qi Q (BX1 E S0 sz) (xA S0 sz)) (cx_a C) (cx_s C) (cx_MC C) (cx_MS C) (xA S0 sz)) (h : wx_X0_isMeeting Q S x0 x1) : GX E C S 0 0 0 [some (va_rf x0), some (.int x1)] [] := by
  refine g_iload_n hC dX0_isMeeting_0 rfl ?_
  refine g_i2l hC dX0_isMeeting_1 ?_
  refine g_lconst (v := 0) hC dX0_isMeeting_2 (by decide) ?_
  refine g_aload_nR hC dX0_isMeeting_3 rfl ?_
  obtain ⟨u1, eu1, h⟩ := h
  refine g_top0 eu1 ?_
  have hk2 := h.1
  refine gX_get (C0 := RX0) (T := TX0) (N := 15) (n := 0) (k := 6) (q := (6, true)) hC hX dX0_isMeeting_4 q217 rfl in_X0 (by decide) (Or.inl rfl) rfl (by decide) hk2 ?_
  show GX _ _ _ _ _ _ _ (va_rf (xFR S 6 u1) :: _)
  obtain ⟨u3, eu3, h⟩ := h.2
  refine g_top0 eu3 ?_
  have hk4 := h.1
  refine gX_ni5 hX (gX_runF (n := 0) (As := []) (rest := [.long (0 : Int64), .long (Int32.toInt64 x1)]) (Cr := "java/util/ArrayList") (x := ⟨"java/util/List", "size", "()I"⟩) hC hX (mx_J2_size (cx_l C) E _ _ _ h.2) (lw_app (lw_4 q770 q774 q776 q73) (lw_meth q778)) (List.mem_of_getElem? (i := 0) rfl) (by decide +kernel) rfl rfl (Or.inl (Nat.le_of_ble_eq_true rfl)) ⟨Nat.le_of_ble_eq_true rfl, Nat.le_of_ble_eq_true rfl⟩ dX0_isMeeting_7 (Nat.zero_le _) (Nat.zero_le _) hk4 rfl (by decide) rfl) rfl rfl ?_
  intro r6 S5 h
  refine g_iconst (v := 1) hC dX0_isMeeting_12 (by decide) ?_
  refine g_isub hC dX0_isMeeting_13 ?_
  refine g_i2l hC dX0_isMeeting_14 ?_
  refine gX_ni hX (gX_runS (As := [.long (Int32.toInt64 x1), .long (0 : Int64), .long (Int32.toInt64 (r6 - (1 : Int32)))]) (rest := []) hC hX (mx_X0_isIn (cx_l C) E _ _ _ _ _ h) (lw_S q269 q270 q70 q271) hx_X0_isIn.2 rfl rfl (Or.inl (Nat.le_of_ble_eq_true rfl)) ⟨Nat.le_of_ble_eq_true rfl, Nat.le_of_ble_eq_true rfl⟩ dX0_isMeeting_15 (Nat.zero_le _) (Nat.zero_le _)) rfl rfl ?_
  intro r8 S7 h
  refine gX_zret rfl h.1 hC hA hQ dX0_isMeeting_18 h.2
theorem mx_X0_isMeeting (l : Launch) (E : XE) (Q : Int32 → XS → Prop) (S : XS) (x0 : Option Nat) (x1 : Int32) (h : wx_X0_isMeeting Q S x0 x1) : XMet E l yX0_isMeeting cX0_isMeeting 2 (some .boolean) ({ frames := 2, cells := 0, slots := 0, locals := 59 } : Room) [va_rf x0, .int x1] S (fun sz => va_Qi Q (BX1 E S sz) (xA S sz)) :=
  XMet_of (rm := ({ frames := 2, cells := 0, slots := 0, locals := 59 } : Room)) (by decide) (by simp [lg_sl, va_rf_cat, cat_i, cat_l]) (L0 := [some (va_rf x0), some (.int x1)]) (by simp [lx_pairs, lv_args, va_rf_cat, cat_i, cat_l, List.range_succ]) (fun sz C hC hX hl hnm hA hQ => bx_X0_isMeeting E C S sz Q S x0 x1 hC hX hA hQ h)
/-! X11_init -/
def wx_X11_init (Q : XS → Prop) (S : XS) (x0 : Option Nat) (x1 : Int32) (x2 : Int32) (x3 : Int32) (x4 : Int32) (x5 : Int32) : Prop :=
  dr x0 (fun u1 => xKD S u1 = some 10 ∧ Q (sFI (sFI (sFI (sFI (sFI S 1000 u1 x1) 1001 u1 x2) 1002 u1 x3) 1003 u1 x4) 1004 u1 x5))
theorem hx_X11_init : yX11_init.cls = RX11 ∧ yX11_init.cls ≠ "java/lang/invoke/MethodHandle" ∧ yX11_init.cls ≠ "java/lang/invoke/VarHandle" ∧ (parseMethodDescriptor yX11_init.desc).map (fun d => d.parameters.length) = some 5 := by decide +kernel
set_option maxHeartbeats 4000000 in
set_option maxRecDepth 100000 in
theorem bx_X11_init (E : XE) (C : Cx) (S0 : XS) (sz : Nat) (Q : XS → Prop) (S : XS) (x0 : Option Nat) (x1 : Int32) (x2 : Int32) (x3 : Int32) (x4 : Int32) (x5 : Int32) (hC : COk C cX11_init RX11 none 1 34 6) (hX : XOk E C) (hA : cx_A C = xA S0 sz) (hini : (cx_h C).name = "<init>") (hQ : cx_Q C = MQ (cx_b C) (va_Qv Q (BX1 E S0 sz) (xA S0 sz)) (cx_a C) (cx_s C) (cx_MC C) (cx_MS C) (xA S0 sz)) (h : wx_X11_init Q S x0 x1 x2 x3 x4 x5) : GX E C S 0 0 0 [some (va_rf x0), some (.int x1), some (.int x2), some (.int x3), some (.int x4), some (.int x5)] [] := by
  refine g_aload_nR hC dX11_init_0 rfl ?_
  obtain ⟨u1, eu1, h⟩ := h
  refine g_top0 eu1 ?_
  refine gX_oinit hC dX11_init_1 q1277 q115 q116 (Nat.le_of_ble_eq_true rfl) (by decide) (by decide) ?_
  refine g_aload_nR hC dX11_init_4 rfl ?_
  refine g_iload_n hC dX11_init_5 rfl ?_
  refine g_top1 eu1 ?_
  have hk2 := h.1
  refine gX_putIF (C0 := RX11) (T := TX11) (ty0 := tyX11) (N := 5) (n := 10) (k := 0) (f := 1000) hC hX dX11_init_6 q1278 rfl in_X11 tyX11_ok nmX11 (by decide) rfl rfl hini rfl rfl rfl rfl rfl (by decide) (Or.inl (by decide)) hk2 ?_
  refine g_aload_nR hC dX11_init_9 rfl ?_
  refine g_iload_n hC dX11_init_10 rfl ?_
  refine g_top1 eu1 ?_
  refine gX_putIF (C0 := RX11) (T := TX11) (ty0 := tyX11) (N := 5) (n := 10) (k := 1) (f := 1001) hC hX dX11_init_11 q1279 rfl in_X11 tyX11_ok nmX11 (by decide) rfl rfl hini rfl rfl rfl rfl rfl (by decide) (Or.inl (by decide)) hk2 ?_
  refine g_aload_nR hC dX11_init_14 rfl ?_
  refine g_iload_n hC dX11_init_15 rfl ?_
  refine g_top1 eu1 ?_
  refine gX_putIF (C0 := RX11) (T := TX11) (ty0 := tyX11) (N := 5) (n := 10) (k := 2) (f := 1002) hC hX dX11_init_16 q1281 rfl in_X11 tyX11_ok nmX11 (by decide) rfl rfl hini rfl rfl rfl rfl rfl (by decide) (Or.inl (by decide)) hk2 ?_
  refine g_aload_nR hC dX11_init_19 rfl ?_
  refine g_iload hC dX11_init_20 rfl ?_
  refine g_top1 eu1 ?_
  refine gX_putIF (C0 := RX11) (T := TX11) (ty0 := tyX11) (N := 5) (n := 10) (k := 3) (f := 1003) hC hX dX11_init_22 q1283 rfl in_X11 tyX11_ok nmX11 (by decide) rfl rfl hini rfl rfl rfl rfl rfl (by decide) (Or.inl (by decide)) hk2 ?_
  refine g_aload_nR hC dX11_init_25 rfl ?_
  refine g_iload hC dX11_init_26 rfl ?_
  refine g_top1 eu1 ?_
  refine gX_putIF (C0 := RX11) (T := TX11) (ty0 := tyX11) (N := 5) (n := 10) (k := 4) (f := 1004) hC hX dX11_init_28 q1285 rfl in_X11 tyX11_ok nmX11 (by decide) rfl rfl hini rfl rfl rfl rfl rfl (by decide) (Or.inl (by decide)) hk2 ?_
  refine gX_vret hC hA hQ rfl dX11_init_31 h.2
theorem mx_X11_init (l : Launch) (E : XE) (Q : XS → Prop) (S : XS) (x0 : Option Nat) (x1 : Int32) (x2 : Int32) (x3 : Int32) (x4 : Int32) (x5 : Int32) (h : wx_X11_init Q S x0 x1 x2 x3 x4 x5) : XMet E l yX11_init cX11_init 6 none ({ frames := 1, cells := 0, slots := 0, locals := 34 } : Room) [va_rf x0, .int x1, .int x2, .int x3, .int x4, .int x5] S (fun sz => va_Qv Q (BX1 E S sz) (xA S sz)) :=
  XMet_of (rm := ({ frames := 1, cells := 0, slots := 0, locals := 34 } : Room)) (by decide) (by simp [lg_sl, va_rf_cat, cat_i, cat_l]) (L0 := [some (va_rf x0), some (.int x1), some (.int x2), some (.int x3), some (.int x4), some (.int x5)]) (by simp [lx_pairs, lv_args, va_rf_cat, cat_i, cat_l, List.range_succ]) (fun sz C hC hX hl hnm hA hQ => bx_X11_init E C S sz Q S x0 x1 x2 x3 x4 x5 hC hX hA hnm hQ h)
/-! X0_meeting -/
def wx_X0_meeting_68 (Q : Int32 → XS → Prop) (mc ms : Nat) (S : XS) (a0 : Option Nat) (a1 : Int32) (a2 : Int32) (a3 : Int32) (a4 : Int32) (a5 : Int32) : Prop :=
  dr a0 (fun u9 => xKD S u9 = some 0 ∧ dr (xFR S 6 u9) (fun u11 => xKD S u11 = some 16 ∧ wx_J2_size (fun r14 S13 => (if r14 = (10 : Int32) then Q (-1000003 : Int32) S13 else xKD S13 u9 = some 0 ∧ 1 ≤ mc ∧ 5 ≤ ms ∧ (∀ q16 : Nat, xKD S13 q16 = none → wx_X11_init (fun S20 => dr (xFR S13 6 u9) (fun u22 => xKD S20 u22 = some 16 ∧ (∃ k24 n25, k24 ≤ (mc - 1) ∧ n25 ≤ (ms - 5) ∧ wx_J2_add (fun r27 S26 => xKD S26 u9 = some 0 ∧ dr (xFR S26 6 u9) (fun u29 => xKD S26 u29 = some 16 ∧ wx_J2_size (fun r32 S31 => Q (r32 - (1 : Int32)) S31) S26 (some u29))) k24 n25 S20 (some u22) (some q16)))) (sNew S13 q16 10) (some q16) a1 a2 a3 a4 a5))) S (some u11)))
def wx_X0_meeting (Q : Int32 → XS → Prop) (mc ms : Nat) (S : XS) (x0 : Option Nat) (x1 : Int32) (x2 : Int32) (x3 : Int32) (x4 : Int32) (x5 : Int32) : Prop :=
  wx_X0_isIn (fun r2 S1 => (if r2 = 0 then Q (-1000001 : Int32) S1 else wx_X0_isIn (fun r4 S3 => (if r4 = 0 then Q (-1000001 : Int32) S3 else wx_X0_isIn (fun r6 S5 => (if r6 = 0 then Q (-1000001 : Int32) S5 else wx_X0_isIn (fun r8 S7 => (if r8 = 0 then Q (-1000001 : Int32) S7 else (if x5 = (-1000000 : Int32) then wx_X0_meeting_68 Q mc ms S7 x0 x1 x2 x3 x4 x5 else dr x0 (fun u33 => xKD S7 u33 = some 0 ∧ wx_X0_isMeeting (fun r36 S35 => (if r36 = 0 then Q (-1000001 : Int32) S35 else wx_X0_meeting_68 Q mc ms S35 x0 x1 x2 x3 x4 x5)) S7 (some u33) x5)))) S5 (Int32.toInt64 x4) (0 : Int64) (99 : Int64))) S3 (Int32.toInt64 x3) (0 : Int64) (Int32.toInt64 (x1 - x2)))) S1 (Int32.toInt64 x2) (0 : Int64) (Int32.toInt64 x1))) S (Int32.toInt64 x1) (1 : Int64) (99 : Int64)
theorem hx_X0_meeting : yX0_meeting.cls = RX0 ∧ yX0_meeting.cls ≠ "java/lang/invoke/MethodHandle" ∧ yX0_meeting.cls ≠ "java/lang/invoke/VarHandle" ∧ (parseMethodDescriptor yX0_meeting.desc).map (fun d => d.parameters.length) = some 5 := by decide +kernel
set_option maxHeartbeats 4000000 in
set_option maxRecDepth 100000 in
theorem bx_X0_meeting (E : XE) (C : Cx) (S0 : XS) (sz : Nat) (Q : Int32 → XS → Prop) (mc ms : Nat) (S : XS) (x0 : Option Nat) (x1 : Int32) (x2 : Int32) (x3 : Int32) (x4 : Int32) (x5 : Int32) (hC : COk C cX0_meeting RX0 (some .int) 7 165 6) (hX : XOk E C) (hA : cx_A C = xA S0 sz) (hQ : cx_Q C = MQ (cx_b C) (va_Qi Q (BX1 E S0 sz) (xA S0 sz)) (cx_a C) (cx_s C) (cx_MC C) (cx_MS C) (xA S0 sz)) (h : wx_X0_meeting Q mc ms S x0 x1 x2 x3 x4 x5) : GX E C S mc ms 0 [some (va_rf x0), some (.int x1), some (.int x2), some (.int x3), some (.int x4), some (.int x5)] [] := by
  have s_68 : ∀ (mc ms : Nat) (S : XS) (a0 : Option Nat) (a1 : Int32) (a2 : Int32) (a3 : Int32) (a4 : Int32) (a5 : Int32), wx_X0_meeting_68 Q  mc ms S a0 a1 a2 a3 a4 a5 → GX E C S mc ms 68 [some (va_rf a0), some (.int a1), some (.int a2), some (.int a3), some (.int a4), some (.int a5)] [] := by
    intro  mc ms S a0 a1 a2 a3 a4 a5 h
    refine g_aload_nR hC dX0_meeting_68 rfl ?_
    obtain ⟨u9, eu9, h⟩ := h
    refine g_top0 eu9 ?_
    have hk10 := h.1
    refine gX_get (C0 := RX0) (T := TX0) (N := 15) (n := 0) (k := 6) (q := (6, true)) hC hX dX0_meeting_69 q217 rfl in_X0 (by decide) (Or.inl rfl) rfl (by decide) hk10 ?_
    show GX _ _ _ _ _ _ _ (va_rf (xFR S 6 u9) :: _)
    obtain ⟨u11, eu11, h⟩ := h.2
    refine g_top0 eu11 ?_
    have hk12 := h.1
    refine gX_ni5 hX (gX_runF (n := 0) (As := []) (rest := []) (Cr := "java/util/ArrayList") (x := ⟨"java/util/List", "size", "()I"⟩) hC hX (mx_J2_size (cx_l C) E _ _ _ h.2) (lw_app (lw_4 q770 q774 q776 q73) (lw_meth q778)) (List.mem_of_getElem? (i := 0) rfl) (by decide +kernel) rfl rfl (Or.inl (Nat.le_of_ble_eq_true rfl)) ⟨Nat.le_of_ble_eq_true rfl, Nat.le_of_ble_eq_true rfl⟩ dX0_meeting_72 (Nat.zero_le _) (Nat.zero_le _) hk12 rfl (by decide) rfl) rfl rfl ?_
    intro r14 S13 h
    refine g_bipush (v := 10) hC dX0_meeting_77 (by decide) ?_
    refine g_icmp_ne (tgt := 85) hC dX0_meeting_79 (by decide) (fun c => ?_) (fun c => ?_)
    · have h := it_n c h
      refine g_aload_nR hC dX0_meeting_85 rfl ?_
      refine g_top0 eu9 ?_
      have hk15 := h.1
      refine gX_get (C0 := RX0) (T := TX0) (N := 15) (n := 0) (k := 6) (q := (6, true)) hC hX dX0_meeting_86 q217 rfl in_X0 (by decide) (Or.inl rfl) rfl (by decide) hk15 ?_
      show GX _ _ _ _ _ _ _ (va_rf (xFR S13 6 u9) :: _)
      refine gX_new (C0 := RX11) (T := TX11) (ty0 := tyX11) (N := 5) (n := 10) hC hX dX0_meeting_89 q1272 q1273 q102 rfl in_X11 tyX11_ok (by decide) dv_X11 h.2.1 h.2.2.1 ?_
      intro q16 hq17
      have h := h.2.2.2 q16 hq17
      have hk18 := kd_new (q := q16) (n := 10) hk15 hq17
      have hk19 : xKD (sNew S13 q16 10) q16 = some 10 := kd_self
      refine g_dup hC dX0_meeting_92 (va_rf_cat _) ?_
      refine g_iload_n hC dX0_meeting_93 rfl ?_
      refine g_iload_n hC dX0_meeting_94 rfl ?_
      refine g_iload_n hC dX0_meeting_95 rfl ?_
      refine g_iload hC dX0_meeting_96 rfl ?_
      refine g_iload hC dX0_meeting_98 rfl ?_
      refine gX_nv hX (gX_runI (As := [.int a1, .int a2, .int a3, .int a4, .int a5]) (rest := [va_rf (some q16), va_rf (xFR S13 6 u9)]) hC hX (mx_X11_init (cx_l C) E _ _ _ _ _ _ _ _ h) q1276 q102 q1274 q1275 rfl hx_X11_init.2 rfl rfl (Or.inl (Nat.le_of_ble_eq_true rfl)) ⟨Nat.le_of_ble_eq_true rfl, Nat.le_of_ble_eq_true rfl⟩ dX0_meeting_100 (Nat.zero_le _) (Nat.zero_le _)) rfl rfl ?_
      intro S20 h
      obtain ⟨u22, eu22, h⟩ := h
      refine g_top1 eu22 ?_
      have hk23 := h.1
      obtain ⟨k24, n25, hk24, hn25, h⟩ := h.2
      refine gX_ci5 hX (gX_runF (n := 1) (As := [va_rf (some q16)]) (rest := []) (Cr := "java/util/ArrayList") (x := ⟨"java/util/List", "add", "(Ljava/lang/Object;)Z"⟩) hC hX (mx_J2_add (cx_l C) E k24 n25 _ _ _ _ h) (lw_app (lw_4 q860 q863 q865 q73) (lw_meth q867)) (List.mem_of_getElem? (i := 1) rfl) (by decide +kernel) rfl rfl (Or.inl (Nat.le_of_ble_eq_true rfl)) ⟨Nat.le_of_ble_eq_true rfl, Nat.le_of_ble_eq_true rfl⟩ dX0_meeting_103 hk24 hn25 hk23 rfl (by decide) rfl) hk24 hn25 ?_
      intro r27 S26 h
      refine g_pop hC dX0_meeting_108 rfl ?_
      refine g_aload_nR hC dX0_meeting_109 rfl ?_
      refine g_top0 eu9 ?_
      have hk28 := h.1
      refine gX_get (C0 := RX0) (T := TX0) (N := 15) (n := 0) (k := 6) (q := (6, true)) hC hX dX0_meeting_110 q217 rfl in_X0 (by decide) (Or.inl rfl) rfl (by decide) hk28 ?_
      show GX _ _ _ _ _ _ _ (va_rf (xFR S26 6 u9) :: _)
      obtain ⟨u29, eu29, h⟩ := h.2
      refine g_top0 eu29 ?_
      have hk30 := h.1
      refine gX_ni5 hX (gX_runF (n := 0) (As := []) (rest := []) (Cr := "java/util/ArrayList") (x := ⟨"java/util/List", "size", "()I"⟩) hC hX (mx_J2_size (cx_l C) E _ _ _ h.2) (lw_app (lw_4 q770 q774 q776 q73) (lw_meth q778)) (List.mem_of_getElem? (i := 0) rfl) (by decide +kernel) rfl rfl (Or.inl (Nat.le_of_ble_eq_true rfl)) ⟨Nat.le_of_ble_eq_true rfl, Nat.le_of_ble_eq_true rfl⟩ dX0_meeting_113 (Nat.zero_le _) (Nat.zero_le _) hk30 rfl (by decide) rfl) rfl rfl ?_
      intro r32 S31 h
      refine g_iconst (v := 1) hC dX0_meeting_118 (by decide) ?_
      refine g_isub hC dX0_meeting_119 ?_
      refine gX_iret rfl hC hA hQ dX0_meeting_120 h
    · have h := it_p c h
      refine g_ldc (v := -1000003) hC dX0_meeting_82 q428 ?_
      refine gX_iret rfl hC hA hQ dX0_meeting_84 h
  refine g_iload_n hC dX0_meeting_0 rfl ?_
  refine g_i2l hC dX0_meeting_1 ?_
  refine g_lconst (v := 1) hC dX0_meeting_2 (by decide) ?_
  refine g_ldc2 (v := 99) hC dX0_meeting_3 q1267 ?_
  refine gX_ni hX (gX_runS (As := [.long (Int32.toInt64 x1), .long (1 : Int64), .long (99 : Int64)]) (rest := []) hC hX (mx_X0_isIn (cx_l C) E _ _ _ _ _ h) (lw_S q269 q270 q70 q271) hx_X0_isIn.2 rfl rfl (Or.inl (Nat.le_of_ble_eq_true rfl)) ⟨Nat.le_of_ble_eq_true rfl, Nat.le_of_ble_eq_true rfl⟩ dX0_meeting_6 (Nat.zero_le _) (Nat.zero_le _)) rfl rfl ?_
  intro r2 S1 h
  refine g_if_eq (tgt := 65) hC dX0_meeting_9 (by decide) (fun c => ?_) (fun c => ?_)
  · have h := it_p c h
    refine g_ldc (v := -1000001) hC dX0_meeting_65 q273 ?_
    refine gX_iret rfl hC hA hQ dX0_meeting_67 h
  · have h := it_n c h
    refine g_iload_n hC dX0_meeting_12 rfl ?_
    refine g_i2l hC dX0_meeting_13 ?_
    refine g_lconst (v := 0) hC dX0_meeting_14 (by decide) ?_
    refine g_iload_n hC dX0_meeting_15 rfl ?_
    refine g_i2l hC dX0_meeting_16 ?_
    refine gX_ni hX (gX_runS (As := [.long (Int32.toInt64 x2), .long (0 : Int64), .long (Int32.toInt64 x1)]) (rest := []) hC hX (mx_X0_isIn (cx_l C) E _ _ _ _ _ h) (lw_S q269 q270 q70 q271) hx_X0_isIn.2 rfl rfl (Or.inl (Nat.le_of_ble_eq_true rfl)) ⟨Nat.le_of_ble_eq_true rfl, Nat.le_of_ble_eq_true rfl⟩ dX0_meeting_17 (Nat.zero_le _) (Nat.zero_le _)) rfl rfl ?_
    intro r4 S3 h
    refine g_if_eq (tgt := 65) hC dX0_meeting_20 (by decide) (fun c => ?_) (fun c => ?_)
    · have h := it_p c h
      refine g_ldc (v := -1000001) hC dX0_meeting_65 q273 ?_
      refine gX_iret rfl hC hA hQ dX0_meeting_67 h
    · have h := it_n c h
      refine g_iload_n hC dX0_meeting_23 rfl ?_
      refine g_i2l hC dX0_meeting_24 ?_
      refine g_lconst (v := 0) hC dX0_meeting_25 (by decide) ?_
      refine g_iload_n hC dX0_meeting_26 rfl ?_
      refine g_iload_n hC dX0_meeting_27 rfl ?_
      refine g_isub hC dX0_meeting_28 ?_
      refine g_i2l hC dX0_meeting_29 ?_
      refine gX_ni hX (gX_runS (As := [.long (Int32.toInt64 x3), .long (0 : Int64), .long (Int32.toInt64 (x1 - x2))]) (rest := []) hC hX (mx_X0_isIn (cx_l C) E _ _ _ _ _ h) (lw_S q269 q270 q70 q271) hx_X0_isIn.2 rfl rfl (Or.inl (Nat.le_of_ble_eq_true rfl)) ⟨Nat.le_of_ble_eq_true rfl, Nat.le_of_ble_eq_true rfl⟩ dX0_meeting_30 (Nat.zero_le _) (Nat.zero_le _)) rfl rfl ?_
      intro r6 S5 h
      refine g_if_eq (tgt := 65) hC dX0_meeting_33 (by decide) (fun c => ?_) (fun c => ?_)
      · have h := it_p c h
        refine g_ldc (v := -1000001) hC dX0_meeting_65 q273 ?_
        refine gX_iret rfl hC hA hQ dX0_meeting_67 h
      · have h := it_n c h
        refine g_iload hC dX0_meeting_36 rfl ?_
        refine g_i2l hC dX0_meeting_38 ?_
        refine g_lconst (v := 0) hC dX0_meeting_39 (by decide) ?_
        refine g_ldc2 (v := 99) hC dX0_meeting_40 q1267 ?_
        refine gX_ni hX (gX_runS (As := [.long (Int32.toInt64 x4), .long (0 : Int64), .long (99 : Int64)]) (rest := []) hC hX (mx_X0_isIn (cx_l C) E _ _ _ _ _ h) (lw_S q269 q270 q70 q271) hx_X0_isIn.2 rfl rfl (Or.inl (Nat.le_of_ble_eq_true rfl)) ⟨Nat.le_of_ble_eq_true rfl, Nat.le_of_ble_eq_true rfl⟩ dX0_meeting_43 (Nat.zero_le _) (Nat.zero_le _)) rfl rfl ?_
        intro r8 S7 h
        refine g_if_eq (tgt := 65) hC dX0_meeting_46 (by decide) (fun c => ?_) (fun c => ?_)
        · have h := it_p c h
          refine g_ldc (v := -1000001) hC dX0_meeting_65 q273 ?_
          refine gX_iret rfl hC hA hQ dX0_meeting_67 h
        · have h := it_n c h
          refine g_iload hC dX0_meeting_49 rfl ?_
          refine g_ldc (v := -1000000) hC dX0_meeting_51 q944 ?_
          refine g_icmp_eq (tgt := 68) hC dX0_meeting_53 (by decide) (fun c => ?_) (fun c => ?_)
          · have h := it_p c h
            exact s_68 mc ms S7 x0 x1 x2 x3 x4 x5 h
          · have h := it_n c h
            refine g_aload_nR hC dX0_meeting_56 rfl ?_
            refine g_iload hC dX0_meeting_57 rfl ?_
            obtain ⟨u33, eu33, h⟩ := h
            refine g_top1 eu33 ?_
            have hk34 := h.1
            refine gX_ni hX (gX_runV (As := [.int x5]) (rest := []) (Cr := RX0) hC hX (mx_X0_isMeeting (cx_l C) E _ _ _ _ h.2) (lw_V q1268 q1270 qs32 q70 q1271) hx_X0_isMeeting rfl rfl (Or.inl (Nat.le_of_ble_eq_true rfl)) ⟨Nat.le_of_ble_eq_true rfl, Nat.le_of_ble_eq_true rfl⟩ dX0_meeting_59 (Nat.zero_le _) (Nat.zero_le _) hk34 rfl (by decide) rfl) rfl rfl ?_
            intro r36 S35 h
            refine g_if_ne (tgt := 68) hC dX0_meeting_62 (by decide) (fun c => ?_) (fun c => ?_)
            · have h := it_n c h
              exact s_68 mc ms S35 x0 x1 x2 x3 x4 x5 h
            · have h := it_p c h
              refine g_ldc (v := -1000001) hC dX0_meeting_65 q273 ?_
              refine gX_iret rfl hC hA hQ dX0_meeting_67 h
theorem mx_X0_meeting (l : Launch) (E : XE) (mc ms : Nat) (Q : Int32 → XS → Prop) (S : XS) (x0 : Option Nat) (x1 : Int32) (x2 : Int32) (x3 : Int32) (x4 : Int32) (x5 : Int32) (h : wx_X0_meeting Q mc ms S x0 x1 x2 x3 x4 x5) : XMet E l yX0_meeting cX0_meeting 6 (some .int) ({ frames := 7, cells := mc, slots := ms, locals := 165 } : Room) [va_rf x0, .int x1, .int x2, .int x3, .int x4, .int x5] S (fun sz => va_Qi Q (BX1 E S sz) (xA S sz)) :=
  XMet_of (rm := ({ frames := 7, cells := mc, slots := ms, locals := 165 } : Room)) (by decide) (by simp [lg_sl, va_rf_cat, cat_i, cat_l]) (L0 := [some (va_rf x0), some (.int x1), some (.int x2), some (.int x3), some (.int x4), some (.int x5)]) (by simp [lx_pairs, lv_args, va_rf_cat, cat_i, cat_l, List.range_succ]) (fun sz C hC hX hl hnm hA hQ => bx_X0_meeting E C S sz Q mc ms S x0 x1 x2 x3 x4 x5 hC hX hA hQ h)
/-! X0_isCarried -/
def wx_X0_isCarried (V : (Int32 → XS → Prop) → XS → Option Nat → Int32 → Prop) (Q : Int32 → XS → Prop) (S : XS) (x0 : Option Nat) (x1 : Int32) : Prop :=
  dr x0 (fun u1 => xKD S u1 = some 0 ∧ V (fun r4 S3 => (if r4 = 0 then Q (0 : Int32) S3 else xKD S3 u1 = some 0 ∧ dr (xFR S3 6 u1) (fun u6 => xKD S3 u6 = some 16 ∧ wx_J2_get (fun r9 S8 => dr r9 (fun u10 => xKD S8 u10 = some 10 ∧ xKD S8 u1 = some 0 ∧ dr (xFR S8 6 u1) (fun u13 => xKD S8 u13 = some 16 ∧ wx_J2_get (fun r16 S15 => dr r16 (fun u17 => xKD S15 u17 = some 10 ∧ (if (xFI S8 1001 u10) ≤ (xFI S15 1002 u17) then Q (0 : Int32) S15 else Q (1 : Int32) S15))) S8 (some u13) x1))) S3 (some u6) x1))) S (some u1) x1)
theorem hx_X0_isValid : yX0_isValid.cls = RX0 ∧ yX0_isValid.cls ≠ "java/lang/invoke/MethodHandle" ∧ yX0_isValid.cls ≠ "java/lang/invoke/VarHandle" ∧ (parseMethodDescriptor yX0_isValid.desc).map (fun d => d.parameters.length) = some 1 := by decide +kernel
theorem hx_X0_isCarried : yX0_isCarried.cls = RX0 ∧ yX0_isCarried.cls ≠ "java/lang/invoke/MethodHandle" ∧ yX0_isCarried.cls ≠ "java/lang/invoke/VarHandle" ∧ (parseMethodDescriptor yX0_isCarried.desc).map (fun d => d.parameters.length) = some 1 := by decide +kernel
set_option maxHeartbeats 4000000 in
set_option maxRecDepth 100000 in
theorem bx_X0_isCarried (E : XE) (C : Cx) (V : (Int32 → XS → Prop) → XS → Option Nat → Int32 → Prop) (fV lV : Nat) (hV : ∀ (Q : Int32 → XS → Prop) (S : XS) (x0 : Option Nat) (x1 : Int32), V Q S x0 x1 → XMet E (cx_l C) yX0_isValid cX0_isValid 3 (some .boolean) ({ frames := fV, cells := 0, slots := 0, locals := lV } : Room) [va_rf x0, .int x1] S (fun sz => va_Qi Q (BX1 E S sz) (xA S sz))) (S0 : XS) (sz : Nat) (Q : Int32 → XS → Prop) (S : XS) (x0 : Option Nat) (x1 : Int32) (hC : COk C cX0_isCarried RX0 (some .boolean) (fV + 8) (lV + 300) 2) (hX : XOk E C) (hA : cx_A C = xA S0 sz) (hQ : cx_Q C = MQ (cx_b C) (va_Qi Q (BX1 E S0 sz) (xA S0 sz)) (cx_a C) (cx_s C) (cx_MC C) (cx_MS C) (xA S0 sz)) (h : wx_X0_isCarried V Q S x0 x1) : GX E C S 0 0 0 [some (va_rf x0), some (.int x1)] [] := by
  refine g_aload_nR hC dX0_isCarried_0 rfl ?_
  refine g_iload_n hC dX0_isCarried_1 rfl ?_
  obtain ⟨u1, eu1, h⟩ := h
  refine g_top1 eu1 ?_
  have hk2 := h.1
  refine gX_ni hX (gX_runV (As := [.int x1]) (rest := []) (Cr := RX0) hC hX (hV _ _ _ _ h.2) (lw_V q1302 q1304 qs33 q70 q1305) hx_X0_isValid rfl rfl (Or.inl (Nat.le_of_ble_eq_true rfl)) (by refine ⟨?_, ?_⟩ <;> dsimp only <;> omega) dX0_isCarried_2 (Nat.zero_le _) (Nat.zero_le _) hk2 rfl (by decide) rfl) rfl rfl ?_
  intro r4 S3 h
  refine g_if_eq (tgt := 47) hC dX0_isCarried_5 (by decide) (fun c => ?_) (fun c => ?_)
  · have h := it_p c h
    refine g_iconst (v := 0) hC dX0_isCarried_47 (by decide) ?_
    refine gX_zret rfl rfl hC hA hQ dX0_isCarried_48 h
  · have h := it_n c h
    refine g_aload_nR hC dX0_isCarried_8 rfl ?_
    refine g_top0 eu1 ?_
    have hk5 := h.1
    refine gX_get (C0 := RX0) (T := TX0) (N := 15) (n := 0) (k := 6) (q := (6, true)) hC hX dX0_isCarried_9 q217 rfl in_X0 (by decide) (Or.inl rfl) rfl (by decide) hk5 ?_
    show GX _ _ _ _ _ _ _ (va_rf (xFR S3 6 u1) :: _)
    refine g_iload_n hC dX0_isCarried_12 rfl ?_
    obtain ⟨u6, eu6, h⟩ := h.2
    refine g_top1 eu6 ?_
    have hk7 := h.1
    refine gX_nq5 hX (gX_runF (n := 1) (As := [.int x1]) (rest := []) (Cr := "java/util/ArrayList") (x := ⟨"java/util/List", "get", "(I)Ljava/lang/Object;"⟩) hC hX (mx_J2_get (cx_l C) E _ _ _ _ h.2) (lw_app (lw_4 q928 q931 q933 q73) (lw_meth q935)) (List.mem_of_getElem? (i := 2) rfl) (by decide +kernel) rfl rfl (Or.inl (Nat.le_of_ble_eq_true rfl)) (by refine ⟨?_, ?_⟩ <;> dsimp only <;> omega) dX0_isCarried_13 (Nat.zero_le _) (Nat.zero_le _) hk7 rfl (by decide) rfl) rfl rfl ?_
    intro r9 S8 h
    obtain ⟨u10, eu10, h⟩ := h
    refine g_top0 eu10 ?_
    have hk11 := h.1
    refine gX_cast (r := (RX11, TX11, 5)) (n := 10) hC hX dX0_isCarried_18 q1272 rfl (by decide) hk11 ?_
    refine gX_get (C0 := RX11) (T := TX11) (N := 5) (n := 10) (k := 1) (q := (1001, false)) hC hX dX0_isCarried_21 q1280 rfl in_X11 (by decide) (Or.inl rfl) rfl (by decide) hk11 ?_
    show GX _ _ _ _ _ _ _ (.int (xFI S8 1001 u10) :: _)
    refine g_aload_nR hC dX0_isCarried_24 rfl ?_
    refine g_top0 eu1 ?_
    have hk12 := h.2.1
    refine gX_get (C0 := RX0) (T := TX0) (N := 15) (n := 0) (k := 6) (q := (6, true)) hC hX dX0_isCarried_25 q217 rfl in_X0 (by decide) (Or.inl rfl) rfl (by decide) hk12 ?_
    show GX _ _ _ _ _ _ _ (va_rf (xFR S8 6 u1) :: _)
    refine g_iload_n hC dX0_isCarried_28 rfl ?_
    obtain ⟨u13, eu13, h⟩ := h.2.2
    refine g_top1 eu13 ?_
    have hk14 := h.1
    refine gX_nq5 hX (gX_runF (n := 1) (As := [.int x1]) (rest := [.int (xFI S8 1001 u10)]) (Cr := "java/util/ArrayList") (x := ⟨"java/util/List", "get", "(I)Ljava/lang/Object;"⟩) hC hX (mx_J2_get (cx_l C) E _ _ _ _ h.2) (lw_app (lw_4 q928 q931 q933 q73) (lw_meth q935)) (List.mem_of_getElem? (i := 2) rfl) (by decide +kernel) rfl rfl (Or.inl (Nat.le_of_ble_eq_true rfl)) (by refine ⟨?_, ?_⟩ <;> dsimp only <;> omega) dX0_isCarried_29 (Nat.zero_le _) (Nat.zero_le _) hk14 rfl (by decide) rfl) rfl rfl ?_
    intro r16 S15 h
    obtain ⟨u17, eu17, h⟩ := h
    refine g_top0 eu17 ?_
    have hk18 := h.1
    refine gX_cast (r := (RX11, TX11, 5)) (n := 10) hC hX dX0_isCarried_34 q1272 rfl (by decide) hk18 ?_
    refine gX_get (C0 := RX11) (T := TX11) (N := 5) (n := 10) (k := 2) (q := (1002, false)) hC hX dX0_isCarried_37 q1282 rfl in_X11 (by decide) (Or.inl rfl) rfl (by decide) hk18 ?_
    show GX _ _ _ _ _ _ _ (.int (xFI S15 1002 u17) :: _)
    refine g_icmp_le (tgt := 47) hC dX0_isCarried_40 (by decide) (fun c => ?_) (fun c => ?_)
    · have h := it_p c h.2
      refine g_iconst (v := 0) hC dX0_isCarried_47 (by decide) ?_
      refine gX_zret rfl rfl hC hA hQ dX0_isCarried_48 h
    · have h := it_n c h.2
      refine g_iconst (v := 1) hC dX0_isCarried_43 (by decide) ?_
      refine g_goto (tgt := 48) hC dX0_isCarried_44 (by decide) ?_
      refine gX_zret rfl rfl hC hA hQ dX0_isCarried_48 h
theorem mx_X0_isCarried (l : Launch) (E : XE) (V : (Int32 → XS → Prop) → XS → Option Nat → Int32 → Prop) (fV lV : Nat) (hV : ∀ (Q : Int32 → XS → Prop) (S : XS) (x0 : Option Nat) (x1 : Int32), V Q S x0 x1 → XMet E l yX0_isValid cX0_isValid 3 (some .boolean) ({ frames := fV, cells := 0, slots := 0, locals := lV } : Room) [va_rf x0, .int x1] S (fun sz => va_Qi Q (BX1 E S sz) (xA S sz))) (Q : Int32 → XS → Prop) (S : XS) (x0 : Option Nat) (x1 : Int32) (h : wx_X0_isCarried V Q S x0 x1) : XMet E l yX0_isCarried cX0_isCarried 2 (some .boolean) ({ frames := (fV + 8), cells := 0, slots := 0, locals := (lV + 300) } : Room) [va_rf x0, .int x1] S (fun sz => va_Qi Q (BX1 E S sz) (xA S sz)) :=
  XMet_of (rm := ({ frames := (fV + 8), cells := 0, slots := 0, locals := (lV + 300) } : Room)) (by decide) (by simp [lg_sl, va_rf_cat, cat_i, cat_l]) (L0 := [some (va_rf x0), some (.int x1)]) (by simp [lx_pairs, lv_args, va_rf_cat, cat_i, cat_l, List.range_succ]) (fun sz C hC hX hl hnm hA hQ => bx_X0_isCarried E C V fV lV (hl ▸ hV) S sz Q S x0 x1 hC hX hA hQ h)
/-! X0_isValid -/
def wx_X0_isValid (V : (Int32 → XS → Prop) → XS → Option Nat → Int32 → Prop) (Q : Int32 → XS → Prop) (S : XS) (x0 : Option Nat) (x1 : Int32) : Prop :=
  dr x0 (fun u1 => xKD S u1 = some 0 ∧ dr (xFR S 6 u1) (fun u3 => xKD S u3 = some 16 ∧ wx_J2_get (fun r6 S5 => dr r6 (fun u7 => xKD S5 u7 = some 10 ∧ (if ((xFI S5 1001 u7) + (xFI S5 1002 u7)) < (xFI S5 1003 u7) then Q (0 : Int32) S5 else (if (xFI S5 1004 u7) = (-1000000 : Int32) then Q (1 : Int32) S5 else xKD S5 u1 = some 0 ∧ wx_X0_isCarried V (fun r11 S10 => (if r11 = 0 then Q (0 : Int32) S10 else Q (1 : Int32) S10)) S5 (some u1) (xFI S5 1004 u7))))) S (some u3) x1))
set_option maxHeartbeats 4000000 in
set_option maxRecDepth 100000 in
theorem bx_X0_isValid (E : XE) (C : Cx) (V : (Int32 → XS → Prop) → XS → Option Nat → Int32 → Prop) (fV lV : Nat) (hV : ∀ (Q : Int32 → XS → Prop) (S : XS) (x0 : Option Nat) (x1 : Int32), V Q S x0 x1 → XMet E (cx_l C) yX0_isValid cX0_isValid 3 (some .boolean) ({ frames := fV, cells := 0, slots := 0, locals := lV } : Room) [va_rf x0, .int x1] S (fun sz => va_Qi Q (BX1 E S sz) (xA S sz))) (S0 : XS) (sz : Nat) (Q : Int32 → XS → Prop) (S : XS) (x0 : Option Nat) (x1 : Int32) (hC : COk C cX0_isValid RX0 (some .boolean) (fV + 16) (lV + 600) 3) (hX : XOk E C) (hA : cx_A C = xA S0 sz) (hQ : cx_Q C = MQ (cx_b C) (va_Qi Q (BX1 E S0 sz) (xA S0 sz)) (cx_a C) (cx_s C) (cx_MC C) (cx_MS C) (xA S0 sz)) (h : wx_X0_isValid V Q S x0 x1) : GX E C S 0 0 0 [some (va_rf x0), some (.int x1), none] [] := by
  refine g_aload_nR hC dX0_isValid_0 rfl ?_
  obtain ⟨u1, eu1, h⟩ := h
  refine g_top0 eu1 ?_
  have hk2 := h.1
  refine gX_get (C0 := RX0) (T := TX0) (N := 15) (n := 0) (k := 6) (q := (6, true)) hC hX dX0_isValid_1 q217 rfl in_X0 (by decide) (Or.inl rfl) rfl (by decide) hk2 ?_
  show GX _ _ _ _ _ _ _ (va_rf (xFR S 6 u1) :: _)
  refine g_iload_n hC dX0_isValid_4 rfl ?_
  obtain ⟨u3, eu3, h⟩ := h.2
  refine g_top1 eu3 ?_
  have hk4 := h.1
  refine gX_nq5 hX (gX_runF (n := 1) (As := [.int x1]) (rest := []) (Cr := "java/util/ArrayList") (x := ⟨"java/util/List", "get", "(I)Ljava/lang/Object;"⟩) hC hX (mx_J2_get (cx_l C) E _ _ _ _ h.2) (lw_app (lw_4 q928 q931 q933 q73) (lw_meth q935)) (List.mem_of_getElem? (i := 2) rfl) (by decide +kernel) rfl rfl (Or.inl (Nat.le_of_ble_eq_true rfl)) (by refine ⟨?_, ?_⟩ <;> dsimp only <;> omega) dX0_isValid_5 (Nat.zero_le _) (Nat.zero_le _) hk4 rfl (by decide) rfl) rfl rfl ?_
  intro r6 S5 h
  obtain ⟨u7, eu7, h⟩ := h
  refine g_top0 eu7 ?_
  have hk8 := h.1
  refine gX_cast (r := (RX11, TX11, 5)) (n := 10) hC hX dX0_isValid_10 q1272 rfl (by decide) hk8 ?_
  refine g_astore_nR hC dX0_isValid_13 rfl (by decide) rfl rfl ?_
  refine g_sub [true, false, true] rfl ?_
  refine g_aload_nR hC dX0_isValid_14 rfl ?_
  refine gX_get (C0 := RX11) (T := TX11) (N := 5) (n := 10) (k := 1) (q := (1001, false)) hC hX dX0_isValid_15 q1280 rfl in_X11 (by decide) (Or.inl rfl) rfl (by decide) hk8 ?_
  show GX _ _ _ _ _ _ _ (.int (xFI S5 1001 u7) :: _)
  refine g_aload_nR hC dX0_isValid_18 rfl ?_
  refine gX_get (C0 := RX11) (T := TX11) (N := 5) (n := 10) (k := 2) (q := (1002, false)) hC hX dX0_isValid_19 q1282 rfl in_X11 (by decide) (Or.inl rfl) rfl (by decide) hk8 ?_
  show GX _ _ _ _ _ _ _ (.int (xFI S5 1002 u7) :: _)
  refine g_iadd hC dX0_isValid_22 ?_
  refine g_aload_nR hC dX0_isValid_23 rfl ?_
  refine gX_get (C0 := RX11) (T := TX11) (N := 5) (n := 10) (k := 3) (q := (1003, false)) hC hX dX0_isValid_24 q1284 rfl in_X11 (by decide) (Or.inl rfl) rfl (by decide) hk8 ?_
  show GX _ _ _ _ _ _ _ (.int (xFI S5 1003 u7) :: _)
  refine g_icmp_lt (tgt := 54) hC dX0_isValid_27 (by decide) (fun c => ?_) (fun c => ?_)
  · have h := it_p c h.2
    refine g_iconst (v := 0) hC dX0_isValid_54 (by decide) ?_
    refine gX_zret rfl rfl hC hA hQ dX0_isValid_55 h
  · have h := it_n c h.2
    refine g_aload_nR hC dX0_isValid_30 rfl ?_
    refine gX_get (C0 := RX11) (T := TX11) (N := 5) (n := 10) (k := 4) (q := (1004, false)) hC hX dX0_isValid_31 q1286 rfl in_X11 (by decide) (Or.inl rfl) rfl (by decide) hk8 ?_
    show GX _ _ _ _ _ _ _ (.int (xFI S5 1004 u7) :: _)
    refine g_ldc (v := -1000000) hC dX0_isValid_34 q944 ?_
    refine g_icmp_eq (tgt := 50) hC dX0_isValid_36 (by decide) (fun c => ?_) (fun c => ?_)
    · have h := it_p c h
      refine g_iconst (v := 1) hC dX0_isValid_50 (by decide) ?_
      refine g_goto (tgt := 55) hC dX0_isValid_51 (by decide) ?_
      refine gX_zret rfl rfl hC hA hQ dX0_isValid_55 h
    · have h := it_n c h
      refine g_aload_nR hC dX0_isValid_39 rfl ?_
      refine g_aload_nR hC dX0_isValid_40 rfl ?_
      refine gX_get (C0 := RX11) (T := TX11) (N := 5) (n := 10) (k := 4) (q := (1004, false)) hC hX dX0_isValid_41 q1286 rfl in_X11 (by decide) (Or.inl rfl) rfl (by decide) hk8 ?_
      show GX _ _ _ _ _ _ _ (.int (xFI S5 1004 u7) :: _)
      refine g_top1 eu1 ?_
      have hk9 := h.1
      refine gX_ni hX (gX_runV (As := [.int (xFI S5 1004 u7)]) (rest := []) (Cr := RX0) hC hX (mx_X0_isCarried (cx_l C) E V fV lV hV _ _ _ _ h.2) (lw_V q1306 q1308 qs34 q70 q1309) hx_X0_isCarried rfl rfl (Or.inl (Nat.le_of_ble_eq_true rfl)) (by refine ⟨?_, ?_⟩ <;> dsimp only <;> omega) dX0_isValid_44 (Nat.zero_le _) (Nat.zero_le _) hk9 rfl (by decide) rfl) rfl rfl ?_
      intro r11 S10 h
      refine g_if_eq (tgt := 54) hC dX0_isValid_47 (by decide) (fun c => ?_) (fun c => ?_)
      · have h := it_p c h
        refine g_iconst (v := 0) hC dX0_isValid_54 (by decide) ?_
        refine gX_zret rfl rfl hC hA hQ dX0_isValid_55 h
      · have h := it_n c h
        refine g_iconst (v := 1) hC dX0_isValid_50 (by decide) ?_
        refine g_goto (tgt := 55) hC dX0_isValid_51 (by decide) ?_
        refine gX_zret rfl rfl hC hA hQ dX0_isValid_55 h
theorem mx_X0_isValid (l : Launch) (E : XE) (V : (Int32 → XS → Prop) → XS → Option Nat → Int32 → Prop) (fV lV : Nat) (hV : ∀ (Q : Int32 → XS → Prop) (S : XS) (x0 : Option Nat) (x1 : Int32), V Q S x0 x1 → XMet E l yX0_isValid cX0_isValid 3 (some .boolean) ({ frames := fV, cells := 0, slots := 0, locals := lV } : Room) [va_rf x0, .int x1] S (fun sz => va_Qi Q (BX1 E S sz) (xA S sz))) (Q : Int32 → XS → Prop) (S : XS) (x0 : Option Nat) (x1 : Int32) (h : wx_X0_isValid V Q S x0 x1) : XMet E l yX0_isValid cX0_isValid 3 (some .boolean) ({ frames := (fV + 16), cells := 0, slots := 0, locals := (lV + 600) } : Room) [va_rf x0, .int x1] S (fun sz => va_Qi Q (BX1 E S sz) (xA S sz)) :=
  XMet_of (rm := ({ frames := (fV + 16), cells := 0, slots := 0, locals := (lV + 600) } : Room)) (by decide) (by simp [lg_sl, va_rf_cat, cat_i, cat_l]) (L0 := [some (va_rf x0), some (.int x1), none]) (by simp [lx_pairs, lv_args, va_rf_cat, cat_i, cat_l, List.range_succ]) (fun sz C hC hX hl hnm hA hQ => bx_X0_isValid E C V fV lV (hl ▸ hV) S sz Q S x0 x1 hC hX hA hQ h)
def wx_X0_isValidN : Nat → (Int32 → XS → Prop) → XS → Option Nat → Int32 → Prop
  | 0 => fun _ _ _ _ => False
  | d + 1 => wx_X0_isValid (wx_X0_isValidN d)
theorem mx_X0_isValidN (l : Launch) (E : XE) : ∀ (d : Nat) (Q : Int32 → XS → Prop) (S : XS) (x0 : Option Nat) (x1 : Int32), wx_X0_isValidN d Q S x0 x1 → XMet E l yX0_isValid cX0_isValid 3 (some .boolean) ({ frames := 16 * d, cells := 0, slots := 0, locals := 600 * d } : Room) [va_rf x0, .int x1] S (fun sz => va_Qi Q (BX1 E S sz) (xA S sz))
  | 0 => fun _ _ _ _ h => False.elim h
  | d + 1 => fun Q S x0 x1 h => mx_X0_isValid l E _ (16 * d) (600 * d) (mx_X0_isValidN l E d) Q S x0 x1 h
def wx_X0_isValidD := wx_X0_isValidN 16
def wx_X0_isCarriedD := wx_X0_isCarried (wx_X0_isValidN 16)
theorem mx_X0_isValidD (l : Launch) (E : XE) (Q : Int32 → XS → Prop) (S : XS) (x0 : Option Nat) (x1 : Int32) (h : wx_X0_isValidD Q S x0 x1) : XMet E l yX0_isValid cX0_isValid 3 (some .boolean) ({ frames := 256, cells := 0, slots := 0, locals := 9600 } : Room) [va_rf x0, .int x1] S (fun sz => va_Qi Q (BX1 E S sz) (xA S sz)) := mx_X0_isValidN l E 16 Q S x0 x1 h
theorem mx_X0_isCarriedD (l : Launch) (E : XE) (Q : Int32 → XS → Prop) (S : XS) (x0 : Option Nat) (x1 : Int32) (h : wx_X0_isCarriedD Q S x0 x1) : XMet E l yX0_isCarried cX0_isCarried 2 (some .boolean) ({ frames := 264, cells := 0, slots := 0, locals := 9900 } : Room) [va_rf x0, .int x1] S (fun sz => va_Qi Q (BX1 E S sz) (xA S sz)) := mx_X0_isCarried l E _ _ _ (mx_X0_isValidN l E 16) Q S x0 x1 h
/-! X0_met -/
def wx_X0_met_129 (Q : Int32 → XS → Prop) (K64 : XS → Option Nat → Int32 → Int32 → Int32 → Prop) (S : XS) (a0 : Option Nat) (a1 : Int32) (a4 : Int32) (s0 : Int32) (s1 : Int32) : Prop :=
  K64 S a0 a1 (s0 + s1) (a4 + (1 : Int32))
def wx_X0_met_117 (Q : Int32 → XS → Prop) (K64 : XS → Option Nat → Int32 → Int32 → Int32 → Prop) (S : XS) (a0 : Option Nat) (a1 : Int32) (a3 : Int32) (a4 : Int32) (a5 : Int32) : Prop :=
  (if a5 = a1 then wx_X0_met_129 Q K64 S a0 a1 a4 a3 (1 : Int32) else wx_X0_met_129 Q K64 S a0 a1 a4 a3 (0 : Int32))
def wx_X0_met_82 (Q : Int32 → XS → Prop) (K64 : XS → Option Nat → Int32 → Int32 → Int32 → Prop) : Nat → XS → Option Nat → Int32 → Int32 → Int32 → Int32 → Prop
  | 0, _, _, _, _, _, _ => False
  | n + 1, S, a0, a1, a3, a4, a5 => (if a5 = (-1000000 : Int32) then wx_X0_met_117 Q K64 S a0 a1 a3 a4 a5 else (if a5 = a1 then wx_X0_met_117 Q K64 S a0 a1 a3 a4 a5 else dr a0 (fun u13 => xKD S u13 = some 0 ∧ dr (xFR S 6 u13) (fun u15 => xKD S u15 = some 16 ∧ wx_J2_get (fun r18 S17 => dr r18 (fun u19 => xKD S17 u19 = some 10 ∧ wx_X0_met_82 Q K64 n S17 a0 a1 a3 a4 (xFI S17 1004 u19))) S (some u15) a5))))
def wx_X0_met_64 (Q : Int32 → XS → Prop) : Nat → XS → Option Nat → Int32 → Int32 → Int32 → Prop
  | 0, _, _, _, _, _ => False
  | n + 1, S, a0, a1, a3, a4 => dr a0 (fun u7 => xKD S u7 = some 0 ∧ dr (xFR S 6 u7) (fun u9 => xKD S u9 = some 16 ∧ wx_J2_size (fun r12 S11 => (if r12 ≤ a4 then Q a3 S11 else ∃ n21, wx_X0_met_82 Q (wx_X0_met_64 Q n) n21 S11 a0 a1 a3 a4 a4)) S (some u9)))
def wx_X0_met (Q : Int32 → XS → Prop) (S : XS) (x0 : Option Nat) (x1 : Int32) (x2 : Int32) : Prop :=
  dr x0 (fun u1 => xKD S u1 = some 0 ∧ wx_X0_isMeeting (fun r4 S3 => (if r4 = 0 then Q (-1000001 : Int32) S3 else wx_X0_isIn (fun r6 S5 => (if r6 = 0 then Q (-1000001 : Int32) S5 else (if (2 : Int32) ≤ x2 then ∃ n22, wx_X0_met_64 Q n22 S5 x0 x1 (0 : Int32) (x1 + (1 : Int32)) else (if x2 = 0 then xKD S5 u1 = some 0 ∧ wx_X0_isValidD (fun r28 S27 => (if r28 = 0 then Q (0 : Int32) S27 else Q (1 : Int32) S27)) S5 (some u1) x1 else xKD S5 u1 = some 0 ∧ wx_X0_isCarriedD (fun r25 S24 => (if r25 = 0 then Q (0 : Int32) S24 else Q (1 : Int32) S24)) S5 (some u1) x1)))) S3 (Int32.toInt64 x2) (0 : Int64) (2 : Int64))) S (some u1) x1)
theorem hx_X0_met : yX0_met.cls = RX0 ∧ yX0_met.cls ≠ "java/lang/invoke/MethodHandle" ∧ yX0_met.cls ≠ "java/lang/invoke/VarHandle" ∧ (parseMethodDescriptor yX0_met.desc).map (fun d => d.parameters.length) = some 2 := by decide +kernel
set_option maxHeartbeats 4000000 in
set_option maxRecDepth 100000 in
theorem bx_X0_met (E : XE) (C : Cx) (S0 : XS) (sz : Nat) (Q : Int32 → XS → Prop) (S : XS) (x0 : Option Nat) (x1 : Int32) (x2 : Int32) (hC : COk C cX0_met RX0 (some .int) 265 9921 6) (hX : XOk E C) (hA : cx_A C = xA S0 sz) (hQ : cx_Q C = MQ (cx_b C) (va_Qi Q (BX1 E S0 sz) (xA S0 sz)) (cx_a C) (cx_s C) (cx_MC C) (cx_MS C) (xA S0 sz)) (h : wx_X0_met Q S x0 x1 x2) : GX E C S 0 0 0 [some (va_rf x0), some (.int x1), some (.int x2), none, none, none] [] := by
  have s_129 : ∀ (K64 : XS → Option Nat → Int32 → Int32 → Int32 → Prop) (hK64 : ∀ (S : XS) (b0 : Option Nat) (b1 : Int32) (b3 : Int32) (b4 : Int32), K64 S b0 b1 b3 b4 → GX E C S 0 0 64 [some (va_rf b0), some (.int b1), none, some (.int b3), some (.int b4), none] []) (S : XS) (a0 : Option Nat) (a1 : Int32) (a4 : Int32) (s0 : Int32) (s1 : Int32), wx_X0_met_129 Q K64 S a0 a1 a4 s0 s1 → GX E C S 0 0 129 [some (va_rf a0), some (.int a1), none, none, some (.int a4), none] [.int s1, .int s0] := by
    intro K64 hK64 S a0 a1 a4 s0 s1 h
    refine g_iadd hC dX0_met_129 ?_
    refine g_istore_n hC dX0_met_130 rfl (by decide) rfl rfl ?_
    refine g_iinc (v := (a4 + (1 : Int32))) hC dX0_met_131 rfl rfl (by decide) rfl rfl ?_
    refine g_goto (tgt := 64) hC dX0_met_134 (by decide) ?_
    exact hK64 S a0 a1 (s0 + s1) (a4 + (1 : Int32)) h
  have s_117 : ∀ (K64 : XS → Option Nat → Int32 → Int32 → Int32 → Prop) (hK64 : ∀ (S : XS) (b0 : Option Nat) (b1 : Int32) (b3 : Int32) (b4 : Int32), K64 S b0 b1 b3 b4 → GX E C S 0 0 64 [some (va_rf b0), some (.int b1), none, some (.int b3), some (.int b4), none] []) (S : XS) (a0 : Option Nat) (a1 : Int32) (a3 : Int32) (a4 : Int32) (a5 : Int32), wx_X0_met_117 Q K64 S a0 a1 a3 a4 a5 → GX E C S 0 0 117 [some (va_rf a0), some (.int a1), none, some (.int a3), some (.int a4), some (.int a5)] [] := by
    intro K64 hK64 S a0 a1 a3 a4 a5 h
    refine g_iload_n hC dX0_met_117 rfl ?_
    refine g_iload hC dX0_met_118 rfl ?_
    refine g_iload_n hC dX0_met_120 rfl ?_
    refine g_icmp_ne (tgt := 128) hC dX0_met_121 (by decide) (fun c => ?_) (fun c => ?_)
    · have h := it_n c h
      refine g_iconst (v := 0) hC dX0_met_128 (by decide) ?_
      refine g_sub [true, true, false, false, true, false] rfl ?_
      exact s_129 K64 hK64 S a0 a1 a4 a3 (0 : Int32) h
    · have h := it_p c h
      refine g_iconst (v := 1) hC dX0_met_124 (by decide) ?_
      refine g_goto (tgt := 129) hC dX0_met_125 (by decide) ?_
      refine g_sub [true, true, false, false, true, false] rfl ?_
      exact s_129 K64 hK64 S a0 a1 a4 a3 (1 : Int32) h
  have s_82 : ∀ (K64 : XS → Option Nat → Int32 → Int32 → Int32 → Prop) (hK64 : ∀ (S : XS) (b0 : Option Nat) (b1 : Int32) (b3 : Int32) (b4 : Int32), K64 S b0 b1 b3 b4 → GX E C S 0 0 64 [some (va_rf b0), some (.int b1), none, some (.int b3), some (.int b4), none] []) (n : Nat) (S : XS) (a0 : Option Nat) (a1 : Int32) (a3 : Int32) (a4 : Int32) (a5 : Int32), wx_X0_met_82 Q K64 n S a0 a1 a3 a4 a5 → GX E C S 0 0 82 [some (va_rf a0), some (.int a1), none, some (.int a3), some (.int a4), some (.int a5)] [] := by
    intro K64 hK64 n
    induction n with
    | zero =>
      intro S a0 a1 a3 a4 a5 h
      exact False.elim h
    | succ n ih =>
      intro S a0 a1 a3 a4 a5 h
      refine g_iload hC dX0_met_82 rfl ?_
      refine g_ldc (v := -1000000) hC dX0_met_84 q944 ?_
      refine g_icmp_eq (tgt := 117) hC dX0_met_86 (by decide) (fun c => ?_) (fun c => ?_)
      · have h := it_p c h
        exact s_117 K64 hK64 S a0 a1 a3 a4 a5 h
      · have h := it_n c h
        refine g_iload hC dX0_met_89 rfl ?_
        refine g_iload_n hC dX0_met_91 rfl ?_
        refine g_icmp_eq (tgt := 117) hC dX0_met_92 (by decide) (fun c => ?_) (fun c => ?_)
        · have h := it_p c h
          exact s_117 K64 hK64 S a0 a1 a3 a4 a5 h
        · have h := it_n c h
          refine g_aload_nR hC dX0_met_95 rfl ?_
          obtain ⟨u13, eu13, h⟩ := h
          refine g_top0 eu13 ?_
          have hk14 := h.1
          refine gX_get (C0 := RX0) (T := TX0) (N := 15) (n := 0) (k := 6) (q := (6, true)) hC hX dX0_met_96 q217 rfl in_X0 (by decide) (Or.inl rfl) rfl (by decide) hk14 ?_
          show GX _ _ _ _ _ _ _ (va_rf (xFR S 6 u13) :: _)
          refine g_iload hC dX0_met_99 rfl ?_
          obtain ⟨u15, eu15, h⟩ := h.2
          refine g_top1 eu15 ?_
          have hk16 := h.1
          refine gX_nq5 hX (gX_runF (n := 1) (As := [.int a5]) (rest := []) (Cr := "java/util/ArrayList") (x := ⟨"java/util/List", "get", "(I)Ljava/lang/Object;"⟩) hC hX (mx_J2_get (cx_l C) E _ _ _ _ h.2) (lw_app (lw_4 q928 q931 q933 q73) (lw_meth q935)) (List.mem_of_getElem? (i := 2) rfl) (by decide +kernel) rfl rfl (Or.inl (Nat.le_of_ble_eq_true rfl)) ⟨Nat.le_of_ble_eq_true rfl, Nat.le_of_ble_eq_true rfl⟩ dX0_met_101 (Nat.zero_le _) (Nat.zero_le _) hk16 rfl (by decide) rfl) rfl rfl ?_
          intro r18 S17 h
          obtain ⟨u19, eu19, h⟩ := h
          refine g_top0 eu19 ?_
          have hk20 := h.1
          refine gX_cast (r := (RX11, TX11, 5)) (n := 10) hC hX dX0_met_106 q1272 rfl (by decide) hk20 ?_
          refine gX_get (C0 := RX11) (T := TX11) (N := 5) (n := 10) (k := 4) (q := (1004, false)) hC hX dX0_met_109 q1286 rfl in_X11 (by decide) (Or.inl rfl) rfl (by decide) hk20 ?_
          show GX _ _ _ _ _ _ _ (.int (xFI S17 1004 u19) :: _)
          refine g_istore hC dX0_met_112 (by decide) rfl rfl ?_
          refine g_goto (tgt := 82) hC dX0_met_114 (by decide) ?_
          exact ih S17 a0 a1 a3 a4 (xFI S17 1004 u19) h.2
  have s_64 : ∀ (n : Nat) (S : XS) (a0 : Option Nat) (a1 : Int32) (a3 : Int32) (a4 : Int32), wx_X0_met_64 Q  n S a0 a1 a3 a4 → GX E C S 0 0 64 [some (va_rf a0), some (.int a1), none, some (.int a3), some (.int a4), none] [] := by
    intro  n
    induction n with
    | zero =>
      intro S a0 a1 a3 a4 h
      exact False.elim h
    | succ n ih =>
      intro S a0 a1 a3 a4 h
      refine g_iload hC dX0_met_64 rfl ?_
      refine g_aload_nR hC dX0_met_66 rfl ?_
      obtain ⟨u7, eu7, h⟩ := h
      refine g_top0 eu7 ?_
      have hk8 := h.1
      refine gX_get (C0 := RX0) (T := TX0) (N := 15) (n := 0) (k := 6) (q := (6, true)) hC hX dX0_met_67 q217 rfl in_X0 (by decide) (Or.inl rfl) rfl (by decide) hk8 ?_
      show GX _ _ _ _ _ _ _ (va_rf (xFR S 6 u7) :: _)
      obtain ⟨u9, eu9, h⟩ := h.2
      refine g_top0 eu9 ?_
      have hk10 := h.1
      refine gX_ni5 hX (gX_runF (n := 0) (As := []) (rest := [.int a4]) (Cr := "java/util/ArrayList") (x := ⟨"java/util/List", "size", "()I"⟩) hC hX (mx_J2_size (cx_l C) E _ _ _ h.2) (lw_app (lw_4 q770 q774 q776 q73) (lw_meth q778)) (List.mem_of_getElem? (i := 0) rfl) (by decide +kernel) rfl rfl (Or.inl (Nat.le_of_ble_eq_true rfl)) ⟨Nat.le_of_ble_eq_true rfl, Nat.le_of_ble_eq_true rfl⟩ dX0_met_70 (Nat.zero_le _) (Nat.zero_le _) hk10 rfl (by decide) rfl) rfl rfl ?_
      intro r12 S11 h
      refine g_icmp_ge (tgt := 137) hC dX0_met_75 (by decide) (fun c => ?_) (fun c => ?_)
      · have h := it_p c h
        refine g_iload_n hC dX0_met_137 rfl ?_
        refine gX_iret rfl hC hA hQ dX0_met_138 h
      · have h := it_n c h
        refine g_iload hC dX0_met_78 rfl ?_
        refine g_istore hC dX0_met_80 (by decide) rfl rfl ?_
        obtain ⟨n0, h0⟩ := h
        exact s_82 (wx_X0_met_64 Q n) ih n0 S11 a0 a1 a3 a4 a4 h0
  refine g_aload_nR hC dX0_met_0 rfl ?_
  refine g_iload_n hC dX0_met_1 rfl ?_
  obtain ⟨u1, eu1, h⟩ := h
  refine g_top1 eu1 ?_
  have hk2 := h.1
  refine gX_ni hX (gX_runV (As := [.int x1]) (rest := []) (Cr := RX0) hC hX (mx_X0_isMeeting (cx_l C) E _ _ _ _ h.2) (lw_V q1268 q1270 qs32 q70 q1271) hx_X0_isMeeting rfl rfl (Or.inl (Nat.le_of_ble_eq_true rfl)) ⟨Nat.le_of_ble_eq_true rfl, Nat.le_of_ble_eq_true rfl⟩ dX0_met_2 (Nat.zero_le _) (Nat.zero_le _) hk2 rfl (by decide) rfl) rfl rfl ?_
  intro r4 S3 h
  refine g_if_eq (tgt := 20) hC dX0_met_5 (by decide) (fun c => ?_) (fun c => ?_)
  · have h := it_p c h
    refine g_ldc (v := -1000001) hC dX0_met_20 q273 ?_
    refine gX_iret rfl hC hA hQ dX0_met_22 h
  · have h := it_n c h
    refine g_iload_n hC dX0_met_8 rfl ?_
    refine g_i2l hC dX0_met_9 ?_
    refine g_lconst (v := 0) hC dX0_met_10 (by decide) ?_
    refine g_ldc2 (v := 2) hC dX0_met_11 q272 ?_
    refine gX_ni hX (gX_runS (As := [.long (Int32.toInt64 x2), .long (0 : Int64), .long (2 : Int64)]) (rest := []) hC hX (mx_X0_isIn (cx_l C) E _ _ _ _ _ h) (lw_S q269 q270 q70 q271) hx_X0_isIn.2 rfl rfl (Or.inl (Nat.le_of_ble_eq_true rfl)) ⟨Nat.le_of_ble_eq_true rfl, Nat.le_of_ble_eq_true rfl⟩ dX0_met_14 (Nat.zero_le _) (Nat.zero_le _)) rfl rfl ?_
    intro r6 S5 h
    refine g_if_ne (tgt := 23) hC dX0_met_17 (by decide) (fun c => ?_) (fun c => ?_)
    · have h := it_n c h
      refine g_iload_n hC dX0_met_23 rfl ?_
      refine g_iconst (v := 2) hC dX0_met_24 (by decide) ?_
      refine g_icmp_ge (tgt := 57) hC dX0_met_25 (by decide) (fun c => ?_) (fun c => ?_)
      · have h := it_p c h
        refine g_iconst (v := 0) hC dX0_met_57 (by decide) ?_
        refine g_istore_n hC dX0_met_58 rfl (by decide) rfl rfl ?_
        refine g_sub [true, true, false, true, false, false] rfl ?_
        refine g_iload_n hC dX0_met_59 rfl ?_
        refine g_iconst (v := 1) hC dX0_met_60 (by decide) ?_
        refine g_iadd hC dX0_met_61 ?_
        refine g_istore hC dX0_met_62 (by decide) rfl rfl ?_
        obtain ⟨n0, h0⟩ := h
        exact s_64 n0 S5 x0 x1 (0 : Int32) (x1 + (1 : Int32)) h0
      · have h := it_n c h
        refine g_iload_n hC dX0_met_28 rfl ?_
        refine g_if_ne (tgt := 43) hC dX0_met_29 (by decide) (fun c => ?_) (fun c => ?_)
        · have h := it_n c h
          refine g_aload_nR hC dX0_met_43 rfl ?_
          refine g_iload_n hC dX0_met_44 rfl ?_
          refine g_top1 eu1 ?_
          have hk23 := h.1
          refine gX_ni hX (gX_runV (As := [.int x1]) (rest := []) (Cr := RX0) hC hX (mx_X0_isCarriedD (cx_l C) E _ _ _ _ h.2) (lw_V q1306 q1308 qs34 q70 q1309) hx_X0_isCarried rfl rfl (Or.inl (Nat.le_of_ble_eq_true rfl)) ⟨Nat.le_of_ble_eq_true rfl, Nat.le_of_ble_eq_true rfl⟩ dX0_met_45 (Nat.zero_le _) (Nat.zero_le _) hk23 rfl (by decide) rfl) rfl rfl ?_
          intro r25 S24 h
          refine g_if_eq (tgt := 55) hC dX0_met_48 (by decide) (fun c => ?_) (fun c => ?_)
          · have h := it_p c h
            refine g_iconst (v := 0) hC dX0_met_55 (by decide) ?_
            refine gX_iret rfl hC hA hQ dX0_met_56 h
          · have h := it_n c h
            refine g_iconst (v := 1) hC dX0_met_51 (by decide) ?_
            refine g_goto (tgt := 56) hC dX0_met_52 (by decide) ?_
            refine gX_iret rfl hC hA hQ dX0_met_56 h
        · have h := it_p c h
          refine g_aload_nR hC dX0_met_32 rfl ?_
          refine g_iload_n hC dX0_met_33 rfl ?_
          refine g_top1 eu1 ?_
          have hk26 := h.1
          refine gX_ni hX (gX_runV (As := [.int x1]) (rest := []) (Cr := RX0) hC hX (mx_X0_isValidD (cx_l C) E _ _ _ _ h.2) (lw_V q1302 q1304 qs33 q70 q1305) hx_X0_isValid rfl rfl (Or.inl (Nat.le_of_ble_eq_true rfl)) ⟨Nat.le_of_ble_eq_true rfl, Nat.le_of_ble_eq_true rfl⟩ dX0_met_34 (Nat.zero_le _) (Nat.zero_le _) hk26 rfl (by decide) rfl) rfl rfl ?_
          intro r28 S27 h
          refine g_if_eq (tgt := 55) hC dX0_met_37 (by decide) (fun c => ?_) (fun c => ?_)
          · have h := it_p c h
            refine g_iconst (v := 0) hC dX0_met_55 (by decide) ?_
            refine gX_iret rfl hC hA hQ dX0_met_56 h
          · have h := it_n c h
            refine g_goto (tgt := 51) hC dX0_met_40 (by decide) ?_
            refine g_iconst (v := 1) hC dX0_met_51 (by decide) ?_
            refine g_goto (tgt := 56) hC dX0_met_52 (by decide) ?_
            refine gX_iret rfl hC hA hQ dX0_met_56 h
    · have h := it_p c h
      refine g_ldc (v := -1000001) hC dX0_met_20 q273 ?_
      refine gX_iret rfl hC hA hQ dX0_met_22 h
theorem mx_X0_met (l : Launch) (E : XE) (Q : Int32 → XS → Prop) (S : XS) (x0 : Option Nat) (x1 : Int32) (x2 : Int32) (h : wx_X0_met Q S x0 x1 x2) : XMet E l yX0_met cX0_met 6 (some .int) ({ frames := 265, cells := 0, slots := 0, locals := 9921 } : Room) [va_rf x0, .int x1, .int x2] S (fun sz => va_Qi Q (BX1 E S sz) (xA S sz)) :=
  XMet_of (rm := ({ frames := 265, cells := 0, slots := 0, locals := 9921 } : Room)) (by decide) (by simp [lg_sl, va_rf_cat, cat_i, cat_l]) (L0 := [some (va_rf x0), some (.int x1), some (.int x2), none, none, none]) (by simp [lx_pairs, lv_args, va_rf_cat, cat_i, cat_l, List.range_succ]) (fun sz C hC hX hl hnm hA hQ => bx_X0_met E C S sz Q S x0 x1 x2 hC hX hA hQ h)
/-! X0_day -/
def wx_X0_day (Q : Int32 → XS → Prop) (S : XS) (x0 : Option Nat) (x1 : Int32) : Prop :=
  wx_X0_isDay (fun r2 S1 => (if r2 = 0 then Q (-1000001 : Int32) S1 else dr x0 (fun u3 => xKD S1 u3 = some 0 ∧ Q (xFI S1 10 u3) (sFI S1 10 u3 x1)))) S x1
theorem hx_X0_day : yX0_day.cls = RX0 ∧ yX0_day.cls ≠ "java/lang/invoke/MethodHandle" ∧ yX0_day.cls ≠ "java/lang/invoke/VarHandle" ∧ (parseMethodDescriptor yX0_day.desc).map (fun d => d.parameters.length) = some 1 := by decide +kernel
set_option maxHeartbeats 4000000 in
set_option maxRecDepth 100000 in
theorem bx_X0_day (E : XE) (C : Cx) (S0 : XS) (sz : Nat) (Q : Int32 → XS → Prop) (S : XS) (x0 : Option Nat) (x1 : Int32) (hC : COk C cX0_day RX0 (some .int) 3 79 3) (hX : XOk E C) (hA : cx_A C = xA S0 sz) (hQ : cx_Q C = MQ (cx_b C) (va_Qi Q (BX1 E S0 sz) (xA S0 sz)) (cx_a C) (cx_s C) (cx_MC C) (cx_MS C) (xA S0 sz)) (h : wx_X0_day Q S x0 x1) : GX E C S 0 0 0 [some (va_rf x0), some (.int x1), none] [] := by
  refine g_iload_n hC dX0_day_0 rfl ?_
  refine gX_ni hX (gX_runS (As := [.int x1]) (rest := []) hC hX (mx_X0_isDay (cx_l C) E _ _ _ h) (lw_S q788 q789 q70 q790) hx_X0_isDay.2 rfl rfl (Or.inl (Nat.le_of_ble_eq_true rfl)) ⟨Nat.le_of_ble_eq_true rfl, Nat.le_of_ble_eq_true rfl⟩ dX0_day_1 (Nat.zero_le _) (Nat.zero_le _)) rfl rfl ?_
  intro r2 S1 h
  refine g_if_ne (tgt := 10) hC dX0_day_4 (by decide) (fun c => ?_) (fun c => ?_)
  · have h := it_n c h
    refine g_aload_nR hC dX0_day_10 rfl ?_
    obtain ⟨u3, eu3, h⟩ := h
    refine g_top0 eu3 ?_
    have hk4 := h.1
    refine gX_get (C0 := RX0) (T := TX0) (N := 15) (n := 0) (k := 10) (q := (10, false)) hC hX dX0_day_11 q224 rfl in_X0 (by decide) (Or.inl rfl) rfl (by decide) hk4 ?_
    show GX _ _ _ _ _ _ _ (.int (xFI S1 10 u3) :: _)
    refine g_istore_n hC dX0_day_14 rfl (by decide) rfl rfl ?_
    refine g_aload_nR hC dX0_day_15 rfl ?_
    refine g_iload_n hC dX0_day_16 rfl ?_
    refine g_top1 eu3 ?_
    refine gX_putI (C0 := RX0) (T := TX0) (ty0 := tyX0) (N := 15) (n := 0) (k := 10) (f := 10) hC hX dX0_day_17 q224 rfl in_X0 tyX0_ok nmX0 (by decide) (Or.inl rfl) rfl rfl rfl rfl rfl (by decide) (Or.inl (by decide)) hk4 ?_
    refine g_iload_n hC dX0_day_20 rfl ?_
    refine gX_iret rfl hC hA hQ dX0_day_21 h.2
  · have h := it_p c h
    refine g_ldc (v := -1000001) hC dX0_day_7 q273 ?_
    refine gX_iret rfl hC hA hQ dX0_day_9 h
theorem mx_X0_day (l : Launch) (E : XE) (Q : Int32 → XS → Prop) (S : XS) (x0 : Option Nat) (x1 : Int32) (h : wx_X0_day Q S x0 x1) : XMet E l yX0_day cX0_day 3 (some .int) ({ frames := 3, cells := 0, slots := 0, locals := 79 } : Room) [va_rf x0, .int x1] S (fun sz => va_Qi Q (BX1 E S sz) (xA S sz)) :=
  XMet_of (rm := ({ frames := 3, cells := 0, slots := 0, locals := 79 } : Room)) (by decide) (by simp [lg_sl, va_rf_cat, cat_i, cat_l]) (L0 := [some (va_rf x0), some (.int x1), none]) (by simp [lx_pairs, lv_args, va_rf_cat, cat_i, cat_l, List.range_succ]) (fun sz C hC hX hl hnm hA hQ => bx_X0_day E C S sz Q S x0 x1 hC hX hA hQ h)
/-! X12_init -/
def wx_X12_init (Q : XS → Prop) (S : XS) (x0 : Option Nat) (x1 : Option Nat) : Prop :=
  dr x0 (fun u1 => xAs S u1 ∧ Q (sFR S 1100 u1 x1))
theorem hx_X12_init : yX12_init.cls = RX12 ∧ yX12_init.cls ≠ "java/lang/invoke/MethodHandle" ∧ yX12_init.cls ≠ "java/lang/invoke/VarHandle" ∧ (parseMethodDescriptor yX12_init.desc).map (fun d => d.parameters.length) = some 1 := by decide +kernel
set_option maxHeartbeats 4000000 in
set_option maxRecDepth 100000 in
theorem bx_X12_init (E : XE) (C : Cx) (S0 : XS) (sz : Nat) (Q : XS → Prop) (S : XS) (x0 : Option Nat) (x1 : Option Nat) (hC : COk C cX12_init RX12 none 1 34 2) (hX : XOk E C) (hA : cx_A C = xA S0 sz) (hini : (cx_h C).name = "<init>") (hQ : cx_Q C = MQ (cx_b C) (va_Qv Q (BX1 E S0 sz) (xA S0 sz)) (cx_a C) (cx_s C) (cx_MC C) (cx_MS C) (xA S0 sz)) (h : wx_X12_init Q S x0 x1) : GX E C S 0 0 0 [some (va_rf x0), some (va_rf x1)] [] := by
  refine g_aload_nR hC dX12_init_0 rfl ?_
  obtain ⟨u1, eu1, h⟩ := h
  refine g_top0 eu1 ?_
  refine gX_oinit hC dX12_init_1 q1330 q115 q116 (Nat.le_of_ble_eq_true rfl) (by decide) (by decide) ?_
  refine g_aload_nR hC dX12_init_4 rfl ?_
  refine g_aload_nR hC dX12_init_5 rfl ?_
  refine g_top1 eu1 ?_
  refine gX_itput hC hX dX12_init_6 q1331 hini h.1 ?_
  refine gX_vret hC hA hQ rfl dX12_init_9 h.2
theorem mx_X12_init (l : Launch) (E : XE) (Q : XS → Prop) (S : XS) (x0 : Option Nat) (x1 : Option Nat) (h : wx_X12_init Q S x0 x1) : XMet E l yX12_init cX12_init 2 none ({ frames := 1, cells := 0, slots := 0, locals := 34 } : Room) [va_rf x0, va_rf x1] S (fun sz => va_Qv Q (BX1 E S sz) (xA S sz)) :=
  XMet_of (rm := ({ frames := 1, cells := 0, slots := 0, locals := 34 } : Room)) (by decide) (by simp [lg_sl, va_rf_cat, cat_i, cat_l]) (L0 := [some (va_rf x0), some (va_rf x1)]) (by simp [lx_pairs, lv_args, va_rf_cat, cat_i, cat_l, List.range_succ]) (fun sz C hC hX hl hnm hA hQ => bx_X12_init E C S sz Q S x0 x1 hC hX hA hnm hQ h)
/-! X13_init -/
def wx_X13_init (Q : XS → Prop) (S : XS) (x0 : Option Nat) (x1 : Option Nat) : Prop :=
  dr x0 (fun u1 => wx_X12_init (fun S2 => Q S2) S (some u1) x1)
theorem hx_X13_init : yX13_init.cls = RX13 ∧ yX13_init.cls ≠ "java/lang/invoke/MethodHandle" ∧ yX13_init.cls ≠ "java/lang/invoke/VarHandle" ∧ (parseMethodDescriptor yX13_init.desc).map (fun d => d.parameters.length) = some 1 := by decide +kernel
set_option maxHeartbeats 4000000 in
set_option maxRecDepth 100000 in
theorem bx_X13_init (E : XE) (C : Cx) (S0 : XS) (sz : Nat) (Q : XS → Prop) (S : XS) (x0 : Option Nat) (x1 : Option Nat) (hC : COk C cX13_init RX13 none 2 55 2) (hX : XOk E C) (hA : cx_A C = xA S0 sz) (hini : (cx_h C).name = "<init>") (hQ : cx_Q C = MQ (cx_b C) (va_Qv Q (BX1 E S0 sz) (xA S0 sz)) (cx_a C) (cx_s C) (cx_MC C) (cx_MS C) (xA S0 sz)) (h : wx_X13_init Q S x0 x1) : GX E C S 0 0 0 [some (va_rf x0), some (va_rf x1)] [] := by
  refine g_aload_nR hC dX13_init_0 rfl ?_
  refine g_aload_nR hC dX13_init_1 rfl ?_
  obtain ⟨u1, eu1, h⟩ := h
  refine g_top1 eu1 ?_
  refine gX_nv hX (gX_runI (As := [va_rf x1]) (rest := []) hC hX (mx_X12_init (cx_l C) E _ _ _ _ h) q1329 q103 q1327 q1328 rfl hx_X12_init.2 rfl rfl (Or.inl (Nat.le_of_ble_eq_true rfl)) ⟨Nat.le_of_ble_eq_true rfl, Nat.le_of_ble_eq_true rfl⟩ dX13_init_2 (Nat.zero_le _) (Nat.zero_le _)) rfl rfl ?_
  intro S2 h
  refine gX_vret hC hA hQ rfl dX13_init_5 h
theorem mx_X13_init (l : Launch) (E : XE) (Q : XS → Prop) (S : XS) (x0 : Option Nat) (x1 : Option Nat) (h : wx_X13_init Q S x0 x1) : XMet E l yX13_init cX13_init 2 none ({ frames := 2, cells := 0, slots := 0, locals := 55 } : Room) [va_rf x0, va_rf x1] S (fun sz => va_Qv Q (BX1 E S sz) (xA S sz)) :=
  XMet_of (rm := ({ frames := 2, cells := 0, slots := 0, locals := 55 } : Room)) (by decide) (by simp [lg_sl, va_rf_cat, cat_i, cat_l]) (L0 := [some (va_rf x0), some (va_rf x1)]) (by simp [lx_pairs, lv_args, va_rf_cat, cat_i, cat_l, List.range_succ]) (fun sz C hC hX hl hnm hA hQ => bx_X13_init E C S sz Q S x0 x1 hC hX hA hnm hQ h)
/-! X14_init -/
def wx_X14_init (Q : XS → Prop) (S : XS) (x0 : Option Nat) (x1 : Option Nat) (x2 : Int32) : Prop :=
  dr x0 (fun u1 => wx_X12_init (fun S2 => (xKD S2 u1 = some 13 ∨ xKD S2 u1 = some 14) ∧ Q (sFI S2 1300 u1 x2)) S (some u1) x1)
theorem hx_X14_init : yX14_init.cls = RX14 ∧ yX14_init.cls ≠ "java/lang/invoke/MethodHandle" ∧ yX14_init.cls ≠ "java/lang/invoke/VarHandle" ∧ (parseMethodDescriptor yX14_init.desc).map (fun d => d.parameters.length) = some 2 := by decide +kernel
set_option maxHeartbeats 4000000 in
set_option maxRecDepth 100000 in
theorem bx_X14_init (E : XE) (C : Cx) (S0 : XS) (sz : Nat) (Q : XS → Prop) (S : XS) (x0 : Option Nat) (x1 : Option Nat) (x2 : Int32) (hC : COk C cX14_init RX14 none 2 55 3) (hX : XOk E C) (hA : cx_A C = xA S0 sz) (hini : (cx_h C).name = "<init>") (hQ : cx_Q C = MQ (cx_b C) (va_Qv Q (BX1 E S0 sz) (xA S0 sz)) (cx_a C) (cx_s C) (cx_MC C) (cx_MS C) (xA S0 sz)) (h : wx_X14_init Q S x0 x1 x2) : GX E C S 0 0 0 [some (va_rf x0), some (va_rf x1), some (.int x2)] [] := by
  refine g_aload_nR hC dX14_init_0 rfl ?_
  refine g_aload_nR hC dX14_init_1 rfl ?_
  obtain ⟨u1, eu1, h⟩ := h
  refine g_top1 eu1 ?_
  refine gX_nv hX (gX_runI (As := [va_rf x1]) (rest := []) hC hX (mx_X12_init (cx_l C) E _ _ _ _ h) q1329 q103 q1346 q1328 rfl hx_X12_init.2 rfl rfl (Or.inl (Nat.le_of_ble_eq_true rfl)) ⟨Nat.le_of_ble_eq_true rfl, Nat.le_of_ble_eq_true rfl⟩ dX14_init_2 (Nat.zero_le _) (Nat.zero_le _)) rfl rfl ?_
  intro S2 h
  refine g_aload_nR hC dX14_init_5 rfl ?_
  refine g_iload_n hC dX14_init_6 rfl ?_
  refine g_top1 eu1 ?_
  refine gX_priceput hC hX dX14_init_7 q1347 hini h.1 ?_
  refine gX_vret hC hA hQ rfl dX14_init_10 h.2
theorem mx_X14_init (l : Launch) (E : XE) (Q : XS → Prop) (S : XS) (x0 : Option Nat) (x1 : Option Nat) (x2 : Int32) (h : wx_X14_init Q S x0 x1 x2) : XMet E l yX14_init cX14_init 3 none ({ frames := 2, cells := 0, slots := 0, locals := 55 } : Room) [va_rf x0, va_rf x1, .int x2] S (fun sz => va_Qv Q (BX1 E S sz) (xA S sz)) :=
  XMet_of (rm := ({ frames := 2, cells := 0, slots := 0, locals := 55 } : Room)) (by decide) (by simp [lg_sl, va_rf_cat, cat_i, cat_l]) (L0 := [some (va_rf x0), some (va_rf x1), some (.int x2)]) (by simp [lx_pairs, lv_args, va_rf_cat, cat_i, cat_l, List.range_succ]) (fun sz C hC hX hl hnm hA hQ => bx_X14_init E C S sz Q S x0 x1 x2 hC hX hA hnm hQ h)
/-! X15_init -/
def wx_X15_init (Q : XS → Prop) (S : XS) (x0 : Option Nat) (x1 : Option Nat) (x2 : Int32) : Prop :=
  dr x0 (fun u1 => wx_X14_init (fun S2 => Q S2) S (some u1) x1 x2)
theorem hx_X15_init : yX15_init.cls = RX15 ∧ yX15_init.cls ≠ "java/lang/invoke/MethodHandle" ∧ yX15_init.cls ≠ "java/lang/invoke/VarHandle" ∧ (parseMethodDescriptor yX15_init.desc).map (fun d => d.parameters.length) = some 2 := by decide +kernel
set_option maxHeartbeats 4000000 in
set_option maxRecDepth 100000 in
theorem bx_X15_init (E : XE) (C : Cx) (S0 : XS) (sz : Nat) (Q : XS → Prop) (S : XS) (x0 : Option Nat) (x1 : Option Nat) (x2 : Int32) (hC : COk C cX15_init RX15 none 3 77 3) (hX : XOk E C) (hA : cx_A C = xA S0 sz) (hini : (cx_h C).name = "<init>") (hQ : cx_Q C = MQ (cx_b C) (va_Qv Q (BX1 E S0 sz) (xA S0 sz)) (cx_a C) (cx_s C) (cx_MC C) (cx_MS C) (xA S0 sz)) (h : wx_X15_init Q S x0 x1 x2) : GX E C S 0 0 0 [some (va_rf x0), some (va_rf x1), some (.int x2)] [] := by
  refine g_aload_nR hC dX15_init_0 rfl ?_
  refine g_aload_nR hC dX15_init_1 rfl ?_
  refine g_iload_n hC dX15_init_2 rfl ?_
  obtain ⟨u1, eu1, h⟩ := h
  refine g_top2 eu1 ?_
  refine gX_nv hX (gX_runI (As := [va_rf x1, .int x2]) (rest := []) hC hX (mx_X14_init (cx_l C) E _ _ _ _ _ h) q1345 q105 q1343 q1344 rfl hx_X14_init.2 rfl rfl (Or.inl (Nat.le_of_ble_eq_true rfl)) ⟨Nat.le_of_ble_eq_true rfl, Nat.le_of_ble_eq_true rfl⟩ dX15_init_3 (Nat.zero_le _) (Nat.zero_le _)) rfl rfl ?_
  intro S2 h
  refine gX_vret hC hA hQ rfl dX15_init_6 h
theorem mx_X15_init (l : Launch) (E : XE) (Q : XS → Prop) (S : XS) (x0 : Option Nat) (x1 : Option Nat) (x2 : Int32) (h : wx_X15_init Q S x0 x1 x2) : XMet E l yX15_init cX15_init 3 none ({ frames := 3, cells := 0, slots := 0, locals := 77 } : Room) [va_rf x0, va_rf x1, .int x2] S (fun sz => va_Qv Q (BX1 E S sz) (xA S sz)) :=
  XMet_of (rm := ({ frames := 3, cells := 0, slots := 0, locals := 77 } : Room)) (by decide) (by simp [lg_sl, va_rf_cat, cat_i, cat_l]) (L0 := [some (va_rf x0), some (va_rf x1), some (.int x2)]) (by simp [lx_pairs, lv_args, va_rf_cat, cat_i, cat_l, List.range_succ]) (fun sz C hC hX hl hnm hA hQ => bx_X15_init E C S sz Q S x0 x1 x2 hC hX hA hnm hQ h)
/-! X16_init -/
def wx_X16_init (Q : XS → Prop) (S : XS) (x0 : Option Nat) (x1 : Option Nat) : Prop :=
  dr x0 (fun u1 => wx_X12_init (fun S2 => Q S2) S (some u1) x1)
theorem hx_X16_init : yX16_init.cls = RX16 ∧ yX16_init.cls ≠ "java/lang/invoke/MethodHandle" ∧ yX16_init.cls ≠ "java/lang/invoke/VarHandle" ∧ (parseMethodDescriptor yX16_init.desc).map (fun d => d.parameters.length) = some 1 := by decide +kernel
set_option maxHeartbeats 4000000 in
set_option maxRecDepth 100000 in
theorem bx_X16_init (E : XE) (C : Cx) (S0 : XS) (sz : Nat) (Q : XS → Prop) (S : XS) (x0 : Option Nat) (x1 : Option Nat) (hC : COk C cX16_init RX16 none 2 55 2) (hX : XOk E C) (hA : cx_A C = xA S0 sz) (hini : (cx_h C).name = "<init>") (hQ : cx_Q C = MQ (cx_b C) (va_Qv Q (BX1 E S0 sz) (xA S0 sz)) (cx_a C) (cx_s C) (cx_MC C) (cx_MS C) (xA S0 sz)) (h : wx_X16_init Q S x0 x1) : GX E C S 0 0 0 [some (va_rf x0), some (va_rf x1)] [] := by
  refine g_aload_nR hC dX16_init_0 rfl ?_
  refine g_aload_nR hC dX16_init_1 rfl ?_
  obtain ⟨u1, eu1, h⟩ := h
  refine g_top1 eu1 ?_
  refine gX_nv hX (gX_runI (As := [va_rf x1]) (rest := []) hC hX (mx_X12_init (cx_l C) E _ _ _ _ h) q1329 q103 q1363 q1328 rfl hx_X12_init.2 rfl rfl (Or.inl (Nat.le_of_ble_eq_true rfl)) ⟨Nat.le_of_ble_eq_true rfl, Nat.le_of_ble_eq_true rfl⟩ dX16_init_2 (Nat.zero_le _) (Nat.zero_le _)) rfl rfl ?_
  intro S2 h
  refine gX_vret hC hA hQ rfl dX16_init_5 h
theorem mx_X16_init (l : Launch) (E : XE) (Q : XS → Prop) (S : XS) (x0 : Option Nat) (x1 : Option Nat) (h : wx_X16_init Q S x0 x1) : XMet E l yX16_init cX16_init 2 none ({ frames := 2, cells := 0, slots := 0, locals := 55 } : Room) [va_rf x0, va_rf x1] S (fun sz => va_Qv Q (BX1 E S sz) (xA S sz)) :=
  XMet_of (rm := ({ frames := 2, cells := 0, slots := 0, locals := 55 } : Room)) (by decide) (by simp [lg_sl, va_rf_cat, cat_i, cat_l]) (L0 := [some (va_rf x0), some (va_rf x1)]) (by simp [lx_pairs, lv_args, va_rf_cat, cat_i, cat_l, List.range_succ]) (fun sz C hC hX hl hnm hA hQ => bx_X16_init E C S sz Q S x0 x1 hC hX hA hnm hQ h)
/-! X0_asked -/
def wx_X0_asked_43 (Q : Option Nat → XS → Prop) (mc ms : Nat) (S : XS) (a0 : Option Nat) (a1 : Int32) (a2 : Option Nat) : Prop :=
  dr a0 (fun u9 => xKD S u9 = some 0 ∧ wx_X0_held (fun r12 S11 => (if ((r12 >>> (a1 &&& 31)) &&& (1 : Int32)) = (1 : Int32) then xKD S11 u9 = some 0 ∧ dr a2 (fun u29 => xKD S11 u29 = some 7 ∧ dr (xFR S11 1 u9) (fun u31 => xKD S11 u31 = some 104 ∧ vp_in (xFI S11 701 u29) (xLN S11 u31) ∧ dr (xAR S11 u31 (Int32.toNatClampNeg (xFI S11 701 u29))) (fun u33 => xKD S11 u33 = some 2 ∧ dr (xFR S11 206 u33) (fun u35 => xKD S11 u35 = some 100 ∧ vp_in (xFI S11 707 u29) (xLN S11 u35) ∧ (if (xAI S11 u35 (Int32.toNatClampNeg (xFI S11 707 u29))) = 0 then 1 ≤ mc ∧ 2 ≤ ms ∧ (∀ q49 : Nat, xKD S11 q49 = none → wx_X0_price (fun r58 S57 => wx_X15_init (fun S59 => Q (some q49) S59) S57 (some q49) a2 r58) (sNew S11 q49 14) (some u9) a2) else 1 ≤ mc ∧ 2 ≤ ms ∧ (∀ q37 : Nat, xKD S11 q37 = none → wx_X0_price (fun r46 S45 => wx_X14_init (fun S47 => Q (some q37) S47) S45 (some q37) a2 r46) (sNew S11 q37 13) (some u9) a2)))))) else xKD S11 u9 = some 0 ∧ dr a2 (fun u14 => xKD S11 u14 = some 7 ∧ wx_X8_isThere (fun r17 S16 => (if r17 = 0 then 1 ≤ mc ∧ 1 ≤ ms ∧ (∀ q18 : Nat, xKD S16 q18 = none → wx_X12_init (fun S21 => Q (some q18) S21) (sNew S16 q18 11) (some q18) a2) else 1 ≤ mc ∧ 1 ≤ ms ∧ (∀ q23 : Nat, xKD S16 q23 = none → wx_X16_init (fun S26 => Q (some q23) S26) (sNew S16 q23 15) (some q23) a2))) S11 (some u14) (xFI S11 10 u9)))) S (some u9) (xFI S 10 u9))
def wx_X0_asked (Q : Option Nat → XS → Prop) (mc ms : Nat) (S : XS) (x0 : Option Nat) (x1 : Int32) : Prop :=
  dr x0 (fun u1 => xKD S u1 = some 0 ∧ dr (xFR S 2 u1) (fun u3 => xKD S u3 = some 16 ∧ wx_J2_get (fun r6 S5 => dr r6 (fun u7 => xKD S5 u7 = some 7 ∧ (if (xFI S5 710 u7) = (-1000000 : Int32) then wx_X0_asked_43 Q mc ms S5 x0 x1 (some u7) else xKD S5 u1 = some 0 ∧ (if (xFI S5 10 u1) < (xFI S5 710 u7) then wx_X0_asked_43 Q mc ms S5 x0 x1 (some u7) else 1 ≤ mc ∧ 1 ≤ ms ∧ (∀ q62 : Nat, xKD S5 q62 = none → wx_X13_init (fun S67 => Q (some q62) S67) (sNew S5 q62 12) (some q62) (some u7)))))) S (some u3) x1))
theorem hx_X0_asked : yX0_asked.cls = RX0 ∧ yX0_asked.cls ≠ "java/lang/invoke/MethodHandle" ∧ yX0_asked.cls ≠ "java/lang/invoke/VarHandle" ∧ (parseMethodDescriptor yX0_asked.desc).map (fun d => d.parameters.length) = some 1 := by decide +kernel
set_option maxHeartbeats 4000000 in
set_option maxRecDepth 100000 in
theorem bx_X0_asked (E : XE) (C : Cx) (S0 : XS) (sz : Nat) (Q : Option Nat → XS → Prop) (mc ms : Nat) (S : XS) (x0 : Option Nat) (x1 : Int32) (hC : COk C cX0_asked RX0 (some (.object "VillageHalls$AsBooking")) 6 148 3) (hX : XOk E C) (hA : cx_A C = xA S0 sz) (hQ : cx_Q C = MQ (cx_b C) (va_Qq Q (BX1 E S0 sz) (xA S0 sz)) (cx_a C) (cx_s C) (cx_MC C) (cx_MS C) (xA S0 sz)) (h : wx_X0_asked Q mc ms S x0 x1) : GX E C S mc ms 0 [some (va_rf x0), some (.int x1), none] [] := by
  have s_43 : ∀ (mc ms : Nat) (S : XS) (a0 : Option Nat) (a1 : Int32) (a2 : Option Nat), wx_X0_asked_43 Q  mc ms S a0 a1 a2 → GX E C S mc ms 43 [some (va_rf a0), some (.int a1), some (va_rf a2)] [] := by
    intro  mc ms S a0 a1 a2 h
    refine g_aload_nR hC dX0_asked_43 rfl ?_
    refine g_aload_nR hC dX0_asked_44 rfl ?_
    obtain ⟨u9, eu9, h⟩ := h
    refine g_top0 eu9 ?_
    have hk10 := h.1
    refine gX_get (C0 := RX0) (T := TX0) (N := 15) (n := 0) (k := 10) (q := (10, false)) hC hX dX0_asked_45 q224 rfl in_X0 (by decide) (Or.inl rfl) rfl (by decide) hk10 ?_
    show GX _ _ _ _ _ _ _ (.int (xFI S 10 u9) :: _)
    refine g_top1 eu9 ?_
    refine gX_ni hX (gX_runV (As := [.int (xFI S 10 u9)]) (rest := []) (Cr := RX0) hC hX (mx_X0_held (cx_l C) E _ _ _ _ h.2) (lw_V q974 q976 qs20 q70 q977) hx_X0_held rfl rfl (Or.inl (Nat.le_of_ble_eq_true rfl)) ⟨Nat.le_of_ble_eq_true rfl, Nat.le_of_ble_eq_true rfl⟩ dX0_asked_48 (Nat.zero_le _) (Nat.zero_le _) hk10 rfl (by decide) rfl) rfl rfl ?_
    intro r12 S11 h
    refine g_iload_n hC dX0_asked_51 rfl ?_
    refine g_ishr hC dX0_asked_52 ?_
    refine g_iconst (v := 1) hC dX0_asked_53 (by decide) ?_
    refine g_iand hC dX0_asked_54 ?_
    refine g_iconst (v := 1) hC dX0_asked_55 (by decide) ?_
    refine g_icmp_ne (tgt := 109) hC dX0_asked_56 (by decide) (fun c => ?_) (fun c => ?_)
    · have h := it_n c h
      refine g_aload_nR hC dX0_asked_109 rfl ?_
      refine g_aload_nR hC dX0_asked_110 rfl ?_
      refine g_top0 eu9 ?_
      have hk13 := h.1
      refine gX_get (C0 := RX0) (T := TX0) (N := 15) (n := 0) (k := 10) (q := (10, false)) hC hX dX0_asked_111 q224 rfl in_X0 (by decide) (Or.inl rfl) rfl (by decide) hk13 ?_
      show GX _ _ _ _ _ _ _ (.int (xFI S11 10 u9) :: _)
      obtain ⟨u14, eu14, h⟩ := h.2
      refine g_top1 eu14 ?_
      have hk15 := h.1
      refine gX_ni hX (gX_runV (As := [.int (xFI S11 10 u9)]) (rest := []) (Cr := RX8) hC hX (mx_X8_isThere (cx_l C) E _ _ _ _ h.2) (lw_V q978 q979 q980 q96 q981) hx_X8_isThere rfl rfl (Or.inl (Nat.le_of_ble_eq_true rfl)) ⟨Nat.le_of_ble_eq_true rfl, Nat.le_of_ble_eq_true rfl⟩ dX0_asked_114 (Nat.zero_le _) (Nat.zero_le _) hk15 rfl (by decide) rfl) rfl rfl ?_
      intro r17 S16 h
      refine g_if_eq (tgt := 131) hC dX0_asked_117 (by decide) (fun c => ?_) (fun c => ?_)
      · have h := it_p c h
        refine gX_new (C0 := RX12) (T := TX12) (ty0 := tyX12) (N := 1) (n := 11) hC hX dX0_asked_131 q1366 q1367 q103 rfl in_X12 tyX12_ok (by decide) dv_X12 h.1 h.2.1 ?_
        intro q18 hq19
        have h := h.2.2 q18 hq19
        have hk20 : xKD (sNew S16 q18 11) q18 = some 11 := kd_self
        refine g_dup hC dX0_asked_134 (va_rf_cat _) ?_
        refine g_aload_nR hC dX0_asked_135 rfl ?_
        refine gX_nv hX (gX_runI (As := [va_rf a2]) (rest := [va_rf (some q18)]) hC hX (mx_X12_init (cx_l C) E _ _ _ _ h) q1329 q103 q1368 q1328 rfl hx_X12_init.2 rfl rfl (Or.inl (Nat.le_of_ble_eq_true rfl)) ⟨Nat.le_of_ble_eq_true rfl, Nat.le_of_ble_eq_true rfl⟩ dX0_asked_136 (Nat.zero_le _) (Nat.zero_le _)) rfl rfl ?_
        intro S21 h
        refine gX_aret hC hA hQ rfl (Or.inl ⟨_, rfl⟩) dX0_asked_139 h
      · have h := it_n c h
        refine gX_new (C0 := RX16) (T := TX16) (ty0 := tyX16) (N := 1) (n := 15) hC hX dX0_asked_120 q1358 q1359 q107 rfl in_X16 tyX16_ok (by decide) dv_X16 h.1 h.2.1 ?_
        intro q23 hq24
        have h := h.2.2 q23 hq24
        have hk25 : xKD (sNew S16 q23 15) q23 = some 15 := kd_self
        refine g_dup hC dX0_asked_123 (va_rf_cat _) ?_
        refine g_aload_nR hC dX0_asked_124 rfl ?_
        refine gX_nv hX (gX_runI (As := [va_rf a2]) (rest := [va_rf (some q23)]) hC hX (mx_X16_init (cx_l C) E _ _ _ _ h) q1362 q107 q1360 q1361 rfl hx_X16_init.2 rfl rfl (Or.inl (Nat.le_of_ble_eq_true rfl)) ⟨Nat.le_of_ble_eq_true rfl, Nat.le_of_ble_eq_true rfl⟩ dX0_asked_125 (Nat.zero_le _) (Nat.zero_le _)) rfl rfl ?_
        intro S26 h
        refine g_goto (tgt := 139) hC dX0_asked_128 (by decide) ?_
        refine gX_aret hC hA hQ rfl (Or.inl ⟨_, rfl⟩) dX0_asked_139 h
    · have h := it_p c h
      refine g_aload_nR hC dX0_asked_59 rfl ?_
      refine g_top0 eu9 ?_
      have hk28 := h.1
      refine gX_get (C0 := RX0) (T := TX0) (N := 15) (n := 0) (k := 1) (q := (1, true)) hC hX dX0_asked_60 q211 rfl in_X0 (by decide) (Or.inl rfl) rfl (by decide) hk28 ?_
      show GX _ _ _ _ _ _ _ (va_rf (xFR S11 1 u9) :: _)
      refine g_aload_nR hC dX0_asked_63 rfl ?_
      obtain ⟨u29, eu29, h⟩ := h.2
      refine g_top0 eu29 ?_
      have hk30 := h.1
      refine gX_get (C0 := RX8) (T := TX8) (N := 11) (n := 7) (k := 1) (q := (701, false)) hC hX dX0_asked_64 q808 rfl in_X8 (by decide) (Or.inl rfl) rfl (by decide) hk30 ?_
      show GX _ _ _ _ _ _ _ (.int (xFI S11 701 u29) :: _)
      obtain ⟨u31, eu31, h⟩ := h.2
      refine g_top1 eu31 ?_
      have hk32 := h.1
      refine gX_aald (n := 104) hC hX dX0_asked_67 (by decide) hk32 h.2.1 ?_
      obtain ⟨u33, eu33, h⟩ := h.2.2
      refine g_top0 eu33 ?_
      have hk34 := h.1
      refine gX_getN (C0 := RX2) (T := TX2) (N := 7) (n := 2) (k := 6) (q := (206, true)) hC hX dX0_asked_68 q192 rfl in_X2 (by decide) rfl rfl (by decide) hk34 ?_
      show GX _ _ _ _ _ _ _ (va_rf (xFR S11 206 u33) :: _)
      refine g_aload_nR hC dX0_asked_71 rfl ?_
      refine g_top0 eu29 ?_
      refine gX_get (C0 := RX8) (T := TX8) (N := 11) (n := 7) (k := 7) (q := (707, false)) hC hX dX0_asked_72 q827 rfl in_X8 (by decide) (Or.inl rfl) rfl (by decide) hk30 ?_
      show GX _ _ _ _ _ _ _ (.int (xFI S11 707 u29) :: _)
      obtain ⟨u35, eu35, h⟩ := h.2
      refine g_top1 eu35 ?_
      have hk36 := h.1
      refine gX_iald hC hX dX0_asked_75 hk36 h.2.1 ?_
      refine g_if_ne (tgt := 95) hC dX0_asked_76 (by decide) (fun c => ?_) (fun c => ?_)
      · have h := it_n c h.2.2
        refine gX_new (C0 := RX14) (T := TX14) (ty0 := tyX14) (N := 2) (n := 13) hC hX dX0_asked_95 q1352 q1353 q105 rfl in_X14 tyX14_ok (by decide) dv_X14 h.1 h.2.1 ?_
        intro q37 hq38
        have h := h.2.2 q37 hq38
        have hk39 := kd_new (q := q37) (n := 13) hk28 hq38
        have hk40 := kd_new (q := q37) (n := 13) hk30 hq38
        have hk41 := kd_new (q := q37) (n := 13) hk32 hq38
        have hk42 := kd_new (q := q37) (n := 13) hk34 hq38
        have hk43 := kd_new (q := q37) (n := 13) hk36 hq38
        have hk44 : xKD (sNew S11 q37 13) q37 = some 13 := kd_self
        refine g_dup hC dX0_asked_98 (va_rf_cat _) ?_
        refine g_aload_nR hC dX0_asked_99 rfl ?_
        refine g_aload_nR hC dX0_asked_100 rfl ?_
        refine g_aload_nR hC dX0_asked_101 rfl ?_
        refine g_top1 eu9 ?_
        refine gX_ni hX (gX_runV (As := [va_rf a2]) (rest := [va_rf a2, va_rf (some q37), va_rf (some q37)]) (Cr := RX0) hC hX (mx_X0_price (cx_l C) E _ _ _ _ h) (lw_V q950 q952 qs17 q70 q953) hx_X0_price rfl rfl (Or.inl (Nat.le_of_ble_eq_true rfl)) ⟨Nat.le_of_ble_eq_true rfl, Nat.le_of_ble_eq_true rfl⟩ dX0_asked_102 (Nat.zero_le _) (Nat.zero_le _) hk39 rfl (by decide) rfl) rfl rfl ?_
        intro r46 S45 h
        refine gX_nv hX (gX_runI (As := [va_rf a2, .int r46]) (rest := [va_rf (some q37)]) hC hX (mx_X14_init (cx_l C) E _ _ _ _ _ h) q1345 q105 q1354 q1344 rfl hx_X14_init.2 rfl rfl (Or.inl (Nat.le_of_ble_eq_true rfl)) ⟨Nat.le_of_ble_eq_true rfl, Nat.le_of_ble_eq_true rfl⟩ dX0_asked_105 (Nat.zero_le _) (Nat.zero_le _)) rfl rfl ?_
        intro S47 h
        refine gX_aret hC hA hQ rfl (Or.inl ⟨_, rfl⟩) dX0_asked_108 h
      · have h := it_p c h.2.2
        refine gX_new (C0 := RX15) (T := TX15) (ty0 := tyX15) (N := 2) (n := 14) hC hX dX0_asked_79 q1338 q1339 q106 rfl in_X15 tyX15_ok (by decide) dv_X15 h.1 h.2.1 ?_
        intro q49 hq50
        have h := h.2.2 q49 hq50
        have hk51 := kd_new (q := q49) (n := 14) hk28 hq50
        have hk52 := kd_new (q := q49) (n := 14) hk30 hq50
        have hk53 := kd_new (q := q49) (n := 14) hk32 hq50
        have hk54 := kd_new (q := q49) (n := 14) hk34 hq50
        have hk55 := kd_new (q := q49) (n := 14) hk36 hq50
        have hk56 : xKD (sNew S11 q49 14) q49 = some 14 := kd_self
        refine g_dup hC dX0_asked_82 (va_rf_cat _) ?_
        refine g_aload_nR hC dX0_asked_83 rfl ?_
        refine g_aload_nR hC dX0_asked_84 rfl ?_
        refine g_aload_nR hC dX0_asked_85 rfl ?_
        refine g_top1 eu9 ?_
        refine gX_ni hX (gX_runV (As := [va_rf a2]) (rest := [va_rf a2, va_rf (some q49), va_rf (some q49)]) (Cr := RX0) hC hX (mx_X0_price (cx_l C) E _ _ _ _ h) (lw_V q950 q952 qs17 q70 q953) hx_X0_price rfl rfl (Or.inl (Nat.le_of_ble_eq_true rfl)) ⟨Nat.le_of_ble_eq_true rfl, Nat.le_of_ble_eq_true rfl⟩ dX0_asked_86 (Nat.zero_le _) (Nat.zero_le _) hk51 rfl (by decide) rfl) rfl rfl ?_
        intro r58 S57 h
        refine gX_nv hX (gX_runI (As := [va_rf a2, .int r58]) (rest := [va_rf (some q49)]) hC hX (mx_X15_init (cx_l C) E _ _ _ _ _ h) q1342 q106 q1340 q1341 rfl hx_X15_init.2 rfl rfl (Or.inl (Nat.le_of_ble_eq_true rfl)) ⟨Nat.le_of_ble_eq_true rfl, Nat.le_of_ble_eq_true rfl⟩ dX0_asked_89 (Nat.zero_le _) (Nat.zero_le _)) rfl rfl ?_
        intro S59 h
        refine g_goto (tgt := 108) hC dX0_asked_92 (by decide) ?_
        refine gX_aret hC hA hQ rfl (Or.inl ⟨_, rfl⟩) dX0_asked_108 h
  refine g_aload_nR hC dX0_asked_0 rfl ?_
  obtain ⟨u1, eu1, h⟩ := h
  refine g_top0 eu1 ?_
  have hk2 := h.1
  refine gX_get (C0 := RX0) (T := TX0) (N := 15) (n := 0) (k := 2) (q := (2, true)) hC hX dX0_asked_1 q213 rfl in_X0 (by decide) (Or.inl rfl) rfl (by decide) hk2 ?_
  show GX _ _ _ _ _ _ _ (va_rf (xFR S 2 u1) :: _)
  refine g_iload_n hC dX0_asked_4 rfl ?_
  obtain ⟨u3, eu3, h⟩ := h.2
  refine g_top1 eu3 ?_
  have hk4 := h.1
  refine gX_nq5 hX (gX_runF (n := 1) (As := [.int x1]) (rest := []) (Cr := "java/util/ArrayList") (x := ⟨"java/util/List", "get", "(I)Ljava/lang/Object;"⟩) hC hX (mx_J2_get (cx_l C) E _ _ _ _ h.2) (lw_app (lw_4 q928 q931 q933 q73) (lw_meth q935)) (List.mem_of_getElem? (i := 2) rfl) (by decide +kernel) rfl rfl (Or.inl (Nat.le_of_ble_eq_true rfl)) ⟨Nat.le_of_ble_eq_true rfl, Nat.le_of_ble_eq_true rfl⟩ dX0_asked_5 (Nat.zero_le _) (Nat.zero_le _) hk4 rfl (by decide) rfl) rfl rfl ?_
  intro r6 S5 h
  obtain ⟨u7, eu7, h⟩ := h
  refine g_top0 eu7 ?_
  have hk8 := h.1
  refine gX_cast (r := (RX8, TX8, 11)) (n := 7) hC hX dX0_asked_10 q164 rfl (by decide) hk8 ?_
  refine g_astore_nR hC dX0_asked_13 rfl (by decide) rfl rfl ?_
  refine g_aload_nR hC dX0_asked_14 rfl ?_
  refine gX_getN (C0 := RX8) (T := TX8) (N := 11) (n := 7) (k := 10) (q := (710, false)) hC hX dX0_asked_15 q835 rfl in_X8 (by decide) rfl rfl (by decide) hk8 ?_
  show GX _ _ _ _ _ _ _ (.int (xFI S5 710 u7) :: _)
  refine g_ldc (v := -1000000) hC dX0_asked_18 q944 ?_
  refine g_icmp_eq (tgt := 43) hC dX0_asked_20 (by decide) (fun c => ?_) (fun c => ?_)
  · have h := it_p c h.2
    exact s_43 mc ms S5 x0 x1 (some u7) h
  · have h := it_n c h.2
    refine g_aload_nR hC dX0_asked_23 rfl ?_
    refine gX_getN (C0 := RX8) (T := TX8) (N := 11) (n := 7) (k := 10) (q := (710, false)) hC hX dX0_asked_24 q835 rfl in_X8 (by decide) rfl rfl (by decide) hk8 ?_
    show GX _ _ _ _ _ _ _ (.int (xFI S5 710 u7) :: _)
    refine g_aload_nR hC dX0_asked_27 rfl ?_
    refine g_top0 eu1 ?_
    have hk61 := h.1
    refine gX_get (C0 := RX0) (T := TX0) (N := 15) (n := 0) (k := 10) (q := (10, false)) hC hX dX0_asked_28 q224 rfl in_X0 (by decide) (Or.inl rfl) rfl (by decide) hk61 ?_
    show GX _ _ _ _ _ _ _ (.int (xFI S5 10 u1) :: _)
    refine g_icmp_gt (tgt := 43) hC dX0_asked_31 (by decide) (fun c => ?_) (fun c => ?_)
    · have h := it_p c h.2
      exact s_43 mc ms S5 x0 x1 (some u7) h
    · have h := it_n c h.2
      refine gX_new (C0 := RX13) (T := TX13) (ty0 := tyX13) (N := 1) (n := 12) hC hX dX0_asked_34 q1322 q1323 q104 rfl in_X13 tyX13_ok (by decide) dv_X13 h.1 h.2.1 ?_
      intro q62 hq63
      have h := h.2.2 q62 hq63
      have hk64 := kd_new (q := q62) (n := 12) hk8 hq63
      have hk65 := kd_new (q := q62) (n := 12) hk61 hq63
      have hk66 : xKD (sNew S5 q62 12) q62 = some 12 := kd_self
      refine g_dup hC dX0_asked_37 (va_rf_cat _) ?_
      refine g_aload_nR hC dX0_asked_38 rfl ?_
      refine gX_nv hX (gX_runI (As := [va_rf (some u7)]) (rest := [va_rf (some q62)]) hC hX (mx_X13_init (cx_l C) E _ _ _ _ h) q1326 q104 q1324 q1325 rfl hx_X13_init.2 rfl rfl (Or.inl (Nat.le_of_ble_eq_true rfl)) ⟨Nat.le_of_ble_eq_true rfl, Nat.le_of_ble_eq_true rfl⟩ dX0_asked_39 (Nat.zero_le _) (Nat.zero_le _)) rfl rfl ?_
      intro S67 h
      refine gX_aret hC hA hQ rfl (Or.inl ⟨_, rfl⟩) dX0_asked_42 h
theorem mx_X0_asked (l : Launch) (E : XE) (mc ms : Nat) (Q : Option Nat → XS → Prop) (S : XS) (x0 : Option Nat) (x1 : Int32) (h : wx_X0_asked Q mc ms S x0 x1) : XMet E l yX0_asked cX0_asked 3 (some (.object "VillageHalls$AsBooking")) ({ frames := 6, cells := mc, slots := ms, locals := 148 } : Room) [va_rf x0, .int x1] S (fun sz => va_Qq Q (BX1 E S sz) (xA S sz)) :=
  XMet_of (rm := ({ frames := 6, cells := mc, slots := ms, locals := 148 } : Room)) (by decide) (by simp [lg_sl, va_rf_cat, cat_i, cat_l]) (L0 := [some (va_rf x0), some (.int x1), none]) (by simp [lx_pairs, lv_args, va_rf_cat, cat_i, cat_l, List.range_succ]) (fun sz C hC hX hl hnm hA hQ => bx_X0_asked E C S sz Q mc ms S x0 x1 hC hX hA hQ h)
/-! X12_kind -/
def wx_X12_kind (Q : Int32 → XS → Prop) (S : XS) (x0 : Option Nat) : Prop :=
  Q (0 : Int32) S
theorem hx_X12_kind : yX12_kind.cls = RX12 ∧ yX12_kind.cls ≠ "java/lang/invoke/MethodHandle" ∧ yX12_kind.cls ≠ "java/lang/invoke/VarHandle" ∧ (parseMethodDescriptor yX12_kind.desc).map (fun d => d.parameters.length) = some 0 := by decide +kernel
set_option maxHeartbeats 4000000 in
set_option maxRecDepth 100000 in
theorem bx_X12_kind (E : XE) (C : Cx) (S0 : XS) (sz : Nat) (Q : Int32 → XS → Prop) (S : XS) (x0 : Option Nat) (hC : COk C cX12_kind RX12 (some .int) 1 34 1) (hX : XOk E C) (hA : cx_A C = xA S0 sz) (hQ : cx_Q C = MQ (cx_b C) (va_Qi Q (BX1 E S0 sz) (xA S0 sz)) (cx_a C) (cx_s C) (cx_MC C) (cx_MS C) (xA S0 sz)) (h : wx_X12_kind Q S x0) : GX E C S 0 0 0 [some (va_rf x0)] [] := by
  refine g_iconst (v := 0) hC dX12_kind_0 (by decide) ?_
  refine gX_iret rfl hC hA hQ dX12_kind_1 h
theorem mx_X12_kind (l : Launch) (E : XE) (Q : Int32 → XS → Prop) (S : XS) (x0 : Option Nat) (h : wx_X12_kind Q S x0) : XMet E l yX12_kind cX12_kind 1 (some .int) ({ frames := 1, cells := 0, slots := 0, locals := 34 } : Room) [va_rf x0] S (fun sz => va_Qi Q (BX1 E S sz) (xA S sz)) :=
  XMet_of (rm := ({ frames := 1, cells := 0, slots := 0, locals := 34 } : Room)) (by decide) (by simp [lg_sl, va_rf_cat, cat_i, cat_l]) (L0 := [some (va_rf x0)]) (by simp [lx_pairs, lv_args, va_rf_cat, cat_i, cat_l, List.range_succ]) (fun sz C hC hX hl hnm hA hQ => bx_X12_kind E C S sz Q S x0 hC hX hA hQ h)
/-! X13_kind -/
def wx_X13_kind (Q : Int32 → XS → Prop) (S : XS) (x0 : Option Nat) : Prop :=
  Q (3 : Int32) S
theorem hx_X13_kind : yX13_kind.cls = RX13 ∧ yX13_kind.cls ≠ "java/lang/invoke/MethodHandle" ∧ yX13_kind.cls ≠ "java/lang/invoke/VarHandle" ∧ (parseMethodDescriptor yX13_kind.desc).map (fun d => d.parameters.length) = some 0 := by decide +kernel
set_option maxHeartbeats 4000000 in
set_option maxRecDepth 100000 in
theorem bx_X13_kind (E : XE) (C : Cx) (S0 : XS) (sz : Nat) (Q : Int32 → XS → Prop) (S : XS) (x0 : Option Nat) (hC : COk C cX13_kind RX13 (some .int) 1 34 1) (hX : XOk E C) (hA : cx_A C = xA S0 sz) (hQ : cx_Q C = MQ (cx_b C) (va_Qi Q (BX1 E S0 sz) (xA S0 sz)) (cx_a C) (cx_s C) (cx_MC C) (cx_MS C) (xA S0 sz)) (h : wx_X13_kind Q S x0) : GX E C S 0 0 0 [some (va_rf x0)] [] := by
  refine g_iconst (v := 3) hC dX13_kind_0 (by decide) ?_
  refine gX_iret rfl hC hA hQ dX13_kind_1 h
theorem mx_X13_kind (l : Launch) (E : XE) (Q : Int32 → XS → Prop) (S : XS) (x0 : Option Nat) (h : wx_X13_kind Q S x0) : XMet E l yX13_kind cX13_kind 1 (some .int) ({ frames := 1, cells := 0, slots := 0, locals := 34 } : Room) [va_rf x0] S (fun sz => va_Qi Q (BX1 E S sz) (xA S sz)) :=
  XMet_of (rm := ({ frames := 1, cells := 0, slots := 0, locals := 34 } : Room)) (by decide) (by simp [lg_sl, va_rf_cat, cat_i, cat_l]) (L0 := [some (va_rf x0)]) (by simp [lx_pairs, lv_args, va_rf_cat, cat_i, cat_l, List.range_succ]) (fun sz C hC hX hl hnm hA hQ => bx_X13_kind E C S sz Q S x0 hC hX hA hQ h)
/-! X14_kind -/
def wx_X14_kind (Q : Int32 → XS → Prop) (S : XS) (x0 : Option Nat) : Prop :=
  Q (1 : Int32) S
theorem hx_X14_kind : yX14_kind.cls = RX14 ∧ yX14_kind.cls ≠ "java/lang/invoke/MethodHandle" ∧ yX14_kind.cls ≠ "java/lang/invoke/VarHandle" ∧ (parseMethodDescriptor yX14_kind.desc).map (fun d => d.parameters.length) = some 0 := by decide +kernel
set_option maxHeartbeats 4000000 in
set_option maxRecDepth 100000 in
theorem bx_X14_kind (E : XE) (C : Cx) (S0 : XS) (sz : Nat) (Q : Int32 → XS → Prop) (S : XS) (x0 : Option Nat) (hC : COk C cX14_kind RX14 (some .int) 1 34 1) (hX : XOk E C) (hA : cx_A C = xA S0 sz) (hQ : cx_Q C = MQ (cx_b C) (va_Qi Q (BX1 E S0 sz) (xA S0 sz)) (cx_a C) (cx_s C) (cx_MC C) (cx_MS C) (xA S0 sz)) (h : wx_X14_kind Q S x0) : GX E C S 0 0 0 [some (va_rf x0)] [] := by
  refine g_iconst (v := 1) hC dX14_kind_0 (by decide) ?_
  refine gX_iret rfl hC hA hQ dX14_kind_1 h
theorem mx_X14_kind (l : Launch) (E : XE) (Q : Int32 → XS → Prop) (S : XS) (x0 : Option Nat) (h : wx_X14_kind Q S x0) : XMet E l yX14_kind cX14_kind 1 (some .int) ({ frames := 1, cells := 0, slots := 0, locals := 34 } : Room) [va_rf x0] S (fun sz => va_Qi Q (BX1 E S sz) (xA S sz)) :=
  XMet_of (rm := ({ frames := 1, cells := 0, slots := 0, locals := 34 } : Room)) (by decide) (by simp [lg_sl, va_rf_cat, cat_i, cat_l]) (L0 := [some (va_rf x0)]) (by simp [lx_pairs, lv_args, va_rf_cat, cat_i, cat_l, List.range_succ]) (fun sz C hC hX hl hnm hA hQ => bx_X14_kind E C S sz Q S x0 hC hX hA hQ h)
/-! X15_kind -/
def wx_X15_kind (Q : Int32 → XS → Prop) (S : XS) (x0 : Option Nat) : Prop :=
  Q (2 : Int32) S
theorem hx_X15_kind : yX15_kind.cls = RX15 ∧ yX15_kind.cls ≠ "java/lang/invoke/MethodHandle" ∧ yX15_kind.cls ≠ "java/lang/invoke/VarHandle" ∧ (parseMethodDescriptor yX15_kind.desc).map (fun d => d.parameters.length) = some 0 := by decide +kernel
set_option maxHeartbeats 4000000 in
set_option maxRecDepth 100000 in
theorem bx_X15_kind (E : XE) (C : Cx) (S0 : XS) (sz : Nat) (Q : Int32 → XS → Prop) (S : XS) (x0 : Option Nat) (hC : COk C cX15_kind RX15 (some .int) 1 34 1) (hX : XOk E C) (hA : cx_A C = xA S0 sz) (hQ : cx_Q C = MQ (cx_b C) (va_Qi Q (BX1 E S0 sz) (xA S0 sz)) (cx_a C) (cx_s C) (cx_MC C) (cx_MS C) (xA S0 sz)) (h : wx_X15_kind Q S x0) : GX E C S 0 0 0 [some (va_rf x0)] [] := by
  refine g_iconst (v := 2) hC dX15_kind_0 (by decide) ?_
  refine gX_iret rfl hC hA hQ dX15_kind_1 h
theorem mx_X15_kind (l : Launch) (E : XE) (Q : Int32 → XS → Prop) (S : XS) (x0 : Option Nat) (h : wx_X15_kind Q S x0) : XMet E l yX15_kind cX15_kind 1 (some .int) ({ frames := 1, cells := 0, slots := 0, locals := 34 } : Room) [va_rf x0] S (fun sz => va_Qi Q (BX1 E S sz) (xA S sz)) :=
  XMet_of (rm := ({ frames := 1, cells := 0, slots := 0, locals := 34 } : Room)) (by decide) (by simp [lg_sl, va_rf_cat, cat_i, cat_l]) (L0 := [some (va_rf x0)]) (by simp [lx_pairs, lv_args, va_rf_cat, cat_i, cat_l, List.range_succ]) (fun sz C hC hX hl hnm hA hQ => bx_X15_kind E C S sz Q S x0 hC hX hA hQ h)
/-! X16_kind -/
def wx_X16_kind (Q : Int32 → XS → Prop) (S : XS) (x0 : Option Nat) : Prop :=
  Q (4 : Int32) S
theorem hx_X16_kind : yX16_kind.cls = RX16 ∧ yX16_kind.cls ≠ "java/lang/invoke/MethodHandle" ∧ yX16_kind.cls ≠ "java/lang/invoke/VarHandle" ∧ (parseMethodDescriptor yX16_kind.desc).map (fun d => d.parameters.length) = some 0 := by decide +kernel
set_option maxHeartbeats 4000000 in
set_option maxRecDepth 100000 in
theorem bx_X16_kind (E : XE) (C : Cx) (S0 : XS) (sz : Nat) (Q : Int32 → XS → Prop) (S : XS) (x0 : Option Nat) (hC : COk C cX16_kind RX16 (some .int) 1 34 1) (hX : XOk E C) (hA : cx_A C = xA S0 sz) (hQ : cx_Q C = MQ (cx_b C) (va_Qi Q (BX1 E S0 sz) (xA S0 sz)) (cx_a C) (cx_s C) (cx_MC C) (cx_MS C) (xA S0 sz)) (h : wx_X16_kind Q S x0) : GX E C S 0 0 0 [some (va_rf x0)] [] := by
  refine g_iconst (v := 4) hC dX16_kind_0 (by decide) ?_
  refine gX_iret rfl hC hA hQ dX16_kind_1 h
theorem mx_X16_kind (l : Launch) (E : XE) (Q : Int32 → XS → Prop) (S : XS) (x0 : Option Nat) (h : wx_X16_kind Q S x0) : XMet E l yX16_kind cX16_kind 1 (some .int) ({ frames := 1, cells := 0, slots := 0, locals := 34 } : Room) [va_rf x0] S (fun sz => va_Qi Q (BX1 E S sz) (xA S sz)) :=
  XMet_of (rm := ({ frames := 1, cells := 0, slots := 0, locals := 34 } : Room)) (by decide) (by simp [lg_sl, va_rf_cat, cat_i, cat_l]) (L0 := [some (va_rf x0)]) (by simp [lx_pairs, lv_args, va_rf_cat, cat_i, cat_l, List.range_succ]) (fun sz C hC hX hl hnm hA hQ => bx_X16_kind E C S sz Q S x0 hC hX hA hQ h)
