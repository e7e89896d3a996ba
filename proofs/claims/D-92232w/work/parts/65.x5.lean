/-! X0_holding -/
def wx_X0_holding_125 (Q : Int32 → XS → Prop) (K40 : XS → Option Nat → Int32 → Int32 → Int32 → Int32 → Int32 → Prop) (S : XS) (a0 : Option Nat) (a1 : Int32) (a2 : Int32) (a3 : Int32) (a4 : Int32) (a5 : Int32) : Prop :=
  K40 S a0 a1 a2 a3 a4 (a5 + (1 : Int32))
def wx_X0_holding_122 (Q : Int32 → XS → Prop) (K40 : XS → Option Nat → Int32 → Int32 → Int32 → Int32 → Int32 → Prop) (S : XS) (a0 : Option Nat) (a1 : Int32) (a2 : Int32) (a3 : Int32) (a5 : Int32) (s0 : Int32) (s1 : Int32) : Prop :=
  wx_X0_holding_125 Q K40 S a0 a1 a2 a3 (s0 + s1) a5
def wx_X0_holding_94 (Q : Int32 → XS → Prop) (K40 : XS → Option Nat → Int32 → Int32 → Int32 → Int32 → Int32 → Prop) (S : XS) (a0 : Option Nat) (a1 : Int32) (a2 : Int32) (a3 : Int32) (a5 : Int32) (s0 : Int32) (s1 : Int32) : Prop :=
  wx_X0_holding_125 Q K40 S a0 a1 a2 a3 (s0 ||| s1) a5
def wx_X0_holding_40 (Q : Int32 → XS → Prop) : Nat → XS → Option Nat → Int32 → Int32 → Int32 → Int32 → Int32 → Prop
  | 0, _, _, _, _, _, _, _ => False
  | n + 1, S, a0, a1, a2, a3, a4, a5 => dr a0 (fun u9 => xKD S u9 = some 0 ∧ dr (xFR S 2 u9) (fun u11 => xKD S u11 = some 16 ∧ wx_J2_size (fun r14 S13 => (if r14 ≤ a5 then Q a4 S13 else xKD S13 u9 = some 0 ∧ dr (xFR S13 2 u9) (fun u16 => xKD S13 u16 = some 16 ∧ wx_J2_get (fun r19 S18 => dr r19 (fun u20 => xKD S18 u20 = some 7 ∧ (if a2 = (1 : Int32) then wx_X8_isThere (fun r26 S25 => (if r26 = 0 then wx_X0_holding_94 Q (wx_X0_holding_40 Q n) S25 a0 a1 a2 a3 a5 a4 (0 : Int32) else wx_X0_holding_94 Q (wx_X0_holding_40 Q n) S25 a0 a1 a2 a3 a5 a4 ((1 : Int32) <<< (a5 &&& 31)))) S18 (some u20) a1 else (if ((a3 >>> (a5 &&& 31)) &&& (1 : Int32)) = (1 : Int32) then xKD S18 u9 = some 0 ∧ wx_X0_price (fun r24 S23 => wx_X0_holding_122 Q (wx_X0_holding_40 Q n) S23 a0 a1 a2 a3 a5 a4 r24) S18 (some u9) (some u20) else wx_X0_holding_122 Q (wx_X0_holding_40 Q n) S18 a0 a1 a2 a3 a5 a4 (0 : Int32))))) S13 (some u16) a5))) S (some u11)))
def wx_X0_holding (Q : Int32 → XS → Prop) (S : XS) (x0 : Option Nat) (x1 : Int32) (x2 : Int32) : Prop :=
  wx_X0_isDay (fun r2 S1 => (if r2 = 0 then Q (-1000001 : Int32) S1 else wx_X0_isIn (fun r4 S3 => (if r4 = 0 then Q (-1000001 : Int32) S3 else dr x0 (fun u5 => xKD S3 u5 = some 0 ∧ wx_X0_held (fun r8 S7 => (if x2 = 0 then Q r8 S7 else ∃ n27, wx_X0_holding_40 Q n27 S7 x0 x1 x2 r8 (0 : Int32) (0 : Int32))) S3 (some u5) x1))) S1 (Int32.toInt64 x2) (0 : Int64) (2 : Int64))) S x1
theorem hx_X0_holding : yX0_holding.cls = RX0 ∧ yX0_holding.cls ≠ "java/lang/invoke/MethodHandle" ∧ yX0_holding.cls ≠ "java/lang/invoke/VarHandle" ∧ (parseMethodDescriptor yX0_holding.desc).map (fun d => d.parameters.length) = some 2 := by decide +kernel
set_option maxHeartbeats 4000000 in
set_option maxRecDepth 100000 in
theorem bx_X0_holding (E : XE) (C : Cx) (S0 : XS) (sz : Nat) (Q : Int32 → XS → Prop) (S : XS) (x0 : Option Nat) (x1 : Int32) (x2 : Int32) (hC : COk C cX0_holding RX0 (some .int) 6 148 7) (hX : XOk E C) (hA : cx_A C = xA S0 sz) (hQ : cx_Q C = MQ (cx_b C) (va_Qi Q (BX1 E S0 sz) (xA S0 sz)) (cx_a C) (cx_s C) (cx_MC C) (cx_MS C) (xA S0 sz)) (h : wx_X0_holding Q S x0 x1 x2) : GX E C S 0 0 0 [some (va_rf x0), some (.int x1), some (.int x2), none, none, none, none] [] := by
  have s_125 : ∀ (K40 : XS → Option Nat → Int32 → Int32 → Int32 → Int32 → Int32 → Prop) (hK40 : ∀ (S : XS) (b0 : Option Nat) (b1 : Int32) (b2 : Int32) (b3 : Int32) (b4 : Int32) (b5 : Int32), K40 S b0 b1 b2 b3 b4 b5 → GX E C S 0 0 40 [some (va_rf b0), some (.int b1), some (.int b2), some (.int b3), some (.int b4), some (.int b5), none] []) (S : XS) (a0 : Option Nat) (a1 : Int32) (a2 : Int32) (a3 : Int32) (a4 : Int32) (a5 : Int32), wx_X0_holding_125 Q K40 S a0 a1 a2 a3 a4 a5 → GX E C S 0 0 125 [some (va_rf a0), some (.int a1), some (.int a2), some (.int a3), some (.int a4), some (.int a5), none] [] := by
    intro K40 hK40 S a0 a1 a2 a3 a4 a5 h
    refine g_iinc (v := (a5 + (1 : Int32))) hC dX0_holding_125 rfl rfl (by decide) rfl rfl ?_
    refine g_goto (tgt := 40) hC dX0_holding_128 (by decide) ?_
    exact hK40 S a0 a1 a2 a3 a4 (a5 + (1 : Int32)) h
  have s_122 : ∀ (K40 : XS → Option Nat → Int32 → Int32 → Int32 → Int32 → Int32 → Prop) (hK40 : ∀ (S : XS) (b0 : Option Nat) (b1 : Int32) (b2 : Int32) (b3 : Int32) (b4 : Int32) (b5 : Int32), K40 S b0 b1 b2 b3 b4 b5 → GX E C S 0 0 40 [some (va_rf b0), some (.int b1), some (.int b2), some (.int b3), some (.int b4), some (.int b5), none] []) (S : XS) (a0 : Option Nat) (a1 : Int32) (a2 : Int32) (a3 : Int32) (a5 : Int32) (s0 : Int32) (s1 : Int32), wx_X0_holding_122 Q K40 S a0 a1 a2 a3 a5 s0 s1 → GX E C S 0 0 122 [some (va_rf a0), some (.int a1), some (.int a2), some (.int a3), none, some (.int a5), none] [.int s1, .int s0] := by
    intro K40 hK40 S a0 a1 a2 a3 a5 s0 s1 h
    refine g_iadd hC dX0_holding_122 ?_
    refine g_istore hC dX0_holding_123 (by decide) rfl rfl ?_
    exact s_125 K40 hK40 S a0 a1 a2 a3 (s0 + s1) a5 h
  have s_94 : ∀ (K40 : XS → Option Nat → Int32 → Int32 → Int32 → Int32 → Int32 → Prop) (hK40 : ∀ (S : XS) (b0 : Option Nat) (b1 : Int32) (b2 : Int32) (b3 : Int32) (b4 : Int32) (b5 : Int32), K40 S b0 b1 b2 b3 b4 b5 → GX E C S 0 0 40 [some (va_rf b0), some (.int b1), some (.int b2), some (.int b3), some (.int b4), some (.int b5), none] []) (S : XS) (a0 : Option Nat) (a1 : Int32) (a2 : Int32) (a3 : Int32) (a5 : Int32) (s0 : Int32) (s1 : Int32), wx_X0_holding_94 Q K40 S a0 a1 a2 a3 a5 s0 s1 → GX E C S 0 0 94 [some (va_rf a0), some (.int a1), some (.int a2), some (.int a3), none, some (.int a5), none] [.int s1, .int s0] := by
    intro K40 hK40 S a0 a1 a2 a3 a5 s0 s1 h
    refine g_ior hC dX0_holding_94 ?_
    refine g_istore hC dX0_holding_95 (by decide) rfl rfl ?_
    refine g_goto (tgt := 125) hC dX0_holding_97 (by decide) ?_
    exact s_125 K40 hK40 S a0 a1 a2 a3 (s0 ||| s1) a5 h
  have s_40 : ∀ (n : Nat) (S : XS) (a0 : Option Nat) (a1 : Int32) (a2 : Int32) (a3 : Int32) (a4 : Int32) (a5 : Int32), wx_X0_holding_40 Q  n S a0 a1 a2 a3 a4 a5 → GX E C S 0 0 40 [some (va_rf a0), some (.int a1), some (.int a2), some (.int a3), some (.int a4), some (.int a5), none] [] := by
    intro  n
    induction n with
    | zero =>
      intro S a0 a1 a2 a3 a4 a5 h
      exact False.elim h
    | succ n ih =>
      intro S a0 a1 a2 a3 a4 a5 h
      refine g_iload hC dX0_holding_40 rfl ?_
      refine g_aload_nR hC dX0_holding_42 rfl ?_
      obtain ⟨u9, eu9, h⟩ := h
      refine g_top0 eu9 ?_
      have hk10 := h.1
      refine gX_get (C0 := RX0) (T := TX0) (N := 15) (n := 0) (k := 2) (q := (2, true)) hC hX dX0_holding_43 q213 rfl in_X0 (by decide) (Or.inl rfl) rfl (by decide) hk10 ?_
      show GX _ _ _ _ _ _ _ (va_rf (xFR S 2 u9) :: _)
      obtain ⟨u11, eu11, h⟩ := h.2
      refine g_top0 eu11 ?_
      have hk12 := h.1
      refine gX_ni5 hX (gX_runF (n := 0) (As := []) (rest := [.int a5]) (Cr := "java/util/ArrayList") (x := ⟨"java/util/List", "size", "()I"⟩) hC hX (mx_J2_size (cx_l C) E _ _ _ h.2) (lw_app (lw_4 q770 q774 q776 q73) (lw_meth q778)) (List.mem_of_getElem? (i := 0) rfl) (by decide +kernel) rfl rfl (Or.inl (Nat.le_of_ble_eq_true rfl)) ⟨Nat.le_of_ble_eq_true rfl, Nat.le_of_ble_eq_true rfl⟩ dX0_holding_46 (Nat.zero_le _) (Nat.zero_le _) hk12 rfl (by decide) rfl) rfl rfl ?_
      intro r14 S13 h
      refine g_icmp_ge (tgt := 131) hC dX0_holding_51 (by decide) (fun c => ?_) (fun c => ?_)
      · have h := it_p c h
        refine g_iload hC dX0_holding_131 rfl ?_
        refine gX_iret rfl hC hA hQ dX0_holding_133 h
      · have h := it_n c h
        refine g_aload_nR hC dX0_holding_54 rfl ?_
        refine g_top0 eu9 ?_
        have hk15 := h.1
        refine gX_get (C0 := RX0) (T := TX0) (N := 15) (n := 0) (k := 2) (q := (2, true)) hC hX dX0_holding_55 q213 rfl in_X0 (by decide) (Or.inl rfl) rfl (by decide) hk15 ?_
        show GX _ _ _ _ _ _ _ (va_rf (xFR S13 2 u9) :: _)
        refine g_iload hC dX0_holding_58 rfl ?_
        obtain ⟨u16, eu16, h⟩ := h.2
        refine g_top1 eu16 ?_
        have hk17 := h.1
        refine gX_nq5 hX (gX_runF (n := 1) (As := [.int a5]) (rest := []) (Cr := "java/util/ArrayList") (x := ⟨"java/util/List", "get", "(I)Ljava/lang/Object;"⟩) hC hX (mx_J2_get (cx_l C) E _ _ _ _ h.2) (lw_app (lw_4 q928 q931 q933 q73) (lw_meth q935)) (List.mem_of_getElem? (i := 2) rfl) (by decide +kernel) rfl rfl (Or.inl (Nat.le_of_ble_eq_true rfl)) ⟨Nat.le_of_ble_eq_true rfl, Nat.le_of_ble_eq_true rfl⟩ dX0_holding_60 (Nat.zero_le _) (Nat.zero_le _) hk17 rfl (by decide) rfl) rfl rfl ?_
        intro r19 S18 h
        obtain ⟨u20, eu20, h⟩ := h
        refine g_top0 eu20 ?_
        have hk21 := h.1
        refine gX_cast (r := (RX8, TX8, 11)) (n := 7) hC hX dX0_holding_65 q164 rfl (by decide) hk21 ?_
        refine g_astoreR hC dX0_holding_68 (by decide) rfl rfl ?_
        refine g_iload_n hC dX0_holding_70 rfl ?_
        refine g_iconst (v := 1) hC dX0_holding_71 (by decide) ?_
        refine g_icmp_ne (tgt := 100) hC dX0_holding_72 (by decide) (fun c => ?_) (fun c => ?_)
        · have h := it_n c h.2
          refine g_iload hC dX0_holding_100 rfl ?_
          refine g_iload_n hC dX0_holding_102 rfl ?_
          refine g_iload hC dX0_holding_103 rfl ?_
          refine g_ishr hC dX0_holding_105 ?_
          refine g_iconst (v := 1) hC dX0_holding_106 (by decide) ?_
          refine g_iand hC dX0_holding_107 ?_
          refine g_iconst (v := 1) hC dX0_holding_108 (by decide) ?_
          refine g_icmp_ne (tgt := 121) hC dX0_holding_109 (by decide) (fun c => ?_) (fun c => ?_)
          · have h := it_n c h
            refine g_iconst (v := 0) hC dX0_holding_121 (by decide) ?_
            refine g_sub [true, true, true, true, false, true, false] rfl ?_
            exact s_122 (wx_X0_holding_40 Q n) ih S18 a0 a1 a2 a3 a5 a4 (0 : Int32) h
          · have h := it_p c h
            refine g_aload_nR hC dX0_holding_112 rfl ?_
            refine g_aloadR hC dX0_holding_113 rfl ?_
            refine g_top1 eu9 ?_
            have hk22 := h.1
            refine gX_ni hX (gX_runV (As := [va_rf (some u20)]) (rest := [.int a4]) (Cr := RX0) hC hX (mx_X0_price (cx_l C) E _ _ _ _ h.2) (lw_V q950 q952 qs17 q70 q953) hx_X0_price rfl rfl (Or.inl (Nat.le_of_ble_eq_true rfl)) ⟨Nat.le_of_ble_eq_true rfl, Nat.le_of_ble_eq_true rfl⟩ dX0_holding_115 (Nat.zero_le _) (Nat.zero_le _) hk22 rfl (by decide) rfl) rfl rfl ?_
            intro r24 S23 h
            refine g_goto (tgt := 122) hC dX0_holding_118 (by decide) ?_
            refine g_sub [true, true, true, true, false, true, false] rfl ?_
            exact s_122 (wx_X0_holding_40 Q n) ih S23 a0 a1 a2 a3 a5 a4 r24 h
        · have h := it_p c h.2
          refine g_iload hC dX0_holding_75 rfl ?_
          refine g_aloadR hC dX0_holding_77 rfl ?_
          refine g_iload_n hC dX0_holding_79 rfl ?_
          refine gX_ni hX (gX_runV (As := [.int a1]) (rest := [.int a4]) (Cr := RX8) hC hX (mx_X8_isThere (cx_l C) E _ _ _ _ h) (lw_V q978 q979 q980 q96 q981) hx_X8_isThere rfl rfl (Or.inl (Nat.le_of_ble_eq_true rfl)) ⟨Nat.le_of_ble_eq_true rfl, Nat.le_of_ble_eq_true rfl⟩ dX0_holding_80 (Nat.zero_le _) (Nat.zero_le _) hk21 rfl (by decide) rfl) rfl rfl ?_
          intro r26 S25 h
          refine g_if_eq (tgt := 93) hC dX0_holding_83 (by decide) (fun c => ?_) (fun c => ?_)
          · have h := it_p c h
            refine g_iconst (v := 0) hC dX0_holding_93 (by decide) ?_
            refine g_sub [true, true, true, true, false, true, false] rfl ?_
            exact s_94 (wx_X0_holding_40 Q n) ih S25 a0 a1 a2 a3 a5 a4 (0 : Int32) h
          · have h := it_n c h
            refine g_iconst (v := 1) hC dX0_holding_86 (by decide) ?_
            refine g_iload hC dX0_holding_87 rfl ?_
            refine g_ishl hC dX0_holding_89 ?_
            refine g_goto (tgt := 94) hC dX0_holding_90 (by decide) ?_
            refine g_sub [true, true, true, true, false, true, false] rfl ?_
            exact s_94 (wx_X0_holding_40 Q n) ih S25 a0 a1 a2 a3 a5 a4 ((1 : Int32) <<< (a5 &&& 31)) h
  refine g_iload_n hC dX0_holding_0 rfl ?_
  refine gX_ni hX (gX_runS (As := [.int x1]) (rest := []) hC hX (mx_X0_isDay (cx_l C) E _ _ _ h) (lw_S q788 q789 q70 q790) hx_X0_isDay.2 rfl rfl (Or.inl (Nat.le_of_ble_eq_true rfl)) ⟨Nat.le_of_ble_eq_true rfl, Nat.le_of_ble_eq_true rfl⟩ dX0_holding_1 (Nat.zero_le _) (Nat.zero_le _)) rfl rfl ?_
  intro r2 S1 h
  refine g_if_eq (tgt := 19) hC dX0_holding_4 (by decide) (fun c => ?_) (fun c => ?_)
  · have h := it_p c h
    refine g_ldc (v := -1000001) hC dX0_holding_19 q273 ?_
    refine gX_iret rfl hC hA hQ dX0_holding_21 h
  · have h := it_n c h
    refine g_iload_n hC dX0_holding_7 rfl ?_
    refine g_i2l hC dX0_holding_8 ?_
    refine g_lconst (v := 0) hC dX0_holding_9 (by decide) ?_
    refine g_ldc2 (v := 2) hC dX0_holding_10 q272 ?_
    refine gX_ni hX (gX_runS (As := [.long (Int32.toInt64 x2), .long (0 : Int64), .long (2 : Int64)]) (rest := []) hC hX (mx_X0_isIn (cx_l C) E _ _ _ _ _ h) (lw_S q269 q270 q70 q271) hx_X0_isIn.2 rfl rfl (Or.inl (Nat.le_of_ble_eq_true rfl)) ⟨Nat.le_of_ble_eq_true rfl, Nat.le_of_ble_eq_true rfl⟩ dX0_holding_13 (Nat.zero_le _) (Nat.zero_le _)) rfl rfl ?_
    intro r4 S3 h
    refine g_if_ne (tgt := 22) hC dX0_holding_16 (by decide) (fun c => ?_) (fun c => ?_)
    · have h := it_n c h
      refine g_aload_nR hC dX0_holding_22 rfl ?_
      refine g_iload_n hC dX0_holding_23 rfl ?_
      obtain ⟨u5, eu5, h⟩ := h
      refine g_top1 eu5 ?_
      have hk6 := h.1
      refine gX_ni hX (gX_runV (As := [.int x1]) (rest := []) (Cr := RX0) hC hX (mx_X0_held (cx_l C) E _ _ _ _ h.2) (lw_V q974 q976 qs20 q70 q977) hx_X0_held rfl rfl (Or.inl (Nat.le_of_ble_eq_true rfl)) ⟨Nat.le_of_ble_eq_true rfl, Nat.le_of_ble_eq_true rfl⟩ dX0_holding_24 (Nat.zero_le _) (Nat.zero_le _) hk6 rfl (by decide) rfl) rfl rfl ?_
      intro r8 S7 h
      refine g_istore_n hC dX0_holding_27 rfl (by decide) rfl rfl ?_
      refine g_iload_n hC dX0_holding_28 rfl ?_
      refine g_if_ne (tgt := 34) hC dX0_holding_29 (by decide) (fun c => ?_) (fun c => ?_)
      · have h := it_n c h
        refine g_iconst (v := 0) hC dX0_holding_34 (by decide) ?_
        refine g_istore hC dX0_holding_35 (by decide) rfl rfl ?_
        refine g_iconst (v := 0) hC dX0_holding_37 (by decide) ?_
        refine g_istore hC dX0_holding_38 (by decide) rfl rfl ?_
        obtain ⟨n0, h0⟩ := h
        exact s_40 n0 S7 x0 x1 x2 r8 (0 : Int32) (0 : Int32) h0
      · have h := it_p c h
        refine g_iload_n hC dX0_holding_32 rfl ?_
        refine gX_iret rfl hC hA hQ dX0_holding_33 h
    · have h := it_p c h
      refine g_ldc (v := -1000001) hC dX0_holding_19 q273 ?_
      refine gX_iret rfl hC hA hQ dX0_holding_21 h
theorem mx_X0_holding (l : Launch) (E : XE) (Q : Int32 → XS → Prop) (S : XS) (x0 : Option Nat) (x1 : Int32) (x2 : Int32) (h : wx_X0_holding Q S x0 x1 x2) : XMet E l yX0_holding cX0_holding 7 (some .int) ({ frames := 6, cells := 0, slots := 0, locals := 148 } : Room) [va_rf x0, .int x1, .int x2] S (fun sz => va_Qi Q (BX1 E S sz) (xA S sz)) :=
  XMet_of (rm := ({ frames := 6, cells := 0, slots := 0, locals := 148 } : Room)) (by decide) (by simp [lg_sl, va_rf_cat, cat_i, cat_l]) (L0 := [some (va_rf x0), some (.int x1), some (.int x2), none, none, none, none]) (by simp [lx_pairs, lv_args, va_rf_cat, cat_i, cat_l, List.range_succ]) (fun sz C hC hX hl hnm hA hQ => bx_X0_holding E C S sz Q S x0 x1 x2 hC hX hA hQ h)
/-! X0_isFree -/
def wx_X0_isFree_37 (Q : Int32 → XS → Prop) (K2 : XS → Option Nat → Int32 → Int32 → Prop) (S : XS) (a0 : Option Nat) (a1 : Int32) (a2 : Int32) : Prop :=
  K2 S a0 a1 (a2 + (1 : Int32))
def wx_X0_isFree_2 (Q : Int32 → XS → Prop) : Nat → XS → Option Nat → Int32 → Int32 → Prop
  | 0, _, _, _, _ => False
  | n + 1, S, a0, a1, a2 => dr a0 (fun u1 => xKD S u1 = some 0 ∧ dr (xFR S 2 u1) (fun u3 => xKD S u3 = some 16 ∧ wx_J2_size (fun r6 S5 => (if r6 ≤ a2 then Q (1 : Int32) S5 else (if ((a1 >>> (a2 &&& 31)) &&& (1 : Int32)) = (1 : Int32) then xKD S5 u1 = some 0 ∧ dr (xFR S5 14 u1) (fun u8 => xKD S5 u8 = some 100 ∧ vp_in a2 (xLN S5 u8) ∧ (if ((xAI S5 u8 (Int32.toNatClampNeg a2)) &&& a1) = 0 then wx_X0_isFree_37 Q (wx_X0_isFree_2 Q n) S5 a0 a1 a2 else Q (0 : Int32) S5)) else wx_X0_isFree_37 Q (wx_X0_isFree_2 Q n) S5 a0 a1 a2))) S (some u3)))
def wx_X0_isFree (Q : Int32 → XS → Prop) (S : XS) (x0 : Option Nat) (x1 : Int32) : Prop :=
  ∃ n10, wx_X0_isFree_2 Q n10 S x0 x1 (0 : Int32)
theorem hx_X0_isFree : yX0_isFree.cls = RX0 ∧ yX0_isFree.cls ≠ "java/lang/invoke/MethodHandle" ∧ yX0_isFree.cls ≠ "java/lang/invoke/VarHandle" ∧ (parseMethodDescriptor yX0_isFree.desc).map (fun d => d.parameters.length) = some 1 := by decide +kernel
set_option maxHeartbeats 4000000 in
set_option maxRecDepth 100000 in
theorem bx_X0_isFree (E : XE) (C : Cx) (S0 : XS) (sz : Nat) (Q : Int32 → XS → Prop) (S : XS) (x0 : Option Nat) (x1 : Int32) (hC : COk C cX0_isFree RX0 (some .boolean) 2 54 3) (hX : XOk E C) (hA : cx_A C = xA S0 sz) (hQ : cx_Q C = MQ (cx_b C) (va_Qi Q (BX1 E S0 sz) (xA S0 sz)) (cx_a C) (cx_s C) (cx_MC C) (cx_MS C) (xA S0 sz)) (h : wx_X0_isFree Q S x0 x1) : GX E C S 0 0 0 [some (va_rf x0), some (.int x1), none] [] := by
  have s_37 : ∀ (K2 : XS → Option Nat → Int32 → Int32 → Prop) (hK2 : ∀ (S : XS) (b0 : Option Nat) (b1 : Int32) (b2 : Int32), K2 S b0 b1 b2 → GX E C S 0 0 2 [some (va_rf b0), some (.int b1), some (.int b2)] []) (S : XS) (a0 : Option Nat) (a1 : Int32) (a2 : Int32), wx_X0_isFree_37 Q K2 S a0 a1 a2 → GX E C S 0 0 37 [some (va_rf a0), some (.int a1), some (.int a2)] [] := by
    intro K2 hK2 S a0 a1 a2 h
    refine g_iinc (v := (a2 + (1 : Int32))) hC dX0_isFree_37 rfl rfl (by decide) rfl rfl ?_
    refine g_goto (tgt := 2) hC dX0_isFree_40 (by decide) ?_
    exact hK2 S a0 a1 (a2 + (1 : Int32)) h
  have s_2 : ∀ (n : Nat) (S : XS) (a0 : Option Nat) (a1 : Int32) (a2 : Int32), wx_X0_isFree_2 Q  n S a0 a1 a2 → GX E C S 0 0 2 [some (va_rf a0), some (.int a1), some (.int a2)] [] := by
    intro  n
    induction n with
    | zero =>
      intro S a0 a1 a2 h
      exact False.elim h
    | succ n ih =>
      intro S a0 a1 a2 h
      refine g_iload_n hC dX0_isFree_2 rfl ?_
      refine g_aload_nR hC dX0_isFree_3 rfl ?_
      obtain ⟨u1, eu1, h⟩ := h
      refine g_top0 eu1 ?_
      have hk2 := h.1
      refine gX_get (C0 := RX0) (T := TX0) (N := 15) (n := 0) (k := 2) (q := (2, true)) hC hX dX0_isFree_4 q213 rfl in_X0 (by decide) (Or.inl rfl) rfl (by decide) hk2 ?_
      show GX _ _ _ _ _ _ _ (va_rf (xFR S 2 u1) :: _)
      obtain ⟨u3, eu3, h⟩ := h.2
      refine g_top0 eu3 ?_
      have hk4 := h.1
      refine gX_ni5 hX (gX_runF (n := 0) (As := []) (rest := [.int a2]) (Cr := "java/util/ArrayList") (x := ⟨"java/util/List", "size", "()I"⟩) hC hX (mx_J2_size (cx_l C) E _ _ _ h.2) (lw_app (lw_4 q770 q774 q776 q73) (lw_meth q778)) (List.mem_of_getElem? (i := 0) rfl) (by decide +kernel) rfl rfl (Or.inl (Nat.le_of_ble_eq_true rfl)) ⟨Nat.le_of_ble_eq_true rfl, Nat.le_of_ble_eq_true rfl⟩ dX0_isFree_7 (Nat.zero_le _) (Nat.zero_le _) hk4 rfl (by decide) rfl) rfl rfl ?_
      intro r6 S5 h
      refine g_icmp_ge (tgt := 43) hC dX0_isFree_12 (by decide) (fun c => ?_) (fun c => ?_)
      · have h := it_p c h
        refine g_iconst (v := 1) hC dX0_isFree_43 (by decide) ?_
        refine gX_zret rfl rfl hC hA hQ dX0_isFree_44 h
      · have h := it_n c h
        refine g_iload_n hC dX0_isFree_15 rfl ?_
        refine g_iload_n hC dX0_isFree_16 rfl ?_
        refine g_ishr hC dX0_isFree_17 ?_
        refine g_iconst (v := 1) hC dX0_isFree_18 (by decide) ?_
        refine g_iand hC dX0_isFree_19 ?_
        refine g_iconst (v := 1) hC dX0_isFree_20 (by decide) ?_
        refine g_icmp_ne (tgt := 37) hC dX0_isFree_21 (by decide) (fun c => ?_) (fun c => ?_)
        · have h := it_n c h
          exact s_37 (wx_X0_isFree_2 Q n) ih S5 a0 a1 a2 h
        · have h := it_p c h
          refine g_aload_nR hC dX0_isFree_24 rfl ?_
          refine g_top0 eu1 ?_
          have hk7 := h.1
          refine gX_get (C0 := RX0) (T := TX0) (N := 15) (n := 0) (k := 14) (q := (14, true)) hC hX dX0_isFree_25 q228 rfl in_X0 (by decide) (Or.inl rfl) rfl (by decide) hk7 ?_
          show GX _ _ _ _ _ _ _ (va_rf (xFR S5 14 u1) :: _)
          refine g_iload_n hC dX0_isFree_28 rfl ?_
          obtain ⟨u8, eu8, h⟩ := h.2
          refine g_top1 eu8 ?_
          have hk9 := h.1
          refine gX_iald hC hX dX0_isFree_29 hk9 h.2.1 ?_
          refine g_iload_n hC dX0_isFree_30 rfl ?_
          refine g_iand hC dX0_isFree_31 ?_
          refine g_if_eq (tgt := 37) hC dX0_isFree_32 (by decide) (fun c => ?_) (fun c => ?_)
          · have h := it_p c h.2.2
            exact s_37 (wx_X0_isFree_2 Q n) ih S5 a0 a1 a2 h
          · have h := it_n c h.2.2
            refine g_iconst (v := 0) hC dX0_isFree_35 (by decide) ?_
            refine gX_zret rfl rfl hC hA hQ dX0_isFree_36 h
  refine g_iconst (v := 0) hC dX0_isFree_0 (by decide) ?_
  refine g_istore_n hC dX0_isFree_1 rfl (by decide) rfl rfl ?_
  obtain ⟨n0, h0⟩ := h
  exact s_2 n0 S x0 x1 (0 : Int32) h0
theorem mx_X0_isFree (l : Launch) (E : XE) (Q : Int32 → XS → Prop) (S : XS) (x0 : Option Nat) (x1 : Int32) (h : wx_X0_isFree Q S x0 x1) : XMet E l yX0_isFree cX0_isFree 3 (some .boolean) ({ frames := 2, cells := 0, slots := 0, locals := 54 } : Room) [va_rf x0, .int x1] S (fun sz => va_Qi Q (BX1 E S sz) (xA S sz)) :=
  XMet_of (rm := ({ frames := 2, cells := 0, slots := 0, locals := 54 } : Room)) (by decide) (by simp [lg_sl, va_rf_cat, cat_i, cat_l]) (L0 := [some (va_rf x0), some (.int x1), none]) (by simp [lx_pairs, lv_args, va_rf_cat, cat_i, cat_l, List.range_succ]) (fun sz C hC hX hl hnm hA hQ => bx_X0_isFree E C S sz Q S x0 x1 hC hX hA hQ h)
/-! X0_prices -/
def wx_X0_prices_48 (Q : Int32 → XS → Prop) (K4 : XS → Option Nat → Int32 → Int32 → Int32 → Prop) (S : XS) (a0 : Option Nat) (a1 : Int32) (a3 : Int32) (s0 : Int32) (s1 : Int32) : Prop :=
  K4 S a0 a1 (s0 + s1) (a3 + (1 : Int32))
def wx_X0_prices_4 (Q : Int32 → XS → Prop) : Nat → XS → Option Nat → Int32 → Int32 → Int32 → Prop
  | 0, _, _, _, _, _ => False
  | n + 1, S, a0, a1, a2, a3 => dr a0 (fun u1 => xKD S u1 = some 0 ∧ dr (xFR S 2 u1) (fun u3 => xKD S u3 = some 16 ∧ wx_J2_size (fun r6 S5 => (if r6 ≤ a3 then Q a2 S5 else (if ((a1 >>> (a3 &&& 31)) &&& (1 : Int32)) = (1 : Int32) then xKD S5 u1 = some 0 ∧ dr (xFR S5 2 u1) (fun u8 => xKD S5 u8 = some 16 ∧ wx_J2_get (fun r11 S10 => dr r11 (fun u12 => xKD S10 u12 = some 7 ∧ xKD S10 u1 = some 0 ∧ wx_X0_price (fun r16 S15 => wx_X0_prices_48 Q (wx_X0_prices_4 Q n) S15 a0 a1 a3 a2 r16) S10 (some u1) (some u12))) S5 (some u8) a3) else wx_X0_prices_48 Q (wx_X0_prices_4 Q n) S5 a0 a1 a3 a2 (0 : Int32)))) S (some u3)))
def wx_X0_prices (Q : Int32 → XS → Prop) (S : XS) (x0 : Option Nat) (x1 : Int32) : Prop :=
  ∃ n17, wx_X0_prices_4 Q n17 S x0 x1 (0 : Int32) (0 : Int32)
theorem hx_X0_prices : yX0_prices.cls = RX0 ∧ yX0_prices.cls ≠ "java/lang/invoke/MethodHandle" ∧ yX0_prices.cls ≠ "java/lang/invoke/VarHandle" ∧ (parseMethodDescriptor yX0_prices.desc).map (fun d => d.parameters.length) = some 1 := by decide +kernel
set_option maxHeartbeats 4000000 in
set_option maxRecDepth 100000 in
theorem bx_X0_prices (E : XE) (C : Cx) (S0 : XS) (sz : Nat) (Q : Int32 → XS → Prop) (S : XS) (x0 : Option Nat) (x1 : Int32) (hC : COk C cX0_prices RX0 (some .int) 4 98 4) (hX : XOk E C) (hA : cx_A C = xA S0 sz) (hQ : cx_Q C = MQ (cx_b C) (va_Qi Q (BX1 E S0 sz) (xA S0 sz)) (cx_a C) (cx_s C) (cx_MC C) (cx_MS C) (xA S0 sz)) (h : wx_X0_prices Q S x0 x1) : GX E C S 0 0 0 [some (va_rf x0), some (.int x1), none, none] [] := by
  have s_48 : ∀ (K4 : XS → Option Nat → Int32 → Int32 → Int32 → Prop) (hK4 : ∀ (S : XS) (b0 : Option Nat) (b1 : Int32) (b2 : Int32) (b3 : Int32), K4 S b0 b1 b2 b3 → GX E C S 0 0 4 [some (va_rf b0), some (.int b1), some (.int b2), some (.int b3)] []) (S : XS) (a0 : Option Nat) (a1 : Int32) (a3 : Int32) (s0 : Int32) (s1 : Int32), wx_X0_prices_48 Q K4 S a0 a1 a3 s0 s1 → GX E C S 0 0 48 [some (va_rf a0), some (.int a1), none, some (.int a3)] [.int s1, .int s0] := by
    intro K4 hK4 S a0 a1 a3 s0 s1 h
    refine g_iadd hC dX0_prices_48 ?_
    refine g_istore_n hC dX0_prices_49 rfl (by decide) rfl rfl ?_
    refine g_iinc (v := (a3 + (1 : Int32))) hC dX0_prices_50 rfl rfl (by decide) rfl rfl ?_
    refine g_goto (tgt := 4) hC dX0_prices_53 (by decide) ?_
    exact hK4 S a0 a1 (s0 + s1) (a3 + (1 : Int32)) h
  have s_4 : ∀ (n : Nat) (S : XS) (a0 : Option Nat) (a1 : Int32) (a2 : Int32) (a3 : Int32), wx_X0_prices_4 Q  n S a0 a1 a2 a3 → GX E C S 0 0 4 [some (va_rf a0), some (.int a1), some (.int a2), some (.int a3)] [] := by
    intro  n
    induction n with
    | zero =>
      intro S a0 a1 a2 a3 h
      exact False.elim h
    | succ n ih =>
      intro S a0 a1 a2 a3 h
      refine g_iload_n hC dX0_prices_4 rfl ?_
      refine g_aload_nR hC dX0_prices_5 rfl ?_
      obtain ⟨u1, eu1, h⟩ := h
      refine g_top0 eu1 ?_
      have hk2 := h.1
      refine gX_get (C0 := RX0) (T := TX0) (N := 15) (n := 0) (k := 2) (q := (2, true)) hC hX dX0_prices_6 q213 rfl in_X0 (by decide) (Or.inl rfl) rfl (by decide) hk2 ?_
      show GX _ _ _ _ _ _ _ (va_rf (xFR S 2 u1) :: _)
      obtain ⟨u3, eu3, h⟩ := h.2
      refine g_top0 eu3 ?_
      have hk4 := h.1
      refine gX_ni5 hX (gX_runF (n := 0) (As := []) (rest := [.int a3]) (Cr := "java/util/ArrayList") (x := ⟨"java/util/List", "size", "()I"⟩) hC hX (mx_J2_size (cx_l C) E _ _ _ h.2) (lw_app (lw_4 q770 q774 q776 q73) (lw_meth q778)) (List.mem_of_getElem? (i := 0) rfl) (by decide +kernel) rfl rfl (Or.inl (Nat.le_of_ble_eq_true rfl)) ⟨Nat.le_of_ble_eq_true rfl, Nat.le_of_ble_eq_true rfl⟩ dX0_prices_9 (Nat.zero_le _) (Nat.zero_le _) hk4 rfl (by decide) rfl) rfl rfl ?_
      intro r6 S5 h
      refine g_icmp_ge (tgt := 56) hC dX0_prices_14 (by decide) (fun c => ?_) (fun c => ?_)
      · have h := it_p c h
        refine g_iload_n hC dX0_prices_56 rfl ?_
        refine gX_iret rfl hC hA hQ dX0_prices_57 h
      · have h := it_n c h
        refine g_iload_n hC dX0_prices_17 rfl ?_
        refine g_iload_n hC dX0_prices_18 rfl ?_
        refine g_iload_n hC dX0_prices_19 rfl ?_
        refine g_ishr hC dX0_prices_20 ?_
        refine g_iconst (v := 1) hC dX0_prices_21 (by decide) ?_
        refine g_iand hC dX0_prices_22 ?_
        refine g_iconst (v := 1) hC dX0_prices_23 (by decide) ?_
        refine g_icmp_ne (tgt := 47) hC dX0_prices_24 (by decide) (fun c => ?_) (fun c => ?_)
        · have h := it_n c h
          refine g_iconst (v := 0) hC dX0_prices_47 (by decide) ?_
          refine g_sub [true, true, false, true] rfl ?_
          exact s_48 (wx_X0_prices_4 Q n) ih S5 a0 a1 a3 a2 (0 : Int32) h
        · have h := it_p c h
          refine g_aload_nR hC dX0_prices_27 rfl ?_
          refine g_aload_nR hC dX0_prices_28 rfl ?_
          refine g_top0 eu1 ?_
          have hk7 := h.1
          refine gX_get (C0 := RX0) (T := TX0) (N := 15) (n := 0) (k := 2) (q := (2, true)) hC hX dX0_prices_29 q213 rfl in_X0 (by decide) (Or.inl rfl) rfl (by decide) hk7 ?_
          show GX _ _ _ _ _ _ _ (va_rf (xFR S5 2 u1) :: _)
          refine g_iload_n hC dX0_prices_32 rfl ?_
          obtain ⟨u8, eu8, h⟩ := h.2
          refine g_top1 eu8 ?_
          have hk9 := h.1
          refine gX_nq5 hX (gX_runF (n := 1) (As := [.int a3]) (rest := [va_rf a0, .int a2]) (Cr := "java/util/ArrayList") (x := ⟨"java/util/List", "get", "(I)Ljava/lang/Object;"⟩) hC hX (mx_J2_get (cx_l C) E _ _ _ _ h.2) (lw_app (lw_4 q928 q931 q933 q73) (lw_meth q935)) (List.mem_of_getElem? (i := 2) rfl) (by decide +kernel) rfl rfl (Or.inl (Nat.le_of_ble_eq_true rfl)) ⟨Nat.le_of_ble_eq_true rfl, Nat.le_of_ble_eq_true rfl⟩ dX0_prices_33 (Nat.zero_le _) (Nat.zero_le _) hk9 rfl (by decide) rfl) rfl rfl ?_
          intro r11 S10 h
          obtain ⟨u12, eu12, h⟩ := h
          refine g_top0 eu12 ?_
          have hk13 := h.1
          refine gX_cast (r := (RX8, TX8, 11)) (n := 7) hC hX dX0_prices_38 q164 rfl (by decide) hk13 ?_
          refine g_top1 eu1 ?_
          have hk14 := h.2.1
          refine gX_ni hX (gX_runV (As := [va_rf (some u12)]) (rest := [.int a2]) (Cr := RX0) hC hX (mx_X0_price (cx_l C) E _ _ _ _ h.2.2) (lw_V q950 q952 qs17 q70 q953) hx_X0_price rfl rfl (Or.inl (Nat.le_of_ble_eq_true rfl)) ⟨Nat.le_of_ble_eq_true rfl, Nat.le_of_ble_eq_true rfl⟩ dX0_prices_41 (Nat.zero_le _) (Nat.zero_le _) hk14 rfl (by decide) rfl) rfl rfl ?_
          intro r16 S15 h
          refine g_goto (tgt := 48) hC dX0_prices_44 (by decide) ?_
          refine g_sub [true, true, false, true] rfl ?_
          exact s_48 (wx_X0_prices_4 Q n) ih S15 a0 a1 a3 a2 r16 h
  refine g_iconst (v := 0) hC dX0_prices_0 (by decide) ?_
  refine g_istore_n hC dX0_prices_1 rfl (by decide) rfl rfl ?_
  refine g_iconst (v := 0) hC dX0_prices_2 (by decide) ?_
  refine g_istore_n hC dX0_prices_3 rfl (by decide) rfl rfl ?_
  obtain ⟨n0, h0⟩ := h
  exact s_4 n0 S x0 x1 (0 : Int32) (0 : Int32) h0
theorem mx_X0_prices (l : Launch) (E : XE) (Q : Int32 → XS → Prop) (S : XS) (x0 : Option Nat) (x1 : Int32) (h : wx_X0_prices Q S x0 x1) : XMet E l yX0_prices cX0_prices 4 (some .int) ({ frames := 4, cells := 0, slots := 0, locals := 98 } : Room) [va_rf x0, .int x1] S (fun sz => va_Qi Q (BX1 E S sz) (xA S sz)) :=
  XMet_of (rm := ({ frames := 4, cells := 0, slots := 0, locals := 98 } : Room)) (by decide) (by simp [lg_sl, va_rf_cat, cat_i, cat_l]) (L0 := [some (va_rf x0), some (.int x1), none, none]) (by simp [lx_pairs, lv_args, va_rf_cat, cat_i, cat_l, List.range_succ]) (fun sz C hC hX hl hnm hA hQ => bx_X0_prices E C S sz Q S x0 x1 hC hX hA hQ h)
/-! X0_mostOf -/
def wx_X0_mostOf_241 (Q : Int32 → XS → Prop) (K186 : XS → Option Nat → Int32 → Int32 → Int32 → Int32 → Prop) (S : XS) (a0 : Option Nat) (a4 : Int32) (a5 : Int32) (a6 : Int32) (a7 : Int32) : Prop :=
  K186 S a0 a4 a5 a6 (a7 + (1 : Int32))
def wx_X0_mostOf_186 (Q : Int32 → XS → Prop) : Nat → XS → Option Nat → Int32 → Int32 → Int32 → Int32 → Prop
  | 0, _, _, _, _, _, _ => False
  | n + 1, S, a0, a4, a5, a6, a7 => (if a4 < a7 then Q a5 S else (if (a7 &&& (a4 ^^^ (-1 : Int32))) = 0 then dr a0 (fun u7 => xKD S u7 = some 0 ∧ wx_X0_isFree (fun r10 S9 => (if r10 = 0 then wx_X0_mostOf_241 Q (wx_X0_mostOf_186 Q n) S9 a0 a4 a5 a6 a7 else xKD S9 u7 = some 0 ∧ wx_X0_prices (fun r13 S12 => (if a6 < r13 then wx_X0_mostOf_241 Q (wx_X0_mostOf_186 Q n) S12 a0 a4 a7 r13 a7 else wx_X0_mostOf_241 Q (wx_X0_mostOf_186 Q n) S12 a0 a4 a5 a6 a7)) S9 (some u7) a7)) S (some u7) a7) else wx_X0_mostOf_241 Q (wx_X0_mostOf_186 Q n) S a0 a4 a5 a6 a7))
def wx_X0_mostOf_163 (Q : Int32 → XS → Prop) (K6 : XS → Option Nat → Int32 → Int32 → Int32 → Int32 → Int32 → Prop) (K103 : XS → Option Nat → Int32 → Int32 → Int32 → Int32 → Int32 → Option Nat → Int32 → Prop) (S : XS) (a0 : Option Nat) (a1 : Int32) (a2 : Int32) (a3 : Int32) (a4 : Int32) (a5 : Int32) (a6 : Option Nat) (a7 : Int32) (s0 : Option Nat) (s1 : Int32) (s2 : Int32) (s3 : Int32) : Prop :=
  dr s0 (fun u38 => xKD S u38 = some 100 ∧ vp_in s1 (xLN S u38) ∧ K103 (sAI S u38 (Int32.toNatClampNeg s1) (s2 ||| s3)) a0 a1 a2 a3 a4 a5 a6 (a7 + (1 : Int32)))
def wx_X0_mostOf_162 (Q : Int32 → XS → Prop) (K6 : XS → Option Nat → Int32 → Int32 → Int32 → Int32 → Int32 → Prop) (K103 : XS → Option Nat → Int32 → Int32 → Int32 → Int32 → Int32 → Option Nat → Int32 → Prop) (S : XS) (a0 : Option Nat) (a1 : Int32) (a2 : Int32) (a3 : Int32) (a4 : Int32) (a5 : Int32) (a6 : Option Nat) (a7 : Int32) (s0 : Option Nat) (s1 : Int32) (s2 : Int32) : Prop :=
  wx_X0_mostOf_163 Q K6 K103 S a0 a1 a2 a3 a4 a5 a6 a7 s0 s1 s2 (0 : Int32)
def wx_X0_mostOf_103 (Q : Int32 → XS → Prop) (K6 : XS → Option Nat → Int32 → Int32 → Int32 → Int32 → Int32 → Prop) : Nat → XS → Option Nat → Int32 → Int32 → Int32 → Int32 → Int32 → Option Nat → Int32 → Prop
  | 0, _, _, _, _, _, _, _, _, _ => False
  | n + 1, S, a0, a1, a2, a3, a4, a5, a6, a7 => dr a0 (fun u29 => xKD S u29 = some 0 ∧ dr (xFR S 2 u29) (fun u31 => xKD S u31 = some 16 ∧ wx_J2_size (fun r34 S33 => (if r34 ≤ a7 then K6 S33 a0 a1 a2 a3 a4 (a5 + (1 : Int32)) else xKD S33 u29 = some 0 ∧ dr (xFR S33 14 u29) (fun u36 => xKD S33 u36 = some 100 ∧ vp_in a5 (xLN S33 u36) ∧ (if a7 = a5 then wx_X0_mostOf_162 Q K6 (wx_X0_mostOf_103 Q K6 n) S33 a0 a1 a2 a3 a4 a5 a6 a7 (xFR S33 14 u29) a5 (xAI S33 u36 (Int32.toNatClampNeg a5)) else dr (xFR S33 2 u29) (fun u40 => xKD S33 u40 = some 16 ∧ wx_J2_get (fun r43 S42 => dr r43 (fun u44 => xKD S42 u44 = some 7 ∧ xKD S42 u29 = some 0 ∧ wx_X0_isClash (fun r48 S47 => (if r48 = 0 then wx_X0_mostOf_162 Q K6 (wx_X0_mostOf_103 Q K6 n) S47 a0 a1 a2 a3 a4 a5 a6 a7 (xFR S33 14 u29) a5 (xAI S33 u36 (Int32.toNatClampNeg a5)) else wx_X0_mostOf_163 Q K6 (wx_X0_mostOf_103 Q K6 n) S47 a0 a1 a2 a3 a4 a5 a6 a7 (xFR S33 14 u29) a5 (xAI S33 u36 (Int32.toNatClampNeg a5)) ((1 : Int32) <<< (a7 &&& 31)))) S42 (some u29) a6 (some u44))) S33 (some u40) a7))))) S (some u31)))
def wx_X0_mostOf_89 (Q : Int32 → XS → Prop) (K6 : XS → Option Nat → Int32 → Int32 → Int32 → Int32 → Int32 → Prop) (S : XS) (a0 : Option Nat) (a1 : Int32) (a2 : Int32) (a3 : Int32) (a5 : Int32) (a6 : Option Nat) (s0 : Int32) (s1 : Int32) : Prop :=
  dr a0 (fun u25 => xKD S u25 = some 0 ∧ dr (xFR S 14 u25) (fun u27 => xKD S u27 = some 100 ∧ vp_in a5 (xLN S u27) ∧ ∃ n49, wx_X0_mostOf_103 Q K6 n49 (sAI S u27 (Int32.toNatClampNeg a5) (0 : Int32)) a0 a1 a2 a3 (s0 ||| s1) a5 a6 (0 : Int32)))
def wx_X0_mostOf_88 (Q : Int32 → XS → Prop) (K6 : XS → Option Nat → Int32 → Int32 → Int32 → Int32 → Int32 → Prop) (S : XS) (a0 : Option Nat) (a1 : Int32) (a2 : Int32) (a3 : Int32) (a5 : Int32) (a6 : Option Nat) (s0 : Int32) : Prop :=
  wx_X0_mostOf_89 Q K6 S a0 a1 a2 a3 a5 a6 s0 (0 : Int32)
def wx_X0_mostOf_6 (Q : Int32 → XS → Prop) : Nat → XS → Option Nat → Int32 → Int32 → Int32 → Int32 → Int32 → Prop
  | 0, _, _, _, _, _, _, _ => False
  | n + 1, S, a0, a1, a2, a3, a4, a5 => dr a0 (fun u1 => xKD S u1 = some 0 ∧ dr (xFR S 2 u1) (fun u3 => xKD S u3 = some 16 ∧ wx_J2_size (fun r6 S5 => (if r6 ≤ a5 then ∃ n14, wx_X0_mostOf_186 Q n14 S5 a0 a4 (0 : Int32) (0 : Int32) (1 : Int32) else xKD S5 u1 = some 0 ∧ dr (xFR S5 2 u1) (fun u16 => xKD S5 u16 = some 16 ∧ wx_J2_get (fun r19 S18 => dr r19 (fun u20 => xKD S18 u20 = some 7 ∧ xKD S18 u1 = some 0 ∧ wx_X0_isAt (fun r24 S23 => (if r24 = 0 then wx_X0_mostOf_88 Q (wx_X0_mostOf_6 Q n) S23 a0 a1 a2 a3 a5 (some u20) a4 else xKD S23 u1 = some 0 ∧ xKD S23 u20 = some 7 ∧ wx_X8_isThere (fun r53 S52 => (if r53 = 0 then wx_X0_mostOf_88 Q (wx_X0_mostOf_6 Q n) S52 a0 a1 a2 a3 a5 (some u20) a4 else xKD S52 u20 = some 7 ∧ xKD S52 u1 = some 0 ∧ dr (xFR S52 1 u1) (fun u56 => xKD S52 u56 = some 104 ∧ vp_in a1 (xLN S52 u56) ∧ dr (xAR S52 u56 (Int32.toNatClampNeg a1)) (fun u58 => xKD S52 u58 = some 2 ∧ dr (xFR S52 204 u58) (fun u60 => xKD S52 u60 = some 100 ∧ vp_in a2 (xLN S52 u60) ∧ (if (xAI S52 u60 (Int32.toNatClampNeg a2)) < (xFI S52 706 u20) then wx_X0_mostOf_88 Q (wx_X0_mostOf_6 Q n) S52 a0 a1 a2 a3 a5 (some u20) a4 else wx_X0_mostOf_89 Q (wx_X0_mostOf_6 Q n) S52 a0 a1 a2 a3 a5 (some u20) a4 ((1 : Int32) <<< (a5 &&& 31)))))))) S23 (some u20) (xFI S23 10 u1))) S18 (some u1) (some u20) a1 a2 a3)) S5 (some u16) a5))) S (some u3)))
def wx_X0_mostOf (Q : Int32 → XS → Prop) (S : XS) (x0 : Option Nat) (x1 : Int32) (x2 : Int32) (x3 : Int32) : Prop :=
  ∃ n62, wx_X0_mostOf_6 Q n62 S x0 x1 x2 x3 (0 : Int32) (0 : Int32)
theorem hx_X0_mostOf : yX0_mostOf.cls = RX0 ∧ yX0_mostOf.cls ≠ "java/lang/invoke/MethodHandle" ∧ yX0_mostOf.cls ≠ "java/lang/invoke/VarHandle" ∧ (parseMethodDescriptor yX0_mostOf.desc).map (fun d => d.parameters.length) = some 3 := by decide +kernel
set_option maxHeartbeats 4000000 in
set_option maxRecDepth 100000 in
theorem bx_X0_mostOf (E : XE) (C : Cx) (S0 : XS) (sz : Nat) (Q : Int32 → XS → Prop) (S : XS) (x0 : Option Nat) (x1 : Int32) (x2 : Int32) (x3 : Int32) (hC : COk C cX0_mostOf RX0 (some .int) 5 121 9) (hX : XOk E C) (hA : cx_A C = xA S0 sz) (hQ : cx_Q C = MQ (cx_b C) (va_Qi Q (BX1 E S0 sz) (xA S0 sz)) (cx_a C) (cx_s C) (cx_MC C) (cx_MS C) (xA S0 sz)) (h : wx_X0_mostOf Q S x0 x1 x2 x3) : GX E C S 0 0 0 [some (va_rf x0), some (.int x1), some (.int x2), some (.int x3), none, none, none, none, none] [] := by
  have s_241 : ∀ (K186 : XS → Option Nat → Int32 → Int32 → Int32 → Int32 → Prop) (hK186 : ∀ (S : XS) (b0 : Option Nat) (b4 : Int32) (b5 : Int32) (b6 : Int32) (b7 : Int32), K186 S b0 b4 b5 b6 b7 → GX E C S 0 0 186 [some (va_rf b0), none, none, none, some (.int b4), some (.int b5), some (.int b6), some (.int b7), none] []) (S : XS) (a0 : Option Nat) (a4 : Int32) (a5 : Int32) (a6 : Int32) (a7 : Int32), wx_X0_mostOf_241 Q K186 S a0 a4 a5 a6 a7 → GX E C S 0 0 241 [some (va_rf a0), none, none, none, some (.int a4), some (.int a5), some (.int a6), some (.int a7), none] [] := by
    intro K186 hK186 S a0 a4 a5 a6 a7 h
    refine g_iinc (v := (a7 + (1 : Int32))) hC dX0_mostOf_241 rfl rfl (by decide) rfl rfl ?_
    refine g_goto (tgt := 186) hC dX0_mostOf_244 (by decide) ?_
    exact hK186 S a0 a4 a5 a6 (a7 + (1 : Int32)) h
  have s_186 : ∀ (n : Nat) (S : XS) (a0 : Option Nat) (a4 : Int32) (a5 : Int32) (a6 : Int32) (a7 : Int32), wx_X0_mostOf_186 Q  n S a0 a4 a5 a6 a7 → GX E C S 0 0 186 [some (va_rf a0), none, none, none, some (.int a4), some (.int a5), some (.int a6), some (.int a7), none] [] := by
    intro  n
    induction n with
    | zero =>
      intro S a0 a4 a5 a6 a7 h
      exact False.elim h
    | succ n ih =>
      intro S a0 a4 a5 a6 a7 h
      refine g_iload hC dX0_mostOf_186 rfl ?_
      refine g_iload hC dX0_mostOf_188 rfl ?_
      refine g_icmp_gt (tgt := 247) hC dX0_mostOf_190 (by decide) (fun c => ?_) (fun c => ?_)
      · have h := it_p c h
        refine g_iload hC dX0_mostOf_247 rfl ?_
        refine gX_iret rfl hC hA hQ dX0_mostOf_249 h
      · have h := it_n c h
        refine g_iload hC dX0_mostOf_193 rfl ?_
        refine g_iload hC dX0_mostOf_195 rfl ?_
        refine g_iconst (v := -1) hC dX0_mostOf_197 (by decide) ?_
        refine g_ixor hC dX0_mostOf_198 ?_
        refine g_iand hC dX0_mostOf_199 ?_
        refine g_if_ne (tgt := 241) hC dX0_mostOf_200 (by decide) (fun c => ?_) (fun c => ?_)
        · have h := it_n c h
          exact s_241 (wx_X0_mostOf_186 Q n) ih S a0 a4 a5 a6 a7 h
        · have h := it_p c h
          refine g_aload_nR hC dX0_mostOf_203 rfl ?_
          refine g_iload hC dX0_mostOf_204 rfl ?_
          obtain ⟨u7, eu7, h⟩ := h
          refine g_top1 eu7 ?_
          have hk8 := h.1
          refine gX_ni hX (gX_runV (As := [.int a7]) (rest := []) (Cr := RX0) hC hX (mx_X0_isFree (cx_l C) E _ _ _ _ h.2) (lw_V q998 q1000 qs24 q70 q1001) hx_X0_isFree rfl rfl (Or.inl (Nat.le_of_ble_eq_true rfl)) ⟨Nat.le_of_ble_eq_true rfl, Nat.le_of_ble_eq_true rfl⟩ dX0_mostOf_206 (Nat.zero_le _) (Nat.zero_le _) hk8 rfl (by decide) rfl) rfl rfl ?_
          intro r10 S9 h
          refine g_if_ne (tgt := 215) hC dX0_mostOf_209 (by decide) (fun c => ?_) (fun c => ?_)
          · have h := it_n c h
            refine g_aload_nR hC dX0_mostOf_215 rfl ?_
            refine g_iload hC dX0_mostOf_216 rfl ?_
            refine g_top1 eu7 ?_
            have hk11 := h.1
            refine gX_ni hX (gX_runV (As := [.int a7]) (rest := []) (Cr := RX0) hC hX (mx_X0_prices (cx_l C) E _ _ _ _ h.2) (lw_V q1002 q1004 qs25 q70 q1005) hx_X0_prices rfl rfl (Or.inl (Nat.le_of_ble_eq_true rfl)) ⟨Nat.le_of_ble_eq_true rfl, Nat.le_of_ble_eq_true rfl⟩ dX0_mostOf_218 (Nat.zero_le _) (Nat.zero_le _) hk11 rfl (by decide) rfl) rfl rfl ?_
            intro r13 S12 h
            refine g_istore hC dX0_mostOf_221 (by decide) rfl rfl ?_
            refine g_iload hC dX0_mostOf_223 rfl ?_
            refine g_iload hC dX0_mostOf_225 rfl ?_
            refine g_icmp_gt (tgt := 233) hC dX0_mostOf_227 (by decide) (fun c => ?_) (fun c => ?_)
            · have h := it_p c h
              refine g_iload hC dX0_mostOf_233 rfl ?_
              refine g_istore hC dX0_mostOf_235 (by decide) rfl rfl ?_
              refine g_sub [true, false, false, false, true, true, false, true, true] rfl ?_
              refine g_iload hC dX0_mostOf_237 rfl ?_
              refine g_istore hC dX0_mostOf_239 (by decide) rfl rfl ?_
              refine g_sub [true, false, false, false, true, true, true, true, false] rfl ?_
              exact s_241 (wx_X0_mostOf_186 Q n) ih S12 a0 a4 a7 r13 a7 h
            · have h := it_n c h
              refine g_goto (tgt := 241) hC dX0_mostOf_230 (by decide) ?_
              refine g_sub [true, false, false, false, true, true, true, true, false] rfl ?_
              exact s_241 (wx_X0_mostOf_186 Q n) ih S12 a0 a4 a5 a6 a7 h
          · have h := it_p c h
            refine g_goto (tgt := 241) hC dX0_mostOf_212 (by decide) ?_
            exact s_241 (wx_X0_mostOf_186 Q n) ih S9 a0 a4 a5 a6 a7 h
  have s_163 : ∀ (K6 : XS → Option Nat → Int32 → Int32 → Int32 → Int32 → Int32 → Prop) (hK6 : ∀ (S : XS) (b0 : Option Nat) (b1 : Int32) (b2 : Int32) (b3 : Int32) (b4 : Int32) (b5 : Int32), K6 S b0 b1 b2 b3 b4 b5 → GX E C S 0 0 6 [some (va_rf b0), some (.int b1), some (.int b2), some (.int b3), some (.int b4), some (.int b5), none, none, none] []) (K103 : XS → Option Nat → Int32 → Int32 → Int32 → Int32 → Int32 → Option Nat → Int32 → Prop) (hK103 : ∀ (S : XS) (b0 : Option Nat) (b1 : Int32) (b2 : Int32) (b3 : Int32) (b4 : Int32) (b5 : Int32) (b6 : Option Nat) (b7 : Int32), K103 S b0 b1 b2 b3 b4 b5 b6 b7 → GX E C S 0 0 103 [some (va_rf b0), some (.int b1), some (.int b2), some (.int b3), some (.int b4), some (.int b5), some (va_rf b6), some (.int b7), none] []) (S : XS) (a0 : Option Nat) (a1 : Int32) (a2 : Int32) (a3 : Int32) (a4 : Int32) (a5 : Int32) (a6 : Option Nat) (a7 : Int32) (s0 : Option Nat) (s1 : Int32) (s2 : Int32) (s3 : Int32), wx_X0_mostOf_163 Q K6 K103 S a0 a1 a2 a3 a4 a5 a6 a7 s0 s1 s2 s3 → GX E C S 0 0 163 [some (va_rf a0), some (.int a1), some (.int a2), some (.int a3), some (.int a4), some (.int a5), some (va_rf a6), some (.int a7), none] [.int s3, .int s2, .int s1, va_rf s0] := by
    intro K6 hK6 K103 hK103 S a0 a1 a2 a3 a4 a5 a6 a7 s0 s1 s2 s3 h
    refine g_ior hC dX0_mostOf_163 ?_
    obtain ⟨u38, eu38, h⟩ := h
    refine g_top2 eu38 ?_
    have hk39 := h.1
    refine gX_iast hC hX dX0_mostOf_164 hk39 h.2.1 ?_
    refine g_iinc (v := (a7 + (1 : Int32))) hC dX0_mostOf_165 rfl rfl (by decide) (lx_okR (j := 6) rfl) rfl ?_
    refine g_goto (tgt := 103) hC dX0_mostOf_168 (by decide) ?_
    exact hK103 (sAI S u38 (Int32.toNatClampNeg s1) (s2 ||| s3)) a0 a1 a2 a3 a4 a5 a6 (a7 + (1 : Int32)) h.2.2
  have s_162 : ∀ (K6 : XS → Option Nat → Int32 → Int32 → Int32 → Int32 → Int32 → Prop) (hK6 : ∀ (S : XS) (b0 : Option Nat) (b1 : Int32) (b2 : Int32) (b3 : Int32) (b4 : Int32) (b5 : Int32), K6 S b0 b1 b2 b3 b4 b5 → GX E C S 0 0 6 [some (va_rf b0), some (.int b1), some (.int b2), some (.int b3), some (.int b4), some (.int b5), none, none, none] []) (K103 : XS → Option Nat → Int32 → Int32 → Int32 → Int32 → Int32 → Option Nat → Int32 → Prop) (hK103 : ∀ (S : XS) (b0 : Option Nat) (b1 : Int32) (b2 : Int32) (b3 : Int32) (b4 : Int32) (b5 : Int32) (b6 : Option Nat) (b7 : Int32), K103 S b0 b1 b2 b3 b4 b5 b6 b7 → GX E C S 0 0 103 [some (va_rf b0), some (.int b1), some (.int b2), some (.int b3), some (.int b4), some (.int b5), some (va_rf b6), some (.int b7), none] []) (S : XS) (a0 : Option Nat) (a1 : Int32) (a2 : Int32) (a3 : Int32) (a4 : Int32) (a5 : Int32) (a6 : Option Nat) (a7 : Int32) (s0 : Option Nat) (s1 : Int32) (s2 : Int32), wx_X0_mostOf_162 Q K6 K103 S a0 a1 a2 a3 a4 a5 a6 a7 s0 s1 s2 → GX E C S 0 0 162 [some (va_rf a0), some (.int a1), some (.int a2), some (.int a3), some (.int a4), some (.int a5), some (va_rf a6), some (.int a7), none] [.int s2, .int s1, va_rf s0] := by
    intro K6 hK6 K103 hK103 S a0 a1 a2 a3 a4 a5 a6 a7 s0 s1 s2 h
    refine g_iconst (v := 0) hC dX0_mostOf_162 (by decide) ?_
    exact s_163 K6 hK6 K103 hK103 S a0 a1 a2 a3 a4 a5 a6 a7 s0 s1 s2 (0 : Int32) h
  have s_103 : ∀ (K6 : XS → Option Nat → Int32 → Int32 → Int32 → Int32 → Int32 → Prop) (hK6 : ∀ (S : XS) (b0 : Option Nat) (b1 : Int32) (b2 : Int32) (b3 : Int32) (b4 : Int32) (b5 : Int32), K6 S b0 b1 b2 b3 b4 b5 → GX E C S 0 0 6 [some (va_rf b0), some (.int b1), some (.int b2), some (.int b3), some (.int b4), some (.int b5), none, none, none] []) (n : Nat) (S : XS) (a0 : Option Nat) (a1 : Int32) (a2 : Int32) (a3 : Int32) (a4 : Int32) (a5 : Int32) (a6 : Option Nat) (a7 : Int32), wx_X0_mostOf_103 Q K6 n S a0 a1 a2 a3 a4 a5 a6 a7 → GX E C S 0 0 103 [some (va_rf a0), some (.int a1), some (.int a2), some (.int a3), some (.int a4), some (.int a5), some (va_rf a6), some (.int a7), none] [] := by
    intro K6 hK6 n
    induction n with
    | zero =>
      intro S a0 a1 a2 a3 a4 a5 a6 a7 h
      exact False.elim h
    | succ n ih =>
      intro S a0 a1 a2 a3 a4 a5 a6 a7 h
      refine g_iload hC dX0_mostOf_103 rfl ?_
      refine g_aload_nR hC dX0_mostOf_105 rfl ?_
      obtain ⟨u29, eu29, h⟩ := h
      refine g_top0 eu29 ?_
      have hk30 := h.1
      refine gX_get (C0 := RX0) (T := TX0) (N := 15) (n := 0) (k := 2) (q := (2, true)) hC hX dX0_mostOf_106 q213 rfl in_X0 (by decide) (Or.inl rfl) rfl (by decide) hk30 ?_
      show GX _ _ _ _ _ _ _ (va_rf (xFR S 2 u29) :: _)
      obtain ⟨u31, eu31, h⟩ := h.2
      refine g_top0 eu31 ?_
      have hk32 := h.1
      refine gX_ni5 hX (gX_runF (n := 0) (As := []) (rest := [.int a7]) (Cr := "java/util/ArrayList") (x := ⟨"java/util/List", "size", "()I"⟩) hC hX (mx_J2_size (cx_l C) E _ _ _ h.2) (lw_app (lw_4 q770 q774 q776 q73) (lw_meth q778)) (List.mem_of_getElem? (i := 0) rfl) (by decide +kernel) rfl rfl (Or.inl (Nat.le_of_ble_eq_true rfl)) ⟨Nat.le_of_ble_eq_true rfl, Nat.le_of_ble_eq_true rfl⟩ dX0_mostOf_109 (Nat.zero_le _) (Nat.zero_le _) hk32 rfl (by decide) rfl) rfl rfl ?_
      intro r34 S33 h
      refine g_icmp_ge (tgt := 171) hC dX0_mostOf_114 (by decide) (fun c => ?_) (fun c => ?_)
      · have h := it_p c h
        refine g_iinc (v := (a5 + (1 : Int32))) hC dX0_mostOf_171 rfl rfl (by decide) rfl rfl ?_
        refine g_goto (tgt := 6) hC dX0_mostOf_174 (by decide) ?_
        refine g_sub [true, true, true, true, true, true, false, false, false] rfl ?_
        exact hK6 S33 a0 a1 a2 a3 a4 (a5 + (1 : Int32)) h
      · have h := it_n c h
        refine g_aload_nR hC dX0_mostOf_117 rfl ?_
        refine g_top0 eu29 ?_
        have hk35 := h.1
        refine gX_get (C0 := RX0) (T := TX0) (N := 15) (n := 0) (k := 14) (q := (14, true)) hC hX dX0_mostOf_118 q228 rfl in_X0 (by decide) (Or.inl rfl) rfl (by decide) hk35 ?_
        show GX _ _ _ _ _ _ _ (va_rf (xFR S33 14 u29) :: _)
        refine g_iload hC dX0_mostOf_121 rfl ?_
        refine g_dup2 hC dX0_mostOf_123 rfl (va_rf_cat _) ?_
        obtain ⟨u36, eu36, h⟩ := h.2
        refine g_top1 eu36 ?_
        have hk37 := h.1
        refine gX_iald hC hX dX0_mostOf_124 hk37 h.2.1 ?_
        refine g_iload hC dX0_mostOf_125 rfl ?_
        refine g_iload hC dX0_mostOf_127 rfl ?_
        refine g_icmp_eq (tgt := 162) hC dX0_mostOf_129 (by decide) (fun c => ?_) (fun c => ?_)
        · have h := it_p c h.2.2
          exact s_162 K6 hK6 (wx_X0_mostOf_103 Q K6 n) ih S33 a0 a1 a2 a3 a4 a5 a6 a7 (xFR S33 14 u29) a5 (xAI S33 u36 (Int32.toNatClampNeg a5)) h
        · have h := it_n c h.2.2
          refine g_aload_nR hC dX0_mostOf_132 rfl ?_
          refine g_aloadR hC dX0_mostOf_133 rfl ?_
          refine g_aload_nR hC dX0_mostOf_135 rfl ?_
          refine g_top0 eu29 ?_
          refine gX_get (C0 := RX0) (T := TX0) (N := 15) (n := 0) (k := 2) (q := (2, true)) hC hX dX0_mostOf_136 q213 rfl in_X0 (by decide) (Or.inl rfl) rfl (by decide) hk35 ?_
          show GX _ _ _ _ _ _ _ (va_rf (xFR S33 2 u29) :: _)
          refine g_iload hC dX0_mostOf_139 rfl ?_
          obtain ⟨u40, eu40, h⟩ := h
          refine g_top1 eu40 ?_
          have hk41 := h.1
          refine gX_nq5 hX (gX_runF (n := 1) (As := [.int a7]) (rest := [va_rf a6, va_rf a0, .int (xAI S33 u36 (Int32.toNatClampNeg a5)), .int a5, va_rf (xFR S33 14 u29)]) (Cr := "java/util/ArrayList") (x := ⟨"java/util/List", "get", "(I)Ljava/lang/Object;"⟩) hC hX (mx_J2_get (cx_l C) E _ _ _ _ h.2) (lw_app (lw_4 q928 q931 q933 q73) (lw_meth q935)) (List.mem_of_getElem? (i := 2) rfl) (by decide +kernel) rfl rfl (Or.inr ⟨Nat.le_of_ble_eq_true rfl, by simp [va_rf_cat, cat_i]⟩) ⟨Nat.le_of_ble_eq_true rfl, Nat.le_of_ble_eq_true rfl⟩ dX0_mostOf_141 (Nat.zero_le _) (Nat.zero_le _) hk41 rfl (by decide) rfl) rfl rfl ?_
          intro r43 S42 h
          obtain ⟨u44, eu44, h⟩ := h
          refine g_top0 eu44 ?_
          have hk45 := h.1
          refine gX_cast (r := (RX8, TX8, 11)) (n := 7) hC hX dX0_mostOf_146 q164 rfl (by decide) hk45 ?_
          refine g_top2 eu29 ?_
          have hk46 := h.2.1
          refine gX_ni hX (gX_runV (As := [va_rf a6, va_rf (some u44)]) (rest := [.int (xAI S33 u36 (Int32.toNatClampNeg a5)), .int a5, va_rf (xFR S33 14 u29)]) (Cr := RX0) hC hX (mx_X0_isClash (cx_l C) E _ _ _ _ _ h.2.2) (lw_V q958 q960 qs18 q70 q961) hx_X0_isClash rfl rfl (Or.inl (Nat.le_of_ble_eq_true rfl)) ⟨Nat.le_of_ble_eq_true rfl, Nat.le_of_ble_eq_true rfl⟩ dX0_mostOf_149 (Nat.zero_le _) (Nat.zero_le _) hk46 rfl (by decide) rfl) rfl rfl ?_
          intro r48 S47 h
          refine g_if_eq (tgt := 162) hC dX0_mostOf_152 (by decide) (fun c => ?_) (fun c => ?_)
          · have h := it_p c h
            exact s_162 K6 hK6 (wx_X0_mostOf_103 Q K6 n) ih S47 a0 a1 a2 a3 a4 a5 a6 a7 (xFR S33 14 u29) a5 (xAI S33 u36 (Int32.toNatClampNeg a5)) h
          · have h := it_n c h
            refine g_iconst (v := 1) hC dX0_mostOf_155 (by decide) ?_
            refine g_iload hC dX0_mostOf_156 rfl ?_
            refine g_ishl hC dX0_mostOf_158 ?_
            refine g_goto (tgt := 163) hC dX0_mostOf_159 (by decide) ?_
            exact s_163 K6 hK6 (wx_X0_mostOf_103 Q K6 n) ih S47 a0 a1 a2 a3 a4 a5 a6 a7 (xFR S33 14 u29) a5 (xAI S33 u36 (Int32.toNatClampNeg a5)) ((1 : Int32) <<< (a7 &&& 31)) h
  have s_89 : ∀ (K6 : XS → Option Nat → Int32 → Int32 → Int32 → Int32 → Int32 → Prop) (hK6 : ∀ (S : XS) (b0 : Option Nat) (b1 : Int32) (b2 : Int32) (b3 : Int32) (b4 : Int32) (b5 : Int32), K6 S b0 b1 b2 b3 b4 b5 → GX E C S 0 0 6 [some (va_rf b0), some (.int b1), some (.int b2), some (.int b3), some (.int b4), some (.int b5), none, none, none] []) (S : XS) (a0 : Option Nat) (a1 : Int32) (a2 : Int32) (a3 : Int32) (a5 : Int32) (a6 : Option Nat) (s0 : Int32) (s1 : Int32), wx_X0_mostOf_89 Q K6 S a0 a1 a2 a3 a5 a6 s0 s1 → GX E C S 0 0 89 [some (va_rf a0), some (.int a1), some (.int a2), some (.int a3), none, some (.int a5), some (va_rf a6), none, none] [.int s1, .int s0] := by
    intro K6 hK6 S a0 a1 a2 a3 a5 a6 s0 s1 h
    refine g_ior hC dX0_mostOf_89 ?_
    refine g_istore hC dX0_mostOf_90 (by decide) rfl rfl ?_
    refine g_aload_nR hC dX0_mostOf_92 rfl ?_
    obtain ⟨u25, eu25, h⟩ := h
    refine g_top0 eu25 ?_
    have hk26 := h.1
    refine gX_get (C0 := RX0) (T := TX0) (N := 15) (n := 0) (k := 14) (q := (14, true)) hC hX dX0_mostOf_93 q228 rfl in_X0 (by decide) (Or.inl rfl) rfl (by decide) hk26 ?_
    show GX _ _ _ _ _ _ _ (va_rf (xFR S 14 u25) :: _)
    refine g_iload hC dX0_mostOf_96 rfl ?_
    refine g_iconst (v := 0) hC dX0_mostOf_98 (by decide) ?_
    obtain ⟨u27, eu27, h⟩ := h.2
    refine g_top2 eu27 ?_
    have hk28 := h.1
    refine gX_iast hC hX dX0_mostOf_99 hk28 h.2.1 ?_
    refine g_iconst (v := 0) hC dX0_mostOf_100 (by decide) ?_
    refine g_istore hC dX0_mostOf_101 (by decide) (lx_okR (j := 6) rfl) rfl ?_
    obtain ⟨n0, h0⟩ := h.2.2
    exact s_103 K6 hK6 n0 (sAI S u27 (Int32.toNatClampNeg a5) (0 : Int32)) a0 a1 a2 a3 (s0 ||| s1) a5 a6 (0 : Int32) h0
  have s_88 : ∀ (K6 : XS → Option Nat → Int32 → Int32 → Int32 → Int32 → Int32 → Prop) (hK6 : ∀ (S : XS) (b0 : Option Nat) (b1 : Int32) (b2 : Int32) (b3 : Int32) (b4 : Int32) (b5 : Int32), K6 S b0 b1 b2 b3 b4 b5 → GX E C S 0 0 6 [some (va_rf b0), some (.int b1), some (.int b2), some (.int b3), some (.int b4), some (.int b5), none, none, none] []) (S : XS) (a0 : Option Nat) (a1 : Int32) (a2 : Int32) (a3 : Int32) (a5 : Int32) (a6 : Option Nat) (s0 : Int32), wx_X0_mostOf_88 Q K6 S a0 a1 a2 a3 a5 a6 s0 → GX E C S 0 0 88 [some (va_rf a0), some (.int a1), some (.int a2), some (.int a3), none, some (.int a5), some (va_rf a6), none, none] [.int s0] := by
    intro K6 hK6 S a0 a1 a2 a3 a5 a6 s0 h
    refine g_iconst (v := 0) hC dX0_mostOf_88 (by decide) ?_
    exact s_89 K6 hK6 S a0 a1 a2 a3 a5 a6 s0 (0 : Int32) h
  have s_6 : ∀ (n : Nat) (S : XS) (a0 : Option Nat) (a1 : Int32) (a2 : Int32) (a3 : Int32) (a4 : Int32) (a5 : Int32), wx_X0_mostOf_6 Q  n S a0 a1 a2 a3 a4 a5 → GX E C S 0 0 6 [some (va_rf a0), some (.int a1), some (.int a2), some (.int a3), some (.int a4), some (.int a5), none, none, none] [] := by
    intro  n
    induction n with
    | zero =>
      intro S a0 a1 a2 a3 a4 a5 h
      exact False.elim h
    | succ n ih =>
      intro S a0 a1 a2 a3 a4 a5 h
      refine g_iload hC dX0_mostOf_6 rfl ?_
      refine g_aload_nR hC dX0_mostOf_8 rfl ?_
      obtain ⟨u1, eu1, h⟩ := h
      refine g_top0 eu1 ?_
      have hk2 := h.1
      refine gX_get (C0 := RX0) (T := TX0) (N := 15) (n := 0) (k := 2) (q := (2, true)) hC hX dX0_mostOf_9 q213 rfl in_X0 (by decide) (Or.inl rfl) rfl (by decide) hk2 ?_
      show GX _ _ _ _ _ _ _ (va_rf (xFR S 2 u1) :: _)
      obtain ⟨u3, eu3, h⟩ := h.2
      refine g_top0 eu3 ?_
      have hk4 := h.1
      refine gX_ni5 hX (gX_runF (n := 0) (As := []) (rest := [.int a5]) (Cr := "java/util/ArrayList") (x := ⟨"java/util/List", "size", "()I"⟩) hC hX (mx_J2_size (cx_l C) E _ _ _ h.2) (lw_app (lw_4 q770 q774 q776 q73) (lw_meth q778)) (List.mem_of_getElem? (i := 0) rfl) (by decide +kernel) rfl rfl (Or.inl (Nat.le_of_ble_eq_true rfl)) ⟨Nat.le_of_ble_eq_true rfl, Nat.le_of_ble_eq_true rfl⟩ dX0_mostOf_12 (Nat.zero_le _) (Nat.zero_le _) hk4 rfl (by decide) rfl) rfl rfl ?_
      intro r6 S5 h
      refine g_icmp_ge (tgt := 177) hC dX0_mostOf_17 (by decide) (fun c => ?_) (fun c => ?_)
      · have h := it_p c h
        refine g_iconst (v := 0) hC dX0_mostOf_177 (by decide) ?_
        refine g_istore hC dX0_mostOf_178 (by decide) rfl rfl ?_
        refine g_sub [true, false, false, false, true, true, false, false, false] rfl ?_
        refine g_iconst (v := 0) hC dX0_mostOf_180 (by decide) ?_
        refine g_istore hC dX0_mostOf_181 (by decide) rfl rfl ?_
        refine g_iconst (v := 1) hC dX0_mostOf_183 (by decide) ?_
        refine g_istore hC dX0_mostOf_184 (by decide) rfl rfl ?_
        obtain ⟨n0, h0⟩ := h
        exact s_186 n0 S5 a0 a4 (0 : Int32) (0 : Int32) (1 : Int32) h0
      · have h := it_n c h
        refine g_aload_nR hC dX0_mostOf_20 rfl ?_
        refine g_top0 eu1 ?_
        have hk15 := h.1
        refine gX_get (C0 := RX0) (T := TX0) (N := 15) (n := 0) (k := 2) (q := (2, true)) hC hX dX0_mostOf_21 q213 rfl in_X0 (by decide) (Or.inl rfl) rfl (by decide) hk15 ?_
        show GX _ _ _ _ _ _ _ (va_rf (xFR S5 2 u1) :: _)
        refine g_iload hC dX0_mostOf_24 rfl ?_
        obtain ⟨u16, eu16, h⟩ := h.2
        refine g_top1 eu16 ?_
        have hk17 := h.1
        refine gX_nq5 hX (gX_runF (n := 1) (As := [.int a5]) (rest := []) (Cr := "java/util/ArrayList") (x := ⟨"java/util/List", "get", "(I)Ljava/lang/Object;"⟩) hC hX (mx_J2_get (cx_l C) E _ _ _ _ h.2) (lw_app (lw_4 q928 q931 q933 q73) (lw_meth q935)) (List.mem_of_getElem? (i := 2) rfl) (by decide +kernel) rfl rfl (Or.inl (Nat.le_of_ble_eq_true rfl)) ⟨Nat.le_of_ble_eq_true rfl, Nat.le_of_ble_eq_true rfl⟩ dX0_mostOf_26 (Nat.zero_le _) (Nat.zero_le _) hk17 rfl (by decide) rfl) rfl rfl ?_
        intro r19 S18 h
        obtain ⟨u20, eu20, h⟩ := h
        refine g_top0 eu20 ?_
        have hk21 := h.1
        refine gX_cast (r := (RX8, TX8, 11)) (n := 7) hC hX dX0_mostOf_31 q164 rfl (by decide) hk21 ?_
        refine g_astoreR hC dX0_mostOf_34 (by decide) rfl rfl ?_
        refine g_iload hC dX0_mostOf_36 rfl ?_
        refine g_aload_nR hC dX0_mostOf_38 rfl ?_
        refine g_aloadR hC dX0_mostOf_39 rfl ?_
        refine g_iload_n hC dX0_mostOf_41 rfl ?_
        refine g_iload_n hC dX0_mostOf_42 rfl ?_
        refine g_iload_n hC dX0_mostOf_43 rfl ?_
        refine g_top4 eu1 ?_
        have hk22 := h.2.1
        refine gX_ni hX (gX_runV (As := [va_rf (some u20), .int a1, .int a2, .int a3]) (rest := [.int a4]) (Cr := RX0) hC hX (mx_X0_isAt (cx_l C) E _ _ _ _ _ _ _ h.2.2) (lw_V q962 q964 qs19 q70 q965) hx_X0_isAt rfl rfl (Or.inl (Nat.le_of_ble_eq_true rfl)) ⟨Nat.le_of_ble_eq_true rfl, Nat.le_of_ble_eq_true rfl⟩ dX0_mostOf_44 (Nat.zero_le _) (Nat.zero_le _) hk22 rfl (by decide) rfl) rfl rfl ?_
        intro r24 S23 h
        refine g_if_eq (tgt := 88) hC dX0_mostOf_47 (by decide) (fun c => ?_) (fun c => ?_)
        · have h := it_p c h
          refine g_sub [true, true, true, true, false, true, true, false, false] rfl ?_
          exact s_88 (wx_X0_mostOf_6 Q n) ih S23 a0 a1 a2 a3 a5 (some u20) a4 h
        · have h := it_n c h
          refine g_aloadR hC dX0_mostOf_50 rfl ?_
          refine g_aload_nR hC dX0_mostOf_52 rfl ?_
          refine g_top0 eu1 ?_
          have hk50 := h.1
          refine gX_get (C0 := RX0) (T := TX0) (N := 15) (n := 0) (k := 10) (q := (10, false)) hC hX dX0_mostOf_53 q224 rfl in_X0 (by decide) (Or.inl rfl) rfl (by decide) hk50 ?_
          show GX _ _ _ _ _ _ _ (.int (xFI S23 10 u1) :: _)
          have hk51 := h.2.1
          refine gX_ni hX (gX_runV (As := [.int (xFI S23 10 u1)]) (rest := [.int a4]) (Cr := RX8) hC hX (mx_X8_isThere (cx_l C) E _ _ _ _ h.2.2) (lw_V q978 q979 q980 q96 q981) hx_X8_isThere rfl rfl (Or.inl (Nat.le_of_ble_eq_true rfl)) ⟨Nat.le_of_ble_eq_true rfl, Nat.le_of_ble_eq_true rfl⟩ dX0_mostOf_56 (Nat.zero_le _) (Nat.zero_le _) hk51 rfl (by decide) rfl) rfl rfl ?_
          intro r53 S52 h
          refine g_if_eq (tgt := 88) hC dX0_mostOf_59 (by decide) (fun c => ?_) (fun c => ?_)
          · have h := it_p c h
            refine g_sub [true, true, true, true, false, true, true, false, false] rfl ?_
            exact s_88 (wx_X0_mostOf_6 Q n) ih S52 a0 a1 a2 a3 a5 (some u20) a4 h
          · have h := it_n c h
            refine g_aloadR hC dX0_mostOf_62 rfl ?_
            have hk54 := h.1
            refine gX_get (C0 := RX8) (T := TX8) (N := 11) (n := 7) (k := 6) (q := (706, false)) hC hX dX0_mostOf_64 q825 rfl in_X8 (by decide) (Or.inl rfl) rfl (by decide) hk54 ?_
            show GX _ _ _ _ _ _ _ (.int (xFI S52 706 u20) :: _)
            refine g_aload_nR hC dX0_mostOf_67 rfl ?_
            refine g_top0 eu1 ?_
            have hk55 := h.2.1
            refine gX_get (C0 := RX0) (T := TX0) (N := 15) (n := 0) (k := 1) (q := (1, true)) hC hX dX0_mostOf_68 q211 rfl in_X0 (by decide) (Or.inl rfl) rfl (by decide) hk55 ?_
            show GX _ _ _ _ _ _ _ (va_rf (xFR S52 1 u1) :: _)
            refine g_iload_n hC dX0_mostOf_71 rfl ?_
            obtain ⟨u56, eu56, h⟩ := h.2.2
            refine g_top1 eu56 ?_
            have hk57 := h.1
            refine gX_aald (n := 104) hC hX dX0_mostOf_72 (by decide) hk57 h.2.1 ?_
            obtain ⟨u58, eu58, h⟩ := h.2.2
            refine g_top0 eu58 ?_
            have hk59 := h.1
            refine gX_getN (C0 := RX2) (T := TX2) (N := 7) (n := 2) (k := 4) (q := (204, true)) hC hX dX0_mostOf_73 q187 rfl in_X2 (by decide) rfl rfl (by decide) hk59 ?_
            show GX _ _ _ _ _ _ _ (va_rf (xFR S52 204 u58) :: _)
            refine g_iload_n hC dX0_mostOf_76 rfl ?_
            obtain ⟨u60, eu60, h⟩ := h.2
            refine g_top1 eu60 ?_
            have hk61 := h.1
            refine gX_iald hC hX dX0_mostOf_77 hk61 h.2.1 ?_
            refine g_icmp_gt (tgt := 88) hC dX0_mostOf_78 (by decide) (fun c => ?_) (fun c => ?_)
            · have h := it_p c h.2.2
              refine g_sub [true, true, true, true, false, true, true, false, false] rfl ?_
              exact s_88 (wx_X0_mostOf_6 Q n) ih S52 a0 a1 a2 a3 a5 (some u20) a4 h
            · have h := it_n c h.2.2
              refine g_iconst (v := 1) hC dX0_mostOf_81 (by decide) ?_
              refine g_iload hC dX0_mostOf_82 rfl ?_
              refine g_ishl hC dX0_mostOf_84 ?_
              refine g_goto (tgt := 89) hC dX0_mostOf_85 (by decide) ?_
              refine g_sub [true, true, true, true, false, true, true, false, false] rfl ?_
              exact s_89 (wx_X0_mostOf_6 Q n) ih S52 a0 a1 a2 a3 a5 (some u20) a4 ((1 : Int32) <<< (a5 &&& 31)) h
  refine g_iconst (v := 0) hC dX0_mostOf_0 (by decide) ?_
  refine g_istore hC dX0_mostOf_1 (by decide) rfl rfl ?_
  refine g_iconst (v := 0) hC dX0_mostOf_3 (by decide) ?_
  refine g_istore hC dX0_mostOf_4 (by decide) rfl rfl ?_
  obtain ⟨n0, h0⟩ := h
  exact s_6 n0 S x0 x1 x2 x3 (0 : Int32) (0 : Int32) h0
theorem mx_X0_mostOf (l : Launch) (E : XE) (Q : Int32 → XS → Prop) (S : XS) (x0 : Option Nat) (x1 : Int32) (x2 : Int32) (x3 : Int32) (h : wx_X0_mostOf Q S x0 x1 x2 x3) : XMet E l yX0_mostOf cX0_mostOf 9 (some .int) ({ frames := 5, cells := 0, slots := 0, locals := 121 } : Room) [va_rf x0, .int x1, .int x2, .int x3] S (fun sz => va_Qi Q (BX1 E S sz) (xA S sz)) :=
  XMet_of (rm := ({ frames := 5, cells := 0, slots := 0, locals := 121 } : Room)) (by decide) (by simp [lg_sl, va_rf_cat, cat_i, cat_l]) (L0 := [some (va_rf x0), some (.int x1), some (.int x2), some (.int x3), none, none, none, none, none]) (by simp [lx_pairs, lv_args, va_rf_cat, cat_i, cat_l, List.range_succ]) (fun sz C hC hX hl hnm hA hQ => bx_X0_mostOf E C S sz Q S x0 x1 x2 x3 hC hX hA hQ h)
/-! X0_most -/
def wx_X0_most (Q : Int32 → XS → Prop) (S : XS) (x0 : Option Nat) (x1 : Int32) (x2 : Int32) (x3 : Int32) (x4 : Int32) : Prop :=
  wx_X0_isHall (fun r2 S1 => (if r2 = 0 then Q (-1000001 : Int32) S1 else wx_X0_isIn (fun r4 S3 => (if r4 = 0 then Q (-1000001 : Int32) S3 else wx_X0_isDay (fun r6 S5 => (if r6 = 0 then Q (-1000001 : Int32) S5 else wx_X0_isIn (fun r8 S7 => (if r8 = 0 then Q (-1000001 : Int32) S7 else dr x0 (fun u9 => xKD S7 u9 = some 0 ∧ wx_X0_mostOf (fun r12 S11 => (if x4 = 0 then Q r12 S11 else xKD S11 u9 = some 0 ∧ wx_X0_prices (fun r15 S14 => Q r15 S14) S11 (some u9) r12)) S7 (some u9) x1 x2 x3))) S5 (Int32.toInt64 x4) (0 : Int64) (1 : Int64))) S3 x3)) S1 (Int32.toInt64 x2) (0 : Int64) (1 : Int64))) S x1
theorem hx_X0_most : yX0_most.cls = RX0 ∧ yX0_most.cls ≠ "java/lang/invoke/MethodHandle" ∧ yX0_most.cls ≠ "java/lang/invoke/VarHandle" ∧ (parseMethodDescriptor yX0_most.desc).map (fun d => d.parameters.length) = some 4 := by decide +kernel
set_option maxHeartbeats 4000000 in
set_option maxRecDepth 100000 in
theorem bx_X0_most (E : XE) (C : Cx) (S0 : XS) (sz : Nat) (Q : Int32 → XS → Prop) (S : XS) (x0 : Option Nat) (x1 : Int32) (x2 : Int32) (x3 : Int32) (x4 : Int32) (hC : COk C cX0_most RX0 (some .int) 6 149 6) (hX : XOk E C) (hA : cx_A C = xA S0 sz) (hQ : cx_Q C = MQ (cx_b C) (va_Qi Q (BX1 E S0 sz) (xA S0 sz)) (cx_a C) (cx_s C) (cx_MC C) (cx_MS C) (xA S0 sz)) (h : wx_X0_most Q S x0 x1 x2 x3 x4) : GX E C S 0 0 0 [some (va_rf x0), some (.int x1), some (.int x2), some (.int x3), some (.int x4), none] [] := by
  refine g_iload_n hC dX0_most_0 rfl ?_
  refine gX_ni hX (gX_runS (As := [.int x1]) (rest := []) hC hX (mx_X0_isHall (cx_l C) E _ _ _ h) (lw_S q752 q753 q70 q754) hx_X0_isHall.2 rfl rfl (Or.inl (Nat.le_of_ble_eq_true rfl)) ⟨Nat.le_of_ble_eq_true rfl, Nat.le_of_ble_eq_true rfl⟩ dX0_most_1 (Nat.zero_le _) (Nat.zero_le _)) rfl rfl ?_
  intro r2 S1 h
  refine g_if_eq (tgt := 35) hC dX0_most_4 (by decide) (fun c => ?_) (fun c => ?_)
  · have h := it_p c h
    refine g_ldc (v := -1000001) hC dX0_most_35 q273 ?_
    refine gX_iret rfl hC hA hQ dX0_most_37 h
  · have h := it_n c h
    refine g_iload_n hC dX0_most_7 rfl ?_
    refine g_i2l hC dX0_most_8 ?_
    refine g_lconst (v := 0) hC dX0_most_9 (by decide) ?_
    refine g_lconst (v := 1) hC dX0_most_10 (by decide) ?_
    refine gX_ni hX (gX_runS (As := [.long (Int32.toInt64 x2), .long (0 : Int64), .long (1 : Int64)]) (rest := []) hC hX (mx_X0_isIn (cx_l C) E _ _ _ _ _ h) (lw_S q269 q270 q70 q271) hx_X0_isIn.2 rfl rfl (Or.inl (Nat.le_of_ble_eq_true rfl)) ⟨Nat.le_of_ble_eq_true rfl, Nat.le_of_ble_eq_true rfl⟩ dX0_most_11 (Nat.zero_le _) (Nat.zero_le _)) rfl rfl ?_
    intro r4 S3 h
    refine g_if_eq (tgt := 35) hC dX0_most_14 (by decide) (fun c => ?_) (fun c => ?_)
    · have h := it_p c h
      refine g_ldc (v := -1000001) hC dX0_most_35 q273 ?_
      refine gX_iret rfl hC hA hQ dX0_most_37 h
    · have h := it_n c h
      refine g_iload_n hC dX0_most_17 rfl ?_
      refine gX_ni hX (gX_runS (As := [.int x3]) (rest := []) hC hX (mx_X0_isDay (cx_l C) E _ _ _ h) (lw_S q788 q789 q70 q790) hx_X0_isDay.2 rfl rfl (Or.inl (Nat.le_of_ble_eq_true rfl)) ⟨Nat.le_of_ble_eq_true rfl, Nat.le_of_ble_eq_true rfl⟩ dX0_most_18 (Nat.zero_le _) (Nat.zero_le _)) rfl rfl ?_
      intro r6 S5 h
      refine g_if_eq (tgt := 35) hC dX0_most_21 (by decide) (fun c => ?_) (fun c => ?_)
      · have h := it_p c h
        refine g_ldc (v := -1000001) hC dX0_most_35 q273 ?_
        refine gX_iret rfl hC hA hQ dX0_most_37 h
      · have h := it_n c h
        refine g_iload hC dX0_most_24 rfl ?_
        refine g_i2l hC dX0_most_26 ?_
        refine g_lconst (v := 0) hC dX0_most_27 (by decide) ?_
        refine g_lconst (v := 1) hC dX0_most_28 (by decide) ?_
        refine gX_ni hX (gX_runS (As := [.long (Int32.toInt64 x4), .long (0 : Int64), .long (1 : Int64)]) (rest := []) hC hX (mx_X0_isIn (cx_l C) E _ _ _ _ _ h) (lw_S q269 q270 q70 q271) hx_X0_isIn.2 rfl rfl (Or.inl (Nat.le_of_ble_eq_true rfl)) ⟨Nat.le_of_ble_eq_true rfl, Nat.le_of_ble_eq_true rfl⟩ dX0_most_29 (Nat.zero_le _) (Nat.zero_le _)) rfl rfl ?_
        intro r8 S7 h
        refine g_if_ne (tgt := 38) hC dX0_most_32 (by decide) (fun c => ?_) (fun c => ?_)
        · have h := it_n c h
          refine g_aload_nR hC dX0_most_38 rfl ?_
          refine g_iload_n hC dX0_most_39 rfl ?_
          refine g_iload_n hC dX0_most_40 rfl ?_
          refine g_iload_n hC dX0_most_41 rfl ?_
          obtain ⟨u9, eu9, h⟩ := h
          refine g_top3 eu9 ?_
          have hk10 := h.1
          refine gX_ni hX (gX_runV (As := [.int x1, .int x2, .int x3]) (rest := []) (Cr := RX0) hC hX (mx_X0_mostOf (cx_l C) E _ _ _ _ _ _ h.2) (lw_V q994 q996 qs23 q70 q997) hx_X0_mostOf rfl rfl (Or.inl (Nat.le_of_ble_eq_true rfl)) ⟨Nat.le_of_ble_eq_true rfl, Nat.le_of_ble_eq_true rfl⟩ dX0_most_42 (Nat.zero_le _) (Nat.zero_le _) hk10 rfl (by decide) rfl) rfl rfl ?_
          intro r12 S11 h
          refine g_istore hC dX0_most_45 (by decide) rfl rfl ?_
          refine g_sub [true, false, false, false, true, true] rfl ?_
          refine g_iload hC dX0_most_47 rfl ?_
          refine g_if_ne (tgt := 57) hC dX0_most_49 (by decide) (fun c => ?_) (fun c => ?_)
          · have h := it_n c h
            refine g_aload_nR hC dX0_most_57 rfl ?_
            refine g_iload hC dX0_most_58 rfl ?_
            refine g_top1 eu9 ?_
            have hk13 := h.1
            refine gX_ni hX (gX_runV (As := [.int r12]) (rest := []) (Cr := RX0) hC hX (mx_X0_prices (cx_l C) E _ _ _ _ h.2) (lw_V q1002 q1004 qs25 q70 q1005) hx_X0_prices rfl rfl (Or.inl (Nat.le_of_ble_eq_true rfl)) ⟨Nat.le_of_ble_eq_true rfl, Nat.le_of_ble_eq_true rfl⟩ dX0_most_60 (Nat.zero_le _) (Nat.zero_le _) hk13 rfl (by decide) rfl) rfl rfl ?_
            intro r15 S14 h
            refine gX_iret rfl hC hA hQ dX0_most_63 h
          · have h := it_p c h
            refine g_iload hC dX0_most_52 rfl ?_
            refine g_goto (tgt := 63) hC dX0_most_54 (by decide) ?_
            refine gX_iret rfl hC hA hQ dX0_most_63 h
        · have h := it_p c h
          refine g_ldc (v := -1000001) hC dX0_most_35 q273 ?_
          refine gX_iret rfl hC hA hQ dX0_most_37 h
theorem mx_X0_most (l : Launch) (E : XE) (Q : Int32 → XS → Prop) (S : XS) (x0 : Option Nat) (x1 : Int32) (x2 : Int32) (x3 : Int32) (x4 : Int32) (h : wx_X0_most Q S x0 x1 x2 x3 x4) : XMet E l yX0_most cX0_most 6 (some .int) ({ frames := 6, cells := 0, slots := 0, locals := 149 } : Room) [va_rf x0, .int x1, .int x2, .int x3, .int x4] S (fun sz => va_Qi Q (BX1 E S sz) (xA S sz)) :=
  XMet_of (rm := ({ frames := 6, cells := 0, slots := 0, locals := 149 } : Room)) (by decide) (by simp [lg_sl, va_rf_cat, cat_i, cat_l]) (L0 := [some (va_rf x0), some (.int x1), some (.int x2), some (.int x3), some (.int x4), none]) (by simp [lx_pairs, lv_args, va_rf_cat, cat_i, cat_l, List.range_succ]) (fun sz C hC hX hl hnm hA hQ => bx_X0_most E C S sz Q S x0 x1 x2 x3 x4 hC hX hA hQ h)
/-! X9_inWay -/
def wx_X9_inWay_121 (Q : Int32 → XS → Prop) (K4 : XS → Option Nat → Int32 → Int32 → Int32 → Prop) (S : XS) (a0 : Option Nat) (a1 : Int32) (a3 : Int32) (s0 : Int32) (s1 : Int32) : Prop :=
  K4 S a0 a1 (s0 ||| s1) (a3 + (1 : Int32))
def wx_X9_inWay_120 (Q : Int32 → XS → Prop) (K4 : XS → Option Nat → Int32 → Int32 → Int32 → Prop) (S : XS) (a0 : Option Nat) (a1 : Int32) (a3 : Int32) (s0 : Int32) : Prop :=
  wx_X9_inWay_121 Q K4 S a0 a1 a3 s0 (0 : Int32)
def wx_X9_inWay_4 (Q : Int32 → XS → Prop) : Nat → XS → Option Nat → Int32 → Int32 → Int32 → Prop
  | 0, _, _, _, _, _ => False
  | n + 1, S, a0, a1, a2, a3 => dr a0 (fun u1 => xKD S u1 = some 8 ∧ dr (xFR S 808 u1) (fun u3 => xKD S u3 = some 0 ∧ dr (xFR S 2 u3) (fun u5 => xKD S u5 = some 16 ∧ wx_J2_size (fun r8 S7 => (if r8 ≤ a3 then Q a2 S7 else xKD S7 u1 = some 8 ∧ (if (((xFI S7 804 u1) >>> (a3 &&& 31)) &&& (1 : Int32)) = (1 : Int32) then dr (xFR S7 808 u1) (fun u10 => xKD S7 u10 = some 0 ∧ dr (xFR S7 2 u10) (fun u12 => xKD S7 u12 = some 16 ∧ wx_J2_get (fun r15 S14 => dr r15 (fun u16 => xKD S14 u16 = some 7 ∧ xKD S14 u1 = some 8 ∧ xKD S14 u10 = some 0 ∧ wx_X0_isAt (fun r21 S20 => (if r21 = 0 then wx_X9_inWay_120 Q (wx_X9_inWay_4 Q n) S20 a0 a1 a3 a2 else xKD S20 u1 = some 8 ∧ dr (xFR S20 808 u1) (fun u23 => xKD S20 u23 = some 0 ∧ dr (xFR S20 2 u23) (fun u25 => xKD S20 u25 = some 16 ∧ wx_J2_get (fun r28 S27 => dr r28 (fun u29 => xKD S27 u29 = some 7 ∧ xKD S27 u1 = some 8 ∧ dr (xFR S27 808 u1) (fun u32 => xKD S27 u32 = some 0 ∧ dr (xFR S27 1 u32) (fun u34 => xKD S27 u34 = some 104 ∧ vp_in (xFI S27 800 u1) (xLN S27 u34) ∧ dr (xAR S27 u34 (Int32.toNatClampNeg (xFI S27 800 u1))) (fun u36 => xKD S27 u36 = some 2 ∧ wx_X8_isAgainst (fun r39 S38 => (if r39 = 0 then wx_X9_inWay_120 Q (wx_X9_inWay_4 Q n) S38 a0 a1 a3 a2 else wx_X9_inWay_121 Q (wx_X9_inWay_4 Q n) S38 a0 a1 a3 a2 ((1 : Int32) <<< (a3 &&& 31)))) S27 (some u29) (xFI S27 802 u1) (xFI S27 803 u1) (3 : Int32) (xFI S27 200 u36)))))) S20 (some u25) a3)))) S14 (some u10) (some u16) (xFI S14 800 u1) a1 (xFI S14 801 u1))) S7 (some u12) a3)) else wx_X9_inWay_120 Q (wx_X9_inWay_4 Q n) S7 a0 a1 a3 a2))) S (some u5))))
def wx_X9_inWay (Q : Int32 → XS → Prop) (S : XS) (x0 : Option Nat) (x1 : Int32) : Prop :=
  ∃ n40, wx_X9_inWay_4 Q n40 S x0 x1 (0 : Int32) (0 : Int32)
theorem hx_X9_inWay : yX9_inWay.cls = RX9 ∧ yX9_inWay.cls ≠ "java/lang/invoke/MethodHandle" ∧ yX9_inWay.cls ≠ "java/lang/invoke/VarHandle" ∧ (parseMethodDescriptor yX9_inWay.desc).map (fun d => d.parameters.length) = some 1 := by decide +kernel
set_option maxHeartbeats 4000000 in
set_option maxRecDepth 100000 in
theorem bx_X9_inWay (E : XE) (C : Cx) (S0 : XS) (sz : Nat) (Q : Int32 → XS → Prop) (S : XS) (x0 : Option Nat) (x1 : Int32) (hC : COk C cX9_inWay RX9 (some .int) 4 98 4) (hX : XOk E C) (hA : cx_A C = xA S0 sz) (hQ : cx_Q C = MQ (cx_b C) (va_Qi Q (BX1 E S0 sz) (xA S0 sz)) (cx_a C) (cx_s C) (cx_MC C) (cx_MS C) (xA S0 sz)) (h : wx_X9_inWay Q S x0 x1) : GX E C S 0 0 0 [some (va_rf x0), some (.int x1), none, none] [] := by
  have s_121 : ∀ (K4 : XS → Option Nat → Int32 → Int32 → Int32 → Prop) (hK4 : ∀ (S : XS) (b0 : Option Nat) (b1 : Int32) (b2 : Int32) (b3 : Int32), K4 S b0 b1 b2 b3 → GX E C S 0 0 4 [some (va_rf b0), some (.int b1), some (.int b2), some (.int b3)] []) (S : XS) (a0 : Option Nat) (a1 : Int32) (a3 : Int32) (s0 : Int32) (s1 : Int32), wx_X9_inWay_121 Q K4 S a0 a1 a3 s0 s1 → GX E C S 0 0 121 [some (va_rf a0), some (.int a1), none, some (.int a3)] [.int s1, .int s0] := by
    intro K4 hK4 S a0 a1 a3 s0 s1 h
    refine g_ior hC dX9_inWay_121 ?_
    refine g_istore_n hC dX9_inWay_122 rfl (by decide) rfl rfl ?_
    refine g_iinc (v := (a3 + (1 : Int32))) hC dX9_inWay_123 rfl rfl (by decide) rfl rfl ?_
    refine g_goto (tgt := 4) hC dX9_inWay_126 (by decide) ?_
    exact hK4 S a0 a1 (s0 ||| s1) (a3 + (1 : Int32)) h
  have s_120 : ∀ (K4 : XS → Option Nat → Int32 → Int32 → Int32 → Prop) (hK4 : ∀ (S : XS) (b0 : Option Nat) (b1 : Int32) (b2 : Int32) (b3 : Int32), K4 S b0 b1 b2 b3 → GX E C S 0 0 4 [some (va_rf b0), some (.int b1), some (.int b2), some (.int b3)] []) (S : XS) (a0 : Option Nat) (a1 : Int32) (a3 : Int32) (s0 : Int32), wx_X9_inWay_120 Q K4 S a0 a1 a3 s0 → GX E C S 0 0 120 [some (va_rf a0), some (.int a1), none, some (.int a3)] [.int s0] := by
    intro K4 hK4 S a0 a1 a3 s0 h
    refine g_iconst (v := 0) hC dX9_inWay_120 (by decide) ?_
    exact s_121 K4 hK4 S a0 a1 a3 s0 (0 : Int32) h
  have s_4 : ∀ (n : Nat) (S : XS) (a0 : Option Nat) (a1 : Int32) (a2 : Int32) (a3 : Int32), wx_X9_inWay_4 Q  n S a0 a1 a2 a3 → GX E C S 0 0 4 [some (va_rf a0), some (.int a1), some (.int a2), some (.int a3)] [] := by
    intro  n
    induction n with
    | zero =>
      intro S a0 a1 a2 a3 h
      exact False.elim h
    | succ n ih =>
      intro S a0 a1 a2 a3 h
      refine g_iload_n hC dX9_inWay_4 rfl ?_
      refine g_aload_nR hC dX9_inWay_5 rfl ?_
      obtain ⟨u1, eu1, h⟩ := h
      refine g_top0 eu1 ?_
      have hk2 := h.1
      refine gX_get (C0 := RX9) (T := TX9) (N := 9) (n := 8) (k := 8) (q := (808, true)) hC hX dX9_inWay_6 q1056 rfl in_X9 (by decide) (Or.inl rfl) rfl (by decide) hk2 ?_
      show GX _ _ _ _ _ _ _ (va_rf (xFR S 808 u1) :: _)
      obtain ⟨u3, eu3, h⟩ := h.2
      refine g_top0 eu3 ?_
      have hk4 := h.1
      refine gX_getN (C0 := RX0) (T := TX0) (N := 15) (n := 0) (k := 2) (q := (2, true)) hC hX dX9_inWay_9 q212 rfl in_X0 (by decide) rfl rfl (by decide) hk4 ?_
      show GX _ _ _ _ _ _ _ (va_rf (xFR S 2 u3) :: _)
      obtain ⟨u5, eu5, h⟩ := h.2
      refine g_top0 eu5 ?_
      have hk6 := h.1
      refine gX_ni5 hX (gX_runF (n := 0) (As := []) (rest := [.int a3]) (Cr := "java/util/ArrayList") (x := ⟨"java/util/List", "size", "()I"⟩) hC hX (mx_J2_size (cx_l C) E _ _ _ h.2) (lw_app (lw_4 q1025 q774 q776 q73) (lw_meth q778)) (List.mem_of_getElem? (i := 0) rfl) (by decide +kernel) rfl rfl (Or.inl (Nat.le_of_ble_eq_true rfl)) ⟨Nat.le_of_ble_eq_true rfl, Nat.le_of_ble_eq_true rfl⟩ dX9_inWay_12 (Nat.zero_le _) (Nat.zero_le _) hk6 rfl (by decide) rfl) rfl rfl ?_
      intro r8 S7 h
      refine g_icmp_ge (tgt := 129) hC dX9_inWay_17 (by decide) (fun c => ?_) (fun c => ?_)
      · have h := it_p c h
        refine g_iload_n hC dX9_inWay_129 rfl ?_
        refine gX_iret rfl hC hA hQ dX9_inWay_130 h
      · have h := it_n c h
        refine g_iload_n hC dX9_inWay_20 rfl ?_
        refine g_aload_nR hC dX9_inWay_21 rfl ?_
        refine g_top0 eu1 ?_
        have hk9 := h.1
        refine gX_get (C0 := RX9) (T := TX9) (N := 9) (n := 8) (k := 4) (q := (804, false)) hC hX dX9_inWay_22 q1049 rfl in_X9 (by decide) (Or.inl rfl) rfl (by decide) hk9 ?_
        show GX _ _ _ _ _ _ _ (.int (xFI S7 804 u1) :: _)
        refine g_iload_n hC dX9_inWay_25 rfl ?_
        refine g_ishr hC dX9_inWay_26 ?_
        refine g_iconst (v := 1) hC dX9_inWay_27 (by decide) ?_
        refine g_iand hC dX9_inWay_28 ?_
        refine g_iconst (v := 1) hC dX9_inWay_29 (by decide) ?_
        refine g_icmp_ne (tgt := 120) hC dX9_inWay_30 (by decide) (fun c => ?_) (fun c => ?_)
        · have h := it_n c h.2
          refine g_sub [true, true, false, true] rfl ?_
          exact s_120 (wx_X9_inWay_4 Q n) ih S7 a0 a1 a3 a2 h
        · have h := it_p c h.2
          refine g_aload_nR hC dX9_inWay_33 rfl ?_
          refine g_top0 eu1 ?_
          refine gX_get (C0 := RX9) (T := TX9) (N := 9) (n := 8) (k := 8) (q := (808, true)) hC hX dX9_inWay_34 q1056 rfl in_X9 (by decide) (Or.inl rfl) rfl (by decide) hk9 ?_
          show GX _ _ _ _ _ _ _ (va_rf (xFR S7 808 u1) :: _)
          refine g_aload_nR hC dX9_inWay_37 rfl ?_
          refine g_top0 eu1 ?_
          refine gX_get (C0 := RX9) (T := TX9) (N := 9) (n := 8) (k := 8) (q := (808, true)) hC hX dX9_inWay_38 q1056 rfl in_X9 (by decide) (Or.inl rfl) rfl (by decide) hk9 ?_
          show GX _ _ _ _ _ _ _ (va_rf (xFR S7 808 u1) :: _)
          obtain ⟨u10, eu10, h⟩ := h
          refine g_top0 eu10 ?_
          have hk11 := h.1
          refine gX_getN (C0 := RX0) (T := TX0) (N := 15) (n := 0) (k := 2) (q := (2, true)) hC hX dX9_inWay_41 q212 rfl in_X0 (by decide) rfl rfl (by decide) hk11 ?_
          show GX _ _ _ _ _ _ _ (va_rf (xFR S7 2 u10) :: _)
          refine g_iload_n hC dX9_inWay_44 rfl ?_
          obtain ⟨u12, eu12, h⟩ := h.2
          refine g_top1 eu12 ?_
          have hk13 := h.1
          refine gX_nq5 hX (gX_runF (n := 1) (As := [.int a3]) (rest := [va_rf (xFR S7 808 u1), .int a2]) (Cr := "java/util/ArrayList") (x := ⟨"java/util/List", "get", "(I)Ljava/lang/Object;"⟩) hC hX (mx_J2_get (cx_l C) E _ _ _ _ h.2) (lw_app (lw_4 q1027 q931 q933 q73) (lw_meth q935)) (List.mem_of_getElem? (i := 2) rfl) (by decide +kernel) rfl rfl (Or.inl (Nat.le_of_ble_eq_true rfl)) ⟨Nat.le_of_ble_eq_true rfl, Nat.le_of_ble_eq_true rfl⟩ dX9_inWay_45 (Nat.zero_le _) (Nat.zero_le _) hk13 rfl (by decide) rfl) rfl rfl ?_
          intro r15 S14 h
          obtain ⟨u16, eu16, h⟩ := h
          refine g_top0 eu16 ?_
          have hk17 := h.1
          refine gX_cast (r := (RX8, TX8, 11)) (n := 7) hC hX dX9_inWay_50 q1028 rfl (by decide) hk17 ?_
          refine g_aload_nR hC dX9_inWay_53 rfl ?_
          refine g_top0 eu1 ?_
          have hk18 := h.2.1
          refine gX_get (C0 := RX9) (T := TX9) (N := 9) (n := 8) (k := 0) (q := (800, false)) hC hX dX9_inWay_54 q1045 rfl in_X9 (by decide) (Or.inl rfl) rfl (by decide) hk18 ?_
          show GX _ _ _ _ _ _ _ (.int (xFI S14 800 u1) :: _)
          refine g_iload_n hC dX9_inWay_57 rfl ?_
          refine g_aload_nR hC dX9_inWay_58 rfl ?_
          refine g_top0 eu1 ?_
          refine gX_get (C0 := RX9) (T := TX9) (N := 9) (n := 8) (k := 1) (q := (801, false)) hC hX dX9_inWay_59 q1046 rfl in_X9 (by decide) (Or.inl rfl) rfl (by decide) hk18 ?_
          show GX _ _ _ _ _ _ _ (.int (xFI S14 801 u1) :: _)
          refine g_top4 eu10 ?_
          have hk19 := h.2.2.1
          refine gX_ni hX (gX_runVN (As := [va_rf (some u16), .int (xFI S14 800 u1), .int a1, .int (xFI S14 801 u1)]) (rest := [.int a2]) (Cr := "VillageHalls") hC hX (mx_X0_isAt (cx_l C) E _ _ _ _ _ _ _ h.2.2.2) q965 q1029 q70 hx_X0_isAt.2 q964 qs19 rfl rfl (Or.inl (Nat.le_of_ble_eq_true rfl)) ⟨Nat.le_of_ble_eq_true rfl, Nat.le_of_ble_eq_true rfl⟩ dX9_inWay_62 (Nat.zero_le _) (Nat.zero_le _) hk19 rfl (by decide) rfl) rfl rfl ?_
          intro r21 S20 h
          refine g_if_eq (tgt := 120) hC dX9_inWay_65 (by decide) (fun c => ?_) (fun c => ?_)
          · have h := it_p c h
            refine g_sub [true, true, false, true] rfl ?_
            exact s_120 (wx_X9_inWay_4 Q n) ih S20 a0 a1 a3 a2 h
          · have h := it_n c h
            refine g_aload_nR hC dX9_inWay_68 rfl ?_
            refine g_top0 eu1 ?_
            have hk22 := h.1
            refine gX_get (C0 := RX9) (T := TX9) (N := 9) (n := 8) (k := 8) (q := (808, true)) hC hX dX9_inWay_69 q1056 rfl in_X9 (by decide) (Or.inl rfl) rfl (by decide) hk22 ?_
            show GX _ _ _ _ _ _ _ (va_rf (xFR S20 808 u1) :: _)
            obtain ⟨u23, eu23, h⟩ := h.2
            refine g_top0 eu23 ?_
            have hk24 := h.1
            refine gX_getN (C0 := RX0) (T := TX0) (N := 15) (n := 0) (k := 2) (q := (2, true)) hC hX dX9_inWay_72 q212 rfl in_X0 (by decide) rfl rfl (by decide) hk24 ?_
            show GX _ _ _ _ _ _ _ (va_rf (xFR S20 2 u23) :: _)
            refine g_iload_n hC dX9_inWay_75 rfl ?_
            obtain ⟨u25, eu25, h⟩ := h.2
            refine g_top1 eu25 ?_
            have hk26 := h.1
            refine gX_nq5 hX (gX_runF (n := 1) (As := [.int a3]) (rest := [.int a2]) (Cr := "java/util/ArrayList") (x := ⟨"java/util/List", "get", "(I)Ljava/lang/Object;"⟩) hC hX (mx_J2_get (cx_l C) E _ _ _ _ h.2) (lw_app (lw_4 q1027 q931 q933 q73) (lw_meth q935)) (List.mem_of_getElem? (i := 2) rfl) (by decide +kernel) rfl rfl (Or.inl (Nat.le_of_ble_eq_true rfl)) ⟨Nat.le_of_ble_eq_true rfl, Nat.le_of_ble_eq_true rfl⟩ dX9_inWay_76 (Nat.zero_le _) (Nat.zero_le _) hk26 rfl (by decide) rfl) rfl rfl ?_
            intro r28 S27 h
            obtain ⟨u29, eu29, h⟩ := h
            refine g_top0 eu29 ?_
            have hk30 := h.1
            refine gX_cast (r := (RX8, TX8, 11)) (n := 7) hC hX dX9_inWay_81 q1028 rfl (by decide) hk30 ?_
            refine g_aload_nR hC dX9_inWay_84 rfl ?_
            refine g_top0 eu1 ?_
            have hk31 := h.2.1
            refine gX_get (C0 := RX9) (T := TX9) (N := 9) (n := 8) (k := 2) (q := (802, false)) hC hX dX9_inWay_85 q1047 rfl in_X9 (by decide) (Or.inl rfl) rfl (by decide) hk31 ?_
            show GX _ _ _ _ _ _ _ (.int (xFI S27 802 u1) :: _)
            refine g_aload_nR hC dX9_inWay_88 rfl ?_
            refine g_top0 eu1 ?_
            refine gX_get (C0 := RX9) (T := TX9) (N := 9) (n := 8) (k := 3) (q := (803, false)) hC hX dX9_inWay_89 q1048 rfl in_X9 (by decide) (Or.inl rfl) rfl (by decide) hk31 ?_
            show GX _ _ _ _ _ _ _ (.int (xFI S27 803 u1) :: _)
            refine g_iconst (v := 3) hC dX9_inWay_92 (by decide) ?_
            refine g_aload_nR hC dX9_inWay_93 rfl ?_
            refine g_top0 eu1 ?_
            refine gX_get (C0 := RX9) (T := TX9) (N := 9) (n := 8) (k := 8) (q := (808, true)) hC hX dX9_inWay_94 q1056 rfl in_X9 (by decide) (Or.inl rfl) rfl (by decide) hk31 ?_
            show GX _ _ _ _ _ _ _ (va_rf (xFR S27 808 u1) :: _)
            obtain ⟨u32, eu32, h⟩ := h.2.2
            refine g_top0 eu32 ?_
            have hk33 := h.1
            refine gX_getN (C0 := RX0) (T := TX0) (N := 15) (n := 0) (k := 1) (q := (1, true)) hC hX dX9_inWay_97 q210 rfl in_X0 (by decide) rfl rfl (by decide) hk33 ?_
            show GX _ _ _ _ _ _ _ (va_rf (xFR S27 1 u32) :: _)
            refine g_aload_nR hC dX9_inWay_100 rfl ?_
            refine g_top0 eu1 ?_
            refine gX_get (C0 := RX9) (T := TX9) (N := 9) (n := 8) (k := 0) (q := (800, false)) hC hX dX9_inWay_101 q1045 rfl in_X9 (by decide) (Or.inl rfl) rfl (by decide) hk31 ?_
            show GX _ _ _ _ _ _ _ (.int (xFI S27 800 u1) :: _)
            obtain ⟨u34, eu34, h⟩ := h.2
            refine g_top1 eu34 ?_
            have hk35 := h.1
            refine gX_aald (n := 104) hC hX dX9_inWay_104 (by decide) hk35 h.2.1 ?_
            obtain ⟨u36, eu36, h⟩ := h.2.2
            refine g_top0 eu36 ?_
            have hk37 := h.1
            refine gX_getN (C0 := RX2) (T := TX2) (N := 7) (n := 2) (k := 0) (q := (200, false)) hC hX dX9_inWay_105 q172 rfl in_X2 (by decide) rfl rfl (by decide) hk37 ?_
            show GX _ _ _ _ _ _ _ (.int (xFI S27 200 u36) :: _)
            refine gX_ni hX (gX_runV (As := [.int (xFI S27 802 u1), .int (xFI S27 803 u1), .int (3 : Int32), .int (xFI S27 200 u36)]) (rest := [.int a2]) (Cr := RX8) hC hX (mx_X8_isAgainst (cx_l C) E _ _ _ _ _ _ _ h.2) (lw_V q1030 q967 q968 q96 q969) hx_X8_isAgainst rfl rfl (Or.inl (Nat.le_of_ble_eq_true rfl)) ⟨Nat.le_of_ble_eq_true rfl, Nat.le_of_ble_eq_true rfl⟩ dX9_inWay_108 (Nat.zero_le _) (Nat.zero_le _) hk30 rfl (by decide) rfl) rfl rfl ?_
            intro r39 S38 h
            refine g_if_eq (tgt := 120) hC dX9_inWay_111 (by decide) (fun c => ?_) (fun c => ?_)
            · have h := it_p c h
              refine g_sub [true, true, false, true] rfl ?_
              exact s_120 (wx_X9_inWay_4 Q n) ih S38 a0 a1 a3 a2 h
            · have h := it_n c h
              refine g_iconst (v := 1) hC dX9_inWay_114 (by decide) ?_
              refine g_iload_n hC dX9_inWay_115 rfl ?_
              refine g_ishl hC dX9_inWay_116 ?_
              refine g_goto (tgt := 121) hC dX9_inWay_117 (by decide) ?_
              refine g_sub [true, true, false, true] rfl ?_
              exact s_121 (wx_X9_inWay_4 Q n) ih S38 a0 a1 a3 a2 ((1 : Int32) <<< (a3 &&& 31)) h
  refine g_iconst (v := 0) hC dX9_inWay_0 (by decide) ?_
  refine g_istore_n hC dX9_inWay_1 rfl (by decide) rfl rfl ?_
  refine g_iconst (v := 0) hC dX9_inWay_2 (by decide) ?_
  refine g_istore_n hC dX9_inWay_3 rfl (by decide) rfl rfl ?_
  obtain ⟨n0, h0⟩ := h
  exact s_4 n0 S x0 x1 (0 : Int32) (0 : Int32) h0
theorem mx_X9_inWay (l : Launch) (E : XE) (Q : Int32 → XS → Prop) (S : XS) (x0 : Option Nat) (x1 : Int32) (h : wx_X9_inWay Q S x0 x1) : XMet E l yX9_inWay cX9_inWay 4 (some .int) ({ frames := 4, cells := 0, slots := 0, locals := 98 } : Room) [va_rf x0, .int x1] S (fun sz => va_Qi Q (BX1 E S sz) (xA S sz)) :=
  XMet_of (rm := ({ frames := 4, cells := 0, slots := 0, locals := 98 } : Room)) (by decide) (by simp [lg_sl, va_rf_cat, cat_i, cat_l]) (L0 := [some (va_rf x0), some (.int x1), none, none]) (by simp [lx_pairs, lv_args, va_rf_cat, cat_i, cat_l, List.range_succ]) (fun sz C hC hX hl hnm hA hQ => bx_X9_inWay E C S sz Q S x0 x1 hC hX hA hQ h)
/-! X9_isFreeFor -/
def wx_X9_isFreeFor_243 (Q : Int32 → XS → Prop) (K87 : XS → Option Nat → Option Nat → Int32 → Int32 → Int32 → Int32 → Prop) (S : XS) (a0 : Option Nat) (a1 : Option Nat) (a2 : Int32) (a3 : Int32) (a4 : Int32) (a5 : Int32) : Prop :=
  K87 S a0 a1 a2 a3 a4 (a5 + (1 : Int32))
def wx_X9_isFreeFor_217 (Q : Int32 → XS → Prop) (K87 : XS → Option Nat → Option Nat → Int32 → Int32 → Int32 → Int32 → Prop) (S : XS) (a0 : Option Nat) (a1 : Option Nat) (a2 : Int32) (a3 : Int32) (a4 : Int32) (a5 : Int32) (a6 : Option Nat) : Prop :=
  dr a6 (fun u35 => xKD S u35 = some 7 ∧ dr a1 (fun u37 => xKD S u37 = some 7 ∧ wx_X8_isAgainst (fun r40 S39 => (if r40 = 0 then wx_X9_isFreeFor_243 Q K87 S39 a0 a1 a2 a3 a4 a5 else Q (0 : Int32) S39)) S (some u37) (xFI S 704 u35) (xFI S 705 u35) (xFI S 707 u35) a4))
def wx_X9_isFreeFor_205 (Q : Int32 → XS → Prop) (K87 : XS → Option Nat → Option Nat → Int32 → Int32 → Int32 → Int32 → Prop) (S : XS) (a0 : Option Nat) (a1 : Option Nat) (a2 : Int32) (a3 : Int32) (a4 : Int32) (a5 : Int32) (a6 : Option Nat) (a7 : Int32) (s0 : Int32) : Prop :=
  (if a7 = 0 then (if s0 = 0 then wx_X9_isFreeFor_243 Q K87 S a0 a1 a2 a3 a4 a5 else wx_X9_isFreeFor_217 Q K87 S a0 a1 a2 a3 a4 a5 a6) else wx_X9_isFreeFor_217 Q K87 S a0 a1 a2 a3 a4 a5 a6)
def wx_X9_isFreeFor_204 (Q : Int32 → XS → Prop) (K87 : XS → Option Nat → Option Nat → Int32 → Int32 → Int32 → Int32 → Prop) (S : XS) (a0 : Option Nat) (a1 : Option Nat) (a2 : Int32) (a3 : Int32) (a4 : Int32) (a5 : Int32) (a6 : Option Nat) (a7 : Int32) : Prop :=
  wx_X9_isFreeFor_205 Q K87 S a0 a1 a2 a3 a4 a5 a6 a7 (0 : Int32)
def wx_X9_isFreeFor_171 (Q : Int32 → XS → Prop) (K87 : XS → Option Nat → Option Nat → Int32 → Int32 → Int32 → Int32 → Prop) (S : XS) (a0 : Option Nat) (a1 : Option Nat) (a2 : Int32) (a3 : Int32) (a4 : Int32) (a5 : Int32) (a6 : Option Nat) (s0 : Int32) : Prop :=
  dr a0 (fun u31 => xKD S u31 = some 8 ∧ dr (xFR S 807 u31) (fun u33 => xKD S u33 = some 100 ∧ vp_in a5 (xLN S u33) ∧ (if (xAI S u33 (Int32.toNatClampNeg a5)) = (((2 : Int32) * a2) + a3) then dr a6 (fun u41 => xKD S u41 = some 7 ∧ dr a1 (fun u43 => xKD S u43 = some 7 ∧ (if (xFI S 703 u41) = (xFI S 703 u43) then wx_X9_isFreeFor_205 Q K87 S a0 a1 a2 a3 a4 a5 a6 s0 (1 : Int32) else wx_X9_isFreeFor_204 Q K87 S a0 a1 a2 a3 a4 a5 a6 s0))) else wx_X9_isFreeFor_204 Q K87 S a0 a1 a2 a3 a4 a5 a6 s0)))
def wx_X9_isFreeFor_170 (Q : Int32 → XS → Prop) (K87 : XS → Option Nat → Option Nat → Int32 → Int32 → Int32 → Int32 → Prop) (S : XS) (a0 : Option Nat) (a1 : Option Nat) (a2 : Int32) (a3 : Int32) (a4 : Int32) (a5 : Int32) (a6 : Option Nat) : Prop :=
  wx_X9_isFreeFor_171 Q K87 S a0 a1 a2 a3 a4 a5 a6 (0 : Int32)
def wx_X9_isFreeFor_87 (Q : Int32 → XS → Prop) : Nat → XS → Option Nat → Option Nat → Int32 → Int32 → Int32 → Int32 → Prop
  | 0, _, _, _, _, _, _, _ => False
  | n + 1, S, a0, a1, a2, a3, a4, a5 => dr a0 (fun u13 => xKD S u13 = some 8 ∧ dr (xFR S 808 u13) (fun u15 => xKD S u15 = some 0 ∧ dr (xFR S 2 u15) (fun u17 => xKD S u17 = some 16 ∧ wx_J2_size (fun r20 S19 => (if r20 ≤ a5 then Q (1 : Int32) S19 else xKD S19 u13 = some 8 ∧ dr (xFR S19 808 u13) (fun u22 => xKD S19 u22 = some 0 ∧ dr (xFR S19 2 u22) (fun u24 => xKD S19 u24 = some 16 ∧ wx_J2_get (fun r27 S26 => dr r27 (fun u28 => xKD S26 u28 = some 7 ∧ xKD S26 u13 = some 8 ∧ (if (((xFI S26 804 u13) >>> (a5 &&& 31)) &&& (1 : Int32)) = (1 : Int32) then (if (((xFI S26 806 u13) >>> (a5 &&& 31)) &&& (1 : Int32)) = 0 then dr a1 (fun u45 => xKD S26 u45 = some 7 ∧ dr (xFR S26 808 u13) (fun u47 => xKD S26 u47 = some 0 ∧ wx_X0_isAt (fun r50 S49 => (if r50 = 0 then wx_X9_isFreeFor_170 Q (wx_X9_isFreeFor_87 Q n) S49 a0 a1 a2 a3 a4 a5 (some u28) else wx_X9_isFreeFor_171 Q (wx_X9_isFreeFor_87 Q n) S49 a0 a1 a2 a3 a4 a5 (some u28) (1 : Int32))) S26 (some u47) (some u28) a2 a3 (xFI S26 703 u45))) else wx_X9_isFreeFor_170 Q (wx_X9_isFreeFor_87 Q n) S26 a0 a1 a2 a3 a4 a5 (some u28)) else wx_X9_isFreeFor_170 Q (wx_X9_isFreeFor_87 Q n) S26 a0 a1 a2 a3 a4 a5 (some u28)))) S19 (some u24) a5)))) S (some u17))))
def wx_X9_isFreeFor_84 (Q : Int32 → XS → Prop) (S : XS) (a0 : Option Nat) (a1 : Option Nat) (a2 : Int32) (a3 : Int32) (a4 : Int32) : Prop :=
  ∃ n51, wx_X9_isFreeFor_87 Q n51 S a0 a1 a2 a3 a4 (0 : Int32)
def wx_X9_isFreeFor (Q : Int32 → XS → Prop) (S : XS) (x0 : Option Nat) (x1 : Option Nat) (x2 : Int32) (x3 : Int32) : Prop :=
  dr x0 (fun u1 => xKD S u1 = some 8 ∧ dr (xFR S 808 u1) (fun u3 => xKD S u3 = some 0 ∧ dr (xFR S 1 u3) (fun u5 => xKD S u5 = some 104 ∧ vp_in x2 (xLN S u5) ∧ dr (xAR S u5 (Int32.toNatClampNeg x2)) (fun u7 => xKD S u7 = some 2 ∧ dr x1 (fun u9 => xKD S u9 = some 7 ∧ vp_in x2 (xLN S u5) ∧ dr (xFR S 204 u7) (fun u11 => xKD S u11 = some 100 ∧ vp_in x3 (xLN S u11) ∧ (if (xFI S 706 u9) ≤ (xAI S u11 (Int32.toNatClampNeg x3)) then (if x2 = (xFI S 800 u1) then (if x3 = (xFI S 805 u1) then (if (xFI S 703 u9) = (xFI S 801 u1) then wx_X8_isAgainst (fun r53 S52 => (if r53 = 0 then wx_X9_isFreeFor_84 Q S52 x0 x1 x2 x3 (xFI S 200 u7) else Q (0 : Int32) S52)) S (some u9) (xFI S 802 u1) (xFI S 803 u1) (3 : Int32) (xFI S 200 u7) else wx_X9_isFreeFor_84 Q S x0 x1 x2 x3 (xFI S 200 u7)) else wx_X9_isFreeFor_84 Q S x0 x1 x2 x3 (xFI S 200 u7)) else wx_X9_isFreeFor_84 Q S x0 x1 x2 x3 (xFI S 200 u7)) else Q (0 : Int32) S)))))))
theorem hx_X9_isFreeFor : yX9_isFreeFor.cls = RX9 ∧ yX9_isFreeFor.cls ≠ "java/lang/invoke/MethodHandle" ∧ yX9_isFreeFor.cls ≠ "java/lang/invoke/VarHandle" ∧ (parseMethodDescriptor yX9_isFreeFor.desc).map (fun d => d.parameters.length) = some 3 := by decide +kernel
set_option maxHeartbeats 4000000 in
set_option maxRecDepth 100000 in
theorem bx_X9_isFreeFor (E : XE) (C : Cx) (S0 : XS) (sz : Nat) (Q : Int32 → XS → Prop) (S : XS) (x0 : Option Nat) (x1 : Option Nat) (x2 : Int32) (x3 : Int32) (hC : COk C cX9_isFreeFor RX9 (some .boolean) 4 98 9) (hX : XOk E C) (hA : cx_A C = xA S0 sz) (hQ : cx_Q C = MQ (cx_b C) (va_Qi Q (BX1 E S0 sz) (xA S0 sz)) (cx_a C) (cx_s C) (cx_MC C) (cx_MS C) (xA S0 sz)) (h : wx_X9_isFreeFor Q S x0 x1 x2 x3) : GX E C S 0 0 0 [some (va_rf x0), some (va_rf x1), some (.int x2), some (.int x3), none, none, none, none, none] [] := by
  have s_243 : ∀ (K87 : XS → Option Nat → Option Nat → Int32 → Int32 → Int32 → Int32 → Prop) (hK87 : ∀ (S : XS) (b0 : Option Nat) (b1 : Option Nat) (b2 : Int32) (b3 : Int32) (b4 : Int32) (b5 : Int32), K87 S b0 b1 b2 b3 b4 b5 → GX E C S 0 0 87 [some (va_rf b0), some (va_rf b1), some (.int b2), some (.int b3), some (.int b4), some (.int b5), none, none, none] []) (S : XS) (a0 : Option Nat) (a1 : Option Nat) (a2 : Int32) (a3 : Int32) (a4 : Int32) (a5 : Int32), wx_X9_isFreeFor_243 Q K87 S a0 a1 a2 a3 a4 a5 → GX E C S 0 0 243 [some (va_rf a0), some (va_rf a1), some (.int a2), some (.int a3), some (.int a4), some (.int a5), none, none, none] [] := by
    intro K87 hK87 S a0 a1 a2 a3 a4 a5 h
    refine g_iinc (v := (a5 + (1 : Int32))) hC dX9_isFreeFor_243 rfl rfl (by decide) rfl rfl ?_
    refine g_goto (tgt := 87) hC dX9_isFreeFor_246 (by decide) ?_
    exact hK87 S a0 a1 a2 a3 a4 (a5 + (1 : Int32)) h
  have s_217 : ∀ (K87 : XS → Option Nat → Option Nat → Int32 → Int32 → Int32 → Int32 → Prop) (hK87 : ∀ (S : XS) (b0 : Option Nat) (b1 : Option Nat) (b2 : Int32) (b3 : Int32) (b4 : Int32) (b5 : Int32), K87 S b0 b1 b2 b3 b4 b5 → GX E C S 0 0 87 [some (va_rf b0), some (va_rf b1), some (.int b2), some (.int b3), some (.int b4), some (.int b5), none, none, none] []) (S : XS) (a0 : Option Nat) (a1 : Option Nat) (a2 : Int32) (a3 : Int32) (a4 : Int32) (a5 : Int32) (a6 : Option Nat), wx_X9_isFreeFor_217 Q K87 S a0 a1 a2 a3 a4 a5 a6 → GX E C S 0 0 217 [some (va_rf a0), some (va_rf a1), some (.int a2), some (.int a3), some (.int a4), some (.int a5), some (va_rf a6), none, none] [] := by
    intro K87 hK87 S a0 a1 a2 a3 a4 a5 a6 h
    refine g_aload_nR hC dX9_isFreeFor_217 rfl ?_
    refine g_aloadR hC dX9_isFreeFor_218 rfl ?_
    obtain ⟨u35, eu35, h⟩ := h
    refine g_top0 eu35 ?_
    have hk36 := h.1
    refine gX_get (C0 := RX8) (T := TX8) (N := 11) (n := 7) (k := 4) (q := (704, false)) hC hX dX9_isFreeFor_220 q817 rfl in_X8 (by decide) (Or.inl rfl) rfl (by decide) hk36 ?_
    show GX _ _ _ _ _ _ _ (.int (xFI S 704 u35) :: _)
    refine g_aloadR hC dX9_isFreeFor_223 rfl ?_
    refine g_top0 eu35 ?_
    refine gX_get (C0 := RX8) (T := TX8) (N := 11) (n := 7) (k := 5) (q := (705, false)) hC hX dX9_isFreeFor_225 q820 rfl in_X8 (by decide) (Or.inl rfl) rfl (by decide) hk36 ?_
    show GX _ _ _ _ _ _ _ (.int (xFI S 705 u35) :: _)
    refine g_aloadR hC dX9_isFreeFor_228 rfl ?_
    refine g_top0 eu35 ?_
    refine gX_get (C0 := RX8) (T := TX8) (N := 11) (n := 7) (k := 7) (q := (707, false)) hC hX dX9_isFreeFor_230 q829 rfl in_X8 (by decide) (Or.inl rfl) rfl (by decide) hk36 ?_
    show GX _ _ _ _ _ _ _ (.int (xFI S 707 u35) :: _)
    refine g_iload hC dX9_isFreeFor_233 rfl ?_
    obtain ⟨u37, eu37, h⟩ := h.2
    refine g_top4 eu37 ?_
    have hk38 := h.1
    refine gX_ni hX (gX_runV (As := [.int (xFI S 704 u35), .int (xFI S 705 u35), .int (xFI S 707 u35), .int a4]) (rest := []) (Cr := RX8) hC hX (mx_X8_isAgainst (cx_l C) E _ _ _ _ _ _ _ h.2) (lw_V q1030 q967 q968 q96 q969) hx_X8_isAgainst rfl rfl (Or.inl (Nat.le_of_ble_eq_true rfl)) ⟨Nat.le_of_ble_eq_true rfl, Nat.le_of_ble_eq_true rfl⟩ dX9_isFreeFor_235 (Nat.zero_le _) (Nat.zero_le _) hk38 rfl (by decide) rfl) rfl rfl ?_
    intro r40 S39 h
    refine g_if_eq (tgt := 243) hC dX9_isFreeFor_238 (by decide) (fun c => ?_) (fun c => ?_)
    · have h := it_p c h
      refine g_sub [true, true, true, true, true, true, false, false, false] rfl ?_
      exact s_243 K87 hK87 S39 a0 a1 a2 a3 a4 a5 h
    · have h := it_n c h
      refine g_iconst (v := 0) hC dX9_isFreeFor_241 (by decide) ?_
      refine gX_zret rfl rfl hC hA hQ dX9_isFreeFor_242 h
  have s_205 : ∀ (K87 : XS → Option Nat → Option Nat → Int32 → Int32 → Int32 → Int32 → Prop) (hK87 : ∀ (S : XS) (b0 : Option Nat) (b1 : Option Nat) (b2 : Int32) (b3 : Int32) (b4 : Int32) (b5 : Int32), K87 S b0 b1 b2 b3 b4 b5 → GX E C S 0 0 87 [some (va_rf b0), some (va_rf b1), some (.int b2), some (.int b3), some (.int b4), some (.int b5), none, none, none] []) (S : XS) (a0 : Option Nat) (a1 : Option Nat) (a2 : Int32) (a3 : Int32) (a4 : Int32) (a5 : Int32) (a6 : Option Nat) (a7 : Int32) (s0 : Int32), wx_X9_isFreeFor_205 Q K87 S a0 a1 a2 a3 a4 a5 a6 a7 s0 → GX E C S 0 0 205 [some (va_rf a0), some (va_rf a1), some (.int a2), some (.int a3), some (.int a4), some (.int a5), some (va_rf a6), some (.int a7), none] [.int s0] := by
    intro K87 hK87 S a0 a1 a2 a3 a4 a5 a6 a7 s0 h
    refine g_istore hC dX9_isFreeFor_205 (by decide) rfl rfl ?_
    refine g_iload hC dX9_isFreeFor_207 rfl ?_
    refine g_if_ne (tgt := 217) hC dX9_isFreeFor_209 (by decide) (fun c => ?_) (fun c => ?_)
    · have h := it_n c h
      refine g_sub [true, true, true, true, true, true, true, false, false] rfl ?_
      exact s_217 K87 hK87 S a0 a1 a2 a3 a4 a5 a6 h
    · have h := it_p c h
      refine g_iload hC dX9_isFreeFor_212 rfl ?_
      refine g_if_eq (tgt := 243) hC dX9_isFreeFor_214 (by decide) (fun c => ?_) (fun c => ?_)
      · have h := it_p c h
        refine g_sub [true, true, true, true, true, true, false, false, false] rfl ?_
        exact s_243 K87 hK87 S a0 a1 a2 a3 a4 a5 h
      · have h := it_n c h
        refine g_sub [true, true, true, true, true, true, true, false, false] rfl ?_
        exact s_217 K87 hK87 S a0 a1 a2 a3 a4 a5 a6 h
  have s_204 : ∀ (K87 : XS → Option Nat → Option Nat → Int32 → Int32 → Int32 → Int32 → Prop) (hK87 : ∀ (S : XS) (b0 : Option Nat) (b1 : Option Nat) (b2 : Int32) (b3 : Int32) (b4 : Int32) (b5 : Int32), K87 S b0 b1 b2 b3 b4 b5 → GX E C S 0 0 87 [some (va_rf b0), some (va_rf b1), some (.int b2), some (.int b3), some (.int b4), some (.int b5), none, none, none] []) (S : XS) (a0 : Option Nat) (a1 : Option Nat) (a2 : Int32) (a3 : Int32) (a4 : Int32) (a5 : Int32) (a6 : Option Nat) (a7 : Int32), wx_X9_isFreeFor_204 Q K87 S a0 a1 a2 a3 a4 a5 a6 a7 → GX E C S 0 0 204 [some (va_rf a0), some (va_rf a1), some (.int a2), some (.int a3), some (.int a4), some (.int a5), some (va_rf a6), some (.int a7), none] [] := by
    intro K87 hK87 S a0 a1 a2 a3 a4 a5 a6 a7 h
    refine g_iconst (v := 0) hC dX9_isFreeFor_204 (by decide) ?_
    exact s_205 K87 hK87 S a0 a1 a2 a3 a4 a5 a6 a7 (0 : Int32) h
  have s_171 : ∀ (K87 : XS → Option Nat → Option Nat → Int32 → Int32 → Int32 → Int32 → Prop) (hK87 : ∀ (S : XS) (b0 : Option Nat) (b1 : Option Nat) (b2 : Int32) (b3 : Int32) (b4 : Int32) (b5 : Int32), K87 S b0 b1 b2 b3 b4 b5 → GX E C S 0 0 87 [some (va_rf b0), some (va_rf b1), some (.int b2), some (.int b3), some (.int b4), some (.int b5), none, none, none] []) (S : XS) (a0 : Option Nat) (a1 : Option Nat) (a2 : Int32) (a3 : Int32) (a4 : Int32) (a5 : Int32) (a6 : Option Nat) (s0 : Int32), wx_X9_isFreeFor_171 Q K87 S a0 a1 a2 a3 a4 a5 a6 s0 → GX E C S 0 0 171 [some (va_rf a0), some (va_rf a1), some (.int a2), some (.int a3), some (.int a4), some (.int a5), some (va_rf a6), none, none] [.int s0] := by
    intro K87 hK87 S a0 a1 a2 a3 a4 a5 a6 s0 h
    refine g_istore hC dX9_isFreeFor_171 (by decide) (lx_okR (j := 6) rfl) rfl ?_
    refine g_aload_nR hC dX9_isFreeFor_173 rfl ?_
    obtain ⟨u31, eu31, h⟩ := h
    refine g_top0 eu31 ?_
    have hk32 := h.1
    refine gX_get (C0 := RX9) (T := TX9) (N := 9) (n := 8) (k := 7) (q := (807, true)) hC hX dX9_isFreeFor_174 q1054 rfl in_X9 (by decide) (Or.inl rfl) rfl (by decide) hk32 ?_
    show GX _ _ _ _ _ _ _ (va_rf (xFR S 807 u31) :: _)
    refine g_iload hC dX9_isFreeFor_177 rfl ?_
    obtain ⟨u33, eu33, h⟩ := h.2
    refine g_top1 eu33 ?_
    have hk34 := h.1
    refine gX_iald hC hX dX9_isFreeFor_179 hk34 h.2.1 ?_
    refine g_iconst (v := 2) hC dX9_isFreeFor_180 (by decide) ?_
    refine g_iload_n hC dX9_isFreeFor_181 rfl ?_
    refine g_imul hC dX9_isFreeFor_182 ?_
    refine g_iload_n hC dX9_isFreeFor_183 rfl ?_
    refine g_iadd hC dX9_isFreeFor_184 ?_
    refine g_icmp_ne (tgt := 204) hC dX9_isFreeFor_185 (by decide) (fun c => ?_) (fun c => ?_)
    · have h := it_n c h.2.2
      exact s_204 K87 hK87 S a0 a1 a2 a3 a4 a5 a6 s0 h
    · have h := it_p c h.2.2
      refine g_aloadR hC dX9_isFreeFor_188 rfl ?_
      obtain ⟨u41, eu41, h⟩ := h
      refine g_top0 eu41 ?_
      have hk42 := h.1
      refine gX_get (C0 := RX8) (T := TX8) (N := 11) (n := 7) (k := 3) (q := (703, false)) hC hX dX9_isFreeFor_190 q814 rfl in_X8 (by decide) (Or.inl rfl) rfl (by decide) hk42 ?_
      show GX _ _ _ _ _ _ _ (.int (xFI S 703 u41) :: _)
      refine g_aload_nR hC dX9_isFreeFor_193 rfl ?_
      obtain ⟨u43, eu43, h⟩ := h.2
      refine g_top0 eu43 ?_
      have hk44 := h.1
      refine gX_get (C0 := RX8) (T := TX8) (N := 11) (n := 7) (k := 3) (q := (703, false)) hC hX dX9_isFreeFor_194 q814 rfl in_X8 (by decide) (Or.inl rfl) rfl (by decide) hk44 ?_
      show GX _ _ _ _ _ _ _ (.int (xFI S 703 u43) :: _)
      refine g_icmp_ne (tgt := 204) hC dX9_isFreeFor_197 (by decide) (fun c => ?_) (fun c => ?_)
      · have h := it_n c h.2
        exact s_204 K87 hK87 S a0 a1 a2 a3 a4 a5 a6 s0 h
      · have h := it_p c h.2
        refine g_iconst (v := 1) hC dX9_isFreeFor_200 (by decide) ?_
        refine g_goto (tgt := 205) hC dX9_isFreeFor_201 (by decide) ?_
        exact s_205 K87 hK87 S a0 a1 a2 a3 a4 a5 a6 s0 (1 : Int32) h
  have s_170 : ∀ (K87 : XS → Option Nat → Option Nat → Int32 → Int32 → Int32 → Int32 → Prop) (hK87 : ∀ (S : XS) (b0 : Option Nat) (b1 : Option Nat) (b2 : Int32) (b3 : Int32) (b4 : Int32) (b5 : Int32), K87 S b0 b1 b2 b3 b4 b5 → GX E C S 0 0 87 [some (va_rf b0), some (va_rf b1), some (.int b2), some (.int b3), some (.int b4), some (.int b5), none, none, none] []) (S : XS) (a0 : Option Nat) (a1 : Option Nat) (a2 : Int32) (a3 : Int32) (a4 : Int32) (a5 : Int32) (a6 : Option Nat), wx_X9_isFreeFor_170 Q K87 S a0 a1 a2 a3 a4 a5 a6 → GX E C S 0 0 170 [some (va_rf a0), some (va_rf a1), some (.int a2), some (.int a3), some (.int a4), some (.int a5), some (va_rf a6), none, none] [] := by
    intro K87 hK87 S a0 a1 a2 a3 a4 a5 a6 h
    refine g_iconst (v := 0) hC dX9_isFreeFor_170 (by decide) ?_
    exact s_171 K87 hK87 S a0 a1 a2 a3 a4 a5 a6 (0 : Int32) h
  have s_87 : ∀ (n : Nat) (S : XS) (a0 : Option Nat) (a1 : Option Nat) (a2 : Int32) (a3 : Int32) (a4 : Int32) (a5 : Int32), wx_X9_isFreeFor_87 Q  n S a0 a1 a2 a3 a4 a5 → GX E C S 0 0 87 [some (va_rf a0), some (va_rf a1), some (.int a2), some (.int a3), some (.int a4), some (.int a5), none, none, none] [] := by
    intro  n
    induction n with
    | zero =>
      intro S a0 a1 a2 a3 a4 a5 h
      exact False.elim h
    | succ n ih =>
      intro S a0 a1 a2 a3 a4 a5 h
      refine g_iload hC dX9_isFreeFor_87 rfl ?_
      refine g_aload_nR hC dX9_isFreeFor_89 rfl ?_
      obtain ⟨u13, eu13, h⟩ := h
      refine g_top0 eu13 ?_
      have hk14 := h.1
      refine gX_get (C0 := RX9) (T := TX9) (N := 9) (n := 8) (k := 8) (q := (808, true)) hC hX dX9_isFreeFor_90 q1056 rfl in_X9 (by decide) (Or.inl rfl) rfl (by decide) hk14 ?_
      show GX _ _ _ _ _ _ _ (va_rf (xFR S 808 u13) :: _)
      obtain ⟨u15, eu15, h⟩ := h.2
      refine g_top0 eu15 ?_
      have hk16 := h.1
      refine gX_getN (C0 := RX0) (T := TX0) (N := 15) (n := 0) (k := 2) (q := (2, true)) hC hX dX9_isFreeFor_93 q212 rfl in_X0 (by decide) rfl rfl (by decide) hk16 ?_
      show GX _ _ _ _ _ _ _ (va_rf (xFR S 2 u15) :: _)
      obtain ⟨u17, eu17, h⟩ := h.2
      refine g_top0 eu17 ?_
      have hk18 := h.1
      refine gX_ni5 hX (gX_runF (n := 0) (As := []) (rest := [.int a5]) (Cr := "java/util/ArrayList") (x := ⟨"java/util/List", "size", "()I"⟩) hC hX (mx_J2_size (cx_l C) E _ _ _ h.2) (lw_app (lw_4 q1025 q774 q776 q73) (lw_meth q778)) (List.mem_of_getElem? (i := 0) rfl) (by decide +kernel) rfl rfl (Or.inl (Nat.le_of_ble_eq_true rfl)) ⟨Nat.le_of_ble_eq_true rfl, Nat.le_of_ble_eq_true rfl⟩ dX9_isFreeFor_96 (Nat.zero_le _) (Nat.zero_le _) hk18 rfl (by decide) rfl) rfl rfl ?_
      intro r20 S19 h
      refine g_icmp_ge (tgt := 249) hC dX9_isFreeFor_101 (by decide) (fun c => ?_) (fun c => ?_)
      · have h := it_p c h
        refine g_iconst (v := 1) hC dX9_isFreeFor_249 (by decide) ?_
        refine gX_zret rfl rfl hC hA hQ dX9_isFreeFor_250 h
      · have h := it_n c h
        refine g_aload_nR hC dX9_isFreeFor_104 rfl ?_
        refine g_top0 eu13 ?_
        have hk21 := h.1
        refine gX_get (C0 := RX9) (T := TX9) (N := 9) (n := 8) (k := 8) (q := (808, true)) hC hX dX9_isFreeFor_105 q1056 rfl in_X9 (by decide) (Or.inl rfl) rfl (by decide) hk21 ?_
        show GX _ _ _ _ _ _ _ (va_rf (xFR S19 808 u13) :: _)
        obtain ⟨u22, eu22, h⟩ := h.2
        refine g_top0 eu22 ?_
        have hk23 := h.1
        refine gX_getN (C0 := RX0) (T := TX0) (N := 15) (n := 0) (k := 2) (q := (2, true)) hC hX dX9_isFreeFor_108 q212 rfl in_X0 (by decide) rfl rfl (by decide) hk23 ?_
        show GX _ _ _ _ _ _ _ (va_rf (xFR S19 2 u22) :: _)
        refine g_iload hC dX9_isFreeFor_111 rfl ?_
        obtain ⟨u24, eu24, h⟩ := h.2
        refine g_top1 eu24 ?_
        have hk25 := h.1
        refine gX_nq5 hX (gX_runF (n := 1) (As := [.int a5]) (rest := []) (Cr := "java/util/ArrayList") (x := ⟨"java/util/List", "get", "(I)Ljava/lang/Object;"⟩) hC hX (mx_J2_get (cx_l C) E _ _ _ _ h.2) (lw_app (lw_4 q1027 q931 q933 q73) (lw_meth q935)) (List.mem_of_getElem? (i := 2) rfl) (by decide +kernel) rfl rfl (Or.inl (Nat.le_of_ble_eq_true rfl)) ⟨Nat.le_of_ble_eq_true rfl, Nat.le_of_ble_eq_true rfl⟩ dX9_isFreeFor_113 (Nat.zero_le _) (Nat.zero_le _) hk25 rfl (by decide) rfl) rfl rfl ?_
        intro r27 S26 h
        obtain ⟨u28, eu28, h⟩ := h
        refine g_top0 eu28 ?_
        have hk29 := h.1
        refine gX_cast (r := (RX8, TX8, 11)) (n := 7) hC hX dX9_isFreeFor_118 q1028 rfl (by decide) hk29 ?_
        refine g_astoreR hC dX9_isFreeFor_121 (by decide) rfl rfl ?_
        refine g_aload_nR hC dX9_isFreeFor_123 rfl ?_
        refine g_top0 eu13 ?_
        have hk30 := h.2.1
        refine gX_get (C0 := RX9) (T := TX9) (N := 9) (n := 8) (k := 4) (q := (804, false)) hC hX dX9_isFreeFor_124 q1049 rfl in_X9 (by decide) (Or.inl rfl) rfl (by decide) hk30 ?_
        show GX _ _ _ _ _ _ _ (.int (xFI S26 804 u13) :: _)
        refine g_iload hC dX9_isFreeFor_127 rfl ?_
        refine g_ishr hC dX9_isFreeFor_129 ?_
        refine g_iconst (v := 1) hC dX9_isFreeFor_130 (by decide) ?_
        refine g_iand hC dX9_isFreeFor_131 ?_
        refine g_iconst (v := 1) hC dX9_isFreeFor_132 (by decide) ?_
        refine g_icmp_ne (tgt := 170) hC dX9_isFreeFor_133 (by decide) (fun c => ?_) (fun c => ?_)
        · have h := it_n c h.2.2
          exact s_170 (wx_X9_isFreeFor_87 Q n) ih S26 a0 a1 a2 a3 a4 a5 (some u28) h
        · have h := it_p c h.2.2
          refine g_aload_nR hC dX9_isFreeFor_136 rfl ?_
          refine g_top0 eu13 ?_
          refine gX_get (C0 := RX9) (T := TX9) (N := 9) (n := 8) (k := 6) (q := (806, false)) hC hX dX9_isFreeFor_137 q1052 rfl in_X9 (by decide) (Or.inl rfl) rfl (by decide) hk30 ?_
          show GX _ _ _ _ _ _ _ (.int (xFI S26 806 u13) :: _)
          refine g_iload hC dX9_isFreeFor_140 rfl ?_
          refine g_ishr hC dX9_isFreeFor_142 ?_
          refine g_iconst (v := 1) hC dX9_isFreeFor_143 (by decide) ?_
          refine g_iand hC dX9_isFreeFor_144 ?_
          refine g_if_ne (tgt := 170) hC dX9_isFreeFor_145 (by decide) (fun c => ?_) (fun c => ?_)
          · have h := it_n c h
            exact s_170 (wx_X9_isFreeFor_87 Q n) ih S26 a0 a1 a2 a3 a4 a5 (some u28) h
          · have h := it_p c h
            refine g_aload_nR hC dX9_isFreeFor_148 rfl ?_
            refine g_top0 eu13 ?_
            refine gX_get (C0 := RX9) (T := TX9) (N := 9) (n := 8) (k := 8) (q := (808, true)) hC hX dX9_isFreeFor_149 q1056 rfl in_X9 (by decide) (Or.inl rfl) rfl (by decide) hk30 ?_
            show GX _ _ _ _ _ _ _ (va_rf (xFR S26 808 u13) :: _)
            refine g_aloadR hC dX9_isFreeFor_152 rfl ?_
            refine g_iload_n hC dX9_isFreeFor_154 rfl ?_
            refine g_iload_n hC dX9_isFreeFor_155 rfl ?_
            refine g_aload_nR hC dX9_isFreeFor_156 rfl ?_
            obtain ⟨u45, eu45, h⟩ := h
            refine g_top0 eu45 ?_
            have hk46 := h.1
            refine gX_get (C0 := RX8) (T := TX8) (N := 11) (n := 7) (k := 3) (q := (703, false)) hC hX dX9_isFreeFor_157 q814 rfl in_X8 (by decide) (Or.inl rfl) rfl (by decide) hk46 ?_
            show GX _ _ _ _ _ _ _ (.int (xFI S26 703 u45) :: _)
            obtain ⟨u47, eu47, h⟩ := h.2
            refine g_top4 eu47 ?_
            have hk48 := h.1
            refine gX_ni hX (gX_runVN (As := [va_rf (some u28), .int a2, .int a3, .int (xFI S26 703 u45)]) (rest := []) (Cr := "VillageHalls") hC hX (mx_X0_isAt (cx_l C) E _ _ _ _ _ _ _ h.2) q965 q1029 q70 hx_X0_isAt.2 q964 qs19 rfl rfl (Or.inl (Nat.le_of_ble_eq_true rfl)) ⟨Nat.le_of_ble_eq_true rfl, Nat.le_of_ble_eq_true rfl⟩ dX9_isFreeFor_160 (Nat.zero_le _) (Nat.zero_le _) hk48 rfl (by decide) rfl) rfl rfl ?_
            intro r50 S49 h
            refine g_if_eq (tgt := 170) hC dX9_isFreeFor_163 (by decide) (fun c => ?_) (fun c => ?_)
            · have h := it_p c h
              exact s_170 (wx_X9_isFreeFor_87 Q n) ih S49 a0 a1 a2 a3 a4 a5 (some u28) h
            · have h := it_n c h
              refine g_iconst (v := 1) hC dX9_isFreeFor_166 (by decide) ?_
              refine g_goto (tgt := 171) hC dX9_isFreeFor_167 (by decide) ?_
              exact s_171 (wx_X9_isFreeFor_87 Q n) ih S49 a0 a1 a2 a3 a4 a5 (some u28) (1 : Int32) h
  have s_84 : ∀ (S : XS) (a0 : Option Nat) (a1 : Option Nat) (a2 : Int32) (a3 : Int32) (a4 : Int32), wx_X9_isFreeFor_84 Q  S a0 a1 a2 a3 a4 → GX E C S 0 0 84 [some (va_rf a0), some (va_rf a1), some (.int a2), some (.int a3), some (.int a4), none, none, none, none] [] := by
    intro  S a0 a1 a2 a3 a4 h
    refine g_iconst (v := 0) hC dX9_isFreeFor_84 (by decide) ?_
    refine g_istore hC dX9_isFreeFor_85 (by decide) rfl rfl ?_
    obtain ⟨n0, h0⟩ := h
    exact s_87 n0 S a0 a1 a2 a3 a4 (0 : Int32) h0
  refine g_aload_nR hC dX9_isFreeFor_0 rfl ?_
  obtain ⟨u1, eu1, h⟩ := h
  refine g_top0 eu1 ?_
  have hk2 := h.1
  refine gX_get (C0 := RX9) (T := TX9) (N := 9) (n := 8) (k := 8) (q := (808, true)) hC hX dX9_isFreeFor_1 q1056 rfl in_X9 (by decide) (Or.inl rfl) rfl (by decide) hk2 ?_
  show GX _ _ _ _ _ _ _ (va_rf (xFR S 808 u1) :: _)
  obtain ⟨u3, eu3, h⟩ := h.2
  refine g_top0 eu3 ?_
  have hk4 := h.1
  refine gX_getN (C0 := RX0) (T := TX0) (N := 15) (n := 0) (k := 1) (q := (1, true)) hC hX dX9_isFreeFor_4 q210 rfl in_X0 (by decide) rfl rfl (by decide) hk4 ?_
  show GX _ _ _ _ _ _ _ (va_rf (xFR S 1 u3) :: _)
  refine g_iload_n hC dX9_isFreeFor_7 rfl ?_
  obtain ⟨u5, eu5, h⟩ := h.2
  refine g_top1 eu5 ?_
  have hk6 := h.1
  refine gX_aald (n := 104) hC hX dX9_isFreeFor_8 (by decide) hk6 h.2.1 ?_
  obtain ⟨u7, eu7, h⟩ := h.2.2
  refine g_top0 eu7 ?_
  have hk8 := h.1
  refine gX_getN (C0 := RX2) (T := TX2) (N := 7) (n := 2) (k := 0) (q := (200, false)) hC hX dX9_isFreeFor_9 q172 rfl in_X2 (by decide) rfl rfl (by decide) hk8 ?_
  show GX _ _ _ _ _ _ _ (.int (xFI S 200 u7) :: _)
  refine g_istore hC dX9_isFreeFor_12 (by decide) rfl rfl ?_
  refine g_aload_nR hC dX9_isFreeFor_14 rfl ?_
  obtain ⟨u9, eu9, h⟩ := h.2
  refine g_top0 eu9 ?_
  have hk10 := h.1
  refine gX_get (C0 := RX8) (T := TX8) (N := 11) (n := 7) (k := 6) (q := (706, false)) hC hX dX9_isFreeFor_15 q824 rfl in_X8 (by decide) (Or.inl rfl) rfl (by decide) hk10 ?_
  show GX _ _ _ _ _ _ _ (.int (xFI S 706 u9) :: _)
  refine g_aload_nR hC dX9_isFreeFor_18 rfl ?_
  refine g_top0 eu1 ?_
  refine gX_get (C0 := RX9) (T := TX9) (N := 9) (n := 8) (k := 8) (q := (808, true)) hC hX dX9_isFreeFor_19 q1056 rfl in_X9 (by decide) (Or.inl rfl) rfl (by decide) hk2 ?_
  show GX _ _ _ _ _ _ _ (va_rf (xFR S 808 u1) :: _)
  refine g_top0 eu3 ?_
  refine gX_getN (C0 := RX0) (T := TX0) (N := 15) (n := 0) (k := 1) (q := (1, true)) hC hX dX9_isFreeFor_22 q210 rfl in_X0 (by decide) rfl rfl (by decide) hk4 ?_
  show GX _ _ _ _ _ _ _ (va_rf (xFR S 1 u3) :: _)
  refine g_iload_n hC dX9_isFreeFor_25 rfl ?_
  refine g_top1 eu5 ?_
  refine gX_aald (n := 104) hC hX dX9_isFreeFor_26 (by decide) hk6 h.2.1 ?_
  refine g_top0 eu7 ?_
  refine gX_getN (C0 := RX2) (T := TX2) (N := 7) (n := 2) (k := 4) (q := (204, true)) hC hX dX9_isFreeFor_27 q185 rfl in_X2 (by decide) rfl rfl (by decide) hk8 ?_
  show GX _ _ _ _ _ _ _ (va_rf (xFR S 204 u7) :: _)
  refine g_iload_n hC dX9_isFreeFor_30 rfl ?_
  obtain ⟨u11, eu11, h⟩ := h.2.2
  refine g_top1 eu11 ?_
  have hk12 := h.1
  refine gX_iald hC hX dX9_isFreeFor_31 hk12 h.2.1 ?_
  refine g_icmp_le (tgt := 37) hC dX9_isFreeFor_32 (by decide) (fun c => ?_) (fun c => ?_)
  · have h := it_p c h.2.2
    refine g_iload_n hC dX9_isFreeFor_37 rfl ?_
    refine g_aload_nR hC dX9_isFreeFor_38 rfl ?_
    refine g_top0 eu1 ?_
    refine gX_get (C0 := RX9) (T := TX9) (N := 9) (n := 8) (k := 0) (q := (800, false)) hC hX dX9_isFreeFor_39 q1045 rfl in_X9 (by decide) (Or.inl rfl) rfl (by decide) hk2 ?_
    show GX _ _ _ _ _ _ _ (.int (xFI S 800 u1) :: _)
    refine g_icmp_ne (tgt := 84) hC dX9_isFreeFor_42 (by decide) (fun c => ?_) (fun c => ?_)
    · have h := it_n c h
      exact s_84 S x0 x1 x2 x3 (xFI S 200 u7) h
    · have h := it_p c h
      refine g_iload_n hC dX9_isFreeFor_45 rfl ?_
      refine g_aload_nR hC dX9_isFreeFor_46 rfl ?_
      refine g_top0 eu1 ?_
      refine gX_get (C0 := RX9) (T := TX9) (N := 9) (n := 8) (k := 5) (q := (805, false)) hC hX dX9_isFreeFor_47 q1050 rfl in_X9 (by decide) (Or.inl rfl) rfl (by decide) hk2 ?_
      show GX _ _ _ _ _ _ _ (.int (xFI S 805 u1) :: _)
      refine g_icmp_ne (tgt := 84) hC dX9_isFreeFor_50 (by decide) (fun c => ?_) (fun c => ?_)
      · have h := it_n c h
        exact s_84 S x0 x1 x2 x3 (xFI S 200 u7) h
      · have h := it_p c h
        refine g_aload_nR hC dX9_isFreeFor_53 rfl ?_
        refine g_top0 eu9 ?_
        refine gX_get (C0 := RX8) (T := TX8) (N := 11) (n := 7) (k := 3) (q := (703, false)) hC hX dX9_isFreeFor_54 q814 rfl in_X8 (by decide) (Or.inl rfl) rfl (by decide) hk10 ?_
        show GX _ _ _ _ _ _ _ (.int (xFI S 703 u9) :: _)
        refine g_aload_nR hC dX9_isFreeFor_57 rfl ?_
        refine g_top0 eu1 ?_
        refine gX_get (C0 := RX9) (T := TX9) (N := 9) (n := 8) (k := 1) (q := (801, false)) hC hX dX9_isFreeFor_58 q1046 rfl in_X9 (by decide) (Or.inl rfl) rfl (by decide) hk2 ?_
        show GX _ _ _ _ _ _ _ (.int (xFI S 801 u1) :: _)
        refine g_icmp_ne (tgt := 84) hC dX9_isFreeFor_61 (by decide) (fun c => ?_) (fun c => ?_)
        · have h := it_n c h
          exact s_84 S x0 x1 x2 x3 (xFI S 200 u7) h
        · have h := it_p c h
          refine g_aload_nR hC dX9_isFreeFor_64 rfl ?_
          refine g_aload_nR hC dX9_isFreeFor_65 rfl ?_
          refine g_top0 eu1 ?_
          refine gX_get (C0 := RX9) (T := TX9) (N := 9) (n := 8) (k := 2) (q := (802, false)) hC hX dX9_isFreeFor_66 q1047 rfl in_X9 (by decide) (Or.inl rfl) rfl (by decide) hk2 ?_
          show GX _ _ _ _ _ _ _ (.int (xFI S 802 u1) :: _)
          refine g_aload_nR hC dX9_isFreeFor_69 rfl ?_
          refine g_top0 eu1 ?_
          refine gX_get (C0 := RX9) (T := TX9) (N := 9) (n := 8) (k := 3) (q := (803, false)) hC hX dX9_isFreeFor_70 q1048 rfl in_X9 (by decide) (Or.inl rfl) rfl (by decide) hk2 ?_
          show GX _ _ _ _ _ _ _ (.int (xFI S 803 u1) :: _)
          refine g_iconst (v := 3) hC dX9_isFreeFor_73 (by decide) ?_
          refine g_iload hC dX9_isFreeFor_74 rfl ?_
          refine g_top4 eu9 ?_
          refine gX_ni hX (gX_runV (As := [.int (xFI S 802 u1), .int (xFI S 803 u1), .int (3 : Int32), .int (xFI S 200 u7)]) (rest := []) (Cr := RX8) hC hX (mx_X8_isAgainst (cx_l C) E _ _ _ _ _ _ _ h) (lw_V q1030 q967 q968 q96 q969) hx_X8_isAgainst rfl rfl (Or.inl (Nat.le_of_ble_eq_true rfl)) ⟨Nat.le_of_ble_eq_true rfl, Nat.le_of_ble_eq_true rfl⟩ dX9_isFreeFor_76 (Nat.zero_le _) (Nat.zero_le _) hk10 rfl (by decide) rfl) rfl rfl ?_
          intro r53 S52 h
          refine g_if_eq (tgt := 84) hC dX9_isFreeFor_79 (by decide) (fun c => ?_) (fun c => ?_)
          · have h := it_p c h
            exact s_84 S52 x0 x1 x2 x3 (xFI S 200 u7) h
          · have h := it_n c h
            refine g_iconst (v := 0) hC dX9_isFreeFor_82 (by decide) ?_
            refine gX_zret rfl rfl hC hA hQ dX9_isFreeFor_83 h
  · have h := it_n c h.2.2
    refine g_iconst (v := 0) hC dX9_isFreeFor_35 (by decide) ?_
    refine gX_zret rfl rfl hC hA hQ dX9_isFreeFor_36 h
theorem mx_X9_isFreeFor (l : Launch) (E : XE) (Q : Int32 → XS → Prop) (S : XS) (x0 : Option Nat) (x1 : Option Nat) (x2 : Int32) (x3 : Int32) (h : wx_X9_isFreeFor Q S x0 x1 x2 x3) : XMet E l yX9_isFreeFor cX9_isFreeFor 9 (some .boolean) ({ frames := 4, cells := 0, slots := 0, locals := 98 } : Room) [va_rf x0, va_rf x1, .int x2, .int x3] S (fun sz => va_Qi Q (BX1 E S sz) (xA S sz)) :=
  XMet_of (rm := ({ frames := 4, cells := 0, slots := 0, locals := 98 } : Room)) (by decide) (by simp [lg_sl, va_rf_cat, cat_i, cat_l]) (L0 := [some (va_rf x0), some (va_rf x1), some (.int x2), some (.int x3), none, none, none, none, none]) (by simp [lx_pairs, lv_args, va_rf_cat, cat_i, cat_l, List.range_succ]) (fun sz C hC hX hl hnm hA hQ => bx_X9_isFreeFor E C S sz Q S x0 x1 x2 x3 hC hX hA hQ h)
