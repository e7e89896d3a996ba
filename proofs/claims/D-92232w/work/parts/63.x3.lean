/-! X6_rule -/
def wx_X6_rule_78 (Q : XS → Prop) (X : Nat → XS → Prop) (mc ms : Nat) (S : XS) (a0 : Option Nat) (a1 : Option Nat) (a2 : Option Nat) (s0 : Option Nat) (s1 : Int32) : Prop :=
  dr s0 (fun u7 => xKD S u7 = some 5 ∧ (∃ k9 n10, k9 ≤ mc ∧ n10 ≤ ms ∧ wx_X6_must (fun S14 => dr a0 (fun u16 => xKD S14 u16 = some 5 ∧ (∃ k18 n19, k18 ≤ (mc - k9) ∧ n19 ≤ (ms - n10) ∧ wx_X6_next (fun S20 => xKD S20 u16 = some 5 ∧ dr a2 (fun u23 => xKD (sFI S20 506 u16 ((xFI S20 506 u16) + (1 : Int32))) u23 = some 17 ∧ wx_J8_equals (fun r26 S25 => (if r26 = 0 then xKD S25 u23 = some 17 ∧ wx_J8_equals (fun r29 S28 => (if r29 = 0 then xKD S28 u23 = some 17 ∧ wx_J8_equals (fun r32 S31 => (if r32 = 0 then xKD S31 u23 = some 17 ∧ wx_J8_equals (fun r35 S34 => (if r35 = 0 then xKD S34 u23 = some 17 ∧ wx_J8_equals (fun r38 S37 => (if r38 = 0 then xKD S37 u16 = some 5 ∧ (∃ k40 n41, k40 ≤ ((mc - k9) - k18) ∧ n41 ≤ ((ms - n10) - n19) ∧ wx_X6_first (fun S45 => Q S45) (fun q42 S43 => X q42 S43) k40 n41 S37 (some u16) a1) else xKD S37 u16 = some 5 ∧ (∃ k48 n49, k48 ≤ ((mc - k9) - k18) ∧ n49 ≤ ((ms - n10) - n19) ∧ wx_X6_figure (fun r54 S53 => dr a1 (fun u55 => xKD S53 u55 = some 2 ∧ xKD S53 u16 = some 5 ∧ (∃ k58 n59, k58 ≤ (((mc - k9) - k18) - k48) ∧ n59 ≤ (((ms - n10) - n19) - n49) ∧ wx_X6_figure (fun r64 S63 => dr (xFR S53 204 u55) (fun u65 => xKD S63 u65 = some 100 ∧ vp_in r54 (xLN S63 u65) ∧ Q (sAI S63 u65 (Int32.toNatClampNeg r54) r64))) (fun q60 S61 => X q60 S61) k58 n59 S53 (some u16) (500 : Int32)))) (fun q50 S51 => X q50 S51) k48 n49 S37 (some u16) (1 : Int32)))) S34 (some u23) (some (xST S34 24)) else xKD S34 u16 = some 5 ∧ (∃ k68 n69, k68 ≤ ((mc - k9) - k18) ∧ n69 ≤ ((ms - n10) - n19) ∧ wx_X6_figure (fun r74 S73 => dr a1 (fun u75 => xKD S73 u75 = some 2 ∧ xKD (sFI S73 202 u75 r74) u16 = some 5 ∧ (∃ k78 n79, k78 ≤ (((mc - k9) - k18) - k68) ∧ n79 ≤ (((ms - n10) - n19) - n69) ∧ wx_X6_figure (fun r84 S83 => xKD S83 u75 = some 2 ∧ Q (sFI S83 203 u75 r84)) (fun q80 S81 => X q80 S81) k78 n79 (sFI S73 202 u75 r74) (some u16) (100 : Int32)))) (fun q70 S71 => X q70 S71) k68 n69 S34 (some u16) (60 : Int32)))) S31 (some u23) (some (xST S31 23)) else xKD S31 u16 = some 5 ∧ (∃ k87 n88, k87 ≤ ((mc - k9) - k18) ∧ n88 ≤ ((ms - n10) - n19) ∧ wx_X6_use (fun r93 S92 => dr a1 (fun u94 => xKD S92 u94 = some 2 ∧ xKD S92 u16 = some 5 ∧ (∃ k97 n98, k97 ≤ (((mc - k9) - k18) - k87) ∧ n98 ≤ (((ms - n10) - n19) - n88) ∧ wx_X6_figure (fun r103 S102 => dr (xFR S92 205 u94) (fun u104 => xKD S102 u104 = some 100 ∧ vp_in r93 (xLN S102 u104) ∧ Q (sAI S102 u104 (Int32.toNatClampNeg r93) r103))) (fun q99 S100 => X q99 S100) k97 n98 S92 (some u16) (1000 : Int32)))) (fun q89 S90 => X q89 S90) k87 n88 S31 (some u16)))) S28 (some u23) (some (xST S28 21)) else xKD S28 u16 = some 5 ∧ (∃ k107 n108, k107 ≤ ((mc - k9) - k18) ∧ n108 ≤ ((ms - n10) - n19) ∧ wx_X6_figure (fun r113 S112 => dr a1 (fun u114 => xKD S112 u114 = some 2 ∧ Q (sFI S112 201 u114 r113))) (fun q109 S110 => X q109 S110) k107 n108 S28 (some u16) (50 : Int32)))) S25 (some u23) (some (xST S25 20)) else xKD S25 u16 = some 5 ∧ (∃ k117 n118, k117 ≤ ((mc - k9) - k18) ∧ n118 ≤ ((ms - n10) - n19) ∧ wx_X6_figure (fun r123 S122 => dr a1 (fun u124 => xKD S122 u124 = some 2 ∧ Q (sFI S122 200 u124 r123))) (fun q119 S120 => X q119 S120) k117 n118 S25 (some u16) (8 : Int32)))) (sFI S20 506 u16 ((xFI S20 506 u16) + (1 : Int32))) (some u23) (some (xST (sFI S20 506 u16 ((xFI S20 506 u16) + (1 : Int32))) 19)))) k18 n19 S14 (some u16)))) (fun q11 S12 => X q11 S12) k9 n10 S (some u7) s1 (1 : Int32)))
def wx_X6_rule_73 (Q : XS → Prop) (X : Nat → XS → Prop) (mc ms : Nat) (S : XS) (a0 : Option Nat) (a1 : Option Nat) (a2 : Option Nat) (s0 : Option Nat) : Prop :=
  wx_X6_rule_78 Q X mc ms S a0 a1 a2 s0 (1 : Int32)
def wx_X6_rule_17 (Q : XS → Prop) (X : Nat → XS → Prop) (mc ms : Nat) (S : XS) (a0 : Option Nat) (a1 : Option Nat) (s0 : Option Nat) : Prop :=
  dr s0 (fun u3 => xKD S u3 = some 17 ∧ wx_J8_equals (fun r6 S5 => (if r6 = 0 then xKD S5 u3 = some 17 ∧ wx_J8_equals (fun r128 S127 => (if r128 = 0 then xKD S127 u3 = some 17 ∧ wx_J8_equals (fun r131 S130 => (if r131 = 0 then xKD S130 u3 = some 17 ∧ wx_J8_equals (fun r134 S133 => (if r134 = 0 then xKD S133 u3 = some 17 ∧ wx_J8_equals (fun r137 S136 => (if r137 = 0 then xKD S136 u3 = some 17 ∧ wx_J8_equals (fun r140 S139 => (if r140 = 0 then wx_X6_rule_78 Q X mc ms S139 a0 a1 s0 a0 (0 : Int32) else wx_X6_rule_73 Q X mc ms S139 a0 a1 s0 a0)) S136 (some u3) (some (xST S136 24)) else wx_X6_rule_73 Q X mc ms S136 a0 a1 s0 a0)) S133 (some u3) (some (xST S133 23)) else wx_X6_rule_73 Q X mc ms S133 a0 a1 s0 a0)) S130 (some u3) (some (xST S130 22)) else wx_X6_rule_73 Q X mc ms S130 a0 a1 s0 a0)) S127 (some u3) (some (xST S127 21)) else wx_X6_rule_73 Q X mc ms S127 a0 a1 s0 a0)) S5 (some u3) (some (xST S5 20)) else wx_X6_rule_73 Q X mc ms S5 a0 a1 s0 a0)) S (some u3) (some (xST S 19)))
def wx_X6_rule (Q : XS → Prop) (X : Nat → XS → Prop) (mc ms : Nat) (S : XS) (x0 : Option Nat) (x1 : Option Nat) : Prop :=
  dr x0 (fun u1 => xKD S u1 = some 5 ∧ (if (xFI S 501 u1) = (1 : Int32) then wx_X6_rule_17 Q X mc ms S x0 x1 (xFR S 504 u1) else wx_X6_rule_17 Q X mc ms S x0 x1 (some (xST S 17))))
theorem hx_X6_rule : yX6_rule.cls = RX6 ∧ yX6_rule.cls ≠ "java/lang/invoke/MethodHandle" ∧ yX6_rule.cls ≠ "java/lang/invoke/VarHandle" ∧ (parseMethodDescriptor yX6_rule.desc).map (fun d => d.parameters.length) = some 1 := by decide +kernel
set_option maxHeartbeats 4000000 in
set_option maxRecDepth 100000 in
theorem bx_X6_rule (E : XE) (C : Cx) (S0 : XS) (sz : Nat) (Q : XS → Prop) (X : Nat → XS → Prop) (mc ms : Nat) (S : XS) (x0 : Option Nat) (x1 : Option Nat) (hC : COk C cX6_rule RX6 none 10 233 4) (hX : XOk E C) (hT : ∀ x ∈ (cx_c C).exceptionTable.toList, False) (hA : cx_A C = xA S0 sz) (hQ : cx_Q C = vx_MQ (cx_b C) (va_Qv Q (BX1 E S0 sz) (xA S0 sz)) (XC0 E S0 sz RX7 6 X) (cx_a C) (cx_s C) (cx_MC C) (cx_MS C) (xA S0 sz)) (h : wx_X6_rule Q X mc ms S x0 x1) : GX E C S mc ms 0 [some (va_rf x0), some (va_rf x1), none, none] [] := by
  have s_78 : ∀ (mc ms : Nat) (S : XS) (a0 : Option Nat) (a1 : Option Nat) (a2 : Option Nat) (s0 : Option Nat) (s1 : Int32), wx_X6_rule_78 Q X  mc ms S a0 a1 a2 s0 s1 → GX E C S mc ms 78 [some (va_rf a0), some (va_rf a1), some (va_rf a2), none] [.int s1, va_rf s0] := by
    intro  mc ms S a0 a1 a2 s0 s1 h
    refine g_iconst (v := 1) hC dX6_rule_78 (by decide) ?_
    obtain ⟨u7, eu7, h⟩ := h
    refine g_top2 eu7 ?_
    have hk8 := h.1
    obtain ⟨k9, n10, hk9, hn10, h⟩ := h.2
    refine gX_xv hX (gX_xrunV (As := [.int s1, .int (1 : Int32)]) (rest := []) (Cr := RX6) hC hX (mx_X6_must (cx_l C) E k9 n10 _ _ _ _ _ _ h) (lw_V q688 q690 qs8 q86 q691) hx_X6_must rfl rfl (Or.inl (Nat.le_of_ble_eq_true rfl)) ⟨Nat.le_of_ble_eq_true rfl, Nat.le_of_ble_eq_true rfl⟩ dX6_rule_79 hk9 hn10 hk8 rfl (by decide) rfl) hk9 hn10 (fun q11 S12 h hk13 => ?_) ?_
    · exact gT_out (r := (RX7, TX7, 8)) hC hX hT hA hQ hk13 rfl (by decide) h
    intro S14 h
    refine g_aload_nR hC dX6_rule_82 rfl ?_
    obtain ⟨u16, eu16, h⟩ := h
    refine g_top0 eu16 ?_
    have hk17 := h.1
    obtain ⟨k18, n19, hk18, hn19, h⟩ := h.2
    refine gX_cv hX (gX_runV (As := []) (rest := []) (Cr := RX6) hC hX (mx_X6_next (cx_l C) E k18 n19 _ _ _ h) (lw_V q477 q479 qs4 q86 q480) hx_X6_next rfl rfl (Or.inl (Nat.le_of_ble_eq_true rfl)) ⟨Nat.le_of_ble_eq_true rfl, Nat.le_of_ble_eq_true rfl⟩ dX6_rule_83 hk18 hn19 hk17 rfl (by decide) rfl) hk18 hn19 ?_
    intro S20 h
    refine g_aload_nR hC dX6_rule_86 rfl ?_
    refine g_dup hC dX6_rule_87 (va_rf_cat _) ?_
    refine g_top0 eu16 ?_
    have hk22 := h.1
    refine gX_get (C0 := RX6) (T := TX6) (N := 8) (n := 5) (k := 6) (q := (506, false)) hC hX dX6_rule_88 q453 rfl in_X6 (by decide) (Or.inl rfl) rfl (by decide) hk22 ?_
    show GX _ _ _ _ _ _ _ (.int (xFI S20 506 u16) :: _)
    refine g_iconst (v := 1) hC dX6_rule_91 (by decide) ?_
    refine g_iadd hC dX6_rule_92 ?_
    refine g_top1 eu16 ?_
    refine gX_putI (C0 := RX6) (T := TX6) (ty0 := tyX6) (N := 8) (n := 5) (k := 6) (f := 506) hC hX dX6_rule_93 q453 rfl in_X6 tyX6_ok nmX6 (by decide) (Or.inl rfl) rfl rfl rfl rfl rfl (by decide) (Or.inl (by decide)) hk22 ?_
    refine g_aload_nR hC dX6_rule_96 rfl ?_
    refine gX_ldcs (j := 19) (tx := "setup") hC hX dX6_rule_97 (List.mem_of_getElem? (i := 9) rfl) ?_
    obtain ⟨u23, eu23, h⟩ := h.2
    refine g_top1 eu23 ?_
    have hk24 := h.1
    refine gX_ni hX (gX_runV17 (n := 1) (As := [va_rf (some (xST (sFI S20 506 u16 ((xFI S20 506 u16) + (1 : Int32))) 19))]) (rest := []) hC hX (mx_J8_equals (cx_l C) E _ _ _ _ h.2) (lw_V q676 q677 q678 q84 q679) hx_J8_equals rfl rfl (Or.inl (Nat.le_of_ble_eq_true rfl)) ⟨Nat.le_of_ble_eq_true rfl, Nat.le_of_ble_eq_true rfl⟩ dX6_rule_99 (Nat.zero_le _) (Nat.zero_le _) hk24) rfl rfl ?_
    intro r26 S25 h
    refine g_if_eq (tgt := 118) hC dX6_rule_102 (by decide) (fun c => ?_) (fun c => ?_)
    · have h := it_p c h
      refine g_aload_nR hC dX6_rule_118 rfl ?_
      refine gX_ldcs (j := 20) (tx := "licences") hC hX dX6_rule_119 (List.mem_of_getElem? (i := 10) rfl) ?_
      refine g_top1 eu23 ?_
      have hk27 := h.1
      refine gX_ni hX (gX_runV17 (n := 1) (As := [va_rf (some (xST S25 20))]) (rest := []) hC hX (mx_J8_equals (cx_l C) E _ _ _ _ h.2) (lw_V q676 q677 q678 q84 q679) hx_J8_equals rfl rfl (Or.inl (Nat.le_of_ble_eq_true rfl)) ⟨Nat.le_of_ble_eq_true rfl, Nat.le_of_ble_eq_true rfl⟩ dX6_rule_121 (Nat.zero_le _) (Nat.zero_le _) hk27) rfl rfl ?_
      intro r29 S28 h
      refine g_if_eq (tgt := 140) hC dX6_rule_124 (by decide) (fun c => ?_) (fun c => ?_)
      · have h := it_p c h
        refine g_aload_nR hC dX6_rule_140 rfl ?_
        refine gX_ldcs (j := 21) (tx := "rate") hC hX dX6_rule_141 (List.mem_of_getElem? (i := 11) rfl) ?_
        refine g_top1 eu23 ?_
        have hk30 := h.1
        refine gX_ni hX (gX_runV17 (n := 1) (As := [va_rf (some (xST S28 21))]) (rest := []) hC hX (mx_J8_equals (cx_l C) E _ _ _ _ h.2) (lw_V q676 q677 q678 q84 q679) hx_J8_equals rfl rfl (Or.inl (Nat.le_of_ble_eq_true rfl)) ⟨Nat.le_of_ble_eq_true rfl, Nat.le_of_ble_eq_true rfl⟩ dX6_rule_143 (Nat.zero_le _) (Nat.zero_le _) hk30) rfl rfl ?_
        intro r32 S31 h
        refine g_if_eq (tgt := 170) hC dX6_rule_146 (by decide) (fun c => ?_) (fun c => ?_)
        · have h := it_p c h
          refine g_aload_nR hC dX6_rule_170 rfl ?_
          refine gX_ldcs (j := 23) (tx := "late") hC hX dX6_rule_171 (List.mem_of_getElem? (i := 13) rfl) ?_
          refine g_top1 eu23 ?_
          have hk33 := h.1
          refine gX_ni hX (gX_runV17 (n := 1) (As := [va_rf (some (xST S31 23))]) (rest := []) hC hX (mx_J8_equals (cx_l C) E _ _ _ _ h.2) (lw_V q676 q677 q678 q84 q679) hx_J8_equals rfl rfl (Or.inl (Nat.le_of_ble_eq_true rfl)) ⟨Nat.le_of_ble_eq_true rfl, Nat.le_of_ble_eq_true rfl⟩ dX6_rule_173 (Nat.zero_le _) (Nat.zero_le _) hk33) rfl rfl ?_
          intro r35 S34 h
          refine g_if_eq (tgt := 202) hC dX6_rule_176 (by decide) (fun c => ?_) (fun c => ?_)
          · have h := it_p c h
            refine g_aload_nR hC dX6_rule_202 rfl ?_
            refine gX_ldcs (j := 24) (tx := "fire") hC hX dX6_rule_203 (List.mem_of_getElem? (i := 14) rfl) ?_
            refine g_top1 eu23 ?_
            have hk36 := h.1
            refine gX_ni hX (gX_runV17 (n := 1) (As := [va_rf (some (xST S34 24))]) (rest := []) hC hX (mx_J8_equals (cx_l C) E _ _ _ _ h.2) (lw_V q676 q677 q678 q84 q679) hx_J8_equals rfl rfl (Or.inl (Nat.le_of_ble_eq_true rfl)) ⟨Nat.le_of_ble_eq_true rfl, Nat.le_of_ble_eq_true rfl⟩ dX6_rule_205 (Nat.zero_le _) (Nat.zero_le _) hk36) rfl rfl ?_
            intro r38 S37 h
            refine g_if_eq (tgt := 233) hC dX6_rule_208 (by decide) (fun c => ?_) (fun c => ?_)
            · have h := it_p c h
              refine g_aload_nR hC dX6_rule_233 rfl ?_
              refine g_aload_nR hC dX6_rule_234 rfl ?_
              refine g_top1 eu16 ?_
              have hk39 := h.1
              obtain ⟨k40, n41, hk40, hn41, h⟩ := h.2
              refine gX_xv hX (gX_xrunV (As := [va_rf a1]) (rest := []) (Cr := RX6) hC hX (mx_X6_first (cx_l C) E k40 n41 _ _ _ _ _ h) (lw_V q735 q737 qs12 q86 q738) hx_X6_first rfl rfl (Or.inl (Nat.le_of_ble_eq_true rfl)) ⟨Nat.le_of_ble_eq_true rfl, Nat.le_of_ble_eq_true rfl⟩ dX6_rule_235 hk40 hn41 hk39 rfl (by decide) rfl) hk40 hn41 (fun q42 S43 h hk44 => ?_) ?_
              · exact gT_out (r := (RX7, TX7, 8)) hC hX hT hA hQ hk44 rfl (by decide) h
              intro S45 h
              refine gX_end hQ (gX_vret (C := cx_to C _) hC hA rfl rfl dX6_rule_238 h)
            · have h := it_n c h
              refine g_aload_nR hC dX6_rule_211 rfl ?_
              refine g_iconst (v := 1) hC dX6_rule_212 (by decide) ?_
              refine g_top1 eu16 ?_
              have hk47 := h.1
              obtain ⟨k48, n49, hk48, hn49, h⟩ := h.2
              refine gX_xi hX (gX_xrunV (As := [.int (1 : Int32)]) (rest := []) (Cr := RX6) hC hX (mx_X6_figure (cx_l C) E k48 n49 _ _ _ _ _ h) (lw_V q684 q686 qs7 q86 q687) hx_X6_figure rfl rfl (Or.inl (Nat.le_of_ble_eq_true rfl)) ⟨Nat.le_of_ble_eq_true rfl, Nat.le_of_ble_eq_true rfl⟩ dX6_rule_213 hk48 hn49 hk47 rfl (by decide) rfl) hk48 hn49 (fun q50 S51 h hk52 => ?_) ?_
              · exact gT_out (r := (RX7, TX7, 8)) hC hX hT hA hQ hk52 rfl (by decide) h
              intro r54 S53 h
              refine g_istore_n hC dX6_rule_216 rfl (by decide) (lx_okR (j := 2) rfl) rfl ?_
              refine g_sub [true, true, false, true] rfl ?_
              refine g_aload_nR hC dX6_rule_217 rfl ?_
              obtain ⟨u55, eu55, h⟩ := h
              refine g_top0 eu55 ?_
              have hk56 := h.1
              refine gX_getN (C0 := RX2) (T := TX2) (N := 7) (n := 2) (k := 4) (q := (204, true)) hC hX dX6_rule_218 q186 rfl in_X2 (by decide) rfl rfl (by decide) hk56 ?_
              show GX _ _ _ _ _ _ _ (va_rf (xFR S53 204 u55) :: _)
              refine g_iload_n hC dX6_rule_221 rfl ?_
              refine g_aload_nR hC dX6_rule_222 rfl ?_
              refine g_sipush (v := 500) hC dX6_rule_223 (by decide) ?_
              refine g_top1 eu16 ?_
              have hk57 := h.2.1
              obtain ⟨k58, n59, hk58, hn59, h⟩ := h.2.2
              refine gX_xi hX (gX_xrunV (As := [.int (500 : Int32)]) (rest := [.int r54, va_rf (xFR S53 204 u55)]) (Cr := RX6) hC hX (mx_X6_figure (cx_l C) E k58 n59 _ _ _ _ _ h) (lw_V q684 q686 qs7 q86 q687) hx_X6_figure rfl rfl (Or.inl (Nat.le_of_ble_eq_true rfl)) ⟨Nat.le_of_ble_eq_true rfl, Nat.le_of_ble_eq_true rfl⟩ dX6_rule_226 hk58 hn59 hk57 rfl (by decide) rfl) hk58 hn59 (fun q60 S61 h hk62 => ?_) ?_
              · exact gT_out (r := (RX7, TX7, 8)) hC hX hT hA hQ hk62 rfl (by decide) h
              intro r64 S63 h
              obtain ⟨u65, eu65, h⟩ := h
              refine g_top2 eu65 ?_
              have hk66 := h.1
              refine gX_iast hC hX dX6_rule_229 hk66 h.2.1 ?_
              refine g_goto (tgt := 238) hC dX6_rule_230 (by decide) ?_
              refine gX_end hQ (gX_vret (C := cx_to C _) hC hA rfl rfl dX6_rule_238 h.2.2)
          · have h := it_n c h
            refine g_aload_nR hC dX6_rule_179 rfl ?_
            refine g_aload_nR hC dX6_rule_180 rfl ?_
            refine g_bipush (v := 60) hC dX6_rule_181 (by decide) ?_
            refine g_top1 eu16 ?_
            have hk67 := h.1
            obtain ⟨k68, n69, hk68, hn69, h⟩ := h.2
            refine gX_xi hX (gX_xrunV (As := [.int (60 : Int32)]) (rest := [va_rf a1]) (Cr := RX6) hC hX (mx_X6_figure (cx_l C) E k68 n69 _ _ _ _ _ h) (lw_V q684 q686 qs7 q86 q687) hx_X6_figure rfl rfl (Or.inl (Nat.le_of_ble_eq_true rfl)) ⟨Nat.le_of_ble_eq_true rfl, Nat.le_of_ble_eq_true rfl⟩ dX6_rule_183 hk68 hn69 hk67 rfl (by decide) rfl) hk68 hn69 (fun q70 S71 h hk72 => ?_) ?_
            · exact gT_out (r := (RX7, TX7, 8)) hC hX hT hA hQ hk72 rfl (by decide) h
            intro r74 S73 h
            obtain ⟨u75, eu75, h⟩ := h
            refine g_top1 eu75 ?_
            have hk76 := h.1
            refine gX_putIN (C0 := RX2) (T := TX2) (ty0 := tyX2) (N := 7) (n := 2) (k := 2) (f := 202) hC hX dX6_rule_186 q179 rfl in_X2 tyX2_ok nmX2 (by decide) (Or.inl rfl) rfl rfl rfl rfl rfl (by decide) (Or.inl (by decide)) hk76 ?_
            refine g_aload_nR hC dX6_rule_189 rfl ?_
            refine g_aload_nR hC dX6_rule_190 rfl ?_
            refine g_bipush (v := 100) hC dX6_rule_191 (by decide) ?_
            refine g_top1 eu16 ?_
            have hk77 := h.2.1
            obtain ⟨k78, n79, hk78, hn79, h⟩ := h.2.2
            refine gX_xi hX (gX_xrunV (As := [.int (100 : Int32)]) (rest := [va_rf a1]) (Cr := RX6) hC hX (mx_X6_figure (cx_l C) E k78 n79 _ _ _ _ _ h) (lw_V q684 q686 qs7 q86 q687) hx_X6_figure rfl rfl (Or.inl (Nat.le_of_ble_eq_true rfl)) ⟨Nat.le_of_ble_eq_true rfl, Nat.le_of_ble_eq_true rfl⟩ dX6_rule_193 hk78 hn79 hk77 rfl (by decide) rfl) hk78 hn79 (fun q80 S81 h hk82 => ?_) ?_
            · exact gT_out (r := (RX7, TX7, 8)) hC hX hT hA hQ hk82 rfl (by decide) h
            intro r84 S83 h
            refine g_top1 eu75 ?_
            have hk85 := h.1
            refine gX_putIN (C0 := RX2) (T := TX2) (ty0 := tyX2) (N := 7) (n := 2) (k := 3) (f := 203) hC hX dX6_rule_196 q182 rfl in_X2 tyX2_ok nmX2 (by decide) (Or.inl rfl) rfl rfl rfl rfl rfl (by decide) (Or.inl (by decide)) hk85 ?_
            refine g_goto (tgt := 238) hC dX6_rule_199 (by decide) ?_
            refine gX_end hQ (gX_vret (C := cx_to C _) hC hA rfl rfl dX6_rule_238 h.2)
        · have h := it_n c h
          refine g_aload_nR hC dX6_rule_149 rfl ?_
          refine g_top0 eu16 ?_
          have hk86 := h.1
          obtain ⟨k87, n88, hk87, hn88, h⟩ := h.2
          refine gX_xi hX (gX_xrunV (As := []) (rest := []) (Cr := RX6) hC hX (mx_X6_use (cx_l C) E k87 n88 _ _ _ _ h) (lw_V q725 q727 qs10 q86 q728) hx_X6_use rfl rfl (Or.inl (Nat.le_of_ble_eq_true rfl)) ⟨Nat.le_of_ble_eq_true rfl, Nat.le_of_ble_eq_true rfl⟩ dX6_rule_150 hk87 hn88 hk86 rfl (by decide) rfl) hk87 hn88 (fun q89 S90 h hk91 => ?_) ?_
          · exact gT_out (r := (RX7, TX7, 8)) hC hX hT hA hQ hk91 rfl (by decide) h
          intro r93 S92 h
          refine g_istore_n hC dX6_rule_153 rfl (by decide) (lx_okR (j := 2) rfl) rfl ?_
          refine g_sub [true, true, false, true] rfl ?_
          refine g_aload_nR hC dX6_rule_154 rfl ?_
          obtain ⟨u94, eu94, h⟩ := h
          refine g_top0 eu94 ?_
          have hk95 := h.1
          refine gX_getN (C0 := RX2) (T := TX2) (N := 7) (n := 2) (k := 5) (q := (205, true)) hC hX dX6_rule_155 q189 rfl in_X2 (by decide) rfl rfl (by decide) hk95 ?_
          show GX _ _ _ _ _ _ _ (va_rf (xFR S92 205 u94) :: _)
          refine g_iload_n hC dX6_rule_158 rfl ?_
          refine g_aload_nR hC dX6_rule_159 rfl ?_
          refine g_sipush (v := 1000) hC dX6_rule_160 (by decide) ?_
          refine g_top1 eu16 ?_
          have hk96 := h.2.1
          obtain ⟨k97, n98, hk97, hn98, h⟩ := h.2.2
          refine gX_xi hX (gX_xrunV (As := [.int (1000 : Int32)]) (rest := [.int r93, va_rf (xFR S92 205 u94)]) (Cr := RX6) hC hX (mx_X6_figure (cx_l C) E k97 n98 _ _ _ _ _ h) (lw_V q684 q686 qs7 q86 q687) hx_X6_figure rfl rfl (Or.inl (Nat.le_of_ble_eq_true rfl)) ⟨Nat.le_of_ble_eq_true rfl, Nat.le_of_ble_eq_true rfl⟩ dX6_rule_163 hk97 hn98 hk96 rfl (by decide) rfl) hk97 hn98 (fun q99 S100 h hk101 => ?_) ?_
          · exact gT_out (r := (RX7, TX7, 8)) hC hX hT hA hQ hk101 rfl (by decide) h
          intro r103 S102 h
          obtain ⟨u104, eu104, h⟩ := h
          refine g_top2 eu104 ?_
          have hk105 := h.1
          refine gX_iast hC hX dX6_rule_166 hk105 h.2.1 ?_
          refine g_goto (tgt := 238) hC dX6_rule_167 (by decide) ?_
          refine gX_end hQ (gX_vret (C := cx_to C _) hC hA rfl rfl dX6_rule_238 h.2.2)
      · have h := it_n c h
        refine g_aload_nR hC dX6_rule_127 rfl ?_
        refine g_aload_nR hC dX6_rule_128 rfl ?_
        refine g_bipush (v := 50) hC dX6_rule_129 (by decide) ?_
        refine g_top1 eu16 ?_
        have hk106 := h.1
        obtain ⟨k107, n108, hk107, hn108, h⟩ := h.2
        refine gX_xi hX (gX_xrunV (As := [.int (50 : Int32)]) (rest := [va_rf a1]) (Cr := RX6) hC hX (mx_X6_figure (cx_l C) E k107 n108 _ _ _ _ _ h) (lw_V q684 q686 qs7 q86 q687) hx_X6_figure rfl rfl (Or.inl (Nat.le_of_ble_eq_true rfl)) ⟨Nat.le_of_ble_eq_true rfl, Nat.le_of_ble_eq_true rfl⟩ dX6_rule_131 hk107 hn108 hk106 rfl (by decide) rfl) hk107 hn108 (fun q109 S110 h hk111 => ?_) ?_
        · exact gT_out (r := (RX7, TX7, 8)) hC hX hT hA hQ hk111 rfl (by decide) h
        intro r113 S112 h
        obtain ⟨u114, eu114, h⟩ := h
        refine g_top1 eu114 ?_
        have hk115 := h.1
        refine gX_putIN (C0 := RX2) (T := TX2) (ty0 := tyX2) (N := 7) (n := 2) (k := 1) (f := 201) hC hX dX6_rule_134 q176 rfl in_X2 tyX2_ok nmX2 (by decide) (Or.inl rfl) rfl rfl rfl rfl rfl (by decide) (Or.inl (by decide)) hk115 ?_
        refine g_goto (tgt := 238) hC dX6_rule_137 (by decide) ?_
        refine gX_end hQ (gX_vret (C := cx_to C _) hC hA rfl rfl dX6_rule_238 h.2)
    · have h := it_n c h
      refine g_aload_nR hC dX6_rule_105 rfl ?_
      refine g_aload_nR hC dX6_rule_106 rfl ?_
      refine g_bipush (v := 8) hC dX6_rule_107 (by decide) ?_
      refine g_top1 eu16 ?_
      have hk116 := h.1
      obtain ⟨k117, n118, hk117, hn118, h⟩ := h.2
      refine gX_xi hX (gX_xrunV (As := [.int (8 : Int32)]) (rest := [va_rf a1]) (Cr := RX6) hC hX (mx_X6_figure (cx_l C) E k117 n118 _ _ _ _ _ h) (lw_V q684 q686 qs7 q86 q687) hx_X6_figure rfl rfl (Or.inl (Nat.le_of_ble_eq_true rfl)) ⟨Nat.le_of_ble_eq_true rfl, Nat.le_of_ble_eq_true rfl⟩ dX6_rule_109 hk117 hn118 hk116 rfl (by decide) rfl) hk117 hn118 (fun q119 S120 h hk121 => ?_) ?_
      · exact gT_out (r := (RX7, TX7, 8)) hC hX hT hA hQ hk121 rfl (by decide) h
      intro r123 S122 h
      obtain ⟨u124, eu124, h⟩ := h
      refine g_top1 eu124 ?_
      have hk125 := h.1
      refine gX_putIN (C0 := RX2) (T := TX2) (ty0 := tyX2) (N := 7) (n := 2) (k := 0) (f := 200) hC hX dX6_rule_112 q173 rfl in_X2 tyX2_ok nmX2 (by decide) (Or.inl rfl) rfl rfl rfl rfl rfl (by decide) (Or.inl (by decide)) hk125 ?_
      refine g_goto (tgt := 238) hC dX6_rule_115 (by decide) ?_
      refine gX_end hQ (gX_vret (C := cx_to C _) hC hA rfl rfl dX6_rule_238 h.2)
  have s_73 : ∀ (mc ms : Nat) (S : XS) (a0 : Option Nat) (a1 : Option Nat) (a2 : Option Nat) (s0 : Option Nat), wx_X6_rule_73 Q X  mc ms S a0 a1 a2 s0 → GX E C S mc ms 73 [some (va_rf a0), some (va_rf a1), some (va_rf a2), none] [va_rf s0] := by
    intro  mc ms S a0 a1 a2 s0 h
    refine g_iconst (v := 1) hC dX6_rule_73 (by decide) ?_
    refine g_goto (tgt := 78) hC dX6_rule_74 (by decide) ?_
    exact s_78 mc ms S a0 a1 a2 s0 (1 : Int32) h
  have s_17 : ∀ (mc ms : Nat) (S : XS) (a0 : Option Nat) (a1 : Option Nat) (s0 : Option Nat), wx_X6_rule_17 Q X  mc ms S a0 a1 s0 → GX E C S mc ms 17 [some (va_rf a0), some (va_rf a1), none, none] [va_rf s0] := by
    intro  mc ms S a0 a1 s0 h
    refine g_astore_nR hC dX6_rule_17 rfl (by decide) (lx_okR (j := 1) rfl) rfl ?_
    refine g_aload_nR hC dX6_rule_18 rfl ?_
    refine g_aload_nR hC dX6_rule_19 rfl ?_
    refine gX_ldcs (j := 19) (tx := "setup") hC hX dX6_rule_20 (List.mem_of_getElem? (i := 9) rfl) ?_
    obtain ⟨u3, eu3, h⟩ := h
    refine g_top1 eu3 ?_
    have hk4 := h.1
    refine gX_ni hX (gX_runV17 (n := 1) (As := [va_rf (some (xST S 19))]) (rest := [va_rf a0]) hC hX (mx_J8_equals (cx_l C) E _ _ _ _ h.2) (lw_V q676 q677 q678 q84 q679) hx_J8_equals rfl rfl (Or.inl (Nat.le_of_ble_eq_true rfl)) ⟨Nat.le_of_ble_eq_true rfl, Nat.le_of_ble_eq_true rfl⟩ dX6_rule_22 (Nat.zero_le _) (Nat.zero_le _) hk4) rfl rfl ?_
    intro r6 S5 h
    refine g_if_ne (tgt := 73) hC dX6_rule_25 (by decide) (fun c => ?_) (fun c => ?_)
    · have h := it_n c h
      exact s_73 mc ms S5 a0 a1 s0 a0 h
    · have h := it_p c h
      refine g_aload_nR hC dX6_rule_28 rfl ?_
      refine gX_ldcs (j := 20) (tx := "licences") hC hX dX6_rule_29 (List.mem_of_getElem? (i := 10) rfl) ?_
      refine g_top1 eu3 ?_
      have hk126 := h.1
      refine gX_ni hX (gX_runV17 (n := 1) (As := [va_rf (some (xST S5 20))]) (rest := [va_rf a0]) hC hX (mx_J8_equals (cx_l C) E _ _ _ _ h.2) (lw_V q676 q677 q678 q84 q679) hx_J8_equals rfl rfl (Or.inl (Nat.le_of_ble_eq_true rfl)) ⟨Nat.le_of_ble_eq_true rfl, Nat.le_of_ble_eq_true rfl⟩ dX6_rule_31 (Nat.zero_le _) (Nat.zero_le _) hk126) rfl rfl ?_
      intro r128 S127 h
      refine g_if_ne (tgt := 73) hC dX6_rule_34 (by decide) (fun c => ?_) (fun c => ?_)
      · have h := it_n c h
        exact s_73 mc ms S127 a0 a1 s0 a0 h
      · have h := it_p c h
        refine g_aload_nR hC dX6_rule_37 rfl ?_
        refine gX_ldcs (j := 21) (tx := "rate") hC hX dX6_rule_38 (List.mem_of_getElem? (i := 11) rfl) ?_
        refine g_top1 eu3 ?_
        have hk129 := h.1
        refine gX_ni hX (gX_runV17 (n := 1) (As := [va_rf (some (xST S127 21))]) (rest := [va_rf a0]) hC hX (mx_J8_equals (cx_l C) E _ _ _ _ h.2) (lw_V q676 q677 q678 q84 q679) hx_J8_equals rfl rfl (Or.inl (Nat.le_of_ble_eq_true rfl)) ⟨Nat.le_of_ble_eq_true rfl, Nat.le_of_ble_eq_true rfl⟩ dX6_rule_40 (Nat.zero_le _) (Nat.zero_le _) hk129) rfl rfl ?_
        intro r131 S130 h
        refine g_if_ne (tgt := 73) hC dX6_rule_43 (by decide) (fun c => ?_) (fun c => ?_)
        · have h := it_n c h
          exact s_73 mc ms S130 a0 a1 s0 a0 h
        · have h := it_p c h
          refine g_aload_nR hC dX6_rule_46 rfl ?_
          refine gX_ldcs (j := 22) (tx := "first") hC hX dX6_rule_47 (List.mem_of_getElem? (i := 12) rfl) ?_
          refine g_top1 eu3 ?_
          have hk132 := h.1
          refine gX_ni hX (gX_runV17 (n := 1) (As := [va_rf (some (xST S130 22))]) (rest := [va_rf a0]) hC hX (mx_J8_equals (cx_l C) E _ _ _ _ h.2) (lw_V q676 q677 q678 q84 q679) hx_J8_equals rfl rfl (Or.inl (Nat.le_of_ble_eq_true rfl)) ⟨Nat.le_of_ble_eq_true rfl, Nat.le_of_ble_eq_true rfl⟩ dX6_rule_49 (Nat.zero_le _) (Nat.zero_le _) hk132) rfl rfl ?_
          intro r134 S133 h
          refine g_if_ne (tgt := 73) hC dX6_rule_52 (by decide) (fun c => ?_) (fun c => ?_)
          · have h := it_n c h
            exact s_73 mc ms S133 a0 a1 s0 a0 h
          · have h := it_p c h
            refine g_aload_nR hC dX6_rule_55 rfl ?_
            refine gX_ldcs (j := 23) (tx := "late") hC hX dX6_rule_56 (List.mem_of_getElem? (i := 13) rfl) ?_
            refine g_top1 eu3 ?_
            have hk135 := h.1
            refine gX_ni hX (gX_runV17 (n := 1) (As := [va_rf (some (xST S133 23))]) (rest := [va_rf a0]) hC hX (mx_J8_equals (cx_l C) E _ _ _ _ h.2) (lw_V q676 q677 q678 q84 q679) hx_J8_equals rfl rfl (Or.inl (Nat.le_of_ble_eq_true rfl)) ⟨Nat.le_of_ble_eq_true rfl, Nat.le_of_ble_eq_true rfl⟩ dX6_rule_58 (Nat.zero_le _) (Nat.zero_le _) hk135) rfl rfl ?_
            intro r137 S136 h
            refine g_if_ne (tgt := 73) hC dX6_rule_61 (by decide) (fun c => ?_) (fun c => ?_)
            · have h := it_n c h
              exact s_73 mc ms S136 a0 a1 s0 a0 h
            · have h := it_p c h
              refine g_aload_nR hC dX6_rule_64 rfl ?_
              refine gX_ldcs (j := 24) (tx := "fire") hC hX dX6_rule_65 (List.mem_of_getElem? (i := 14) rfl) ?_
              refine g_top1 eu3 ?_
              have hk138 := h.1
              refine gX_ni hX (gX_runV17 (n := 1) (As := [va_rf (some (xST S136 24))]) (rest := [va_rf a0]) hC hX (mx_J8_equals (cx_l C) E _ _ _ _ h.2) (lw_V q676 q677 q678 q84 q679) hx_J8_equals rfl rfl (Or.inl (Nat.le_of_ble_eq_true rfl)) ⟨Nat.le_of_ble_eq_true rfl, Nat.le_of_ble_eq_true rfl⟩ dX6_rule_67 (Nat.zero_le _) (Nat.zero_le _) hk138) rfl rfl ?_
              intro r140 S139 h
              refine g_if_eq (tgt := 77) hC dX6_rule_70 (by decide) (fun c => ?_) (fun c => ?_)
              · have h := it_p c h
                refine g_iconst (v := 0) hC dX6_rule_77 (by decide) ?_
                exact s_78 mc ms S139 a0 a1 s0 a0 (0 : Int32) h
              · have h := it_n c h
                exact s_73 mc ms S139 a0 a1 s0 a0 h
  refine g_aload_nR hC dX6_rule_0 rfl ?_
  obtain ⟨u1, eu1, h⟩ := h
  refine g_top0 eu1 ?_
  have hk2 := h.1
  refine gX_get (C0 := RX6) (T := TX6) (N := 8) (n := 5) (k := 1) (q := (501, false)) hC hX dX6_rule_1 q447 rfl in_X6 (by decide) (Or.inl rfl) rfl (by decide) hk2 ?_
  show GX _ _ _ _ _ _ _ (.int (xFI S 501 u1) :: _)
  refine g_iconst (v := 1) hC dX6_rule_4 (by decide) ?_
  refine g_icmp_ne (tgt := 15) hC dX6_rule_5 (by decide) (fun c => ?_) (fun c => ?_)
  · have h := it_n c h.2
    refine gX_ldcs (j := 17) (tx := "") hC hX dX6_rule_15 (List.mem_of_getElem? (i := 7) rfl) ?_
    exact s_17 mc ms S x0 x1 (some (xST S 17)) h
  · have h := it_p c h.2
    refine g_aload_nR hC dX6_rule_8 rfl ?_
    refine g_top0 eu1 ?_
    refine gX_get (C0 := RX6) (T := TX6) (N := 8) (n := 5) (k := 4) (q := (504, true)) hC hX dX6_rule_9 q450 rfl in_X6 (by decide) (Or.inl rfl) rfl (by decide) hk2 ?_
    show GX _ _ _ _ _ _ _ (va_rf (xFR S 504 u1) :: _)
    refine g_goto (tgt := 17) hC dX6_rule_12 (by decide) ?_
    exact s_17 mc ms S x0 x1 (xFR S 504 u1) h
theorem mx_X6_rule (l : Launch) (E : XE) (mc ms : Nat) (Q : XS → Prop) (X : Nat → XS → Prop) (S : XS) (x0 : Option Nat) (x1 : Option Nat) (h : wx_X6_rule Q X mc ms S x0 x1) : XMetX E l yX6_rule cX6_rule 4 none ({ frames := 10, cells := mc, slots := ms, locals := 233 } : Room) [va_rf x0, va_rf x1] S (fun sz => va_Qv Q (BX1 E S sz) (xA S sz)) RX7 6 X :=
  XMetX_of (rm := ({ frames := 10, cells := mc, slots := ms, locals := 233 } : Room)) (by decide) (by simp [lg_sl, va_rf_cat, cat_i, cat_l]) (L0 := [some (va_rf x0), some (va_rf x1), none, none]) (by simp [lx_pairs, lv_args, va_rf_cat, cat_i, cat_l, List.range_succ]) (fun sz C hC hX hl hnm hT hA hQ => bx_X6_rule E C S sz Q X mc ms S x0 x1 hC hX hT hA hQ h)
/-! X6_all -/
def wx_X6_all_87 (Q : XS → Prop) (X : Nat → XS → Prop) (mc ms : Nat) (S : XS) (s0 : Option Nat) (s1 : Int32) : Prop :=
  dr s0 (fun u12 => xKD S u12 = some 5 ∧ (∃ k14 n15, k14 ≤ mc ∧ n15 ≤ ms ∧ wx_X6_must (fun S19 => Q S19) (fun q16 S17 => X q16 S17) k14 n15 S (some u12) s1 (1 : Int32)))
def wx_X6_all_63 (Q : XS → Prop) (X : Nat → XS → Prop) (K4 : Nat → Nat → XS → Option Nat → Prop) (mc ms : Nat) (S : XS) (a0 : Option Nat) (s0 : Option Nat) (s1 : Int32) : Prop :=
  dr s0 (fun u46 => xKD S u46 = some 5 ∧ (∃ k48 n49, k48 ≤ mc ∧ n49 ≤ ms ∧ wx_X6_must (fun S53 => dr a0 (fun u55 => xKD S53 u55 = some 5 ∧ (∃ k57 n58, k57 ≤ (mc - k48) ∧ n58 ≤ (ms - n49) ∧ wx_X6_next (fun S59 => K4 ((mc - k48) - k57) ((ms - n49) - n58) S59 a0) k57 n58 S53 (some u55)))) (fun q50 S51 => X q50 S51) k48 n49 S (some u46) s1 (1 : Int32)))
def wx_X6_all_33 (Q : XS → Prop) (X : Nat → XS → Prop) (K4 : Nat → Nat → XS → Option Nat → Prop) : Nat → Nat → Nat → XS → Option Nat → Option Nat → Prop
  | 0, _, _, _, _, _ => False
  | n + 1, mc, ms, S, a0, a1 => dr a0 (fun u44 => xKD S u44 = some 5 ∧ (if (xFI S 501 u44) = (1 : Int32) then (∃ k61 n62, k61 ≤ mc ∧ n62 ≤ ms ∧ wx_X6_rule (fun S66 => wx_X6_all_33 Q X K4 n (mc - k61) (ms - n62) S66 a0 a1) (fun q63 S64 => X q63 S64) k61 n62 S (some u44) a1) else (if (xFI S 501 u44) = (3 : Int32) then wx_X6_all_63 Q X K4 mc ms S a0 a0 (1 : Int32) else wx_X6_all_63 Q X K4 mc ms S a0 a0 (0 : Int32))))
def wx_X6_all_4 (Q : XS → Prop) (X : Nat → XS → Prop) : Nat → Nat → Nat → XS → Option Nat → Prop
  | 0, _, _, _, _ => False
  | n + 1, mc, ms, S, a0 => dr a0 (fun u7 => xKD S u7 = some 5 ∧ wx_X6_isWord (fun r10 S9 => (if r10 = 0 then xKD S9 u7 = some 5 ∧ (if (xFI S9 501 u7) = 0 then wx_X6_all_87 Q X mc ms S9 a0 (1 : Int32) else wx_X6_all_87 Q X mc ms S9 a0 (0 : Int32)) else xKD S9 u7 = some 5 ∧ (∃ k22 n23, k22 ≤ mc ∧ n23 ≤ ms ∧ wx_X6_next (fun S24 => xKD S24 u7 = some 5 ∧ (∃ k27 n28, k27 ≤ (mc - k22) ∧ n28 ≤ (ms - n23) ∧ wx_X6_figure (fun r33 S32 => dr (xFR S24 505 u7) (fun u34 => xKD S32 u34 = some 104 ∧ vp_in r33 (xLN S32 u34) ∧ xKD S32 u7 = some 5 ∧ (∃ k37 n38, k37 ≤ ((mc - k22) - k27) ∧ n38 ≤ ((ms - n23) - n28) ∧ wx_X6_rule (fun S42 => ∃ n68, wx_X6_all_33 Q X (wx_X6_all_4 Q X n) n68 (((mc - k22) - k27) - k37) (((ms - n23) - n28) - n38) S42 a0 (xAR S32 u34 (Int32.toNatClampNeg r33))) (fun q39 S40 => X q39 S40) k37 n38 S32 (some u7) (xAR S32 u34 (Int32.toNatClampNeg r33))))) (fun q29 S30 => X q29 S30) k27 n28 S24 (some u7) (3 : Int32))) k22 n23 S9 (some u7)))) S (some u7) (some (xST S 18)))
def wx_X6_all (Q : XS → Prop) (X : Nat → XS → Prop) (mc ms : Nat) (S : XS) (x0 : Option Nat) : Prop :=
  dr x0 (fun u1 => xKD S u1 = some 5 ∧ (∃ k3 n4, k3 ≤ mc ∧ n4 ≤ ms ∧ wx_X6_next (fun S5 => ∃ n69, wx_X6_all_4 Q X n69 (mc - k3) (ms - n4) S5 x0) k3 n4 S (some u1)))
theorem hx_X6_all : yX6_all.cls = RX6 ∧ yX6_all.cls ≠ "java/lang/invoke/MethodHandle" ∧ yX6_all.cls ≠ "java/lang/invoke/VarHandle" ∧ (parseMethodDescriptor yX6_all.desc).map (fun d => d.parameters.length) = some 0 := by decide +kernel
set_option maxHeartbeats 4000000 in
set_option maxRecDepth 100000 in
theorem bx_X6_all (E : XE) (C : Cx) (S0 : XS) (sz : Nat) (Q : XS → Prop) (X : Nat → XS → Prop) (mc ms : Nat) (S : XS) (x0 : Option Nat) (hC : COk C cX6_all RX6 none 11 256 2) (hX : XOk E C) (hT : ∀ x ∈ (cx_c C).exceptionTable.toList, False) (hA : cx_A C = xA S0 sz) (hQ : cx_Q C = vx_MQ (cx_b C) (va_Qv Q (BX1 E S0 sz) (xA S0 sz)) (XC0 E S0 sz RX7 6 X) (cx_a C) (cx_s C) (cx_MC C) (cx_MS C) (xA S0 sz)) (h : wx_X6_all Q X mc ms S x0) : GX E C S mc ms 0 [some (va_rf x0), none] [] := by
  have s_87 : ∀ (mc ms : Nat) (S : XS) (s0 : Option Nat) (s1 : Int32), wx_X6_all_87 Q X  mc ms S s0 s1 → GX E C S mc ms 87 [none, none] [.int s1, va_rf s0] := by
    intro  mc ms S s0 s1 h
    refine g_iconst (v := 1) hC dX6_all_87 (by decide) ?_
    obtain ⟨u12, eu12, h⟩ := h
    refine g_top2 eu12 ?_
    have hk13 := h.1
    obtain ⟨k14, n15, hk14, hn15, h⟩ := h.2
    refine gX_xv hX (gX_xrunV (As := [.int s1, .int (1 : Int32)]) (rest := []) (Cr := RX6) hC hX (mx_X6_must (cx_l C) E k14 n15 _ _ _ _ _ _ h) (lw_V q688 q690 qs8 q86 q691) hx_X6_must rfl rfl (Or.inl (Nat.le_of_ble_eq_true rfl)) ⟨Nat.le_of_ble_eq_true rfl, Nat.le_of_ble_eq_true rfl⟩ dX6_all_88 hk14 hn15 hk13 rfl (by decide) rfl) hk14 hn15 (fun q16 S17 h hk18 => ?_) ?_
    · exact gT_out (r := (RX7, TX7, 8)) hC hX hT hA hQ hk18 rfl (by decide) h
    intro S19 h
    refine gX_end hQ (gX_vret (C := cx_to C _) hC hA rfl rfl dX6_all_91 h)
  have s_63 : ∀ (K4 : Nat → Nat → XS → Option Nat → Prop) (hK4 : ∀ (mc ms : Nat) (S : XS) (b0 : Option Nat), K4 mc ms S b0 → GX E C S mc ms 4 [some (va_rf b0), none] []) (mc ms : Nat) (S : XS) (a0 : Option Nat) (s0 : Option Nat) (s1 : Int32), wx_X6_all_63 Q X K4 mc ms S a0 s0 s1 → GX E C S mc ms 63 [some (va_rf a0), none] [.int s1, va_rf s0] := by
    intro K4 hK4 mc ms S a0 s0 s1 h
    refine g_iconst (v := 1) hC dX6_all_63 (by decide) ?_
    obtain ⟨u46, eu46, h⟩ := h
    refine g_top2 eu46 ?_
    have hk47 := h.1
    obtain ⟨k48, n49, hk48, hn49, h⟩ := h.2
    refine gX_xv hX (gX_xrunV (As := [.int s1, .int (1 : Int32)]) (rest := []) (Cr := RX6) hC hX (mx_X6_must (cx_l C) E k48 n49 _ _ _ _ _ _ h) (lw_V q688 q690 qs8 q86 q691) hx_X6_must rfl rfl (Or.inl (Nat.le_of_ble_eq_true rfl)) ⟨Nat.le_of_ble_eq_true rfl, Nat.le_of_ble_eq_true rfl⟩ dX6_all_64 hk48 hn49 hk47 rfl (by decide) rfl) hk48 hn49 (fun q50 S51 h hk52 => ?_) ?_
    · exact gT_out (r := (RX7, TX7, 8)) hC hX hT hA hQ hk52 rfl (by decide) h
    intro S53 h
    refine g_aload_nR hC dX6_all_67 rfl ?_
    obtain ⟨u55, eu55, h⟩ := h
    refine g_top0 eu55 ?_
    have hk56 := h.1
    obtain ⟨k57, n58, hk57, hn58, h⟩ := h.2
    refine gX_cv hX (gX_runV (As := []) (rest := []) (Cr := RX6) hC hX (mx_X6_next (cx_l C) E k57 n58 _ _ _ h) (lw_V q477 q479 qs4 q86 q480) hx_X6_next rfl rfl (Or.inl (Nat.le_of_ble_eq_true rfl)) ⟨Nat.le_of_ble_eq_true rfl, Nat.le_of_ble_eq_true rfl⟩ dX6_all_68 hk57 hn58 hk56 rfl (by decide) rfl) hk57 hn58 ?_
    intro S59 h
    refine g_goto (tgt := 4) hC dX6_all_71 (by decide) ?_
    exact hK4 ((mc - k48) - k57) ((ms - n49) - n58) S59 a0 h
  have s_33 : ∀ (K4 : Nat → Nat → XS → Option Nat → Prop) (hK4 : ∀ (mc ms : Nat) (S : XS) (b0 : Option Nat), K4 mc ms S b0 → GX E C S mc ms 4 [some (va_rf b0), none] []) (n : Nat) (mc ms : Nat) (S : XS) (a0 : Option Nat) (a1 : Option Nat), wx_X6_all_33 Q X K4 n mc ms S a0 a1 → GX E C S mc ms 33 [some (va_rf a0), some (va_rf a1)] [] := by
    intro K4 hK4 n
    induction n with
    | zero =>
      intro mc ms S a0 a1 h
      exact False.elim h
    | succ n ih =>
      intro mc ms S a0 a1 h
      refine g_aload_nR hC dX6_all_33 rfl ?_
      obtain ⟨u44, eu44, h⟩ := h
      refine g_top0 eu44 ?_
      have hk45 := h.1
      refine gX_get (C0 := RX6) (T := TX6) (N := 8) (n := 5) (k := 1) (q := (501, false)) hC hX dX6_all_34 q447 rfl in_X6 (by decide) (Or.inl rfl) rfl (by decide) hk45 ?_
      show GX _ _ _ _ _ _ _ (.int (xFI S 501 u44) :: _)
      refine g_iconst (v := 1) hC dX6_all_37 (by decide) ?_
      refine g_icmp_ne (tgt := 49) hC dX6_all_38 (by decide) (fun c => ?_) (fun c => ?_)
      · have h := it_n c h.2
        refine g_aload_nR hC dX6_all_49 rfl ?_
        refine g_aload_nR hC dX6_all_50 rfl ?_
        refine g_top0 eu44 ?_
        refine gX_get (C0 := RX6) (T := TX6) (N := 8) (n := 5) (k := 1) (q := (501, false)) hC hX dX6_all_51 q447 rfl in_X6 (by decide) (Or.inl rfl) rfl (by decide) hk45 ?_
        show GX _ _ _ _ _ _ _ (.int (xFI S 501 u44) :: _)
        refine g_iconst (v := 3) hC dX6_all_54 (by decide) ?_
        refine g_icmp_ne (tgt := 62) hC dX6_all_55 (by decide) (fun c => ?_) (fun c => ?_)
        · have h := it_n c h
          refine g_iconst (v := 0) hC dX6_all_62 (by decide) ?_
          refine g_sub [true, false] rfl ?_
          exact s_63 K4 hK4 mc ms S a0 a0 (0 : Int32) h
        · have h := it_p c h
          refine g_iconst (v := 1) hC dX6_all_58 (by decide) ?_
          refine g_goto (tgt := 63) hC dX6_all_59 (by decide) ?_
          refine g_sub [true, false] rfl ?_
          exact s_63 K4 hK4 mc ms S a0 a0 (1 : Int32) h
      · have h := it_p c h.2
        refine g_aload_nR hC dX6_all_41 rfl ?_
        refine g_aload_nR hC dX6_all_42 rfl ?_
        refine g_top1 eu44 ?_
        obtain ⟨k61, n62, hk61, hn62, h⟩ := h
        refine gX_xv hX (gX_xrunV (As := [va_rf a1]) (rest := []) (Cr := RX6) hC hX (mx_X6_rule (cx_l C) E k61 n62 _ _ _ _ _ h) (lw_V q715 q717 qs9 q86 q718) hx_X6_rule rfl rfl (Or.inl (Nat.le_of_ble_eq_true rfl)) ⟨Nat.le_of_ble_eq_true rfl, Nat.le_of_ble_eq_true rfl⟩ dX6_all_43 hk61 hn62 hk45 rfl (by decide) rfl) hk61 hn62 (fun q63 S64 h hk65 => ?_) ?_
        · exact gT_out (r := (RX7, TX7, 8)) hC hX hT hA hQ hk65 rfl (by decide) h
        intro S66 h
        refine g_goto (tgt := 33) hC dX6_all_46 (by decide) ?_
        exact ih (mc - k61) (ms - n62) S66 a0 a1 h
  have s_4 : ∀ (n : Nat) (mc ms : Nat) (S : XS) (a0 : Option Nat), wx_X6_all_4 Q X  n mc ms S a0 → GX E C S mc ms 4 [some (va_rf a0), none] [] := by
    intro  n
    induction n with
    | zero =>
      intro mc ms S a0 h
      exact False.elim h
    | succ n ih =>
      intro mc ms S a0 h
      refine g_aload_nR hC dX6_all_4 rfl ?_
      refine gX_ldcs (j := 18) (tx := "hall") hC hX dX6_all_5 (List.mem_of_getElem? (i := 8) rfl) ?_
      obtain ⟨u7, eu7, h⟩ := h
      refine g_top1 eu7 ?_
      have hk8 := h.1
      refine gX_ni hX (gX_runV (As := [va_rf (some (xST S 18))]) (rest := []) (Cr := RX6) hC hX (mx_X6_isWord (cx_l C) E _ _ _ _ h.2) (lw_V q672 q674 qs6 q86 q675) hx_X6_isWord rfl rfl (Or.inl (Nat.le_of_ble_eq_true rfl)) ⟨Nat.le_of_ble_eq_true rfl, Nat.le_of_ble_eq_true rfl⟩ dX6_all_7 (Nat.zero_le _) (Nat.zero_le _) hk8 rfl (by decide) rfl) rfl rfl ?_
      intro r10 S9 h
      refine g_if_eq (tgt := 74) hC dX6_all_10 (by decide) (fun c => ?_) (fun c => ?_)
      · have h := it_p c h
        refine g_aload_nR hC dX6_all_74 rfl ?_
        refine g_aload_nR hC dX6_all_75 rfl ?_
        refine g_top0 eu7 ?_
        have hk11 := h.1
        refine gX_get (C0 := RX6) (T := TX6) (N := 8) (n := 5) (k := 1) (q := (501, false)) hC hX dX6_all_76 q447 rfl in_X6 (by decide) (Or.inl rfl) rfl (by decide) hk11 ?_
        show GX _ _ _ _ _ _ _ (.int (xFI S9 501 u7) :: _)
        refine g_if_ne (tgt := 86) hC dX6_all_79 (by decide) (fun c => ?_) (fun c => ?_)
        · have h := it_n c h.2
          refine g_iconst (v := 0) hC dX6_all_86 (by decide) ?_
          refine g_sub [false, false] rfl ?_
          exact s_87 mc ms S9 a0 (0 : Int32) h
        · have h := it_p c h.2
          refine g_iconst (v := 1) hC dX6_all_82 (by decide) ?_
          refine g_goto (tgt := 87) hC dX6_all_83 (by decide) ?_
          refine g_sub [false, false] rfl ?_
          exact s_87 mc ms S9 a0 (1 : Int32) h
      · have h := it_n c h
        refine g_aload_nR hC dX6_all_13 rfl ?_
        refine g_top0 eu7 ?_
        have hk21 := h.1
        obtain ⟨k22, n23, hk22, hn23, h⟩ := h.2
        refine gX_cv hX (gX_runV (As := []) (rest := []) (Cr := RX6) hC hX (mx_X6_next (cx_l C) E k22 n23 _ _ _ h) (lw_V q477 q479 qs4 q86 q480) hx_X6_next rfl rfl (Or.inl (Nat.le_of_ble_eq_true rfl)) ⟨Nat.le_of_ble_eq_true rfl, Nat.le_of_ble_eq_true rfl⟩ dX6_all_14 hk22 hn23 hk21 rfl (by decide) rfl) hk22 hn23 ?_
        intro S24 h
        refine g_aload_nR hC dX6_all_17 rfl ?_
        refine g_top0 eu7 ?_
        have hk26 := h.1
        refine gX_get (C0 := RX6) (T := TX6) (N := 8) (n := 5) (k := 5) (q := (505, true)) hC hX dX6_all_18 q451 rfl in_X6 (by decide) (Or.inl rfl) rfl (by decide) hk26 ?_
        show GX _ _ _ _ _ _ _ (va_rf (xFR S24 505 u7) :: _)
        refine g_aload_nR hC dX6_all_21 rfl ?_
        refine g_iconst (v := 3) hC dX6_all_22 (by decide) ?_
        refine g_top1 eu7 ?_
        obtain ⟨k27, n28, hk27, hn28, h⟩ := h.2
        refine gX_xi hX (gX_xrunV (As := [.int (3 : Int32)]) (rest := [va_rf (xFR S24 505 u7)]) (Cr := RX6) hC hX (mx_X6_figure (cx_l C) E k27 n28 _ _ _ _ _ h) (lw_V q684 q686 qs7 q86 q687) hx_X6_figure rfl rfl (Or.inl (Nat.le_of_ble_eq_true rfl)) ⟨Nat.le_of_ble_eq_true rfl, Nat.le_of_ble_eq_true rfl⟩ dX6_all_23 hk27 hn28 hk26 rfl (by decide) rfl) hk27 hn28 (fun q29 S30 h hk31 => ?_) ?_
        · exact gT_out (r := (RX7, TX7, 8)) hC hX hT hA hQ hk31 rfl (by decide) h
        intro r33 S32 h
        obtain ⟨u34, eu34, h⟩ := h
        refine g_top1 eu34 ?_
        have hk35 := h.1
        refine gX_aald (n := 104) hC hX dX6_all_26 (by decide) hk35 h.2.1 ?_
        refine g_astore_nR hC dX6_all_27 rfl (by decide) (lx_okR (j := 0) rfl) rfl ?_
        refine g_aload_nR hC dX6_all_28 rfl ?_
        refine g_aload_nR hC dX6_all_29 rfl ?_
        refine g_top1 eu7 ?_
        have hk36 := h.2.2.1
        obtain ⟨k37, n38, hk37, hn38, h⟩ := h.2.2.2
        refine gX_xv hX (gX_xrunV (As := [va_rf (xAR S32 u34 (Int32.toNatClampNeg r33))]) (rest := []) (Cr := RX6) hC hX (mx_X6_rule (cx_l C) E k37 n38 _ _ _ _ _ h) (lw_V q715 q717 qs9 q86 q718) hx_X6_rule rfl rfl (Or.inl (Nat.le_of_ble_eq_true rfl)) ⟨Nat.le_of_ble_eq_true rfl, Nat.le_of_ble_eq_true rfl⟩ dX6_all_30 hk37 hn38 hk36 rfl (by decide) rfl) hk37 hn38 (fun q39 S40 h hk41 => ?_) ?_
        · exact gT_out (r := (RX7, TX7, 8)) hC hX hT hA hQ hk41 rfl (by decide) h
        intro S42 h
        obtain ⟨n0, h0⟩ := h
        exact s_33 (wx_X6_all_4 Q X n) ih n0 (((mc - k22) - k27) - k37) (((ms - n23) - n28) - n38) S42 a0 (xAR S32 u34 (Int32.toNatClampNeg r33)) h0
  refine g_aload_nR hC dX6_all_0 rfl ?_
  obtain ⟨u1, eu1, h⟩ := h
  refine g_top0 eu1 ?_
  have hk2 := h.1
  obtain ⟨k3, n4, hk3, hn4, h⟩ := h.2
  refine gX_cv hX (gX_runV (As := []) (rest := []) (Cr := RX6) hC hX (mx_X6_next (cx_l C) E k3 n4 _ _ _ h) (lw_V q477 q479 qs4 q86 q480) hx_X6_next rfl rfl (Or.inl (Nat.le_of_ble_eq_true rfl)) ⟨Nat.le_of_ble_eq_true rfl, Nat.le_of_ble_eq_true rfl⟩ dX6_all_1 hk3 hn4 hk2 rfl (by decide) rfl) hk3 hn4 ?_
  intro S5 h
  obtain ⟨n0, h0⟩ := h
  exact s_4 n0 (mc - k3) (ms - n4) S5 x0 h0
theorem mx_X6_all (l : Launch) (E : XE) (mc ms : Nat) (Q : XS → Prop) (X : Nat → XS → Prop) (S : XS) (x0 : Option Nat) (h : wx_X6_all Q X mc ms S x0) : XMetX E l yX6_all cX6_all 2 none ({ frames := 11, cells := mc, slots := ms, locals := 256 } : Room) [va_rf x0] S (fun sz => va_Qv Q (BX1 E S sz) (xA S sz)) RX7 6 X :=
  XMetX_of (rm := ({ frames := 11, cells := mc, slots := ms, locals := 256 } : Room)) (by decide) (by simp [lg_sl, va_rf_cat, cat_i, cat_l]) (L0 := [some (va_rf x0), none]) (by simp [lx_pairs, lv_args, va_rf_cat, cat_i, cat_l, List.range_succ]) (fun sz C hC hX hl hnm hT hA hQ => bx_X6_all E C S sz Q X mc ms S x0 hC hX hT hA hQ h)
/-! X0_rules -/
def wx_X0_rules_45 (Q : Int32 → XS → Prop) : Nat → Nat → Nat → XS → Option Nat → Option Nat → Int32 → Prop
  | 0, _, _, _, _, _, _ => False
  | n + 1, mc, ms, S, a0, a1, a2 => (if (4 : Int32) ≤ a2 then dr a1 (fun u20 => xKD S u20 = some 5 ∧ Q (xFI S 506 u20) S) else dr a0 (fun u22 => xKD S u22 = some 0 ∧ dr a1 (fun u24 => xKD S u24 = some 5 ∧ dr (xFR S 505 u24) (fun u26 => xKD S u26 = some 104 ∧ vp_in a2 (xLN S u26) ∧ dr (xFR S 1 u22) (fun u28 => xKD S u28 = some 104 ∧ dr (xAR S u26 (Int32.toNatClampNeg a2)) (fun u30 => xRO S u28 = false ∧ vp_in a2 (xLN S u28) ∧ xKD S u30 = some 2 ∧ wx_X0_rules_45 Q n mc ms (sAR S u28 (Int32.toNatClampNeg a2) (some u30)) a0 a1 (a2 + (1 : Int32))))))))
def wx_X0_rules (Q : Int32 → XS → Prop) (mc ms : Nat) (S : XS) (x0 : Option Nat) : Prop :=
  1 ≤ mc ∧ 8 ≤ ms ∧ (∀ q1 : Nat, xKD S q1 = none → (∃ k4 n5, k4 ≤ (mc - 1) ∧ n5 ≤ (ms - 8) ∧ wx_X6_init (fun S6 => xKD S6 q1 = some 5 ∧ (∃ k9 n10, k9 ≤ ((mc - 1) - k4) ∧ n10 ≤ ((ms - 8) - n5) ∧ wx_X6_all (fun S16 => dr x0 (fun u18 => xKD S16 u18 = some 0 ∧ ∃ n32, wx_X0_rules_45 Q n32 (((mc - 1) - k4) - k9) (((ms - 8) - n5) - n10) (sFI S16 8 u18 (0 : Int32)) x0 (some q1) (0 : Int32))) (fun q11 S12 => dr x0 (fun u14 => xKD S12 u14 = some 0 ∧ Q ((-1000100 : Int32) - (xFI (sFI (sFI S12 8 u14 (0 : Int32)) 9 u14 (xFI (sFI S12 8 u14 (0 : Int32)) 600 q11)) 601 q11)) (sFI (sFI S12 8 u14 (0 : Int32)) 9 u14 (xFI (sFI S12 8 u14 (0 : Int32)) 600 q11)))) k9 n10 S6 (some q1))) k4 n5 (sNew S q1 5) (some q1) x0))
theorem hx_X0_rules : yX0_rules.cls = RX0 ∧ yX0_rules.cls ≠ "java/lang/invoke/MethodHandle" ∧ yX0_rules.cls ≠ "java/lang/invoke/VarHandle" ∧ (parseMethodDescriptor yX0_rules.desc).map (fun d => d.parameters.length) = some 0 := by decide +kernel
set_option maxHeartbeats 4000000 in
set_option maxRecDepth 100000 in
theorem bx_X0_rules (E : XE) (C : Cx) (S0 : XS) (sz : Nat) (Q : Int32 → XS → Prop) (mc ms : Nat) (S : XS) (x0 : Option Nat) (hC : COk C cX0_rules RX0 (some .int) 12 277 3) (hX : XOk E C) (hT : (cx_c C).exceptionTable.toList = tableOf [(9, 13, 16, 202)]) (hA : cx_A C = xA S0 sz) (hQ : cx_Q C = MQ (cx_b C) (va_Qi Q (BX1 E S0 sz) (xA S0 sz)) (cx_a C) (cx_s C) (cx_MC C) (cx_MS C) (xA S0 sz)) (h : wx_X0_rules Q mc ms S x0) : GX E C S mc ms 0 [some (va_rf x0), none, none] [] := by
  have s_45 : ∀ (n : Nat) (mc ms : Nat) (S : XS) (a0 : Option Nat) (a1 : Option Nat) (a2 : Int32), wx_X0_rules_45 Q  n mc ms S a0 a1 a2 → GX E C S mc ms 45 [some (va_rf a0), some (va_rf a1), some (.int a2)] [] := by
    intro  n
    induction n with
    | zero =>
      intro mc ms S a0 a1 a2 h
      exact False.elim h
    | succ n ih =>
      intro mc ms S a0 a1 a2 h
      refine g_iload_n hC dX0_rules_45 rfl ?_
      refine g_iconst (v := 4) hC dX0_rules_46 (by decide) ?_
      refine g_icmp_ge (tgt := 68) hC dX0_rules_47 (by decide) (fun c => ?_) (fun c => ?_)
      · have h := it_p c h
        refine g_aload_nR hC dX0_rules_68 rfl ?_
        obtain ⟨u20, eu20, h⟩ := h
        refine g_top0 eu20 ?_
        have hk21 := h.1
        refine gX_getN (C0 := RX6) (T := TX6) (N := 8) (n := 5) (k := 6) (q := (506, false)) hC hX dX0_rules_69 q454 rfl in_X6 (by decide) rfl rfl (by decide) hk21 ?_
        show GX _ _ _ _ _ _ _ (.int (xFI S 506 u20) :: _)
        refine gX_iret rfl hC hA hQ dX0_rules_72 h.2
      · have h := it_n c h
        refine g_aload_nR hC dX0_rules_50 rfl ?_
        obtain ⟨u22, eu22, h⟩ := h
        refine g_top0 eu22 ?_
        have hk23 := h.1
        refine gX_get (C0 := RX0) (T := TX0) (N := 15) (n := 0) (k := 1) (q := (1, true)) hC hX dX0_rules_51 q211 rfl in_X0 (by decide) (Or.inl rfl) rfl (by decide) hk23 ?_
        show GX _ _ _ _ _ _ _ (va_rf (xFR S 1 u22) :: _)
        refine g_iload_n hC dX0_rules_54 rfl ?_
        refine g_aload_nR hC dX0_rules_55 rfl ?_
        obtain ⟨u24, eu24, h⟩ := h.2
        refine g_top0 eu24 ?_
        have hk25 := h.1
        refine gX_get (C0 := RX6) (T := TX6) (N := 8) (n := 5) (k := 5) (q := (505, true)) hC hX dX0_rules_56 q452 rfl in_X6 (by decide) (Or.inl rfl) rfl (by decide) hk25 ?_
        show GX _ _ _ _ _ _ _ (va_rf (xFR S 505 u24) :: _)
        refine g_iload_n hC dX0_rules_59 rfl ?_
        obtain ⟨u26, eu26, h⟩ := h.2
        refine g_top1 eu26 ?_
        have hk27 := h.1
        refine gX_aald (n := 104) hC hX dX0_rules_60 (by decide) hk27 h.2.1 ?_
        obtain ⟨u28, eu28, h⟩ := h.2.2
        refine g_top2 eu28 ?_
        have hk29 := h.1
        obtain ⟨u30, eu30, h⟩ := h.2
        refine g_top0 eu30 ?_
        have hk31 := h.2.2.1
        refine gX_aast (n := 104) (nv := 2) hC hX dX0_rules_61 (by decide) hk29 h.1 h.2.1 hk31 rfl (by decide) rfl ?_
        refine g_iinc (v := (a2 + (1 : Int32))) hC dX0_rules_62 rfl rfl (by decide) (lx_okR (j := 1) rfl) rfl ?_
        refine g_goto (tgt := 45) hC dX0_rules_65 (by decide) ?_
        exact ih mc ms (sAR S u28 (Int32.toNatClampNeg a2) (some u30)) a0 a1 (a2 + (1 : Int32)) h.2.2.2
  refine gX_new (C0 := RX6) (T := TX6) (ty0 := tyX6) (N := 8) (n := 5) hC hX dX0_rules_0 q434 q435 q86 rfl in_X6 tyX6_ok (by decide) dv_X6 h.1 h.2.1 ?_
  intro q1 hq2
  have h := h.2.2 q1 hq2
  have hk3 : xKD (sNew S q1 5) q1 = some 5 := kd_self
  refine g_dup hC dX0_rules_3 (va_rf_cat _) ?_
  refine g_aload_nR hC dX0_rules_4 rfl ?_
  obtain ⟨k4, n5, hk4, hn5, h⟩ := h
  refine gX_cv hX (gX_runI (As := [va_rf x0]) (rest := [va_rf (some q1)]) hC hX (mx_X6_init (cx_l C) E k4 n5 _ _ _ _ h) q438 q86 q436 q437 rfl hx_X6_init.2 rfl rfl (Or.inl (Nat.le_of_ble_eq_true rfl)) ⟨Nat.le_of_ble_eq_true rfl, Nat.le_of_ble_eq_true rfl⟩ dX0_rules_5 hk4 hn5) hk4 hn5 ?_
  intro S6 h
  refine g_astore_nR hC dX0_rules_8 rfl (by decide) (lx_okR (j := 0) rfl) rfl ?_
  refine g_aload_nR hC dX0_rules_9 rfl ?_
  have hk8 := h.1
  obtain ⟨k9, n10, hk9, hn10, h⟩ := h.2
  refine gX_xv hX (gX_xrunV (As := []) (rest := []) (Cr := RX6) hC hX (mx_X6_all (cx_l C) E k9 n10 _ _ _ _ h) (lw_V q473 q474 q475 q86 q476) hx_X6_all rfl rfl (Or.inl (Nat.le_of_ble_eq_true rfl)) ⟨Nat.le_of_ble_eq_true rfl, Nat.le_of_ble_eq_true rfl⟩ dX0_rules_10 hk9 hn10 hk8 rfl (by decide) rfl) hk9 hn10 (fun q11 S12 h hk13 => ?_) ?_
  · refine gT_catch (r := (RX7, TX7, 8)) (name := "VillageHalls$Fault") hC hX hT [] (9, 13, 16, 202) [] rfl (by decide) (by decide) (by decide) q433 q694 hk13 rfl (by decide) ?_
    refine g_astore_nR hC dX0_rules_16 rfl (by decide) (lx_okR (j := 1) rfl) rfl ?_
    refine g_sub [true, false, true] rfl ?_
    refine g_aload_nR hC dX0_rules_17 rfl ?_
    refine g_iconst (v := 0) hC dX0_rules_18 (by decide) ?_
    obtain ⟨u14, eu14, h⟩ := h
    refine g_top1 eu14 ?_
    have hk15 := h.1
    refine gX_putI (C0 := RX0) (T := TX0) (ty0 := tyX0) (N := 15) (n := 0) (k := 8) (f := 8) hC hX dX0_rules_19 q221 rfl in_X0 tyX0_ok nmX0 (by decide) (Or.inl rfl) rfl rfl rfl rfl rfl (by decide) (Or.inl (by decide)) hk15 ?_
    refine g_aload_nR hC dX0_rules_22 rfl ?_
    refine g_aload_nR hC dX0_rules_23 rfl ?_
    refine gX_get (C0 := RX7) (T := TX7) (N := 8) (n := 6) (k := 6) (q := (600, false)) hC hX dX0_rules_24 q706 rfl in_X7 (by decide) (Or.inl rfl) rfl (by decide) hk13 ?_
    show GX _ _ _ _ _ _ _ (.int (xFI (sFI S12 8 u14 (0 : Int32)) 600 q11) :: _)
    refine g_top1 eu14 ?_
    refine gX_putI (C0 := RX0) (T := TX0) (ty0 := tyX0) (N := 15) (n := 0) (k := 9) (f := 9) hC hX dX0_rules_27 q222 rfl in_X0 tyX0_ok nmX0 (by decide) (Or.inl rfl) rfl rfl rfl rfl rfl (by decide) (Or.inl (by decide)) hk15 ?_
    refine g_ldc (v := -1000100) hC dX0_rules_30 q743 ?_
    refine g_aload_nR hC dX0_rules_32 rfl ?_
    refine gX_get (C0 := RX7) (T := TX7) (N := 8) (n := 6) (k := 7) (q := (601, false)) hC hX dX0_rules_33 q708 rfl in_X7 (by decide) (Or.inl rfl) rfl (by decide) hk13 ?_
    show GX _ _ _ _ _ _ _ (.int (xFI (sFI (sFI S12 8 u14 (0 : Int32)) 9 u14 (xFI (sFI S12 8 u14 (0 : Int32)) 600 q11)) 601 q11) :: _)
    refine g_isub hC dX0_rules_36 ?_
    refine gX_iret rfl hC hA hQ dX0_rules_37 h.2
  intro S16 h
  refine g_goto (tgt := 38) hC dX0_rules_13 (by decide) ?_
  refine g_aload_nR hC dX0_rules_38 rfl ?_
  refine g_iconst (v := 0) hC dX0_rules_39 (by decide) ?_
  obtain ⟨u18, eu18, h⟩ := h
  refine g_top1 eu18 ?_
  have hk19 := h.1
  refine gX_putI (C0 := RX0) (T := TX0) (ty0 := tyX0) (N := 15) (n := 0) (k := 8) (f := 8) hC hX dX0_rules_40 q221 rfl in_X0 tyX0_ok nmX0 (by decide) (Or.inl rfl) rfl rfl rfl rfl rfl (by decide) (Or.inl (by decide)) hk19 ?_
  refine g_iconst (v := 0) hC dX0_rules_43 (by decide) ?_
  refine g_istore_n hC dX0_rules_44 rfl (by decide) (lx_okR (j := 1) rfl) rfl ?_
  obtain ⟨n0, h0⟩ := h.2
  exact s_45 n0 (((mc - 1) - k4) - k9) (((ms - 8) - n5) - n10) (sFI S16 8 u18 (0 : Int32)) x0 (some q1) (0 : Int32) h0
theorem mx_X0_rules (l : Launch) (E : XE) (mc ms : Nat) (Q : Int32 → XS → Prop) (S : XS) (x0 : Option Nat) (h : wx_X0_rules Q mc ms S x0) : XMetW E l yX0_rules cX0_rules 3 (some .int) [(9, 13, 16, 202)] ({ frames := 12, cells := mc, slots := ms, locals := 277 } : Room) [va_rf x0] S (fun sz => va_Qi Q (BX1 E S sz) (xA S sz)) :=
  XMetW_of (rm := ({ frames := 12, cells := mc, slots := ms, locals := 277 } : Room)) (by decide) (by simp [lg_sl, va_rf_cat, cat_i, cat_l]) (L0 := [some (va_rf x0), none, none]) (by simp [lx_pairs, lv_args, va_rf_cat, cat_i, cat_l, List.range_succ]) (fun sz C hC hX hl hnm hT hA hQ => bx_X0_rules E C S sz Q mc ms S x0 hC hX hT hA hQ h)
/-! X0_fault -/
def wx_X0_fault (Q : Int32 → XS → Prop) (S : XS) (x0 : Option Nat) : Prop :=
  dr x0 (fun u1 => xKD S u1 = some 0 ∧ Q (xFI S 9 u1) S)
theorem hx_X0_fault : yX0_fault.cls = RX0 ∧ yX0_fault.cls ≠ "java/lang/invoke/MethodHandle" ∧ yX0_fault.cls ≠ "java/lang/invoke/VarHandle" ∧ (parseMethodDescriptor yX0_fault.desc).map (fun d => d.parameters.length) = some 0 := by decide +kernel
set_option maxHeartbeats 4000000 in
set_option maxRecDepth 100000 in
theorem bx_X0_fault (E : XE) (C : Cx) (S0 : XS) (sz : Nat) (Q : Int32 → XS → Prop) (S : XS) (x0 : Option Nat) (hC : COk C cX0_fault RX0 (some .int) 1 34 1) (hX : XOk E C) (hA : cx_A C = xA S0 sz) (hQ : cx_Q C = MQ (cx_b C) (va_Qi Q (BX1 E S0 sz) (xA S0 sz)) (cx_a C) (cx_s C) (cx_MC C) (cx_MS C) (xA S0 sz)) (h : wx_X0_fault Q S x0) : GX E C S 0 0 0 [some (va_rf x0)] [] := by
  refine g_aload_nR hC dX0_fault_0 rfl ?_
  obtain ⟨u1, eu1, h⟩ := h
  refine g_top0 eu1 ?_
  have hk2 := h.1
  refine gX_get (C0 := RX0) (T := TX0) (N := 15) (n := 0) (k := 9) (q := (9, false)) hC hX dX0_fault_1 q222 rfl in_X0 (by decide) (Or.inl rfl) rfl (by decide) hk2 ?_
  show GX _ _ _ _ _ _ _ (.int (xFI S 9 u1) :: _)
  refine gX_iret rfl hC hA hQ dX0_fault_4 h.2
theorem mx_X0_fault (l : Launch) (E : XE) (Q : Int32 → XS → Prop) (S : XS) (x0 : Option Nat) (h : wx_X0_fault Q S x0) : XMet E l yX0_fault cX0_fault 1 (some .int) ({ frames := 1, cells := 0, slots := 0, locals := 34 } : Room) [va_rf x0] S (fun sz => va_Qi Q (BX1 E S sz) (xA S sz)) :=
  XMet_of (rm := ({ frames := 1, cells := 0, slots := 0, locals := 34 } : Room)) (by decide) (by simp [lg_sl, va_rf_cat, cat_i, cat_l]) (L0 := [some (va_rf x0)]) (by simp [lx_pairs, lv_args, va_rf_cat, cat_i, cat_l, List.range_succ]) (fun sz C hC hX hl hnm hA hQ => bx_X0_fault E C S sz Q S x0 hC hX hA hQ h)
/-! X0_isHall -/
def wx_X0_isHall (Q : Int32 → XS → Prop) (S : XS) (x0 : Int32) : Prop :=
  wx_X0_isIn (fun r2 S1 => narrow .boolean (.int r2) = .int r2 ∧ Q r2 S1) S (Int32.toInt64 x0) (0 : Int64) (3 : Int64)
theorem hx_X0_isHall : yX0_isHall.cls = RX0 ∧ yX0_isHall.cls ≠ "java/lang/invoke/MethodHandle" ∧ yX0_isHall.cls ≠ "java/lang/invoke/VarHandle" ∧ (parseMethodDescriptor yX0_isHall.desc).map (fun d => d.parameters.length) = some 1 := by decide +kernel
set_option maxHeartbeats 4000000 in
set_option maxRecDepth 100000 in
theorem bx_X0_isHall (E : XE) (C : Cx) (S0 : XS) (sz : Nat) (Q : Int32 → XS → Prop) (S : XS) (x0 : Int32) (hC : COk C cX0_isHall RX0 (some .boolean) 2 59 1) (hX : XOk E C) (hA : cx_A C = xA S0 sz) (hQ : cx_Q C = MQ (cx_b C) (va_Qi Q (BX1 E S0 sz) (xA S0 sz)) (cx_a C) (cx_s C) (cx_MC C) (cx_MS C) (xA S0 sz)) (h : wx_X0_isHall Q S x0) : GX E C S 0 0 0 [some (.int x0)] [] := by
  refine g_iload_n hC dX0_isHall_0 rfl ?_
  refine g_i2l hC dX0_isHall_1 ?_
  refine g_lconst (v := 0) hC dX0_isHall_2 (by decide) ?_
  refine g_ldc2 (v := 3) hC dX0_isHall_3 q755 ?_
  refine gX_ni hX (gX_runS (As := [.long (Int32.toInt64 x0), .long (0 : Int64), .long (3 : Int64)]) (rest := []) hC hX (mx_X0_isIn (cx_l C) E _ _ _ _ _ h) (lw_S q269 q270 q70 q271) hx_X0_isIn.2 rfl rfl (Or.inl (Nat.le_of_ble_eq_true rfl)) ⟨Nat.le_of_ble_eq_true rfl, Nat.le_of_ble_eq_true rfl⟩ dX0_isHall_6 (Nat.zero_le _) (Nat.zero_le _)) rfl rfl ?_
  intro r2 S1 h
  refine gX_zret rfl h.1 hC hA hQ dX0_isHall_9 h.2
theorem mx_X0_isHall (l : Launch) (E : XE) (Q : Int32 → XS → Prop) (S : XS) (x0 : Int32) (h : wx_X0_isHall Q S x0) : XMet E l yX0_isHall cX0_isHall 1 (some .boolean) ({ frames := 2, cells := 0, slots := 0, locals := 59 } : Room) [.int x0] S (fun sz => va_Qi Q (BX1 E S sz) (xA S sz)) :=
  XMet_of (rm := ({ frames := 2, cells := 0, slots := 0, locals := 59 } : Room)) (by decide) (by simp [lg_sl, va_rf_cat, cat_i, cat_l]) (L0 := [some (.int x0)]) (by simp [lx_pairs, lv_args, va_rf_cat, cat_i, cat_l, List.range_succ]) (fun sz C hC hX hl hnm hA hQ => bx_X0_isHall E C S sz Q S x0 hC hX hA hQ h)
/-! X2_told -/
def wx_X2_told_60 (Q : Int32 → XS → Prop) (S : XS) (a0 : Option Nat) (a1 : Int32) : Prop :=
  dr a0 (fun u9 => xKD S u9 = some 2 ∧ dr (xFR S 204 u9) (fun u11 => xKD S u11 = some 100 ∧ vp_in (a1 - (4 : Int32)) (xLN S u11) ∧ Q (xAI S u11 (Int32.toNatClampNeg (a1 - (4 : Int32)))) S))
def wx_X2_told (Q : Int32 → XS → Prop) (S : XS) (x0 : Option Nat) (x1 : Int32) : Prop :=
  (if x1 = (0 : Int32) then dr x0 (fun u1 => xKD S u1 = some 2 ∧ Q (xFI S 200 u1) S) else (if x1 = (1 : Int32) then dr x0 (fun u3 => xKD S u3 = some 2 ∧ Q (xFI S 201 u3) S) else (if x1 = (2 : Int32) then dr x0 (fun u5 => xKD S u5 = some 2 ∧ Q (xFI S 202 u5) S) else (if x1 = (3 : Int32) then dr x0 (fun u7 => xKD S u7 = some 2 ∧ Q (xFI S 203 u7) S) else (if x1 = (4 : Int32) then wx_X2_told_60 Q S x0 x1 else (if x1 = (5 : Int32) then wx_X2_told_60 Q S x0 x1 else (if (20 : Int32) ≤ x1 then dr x0 (fun u13 => xKD S u13 = some 2 ∧ dr (xFR S 206 u13) (fun u15 => xKD S u15 = some 100 ∧ vp_in (x1 - (20 : Int32)) (xLN S u15) ∧ Q (xAI S u15 (Int32.toNatClampNeg (x1 - (20 : Int32)))) S)) else dr x0 (fun u17 => xKD S u17 = some 2 ∧ dr (xFR S 205 u17) (fun u19 => xKD S u19 = some 100 ∧ vp_in (x1 - (10 : Int32)) (xLN S u19) ∧ Q (xAI S u19 (Int32.toNatClampNeg (x1 - (10 : Int32)))) S)))))))))
theorem hx_X2_told : yX2_told.cls = RX2 ∧ yX2_told.cls ≠ "java/lang/invoke/MethodHandle" ∧ yX2_told.cls ≠ "java/lang/invoke/VarHandle" ∧ (parseMethodDescriptor yX2_told.desc).map (fun d => d.parameters.length) = some 1 := by decide +kernel
set_option maxHeartbeats 4000000 in
set_option maxRecDepth 100000 in
theorem bx_X2_told (E : XE) (C : Cx) (S0 : XS) (sz : Nat) (Q : Int32 → XS → Prop) (S : XS) (x0 : Option Nat) (x1 : Int32) (hC : COk C cX2_told RX2 (some .int) 1 34 2) (hX : XOk E C) (hA : cx_A C = xA S0 sz) (hQ : cx_Q C = MQ (cx_b C) (va_Qi Q (BX1 E S0 sz) (xA S0 sz)) (cx_a C) (cx_s C) (cx_MC C) (cx_MS C) (xA S0 sz)) (h : wx_X2_told Q S x0 x1) : GX E C S 0 0 0 [some (va_rf x0), some (.int x1)] [] := by
  have s_60 : ∀ (S : XS) (a0 : Option Nat) (a1 : Int32), wx_X2_told_60 Q  S a0 a1 → GX E C S 0 0 60 [some (va_rf a0), some (.int a1)] [] := by
    intro  S a0 a1 h
    refine g_aload_nR hC dX2_told_60 rfl ?_
    obtain ⟨u9, eu9, h⟩ := h
    refine g_top0 eu9 ?_
    have hk10 := h.1
    refine gX_get (C0 := RX2) (T := TX2) (N := 7) (n := 2) (k := 4) (q := (204, true)) hC hX dX2_told_61 q184 rfl in_X2 (by decide) (Or.inl rfl) rfl (by decide) hk10 ?_
    show GX _ _ _ _ _ _ _ (va_rf (xFR S 204 u9) :: _)
    refine g_iload_n hC dX2_told_64 rfl ?_
    refine g_iconst (v := 4) hC dX2_told_65 (by decide) ?_
    refine g_isub hC dX2_told_66 ?_
    obtain ⟨u11, eu11, h⟩ := h.2
    refine g_top1 eu11 ?_
    have hk12 := h.1
    refine gX_iald hC hX dX2_told_67 hk12 h.2.1 ?_
    refine gX_iret rfl hC hA hQ dX2_told_68 h.2.2
  refine g_iload_n hC dX2_told_0 rfl ?_
  rcases Decidable.em (x1 = (0 : Int32)) with c0 | c0
  · have h := it_p c0 h
    refine g_tin (v := 0) (tgt := 40) hC dX2_told_1 c0 (by decide) (by decide) rfl (by decide) ?_
    refine g_aload_nR hC dX2_told_40 rfl ?_
    obtain ⟨u1, eu1, h⟩ := h
    refine g_top0 eu1 ?_
    have hk2 := h.1
    refine gX_get (C0 := RX2) (T := TX2) (N := 7) (n := 2) (k := 0) (q := (200, false)) hC hX dX2_told_41 q171 rfl in_X2 (by decide) (Or.inl rfl) rfl (by decide) hk2 ?_
    show GX _ _ _ _ _ _ _ (.int (xFI S 200 u1) :: _)
    refine gX_iret rfl hC hA hQ dX2_told_44 h.2
  have h := it_n c0 h
  rcases Decidable.em (x1 = (1 : Int32)) with c1 | c1
  · have h := it_p c1 h
    refine g_tin (v := 1) (tgt := 45) hC dX2_told_1 c1 (by decide) (by decide) rfl (by decide) ?_
    refine g_aload_nR hC dX2_told_45 rfl ?_
    obtain ⟨u3, eu3, h⟩ := h
    refine g_top0 eu3 ?_
    have hk4 := h.1
    refine gX_get (C0 := RX2) (T := TX2) (N := 7) (n := 2) (k := 1) (q := (201, false)) hC hX dX2_told_46 q175 rfl in_X2 (by decide) (Or.inl rfl) rfl (by decide) hk4 ?_
    show GX _ _ _ _ _ _ _ (.int (xFI S 201 u3) :: _)
    refine gX_iret rfl hC hA hQ dX2_told_49 h.2
  have h := it_n c1 h
  rcases Decidable.em (x1 = (2 : Int32)) with c2 | c2
  · have h := it_p c2 h
    refine g_tin (v := 2) (tgt := 50) hC dX2_told_1 c2 (by decide) (by decide) rfl (by decide) ?_
    refine g_aload_nR hC dX2_told_50 rfl ?_
    obtain ⟨u5, eu5, h⟩ := h
    refine g_top0 eu5 ?_
    have hk6 := h.1
    refine gX_get (C0 := RX2) (T := TX2) (N := 7) (n := 2) (k := 2) (q := (202, false)) hC hX dX2_told_51 q178 rfl in_X2 (by decide) (Or.inl rfl) rfl (by decide) hk6 ?_
    show GX _ _ _ _ _ _ _ (.int (xFI S 202 u5) :: _)
    refine gX_iret rfl hC hA hQ dX2_told_54 h.2
  have h := it_n c2 h
  rcases Decidable.em (x1 = (3 : Int32)) with c3 | c3
  · have h := it_p c3 h
    refine g_tin (v := 3) (tgt := 55) hC dX2_told_1 c3 (by decide) (by decide) rfl (by decide) ?_
    refine g_aload_nR hC dX2_told_55 rfl ?_
    obtain ⟨u7, eu7, h⟩ := h
    refine g_top0 eu7 ?_
    have hk8 := h.1
    refine gX_get (C0 := RX2) (T := TX2) (N := 7) (n := 2) (k := 3) (q := (203, false)) hC hX dX2_told_56 q181 rfl in_X2 (by decide) (Or.inl rfl) rfl (by decide) hk8 ?_
    show GX _ _ _ _ _ _ _ (.int (xFI S 203 u7) :: _)
    refine gX_iret rfl hC hA hQ dX2_told_59 h.2
  have h := it_n c3 h
  rcases Decidable.em (x1 = (4 : Int32)) with c4 | c4
  · have h := it_p c4 h
    refine g_tin (v := 4) (tgt := 60) hC dX2_told_1 c4 (by decide) (by decide) rfl (by decide) ?_
    exact s_60 S x0 x1 h
  have h := it_n c4 h
  rcases Decidable.em (x1 = (5 : Int32)) with c5 | c5
  · have h := it_p c5 h
    refine g_tin (v := 5) (tgt := 60) hC dX2_told_1 c5 (by decide) (by decide) rfl (by decide) ?_
    exact s_60 S x0 x1 h
  have h := it_n c5 h
  refine g_tout (tgt := 69) hC dX2_told_1 (sw_out 0 5 (by decide) (fun v hv => ?_)) (by decide) ?_
  · exact sw_no6 c0 c1 c2 c3 c4 c5 v hv
  refine g_iload_n hC dX2_told_69 rfl ?_
  refine g_bipush (v := 20) hC dX2_told_70 (by decide) ?_
  refine g_icmp_ge (tgt := 87) hC dX2_told_72 (by decide) (fun c => ?_) (fun c => ?_)
  · have h := it_p c h
    refine g_aload_nR hC dX2_told_87 rfl ?_
    obtain ⟨u13, eu13, h⟩ := h
    refine g_top0 eu13 ?_
    have hk14 := h.1
    refine gX_get (C0 := RX2) (T := TX2) (N := 7) (n := 2) (k := 6) (q := (206, true)) hC hX dX2_told_88 q191 rfl in_X2 (by decide) (Or.inl rfl) rfl (by decide) hk14 ?_
    show GX _ _ _ _ _ _ _ (va_rf (xFR S 206 u13) :: _)
    refine g_iload_n hC dX2_told_91 rfl ?_
    refine g_bipush (v := 20) hC dX2_told_92 (by decide) ?_
    refine g_isub hC dX2_told_94 ?_
    obtain ⟨u15, eu15, h⟩ := h.2
    refine g_top1 eu15 ?_
    have hk16 := h.1
    refine gX_iald hC hX dX2_told_95 hk16 h.2.1 ?_
    refine gX_iret rfl hC hA hQ dX2_told_96 h.2.2
  · have h := it_n c h
    refine g_aload_nR hC dX2_told_75 rfl ?_
    obtain ⟨u17, eu17, h⟩ := h
    refine g_top0 eu17 ?_
    have hk18 := h.1
    refine gX_get (C0 := RX2) (T := TX2) (N := 7) (n := 2) (k := 5) (q := (205, true)) hC hX dX2_told_76 q188 rfl in_X2 (by decide) (Or.inl rfl) rfl (by decide) hk18 ?_
    show GX _ _ _ _ _ _ _ (va_rf (xFR S 205 u17) :: _)
    refine g_iload_n hC dX2_told_79 rfl ?_
    refine g_bipush (v := 10) hC dX2_told_80 (by decide) ?_
    refine g_isub hC dX2_told_82 ?_
    obtain ⟨u19, eu19, h⟩ := h.2
    refine g_top1 eu19 ?_
    have hk20 := h.1
    refine gX_iald hC hX dX2_told_83 hk20 h.2.1 ?_
    refine g_goto (tgt := 96) hC dX2_told_84 (by decide) ?_
    refine gX_iret rfl hC hA hQ dX2_told_96 h.2.2
theorem mx_X2_told (l : Launch) (E : XE) (Q : Int32 → XS → Prop) (S : XS) (x0 : Option Nat) (x1 : Int32) (h : wx_X2_told Q S x0 x1) : XMet E l yX2_told cX2_told 2 (some .int) ({ frames := 1, cells := 0, slots := 0, locals := 34 } : Room) [va_rf x0, .int x1] S (fun sz => va_Qi Q (BX1 E S sz) (xA S sz)) :=
  XMet_of (rm := ({ frames := 1, cells := 0, slots := 0, locals := 34 } : Room)) (by decide) (by simp [lg_sl, va_rf_cat, cat_i, cat_l]) (L0 := [some (va_rf x0), some (.int x1)]) (by simp [lx_pairs, lv_args, va_rf_cat, cat_i, cat_l, List.range_succ]) (fun sz C hC hX hl hnm hA hQ => bx_X2_told E C S sz Q S x0 x1 hC hX hA hQ h)
/-! X0_hall -/
def wx_X0_hall_47 (Q : Int32 → XS → Prop) (S : XS) (a0 : Option Nat) (a1 : Int32) (a2 : Int32) : Prop :=
  dr a0 (fun u5 => xKD S u5 = some 0 ∧ dr (xFR S 1 u5) (fun u7 => xKD S u7 = some 104 ∧ vp_in a1 (xLN S u7) ∧ dr (xAR S u7 (Int32.toNatClampNeg a1)) (fun u9 => xKD S u9 = some 2 ∧ wx_X2_told (fun r12 S11 => Q r12 S11) S (some u9) a2)))
def wx_X0_hall (Q : Int32 → XS → Prop) (S : XS) (x0 : Option Nat) (x1 : Int32) (x2 : Int32) : Prop :=
  wx_X0_isHall (fun r2 S1 => (if r2 = 0 then Q (-1000001 : Int32) S1 else wx_X0_isIn (fun r4 S3 => (if r4 = 0 then wx_X0_isIn (fun r14 S13 => (if r14 = 0 then wx_X0_isIn (fun r16 S15 => (if r16 = 0 then Q (-1000001 : Int32) S15 else wx_X0_hall_47 Q S15 x0 x1 x2)) S13 (Int32.toInt64 x2) (20 : Int64) (24 : Int64) else wx_X0_hall_47 Q S13 x0 x1 x2)) S3 (Int32.toInt64 x2) (10 : Int64) (14 : Int64) else wx_X0_hall_47 Q S3 x0 x1 x2)) S1 (Int32.toInt64 x2) (0 : Int64) (5 : Int64))) S x1
theorem hx_X0_hall : yX0_hall.cls = RX0 ∧ yX0_hall.cls ≠ "java/lang/invoke/MethodHandle" ∧ yX0_hall.cls ≠ "java/lang/invoke/VarHandle" ∧ (parseMethodDescriptor yX0_hall.desc).map (fun d => d.parameters.length) = some 2 := by decide +kernel
set_option maxHeartbeats 4000000 in
set_option maxRecDepth 100000 in
theorem bx_X0_hall (E : XE) (C : Cx) (S0 : XS) (sz : Nat) (Q : Int32 → XS → Prop) (S : XS) (x0 : Option Nat) (x1 : Int32) (x2 : Int32) (hC : COk C cX0_hall RX0 (some .int) 3 79 3) (hX : XOk E C) (hA : cx_A C = xA S0 sz) (hQ : cx_Q C = MQ (cx_b C) (va_Qi Q (BX1 E S0 sz) (xA S0 sz)) (cx_a C) (cx_s C) (cx_MC C) (cx_MS C) (xA S0 sz)) (h : wx_X0_hall Q S x0 x1 x2) : GX E C S 0 0 0 [some (va_rf x0), some (.int x1), some (.int x2)] [] := by
  have s_47 : ∀ (S : XS) (a0 : Option Nat) (a1 : Int32) (a2 : Int32), wx_X0_hall_47 Q  S a0 a1 a2 → GX E C S 0 0 47 [some (va_rf a0), some (.int a1), some (.int a2)] [] := by
    intro  S a0 a1 a2 h
    refine g_aload_nR hC dX0_hall_47 rfl ?_
    obtain ⟨u5, eu5, h⟩ := h
    refine g_top0 eu5 ?_
    have hk6 := h.1
    refine gX_get (C0 := RX0) (T := TX0) (N := 15) (n := 0) (k := 1) (q := (1, true)) hC hX dX0_hall_48 q211 rfl in_X0 (by decide) (Or.inl rfl) rfl (by decide) hk6 ?_
    show GX _ _ _ _ _ _ _ (va_rf (xFR S 1 u5) :: _)
    refine g_iload_n hC dX0_hall_51 rfl ?_
    obtain ⟨u7, eu7, h⟩ := h.2
    refine g_top1 eu7 ?_
    have hk8 := h.1
    refine gX_aald (n := 104) hC hX dX0_hall_52 (by decide) hk8 h.2.1 ?_
    refine g_iload_n hC dX0_hall_53 rfl ?_
    obtain ⟨u9, eu9, h⟩ := h.2.2
    refine g_top1 eu9 ?_
    have hk10 := h.1
    refine gX_ni hX (gX_runV (As := [.int a2]) (rest := []) (Cr := RX2) hC hX (mx_X2_told (cx_l C) E _ _ _ _ h.2) (lw_V q761 q762 q763 q75 q764) hx_X2_told rfl rfl (Or.inl (Nat.le_of_ble_eq_true rfl)) ⟨Nat.le_of_ble_eq_true rfl, Nat.le_of_ble_eq_true rfl⟩ dX0_hall_54 (Nat.zero_le _) (Nat.zero_le _) hk10 rfl (by decide) rfl) rfl rfl ?_
    intro r12 S11 h
    refine g_goto (tgt := 62) hC dX0_hall_57 (by decide) ?_
    refine gX_iret rfl hC hA hQ dX0_hall_62 h
  refine g_iload_n hC dX0_hall_0 rfl ?_
  refine gX_ni hX (gX_runS (As := [.int x1]) (rest := []) hC hX (mx_X0_isHall (cx_l C) E _ _ _ h) (lw_S q752 q753 q70 q754) hx_X0_isHall.2 rfl rfl (Or.inl (Nat.le_of_ble_eq_true rfl)) ⟨Nat.le_of_ble_eq_true rfl, Nat.le_of_ble_eq_true rfl⟩ dX0_hall_1 (Nat.zero_le _) (Nat.zero_le _)) rfl rfl ?_
  intro r2 S1 h
  refine g_if_eq (tgt := 60) hC dX0_hall_4 (by decide) (fun c => ?_) (fun c => ?_)
  · have h := it_p c h
    refine g_ldc (v := -1000001) hC dX0_hall_60 q273 ?_
    refine gX_iret rfl hC hA hQ dX0_hall_62 h
  · have h := it_n c h
    refine g_iload_n hC dX0_hall_7 rfl ?_
    refine g_i2l hC dX0_hall_8 ?_
    refine g_lconst (v := 0) hC dX0_hall_9 (by decide) ?_
    refine g_ldc2 (v := 5) hC dX0_hall_10 q756 ?_
    refine gX_ni hX (gX_runS (As := [.long (Int32.toInt64 x2), .long (0 : Int64), .long (5 : Int64)]) (rest := []) hC hX (mx_X0_isIn (cx_l C) E _ _ _ _ _ h) (lw_S q269 q270 q70 q271) hx_X0_isIn.2 rfl rfl (Or.inl (Nat.le_of_ble_eq_true rfl)) ⟨Nat.le_of_ble_eq_true rfl, Nat.le_of_ble_eq_true rfl⟩ dX0_hall_13 (Nat.zero_le _) (Nat.zero_le _)) rfl rfl ?_
    intro r4 S3 h
    refine g_if_ne (tgt := 47) hC dX0_hall_16 (by decide) (fun c => ?_) (fun c => ?_)
    · have h := it_n c h
      exact s_47 S3 x0 x1 x2 h
    · have h := it_p c h
      refine g_iload_n hC dX0_hall_19 rfl ?_
      refine g_i2l hC dX0_hall_20 ?_
      refine g_ldc2 (v := 10) hC dX0_hall_21 q757 ?_
      refine g_ldc2 (v := 14) hC dX0_hall_24 q758 ?_
      refine gX_ni hX (gX_runS (As := [.long (Int32.toInt64 x2), .long (10 : Int64), .long (14 : Int64)]) (rest := []) hC hX (mx_X0_isIn (cx_l C) E _ _ _ _ _ h) (lw_S q269 q270 q70 q271) hx_X0_isIn.2 rfl rfl (Or.inl (Nat.le_of_ble_eq_true rfl)) ⟨Nat.le_of_ble_eq_true rfl, Nat.le_of_ble_eq_true rfl⟩ dX0_hall_27 (Nat.zero_le _) (Nat.zero_le _)) rfl rfl ?_
      intro r14 S13 h
      refine g_if_ne (tgt := 47) hC dX0_hall_30 (by decide) (fun c => ?_) (fun c => ?_)
      · have h := it_n c h
        exact s_47 S13 x0 x1 x2 h
      · have h := it_p c h
        refine g_iload_n hC dX0_hall_33 rfl ?_
        refine g_i2l hC dX0_hall_34 ?_
        refine g_ldc2 (v := 20) hC dX0_hall_35 q759 ?_
        refine g_ldc2 (v := 24) hC dX0_hall_38 q760 ?_
        refine gX_ni hX (gX_runS (As := [.long (Int32.toInt64 x2), .long (20 : Int64), .long (24 : Int64)]) (rest := []) hC hX (mx_X0_isIn (cx_l C) E _ _ _ _ _ h) (lw_S q269 q270 q70 q271) hx_X0_isIn.2 rfl rfl (Or.inl (Nat.le_of_ble_eq_true rfl)) ⟨Nat.le_of_ble_eq_true rfl, Nat.le_of_ble_eq_true rfl⟩ dX0_hall_41 (Nat.zero_le _) (Nat.zero_le _)) rfl rfl ?_
        intro r16 S15 h
        refine g_if_eq (tgt := 60) hC dX0_hall_44 (by decide) (fun c => ?_) (fun c => ?_)
        · have h := it_p c h
          refine g_ldc (v := -1000001) hC dX0_hall_60 q273 ?_
          refine gX_iret rfl hC hA hQ dX0_hall_62 h
        · have h := it_n c h
          exact s_47 S15 x0 x1 x2 h
theorem mx_X0_hall (l : Launch) (E : XE) (Q : Int32 → XS → Prop) (S : XS) (x0 : Option Nat) (x1 : Int32) (x2 : Int32) (h : wx_X0_hall Q S x0 x1 x2) : XMet E l yX0_hall cX0_hall 3 (some .int) ({ frames := 3, cells := 0, slots := 0, locals := 79 } : Room) [va_rf x0, .int x1, .int x2] S (fun sz => va_Qi Q (BX1 E S sz) (xA S sz)) :=
  XMet_of (rm := ({ frames := 3, cells := 0, slots := 0, locals := 79 } : Room)) (by decide) (by simp [lg_sl, va_rf_cat, cat_i, cat_l]) (L0 := [some (va_rf x0), some (.int x1), some (.int x2)]) (by simp [lx_pairs, lv_args, va_rf_cat, cat_i, cat_l, List.range_succ]) (fun sz C hC hX hl hnm hA hQ => bx_X0_hall E C S sz Q S x0 x1 x2 hC hX hA hQ h)
/-! X5_row -/
def wx_X5_row_24 (Q : Option Nat → XS → Prop) (X : Nat → XS → Prop) (mc ms : Nat) (S : XS) (a0 : Option Nat) (a1 : Int32) (a2 : Int32) (s0 : Int32) : Prop :=
  (∃ k1 n2, k1 ≤ mc ∧ n2 ≤ ms ∧ wx_X0_must (fun S6 => ¬ a2 < 0 ∧ (Int32.toNatClampNeg a2) ≤ 100000 ∧ 1 ≤ (mc - k1) ∧ (Int32.toNatClampNeg a2) ≤ (ms - n2) ∧ (∀ q8 : Nat, xKD S6 q8 = none → dr a0 (fun u11 => xKD (sNewA S6 q8 100 (Int32.toNatClampNeg a2)) u11 = some 4 ∧ dr (xFR (sNewA S6 q8 100 (Int32.toNatClampNeg a2)) 401 u11) (fun u13 => xKD (sNewA S6 q8 100 (Int32.toNatClampNeg a2)) u13 = some 100 ∧ ¬ a1 < 0 ∧ ¬ (0 : Int32) < 0 ∧ ¬ a2 < 0 ∧ (Int32.toNatClampNeg a1) + (Int32.toNatClampNeg a2) ≤ xLN (sNewA S6 q8 100 (Int32.toNatClampNeg a2)) u13 ∧ (Int32.toNatClampNeg (0 : Int32)) + (Int32.toNatClampNeg a2) ≤ xLN (sNewA S6 q8 100 (Int32.toNatClampNeg a2)) q8 ∧ (∀ S15 : XS, S15 = sAIf (sNewA S6 q8 100 (Int32.toNatClampNeg a2)) q8 (va_cpy (xAI (sNewA S6 q8 100 (Int32.toNatClampNeg a2)) u13) (xAI (sNewA S6 q8 100 (Int32.toNatClampNeg a2)) q8) (Int32.toNatClampNeg a1) (Int32.toNatClampNeg (0 : Int32)) (Int32.toNatClampNeg a2)) → Q (some q8) S15))))) (fun q3 S4 => X q3 S4) k1 n2 S s0 (2 : Int32))
def wx_X5_row_23 (Q : Option Nat → XS → Prop) (X : Nat → XS → Prop) (mc ms : Nat) (S : XS) (a0 : Option Nat) (a1 : Int32) (a2 : Int32) : Prop :=
  wx_X5_row_24 Q X mc ms S a0 a1 a2 (0 : Int32)
def wx_X5_row (Q : Option Nat → XS → Prop) (X : Nat → XS → Prop) (mc ms : Nat) (S : XS) (x0 : Option Nat) (x1 : Int32) (x2 : Int32) : Prop :=
  (if x1 < 0 then wx_X5_row_23 Q X mc ms S x0 x1 x2 else dr x0 (fun u17 => xKD S u17 = some 4 ∧ dr (xFR S 401 u17) (fun u19 => xKD S u19 = some 100 ∧ (if 0 < (lg_cmp ((Int32.toInt64 x1) + (Int32.toInt64 x2)) (Int32.toInt64 (Int32.ofNat (xLN S u19)))) then wx_X5_row_23 Q X mc ms S x0 x1 x2 else wx_X5_row_24 Q X mc ms S x0 x1 x2 (1 : Int32)))))
theorem hx_X5_row : yX5_row.cls = RX5 ∧ yX5_row.cls ≠ "java/lang/invoke/MethodHandle" ∧ yX5_row.cls ≠ "java/lang/invoke/VarHandle" ∧ (parseMethodDescriptor yX5_row.desc).map (fun d => d.parameters.length) = some 2 := by decide +kernel
set_option maxHeartbeats 4000000 in
set_option maxRecDepth 100000 in
theorem bx_X5_row (E : XE) (C : Cx) (S0 : XS) (sz : Nat) (Q : Option Nat → XS → Prop) (X : Nat → XS → Prop) (mc ms : Nat) (S : XS) (x0 : Option Nat) (x1 : Int32) (x2 : Int32) (hC : COk C cX5_row RX5 (some (.array .int)) 5 124 4) (hX : XOk E C) (hT : ∀ x ∈ (cx_c C).exceptionTable.toList, False) (hA : cx_A C = xA S0 sz) (hQ : cx_Q C = vx_MQ (cx_b C) (va_Qq Q (BX1 E S0 sz) (xA S0 sz)) (XC0 E S0 sz RX4 3 X) (cx_a C) (cx_s C) (cx_MC C) (cx_MS C) (xA S0 sz)) (h : wx_X5_row Q X mc ms S x0 x1 x2) : GX E C S mc ms 0 [some (va_rf x0), some (.int x1), some (.int x2), none] [] := by
  have s_24 : ∀ (mc ms : Nat) (S : XS) (a0 : Option Nat) (a1 : Int32) (a2 : Int32) (s0 : Int32), wx_X5_row_24 Q X  mc ms S a0 a1 a2 s0 → GX E C S mc ms 24 [some (va_rf a0), some (.int a1), some (.int a2), none] [.int s0] := by
    intro  mc ms S a0 a1 a2 s0 h
    refine g_iconst (v := 2) hC dX5_row_24 (by decide) ?_
    obtain ⟨k1, n2, hk1, hn2, h⟩ := h
    refine gX_xv hX (gX_xrunSN (As := [.int s0, .int (2 : Int32)]) (rest := []) hC hX (mx_X0_must (cx_l C) E k1 n2 _ _ _ _ _ h) q276 q783 q70 hx_X0_must.2 q275 rfl rfl (Or.inl (Nat.le_of_ble_eq_true rfl)) ⟨Nat.le_of_ble_eq_true rfl, Nat.le_of_ble_eq_true rfl⟩ dX5_row_25 hk1 hn2) hk1 hn2 (fun q3 S4 h hk5 => ?_) ?_
    · exact gT_out (r := (RX4, TX4, 7)) hC hX hT hA hQ hk5 rfl (by decide) h
    intro S6 h
    refine g_iload_n hC dX5_row_28 rfl ?_
    refine gX_newi hC hX dX5_row_29 q163 h.1 h.2.1 h.2.2.1 h.2.2.2.1 ?_
    intro q8 hq9
    have h := h.2.2.2.2 q8 hq9
    have hk10 : xKD (sNewA S6 q8 100 (Int32.toNatClampNeg a2)) q8 = some 100 := kd_selfA
    refine g_astore_nR hC dX5_row_31 rfl (by decide) rfl rfl ?_
    refine g_aload_nR hC dX5_row_32 rfl ?_
    obtain ⟨u11, eu11, h⟩ := h
    refine g_top0 eu11 ?_
    have hk12 := h.1
    refine gX_get (C0 := RX5) (T := TX5) (N := 2) (n := 4) (k := 1) (q := (401, true)) hC hX dX5_row_33 q350 rfl in_X5 (by decide) (Or.inl rfl) rfl (by decide) hk12 ?_
    show GX _ _ _ _ _ _ _ (va_rf (xFR (sNewA S6 q8 100 (Int32.toNatClampNeg a2)) 401 u11) :: _)
    refine g_iload_n hC dX5_row_36 rfl ?_
    refine g_aload_nR hC dX5_row_37 rfl ?_
    refine g_iconst (v := 0) hC dX5_row_38 (by decide) ?_
    refine g_iload_n hC dX5_row_39 rfl ?_
    obtain ⟨u13, eu13, h⟩ := h.2
    refine g_top4 eu13 ?_
    have hk14 := h.1
    refine gX_acopyi hC hX dX5_row_40 q784 q418 q417 q85 hk14 hk10 h.2.1 h.2.2.1 h.2.2.2.1 h.2.2.2.2.1 h.2.2.2.2.2.1 (Nat.le_of_ble_eq_true rfl) (by decide) (by decide) ?_
    obtain ⟨S15, hS16⟩ : ∃ S15 : XS, S15 = sAIf (sNewA S6 q8 100 (Int32.toNatClampNeg a2)) q8 (va_cpy (xAI (sNewA S6 q8 100 (Int32.toNatClampNeg a2)) u13) (xAI (sNewA S6 q8 100 (Int32.toNatClampNeg a2)) q8) (Int32.toNatClampNeg a1) (Int32.toNatClampNeg (0 : Int32)) (Int32.toNatClampNeg a2)) := ⟨_, rfl⟩
    have h := h.2.2.2.2.2.2 S15 hS16
    refine gX_nm hS16 ?_
    refine g_aload_nR hC dX5_row_43 rfl ?_
    refine gX_end hQ (gX_aret (C := cx_to C _) hC hA rfl rfl (Or.inr ⟨_, rfl⟩) dX5_row_44 h)
  have s_23 : ∀ (mc ms : Nat) (S : XS) (a0 : Option Nat) (a1 : Int32) (a2 : Int32), wx_X5_row_23 Q X  mc ms S a0 a1 a2 → GX E C S mc ms 23 [some (va_rf a0), some (.int a1), some (.int a2), none] [] := by
    intro  mc ms S a0 a1 a2 h
    refine g_iconst (v := 0) hC dX5_row_23 (by decide) ?_
    exact s_24 mc ms S a0 a1 a2 (0 : Int32) h
  refine g_iload_n hC dX5_row_0 rfl ?_
  refine g_if_lt (tgt := 23) hC dX5_row_1 (by decide) (fun c => ?_) (fun c => ?_)
  · have h := it_p c h
    exact s_23 mc ms S x0 x1 x2 h
  · have h := it_n c h
    refine g_iload_n hC dX5_row_4 rfl ?_
    refine g_i2l hC dX5_row_5 ?_
    refine g_iload_n hC dX5_row_6 rfl ?_
    refine g_i2l hC dX5_row_7 ?_
    refine g_ladd hC dX5_row_8 ?_
    refine g_aload_nR hC dX5_row_9 rfl ?_
    obtain ⟨u17, eu17, h⟩ := h
    refine g_top0 eu17 ?_
    have hk18 := h.1
    refine gX_get (C0 := RX5) (T := TX5) (N := 2) (n := 4) (k := 1) (q := (401, true)) hC hX dX5_row_10 q350 rfl in_X5 (by decide) (Or.inl rfl) rfl (by decide) hk18 ?_
    show GX _ _ _ _ _ _ _ (va_rf (xFR S 401 u17) :: _)
    obtain ⟨u19, eu19, h⟩ := h.2
    refine g_top0 eu19 ?_
    have hk20 := h.1
    refine gX_alen (n := 100) hC hX dX5_row_13 (by decide) hk20 ?_
    refine g_i2l hC dX5_row_14 ?_
    refine g_lcmp hC dX5_row_15 ?_
    refine g_if_gt (tgt := 23) hC dX5_row_16 (by decide) (fun c => ?_) (fun c => ?_)
    · have h := it_p c h.2
      exact s_23 mc ms S x0 x1 x2 h
    · have h := it_n c h.2
      refine g_iconst (v := 1) hC dX5_row_19 (by decide) ?_
      refine g_goto (tgt := 24) hC dX5_row_20 (by decide) ?_
      exact s_24 mc ms S x0 x1 x2 (1 : Int32) h
theorem mx_X5_row (l : Launch) (E : XE) (mc ms : Nat) (Q : Option Nat → XS → Prop) (X : Nat → XS → Prop) (S : XS) (x0 : Option Nat) (x1 : Int32) (x2 : Int32) (h : wx_X5_row Q X mc ms S x0 x1 x2) : XMetX E l yX5_row cX5_row 4 (some (.array .int)) ({ frames := 5, cells := mc, slots := ms, locals := 124 } : Room) [va_rf x0, .int x1, .int x2] S (fun sz => va_Qq Q (BX1 E S sz) (xA S sz)) RX4 3 X :=
  XMetX_of (rm := ({ frames := 5, cells := mc, slots := ms, locals := 124 } : Room)) (by decide) (by simp [lg_sl, va_rf_cat, cat_i, cat_l]) (L0 := [some (va_rf x0), some (.int x1), some (.int x2), none]) (by simp [lx_pairs, lv_args, va_rf_cat, cat_i, cat_l, List.range_succ]) (fun sz C hC hX hl hnm hT hA hQ => bx_X5_row E C S sz Q X mc ms S x0 x1 x2 hC hX hT hA hQ h)
/-! X0_isDay -/
def wx_X0_isDay (Q : Int32 → XS → Prop) (S : XS) (x0 : Int32) : Prop :=
  wx_X0_isIn (fun r2 S1 => narrow .boolean (.int r2) = .int r2 ∧ Q r2 S1) S (Int32.toInt64 x0) (0 : Int64) (364 : Int64)
theorem hx_X0_isDay : yX0_isDay.cls = RX0 ∧ yX0_isDay.cls ≠ "java/lang/invoke/MethodHandle" ∧ yX0_isDay.cls ≠ "java/lang/invoke/VarHandle" ∧ (parseMethodDescriptor yX0_isDay.desc).map (fun d => d.parameters.length) = some 1 := by decide +kernel
set_option maxHeartbeats 4000000 in
set_option maxRecDepth 100000 in
theorem bx_X0_isDay (E : XE) (C : Cx) (S0 : XS) (sz : Nat) (Q : Int32 → XS → Prop) (S : XS) (x0 : Int32) (hC : COk C cX0_isDay RX0 (some .boolean) 2 59 1) (hX : XOk E C) (hA : cx_A C = xA S0 sz) (hQ : cx_Q C = MQ (cx_b C) (va_Qi Q (BX1 E S0 sz) (xA S0 sz)) (cx_a C) (cx_s C) (cx_MC C) (cx_MS C) (xA S0 sz)) (h : wx_X0_isDay Q S x0) : GX E C S 0 0 0 [some (.int x0)] [] := by
  refine g_iload_n hC dX0_isDay_0 rfl ?_
  refine g_i2l hC dX0_isDay_1 ?_
  refine g_lconst (v := 0) hC dX0_isDay_2 (by decide) ?_
  refine g_ldc2 (v := 364) hC dX0_isDay_3 q791 ?_
  refine gX_ni hX (gX_runS (As := [.long (Int32.toInt64 x0), .long (0 : Int64), .long (364 : Int64)]) (rest := []) hC hX (mx_X0_isIn (cx_l C) E _ _ _ _ _ h) (lw_S q269 q270 q70 q271) hx_X0_isIn.2 rfl rfl (Or.inl (Nat.le_of_ble_eq_true rfl)) ⟨Nat.le_of_ble_eq_true rfl, Nat.le_of_ble_eq_true rfl⟩ dX0_isDay_6 (Nat.zero_le _) (Nat.zero_le _)) rfl rfl ?_
  intro r2 S1 h
  refine gX_zret rfl h.1 hC hA hQ dX0_isDay_9 h.2
theorem mx_X0_isDay (l : Launch) (E : XE) (Q : Int32 → XS → Prop) (S : XS) (x0 : Int32) (h : wx_X0_isDay Q S x0) : XMet E l yX0_isDay cX0_isDay 1 (some .boolean) ({ frames := 2, cells := 0, slots := 0, locals := 59 } : Room) [.int x0] S (fun sz => va_Qi Q (BX1 E S sz) (xA S sz)) :=
  XMet_of (rm := ({ frames := 2, cells := 0, slots := 0, locals := 59 } : Room)) (by decide) (by simp [lg_sl, va_rf_cat, cat_i, cat_l]) (L0 := [some (.int x0)]) (by simp [lx_pairs, lv_args, va_rf_cat, cat_i, cat_l, List.range_succ]) (fun sz C hC hX hl hnm hA hQ => bx_X0_isDay E C S sz Q S x0 hC hX hA hQ h)
/-! X0_areQuarters -/
def wx_X0_areQuarters (Q : Int32 → XS → Prop) (S : XS) (x0 : Int32) (x1 : Int32) : Prop :=
  wx_X0_isIn (fun r2 S1 => (if r2 = 0 then Q (0 : Int32) S1 else wx_X0_isIn (fun r4 S3 => (if r4 = 0 then Q (0 : Int32) S3 else Q (1 : Int32) S3)) S1 (Int32.toInt64 x1) (Int32.toInt64 (x0 + (1 : Int32))) (96 : Int64))) S (Int32.toInt64 x0) (0 : Int64) (95 : Int64)
theorem hx_X0_areQuarters : yX0_areQuarters.cls = RX0 ∧ yX0_areQuarters.cls ≠ "java/lang/invoke/MethodHandle" ∧ yX0_areQuarters.cls ≠ "java/lang/invoke/VarHandle" ∧ (parseMethodDescriptor yX0_areQuarters.desc).map (fun d => d.parameters.length) = some 2 := by decide +kernel
set_option maxHeartbeats 4000000 in
set_option maxRecDepth 100000 in
theorem bx_X0_areQuarters (E : XE) (C : Cx) (S0 : XS) (sz : Nat) (Q : Int32 → XS → Prop) (S : XS) (x0 : Int32) (x1 : Int32) (hC : COk C cX0_areQuarters RX0 (some .boolean) 2 59 2) (hX : XOk E C) (hA : cx_A C = xA S0 sz) (hQ : cx_Q C = MQ (cx_b C) (va_Qi Q (BX1 E S0 sz) (xA S0 sz)) (cx_a C) (cx_s C) (cx_MC C) (cx_MS C) (xA S0 sz)) (h : wx_X0_areQuarters Q S x0 x1) : GX E C S 0 0 0 [some (.int x0), some (.int x1)] [] := by
  refine g_iload_n hC dX0_areQuarters_0 rfl ?_
  refine g_i2l hC dX0_areQuarters_1 ?_
  refine g_lconst (v := 0) hC dX0_areQuarters_2 (by decide) ?_
  refine g_ldc2 (v := 95) hC dX0_areQuarters_3 q795 ?_
  refine gX_ni hX (gX_runS (As := [.long (Int32.toInt64 x0), .long (0 : Int64), .long (95 : Int64)]) (rest := []) hC hX (mx_X0_isIn (cx_l C) E _ _ _ _ _ h) (lw_S q269 q270 q70 q271) hx_X0_isIn.2 rfl rfl (Or.inl (Nat.le_of_ble_eq_true rfl)) ⟨Nat.le_of_ble_eq_true rfl, Nat.le_of_ble_eq_true rfl⟩ dX0_areQuarters_6 (Nat.zero_le _) (Nat.zero_le _)) rfl rfl ?_
  intro r2 S1 h
  refine g_if_eq (tgt := 31) hC dX0_areQuarters_9 (by decide) (fun c => ?_) (fun c => ?_)
  · have h := it_p c h
    refine g_iconst (v := 0) hC dX0_areQuarters_31 (by decide) ?_
    refine gX_zret rfl rfl hC hA hQ dX0_areQuarters_32 h
  · have h := it_n c h
    refine g_iload_n hC dX0_areQuarters_12 rfl ?_
    refine g_i2l hC dX0_areQuarters_13 ?_
    refine g_iload_n hC dX0_areQuarters_14 rfl ?_
    refine g_iconst (v := 1) hC dX0_areQuarters_15 (by decide) ?_
    refine g_iadd hC dX0_areQuarters_16 ?_
    refine g_i2l hC dX0_areQuarters_17 ?_
    refine g_ldc2 (v := 96) hC dX0_areQuarters_18 q796 ?_
    refine gX_ni hX (gX_runS (As := [.long (Int32.toInt64 x1), .long (Int32.toInt64 (x0 + (1 : Int32))), .long (96 : Int64)]) (rest := []) hC hX (mx_X0_isIn (cx_l C) E _ _ _ _ _ h) (lw_S q269 q270 q70 q271) hx_X0_isIn.2 rfl rfl (Or.inl (Nat.le_of_ble_eq_true rfl)) ⟨Nat.le_of_ble_eq_true rfl, Nat.le_of_ble_eq_true rfl⟩ dX0_areQuarters_21 (Nat.zero_le _) (Nat.zero_le _)) rfl rfl ?_
    intro r4 S3 h
    refine g_if_eq (tgt := 31) hC dX0_areQuarters_24 (by decide) (fun c => ?_) (fun c => ?_)
    · have h := it_p c h
      refine g_iconst (v := 0) hC dX0_areQuarters_31 (by decide) ?_
      refine gX_zret rfl rfl hC hA hQ dX0_areQuarters_32 h
    · have h := it_n c h
      refine g_iconst (v := 1) hC dX0_areQuarters_27 (by decide) ?_
      refine g_goto (tgt := 32) hC dX0_areQuarters_28 (by decide) ?_
      refine gX_zret rfl rfl hC hA hQ dX0_areQuarters_32 h
theorem mx_X0_areQuarters (l : Launch) (E : XE) (Q : Int32 → XS → Prop) (S : XS) (x0 : Int32) (x1 : Int32) (h : wx_X0_areQuarters Q S x0 x1) : XMet E l yX0_areQuarters cX0_areQuarters 2 (some .boolean) ({ frames := 2, cells := 0, slots := 0, locals := 59 } : Room) [.int x0, .int x1] S (fun sz => va_Qi Q (BX1 E S sz) (xA S sz)) :=
  XMet_of (rm := ({ frames := 2, cells := 0, slots := 0, locals := 59 } : Room)) (by decide) (by simp [lg_sl, va_rf_cat, cat_i, cat_l]) (L0 := [some (.int x0), some (.int x1)]) (by simp [lx_pairs, lv_args, va_rf_cat, cat_i, cat_l, List.range_succ]) (fun sz C hC hX hl hnm hA hQ => bx_X0_areQuarters E C S sz Q S x0 x1 hC hX hA hQ h)
/-! X0_isBooked -/
def wx_X0_isBooked (Q : Int32 → XS → Prop) (S : XS) (x0 : Option Nat) : Prop :=
  dr x0 (fun u1 => xKD S u1 = some 100 ∧ vp_in (0 : Int32) (xLN S u1) ∧ wx_X0_isHall (fun r4 S3 => (if r4 = 0 then Q (0 : Int32) S3 else xKD S3 u1 = some 100 ∧ vp_in (1 : Int32) (xLN S3 u1) ∧ wx_X0_isIn (fun r7 S6 => (if r7 = 0 then Q (0 : Int32) S6 else xKD S6 u1 = some 100 ∧ vp_in (2 : Int32) (xLN S6 u1) ∧ wx_X0_isDay (fun r10 S9 => (if r10 = 0 then Q (0 : Int32) S9 else xKD S9 u1 = some 100 ∧ vp_in (3 : Int32) (xLN S9 u1) ∧ vp_in (4 : Int32) (xLN S9 u1) ∧ wx_X0_areQuarters (fun r13 S12 => (if r13 = 0 then Q (0 : Int32) S12 else xKD S12 u1 = some 100 ∧ vp_in (5 : Int32) (xLN S12 u1) ∧ wx_X0_isIn (fun r16 S15 => (if r16 = 0 then Q (0 : Int32) S15 else xKD S15 u1 = some 100 ∧ vp_in (6 : Int32) (xLN S15 u1) ∧ wx_X0_isIn (fun r19 S18 => (if r19 = 0 then Q (0 : Int32) S18 else xKD S18 u1 = some 100 ∧ vp_in (7 : Int32) (xLN S18 u1) ∧ wx_X0_isIn (fun r22 S21 => (if r22 = 0 then Q (0 : Int32) S21 else xKD S21 u1 = some 100 ∧ vp_in (8 : Int32) (xLN S21 u1) ∧ vp_in (2 : Int32) (xLN S21 u1) ∧ wx_X0_isIn (fun r25 S24 => (if r25 = 0 then Q (0 : Int32) S24 else Q (1 : Int32) S24)) S21 (Int32.toInt64 (xAI S21 u1 (Int32.toNatClampNeg (8 : Int32)))) (0 : Int64) (Int32.toInt64 (xAI S21 u1 (Int32.toNatClampNeg (2 : Int32)))))) S18 (Int32.toInt64 (xAI S18 u1 (Int32.toNatClampNeg (7 : Int32)))) (0 : Int64) (1 : Int64))) S15 (Int32.toInt64 (xAI S15 u1 (Int32.toNatClampNeg (6 : Int32)))) (0 : Int64) (4 : Int64))) S12 (Int32.toInt64 (xAI S12 u1 (Int32.toNatClampNeg (5 : Int32)))) (1 : Int64) (999 : Int64))) S9 (xAI S9 u1 (Int32.toNatClampNeg (3 : Int32))) (xAI S9 u1 (Int32.toNatClampNeg (4 : Int32))))) S6 (xAI S6 u1 (Int32.toNatClampNeg (2 : Int32))))) S3 (Int32.toInt64 (xAI S3 u1 (Int32.toNatClampNeg (1 : Int32)))) (0 : Int64) (1 : Int64))) S (xAI S u1 (Int32.toNatClampNeg (0 : Int32))))
theorem hx_X0_isBooked : yX0_isBooked.cls = RX0 ∧ yX0_isBooked.cls ≠ "java/lang/invoke/MethodHandle" ∧ yX0_isBooked.cls ≠ "java/lang/invoke/VarHandle" ∧ (parseMethodDescriptor yX0_isBooked.desc).map (fun d => d.parameters.length) = some 1 := by decide +kernel
set_option maxHeartbeats 4000000 in
set_option maxRecDepth 100000 in
theorem bx_X0_isBooked (E : XE) (C : Cx) (S0 : XS) (sz : Nat) (Q : Int32 → XS → Prop) (S : XS) (x0 : Option Nat) (hC : COk C cX0_isBooked RX0 (some .boolean) 3 80 1) (hX : XOk E C) (hA : cx_A C = xA S0 sz) (hQ : cx_Q C = MQ (cx_b C) (va_Qi Q (BX1 E S0 sz) (xA S0 sz)) (cx_a C) (cx_s C) (cx_MC C) (cx_MS C) (xA S0 sz)) (h : wx_X0_isBooked Q S x0) : GX E C S 0 0 0 [some (va_rf x0)] [] := by
  refine g_aload_nR hC dX0_isBooked_0 rfl ?_
  refine g_iconst (v := 0) hC dX0_isBooked_1 (by decide) ?_
  obtain ⟨u1, eu1, h⟩ := h
  refine g_top1 eu1 ?_
  have hk2 := h.1
  refine gX_iald hC hX dX0_isBooked_2 hk2 h.2.1 ?_
  refine gX_ni hX (gX_runS (As := [.int (xAI S u1 (Int32.toNatClampNeg (0 : Int32)))]) (rest := []) hC hX (mx_X0_isHall (cx_l C) E _ _ _ h.2.2) (lw_S q752 q753 q70 q754) hx_X0_isHall.2 rfl rfl (Or.inl (Nat.le_of_ble_eq_true rfl)) ⟨Nat.le_of_ble_eq_true rfl, Nat.le_of_ble_eq_true rfl⟩ dX0_isBooked_3 (Nat.zero_le _) (Nat.zero_le _)) rfl rfl ?_
  intro r4 S3 h
  refine g_if_eq (tgt := 104) hC dX0_isBooked_6 (by decide) (fun c => ?_) (fun c => ?_)
  · have h := it_p c h
    refine g_iconst (v := 0) hC dX0_isBooked_104 (by decide) ?_
    refine gX_zret rfl rfl hC hA hQ dX0_isBooked_105 h
  · have h := it_n c h
    refine g_aload_nR hC dX0_isBooked_9 rfl ?_
    refine g_iconst (v := 1) hC dX0_isBooked_10 (by decide) ?_
    refine g_top1 eu1 ?_
    have hk5 := h.1
    refine gX_iald hC hX dX0_isBooked_11 hk5 h.2.1 ?_
    refine g_i2l hC dX0_isBooked_12 ?_
    refine g_lconst (v := 0) hC dX0_isBooked_13 (by decide) ?_
    refine g_lconst (v := 1) hC dX0_isBooked_14 (by decide) ?_
    refine gX_ni hX (gX_runS (As := [.long (Int32.toInt64 (xAI S3 u1 (Int32.toNatClampNeg (1 : Int32)))), .long (0 : Int64), .long (1 : Int64)]) (rest := []) hC hX (mx_X0_isIn (cx_l C) E _ _ _ _ _ h.2.2) (lw_S q269 q270 q70 q271) hx_X0_isIn.2 rfl rfl (Or.inl (Nat.le_of_ble_eq_true rfl)) ⟨Nat.le_of_ble_eq_true rfl, Nat.le_of_ble_eq_true rfl⟩ dX0_isBooked_15 (Nat.zero_le _) (Nat.zero_le _)) rfl rfl ?_
    intro r7 S6 h
    refine g_if_eq (tgt := 104) hC dX0_isBooked_18 (by decide) (fun c => ?_) (fun c => ?_)
    · have h := it_p c h
      refine g_iconst (v := 0) hC dX0_isBooked_104 (by decide) ?_
      refine gX_zret rfl rfl hC hA hQ dX0_isBooked_105 h
    · have h := it_n c h
      refine g_aload_nR hC dX0_isBooked_21 rfl ?_
      refine g_iconst (v := 2) hC dX0_isBooked_22 (by decide) ?_
      refine g_top1 eu1 ?_
      have hk8 := h.1
      refine gX_iald hC hX dX0_isBooked_23 hk8 h.2.1 ?_
      refine gX_ni hX (gX_runS (As := [.int (xAI S6 u1 (Int32.toNatClampNeg (2 : Int32)))]) (rest := []) hC hX (mx_X0_isDay (cx_l C) E _ _ _ h.2.2) (lw_S q788 q789 q70 q790) hx_X0_isDay.2 rfl rfl (Or.inl (Nat.le_of_ble_eq_true rfl)) ⟨Nat.le_of_ble_eq_true rfl, Nat.le_of_ble_eq_true rfl⟩ dX0_isBooked_24 (Nat.zero_le _) (Nat.zero_le _)) rfl rfl ?_
      intro r10 S9 h
      refine g_if_eq (tgt := 104) hC dX0_isBooked_27 (by decide) (fun c => ?_) (fun c => ?_)
      · have h := it_p c h
        refine g_iconst (v := 0) hC dX0_isBooked_104 (by decide) ?_
        refine gX_zret rfl rfl hC hA hQ dX0_isBooked_105 h
      · have h := it_n c h
        refine g_aload_nR hC dX0_isBooked_30 rfl ?_
        refine g_iconst (v := 3) hC dX0_isBooked_31 (by decide) ?_
        refine g_top1 eu1 ?_
        have hk11 := h.1
        refine gX_iald hC hX dX0_isBooked_32 hk11 h.2.1 ?_
        refine g_aload_nR hC dX0_isBooked_33 rfl ?_
        refine g_iconst (v := 4) hC dX0_isBooked_34 (by decide) ?_
        refine g_top1 eu1 ?_
        refine gX_iald hC hX dX0_isBooked_35 hk11 h.2.2.1 ?_
        refine gX_ni hX (gX_runS (As := [.int (xAI S9 u1 (Int32.toNatClampNeg (3 : Int32))), .int (xAI S9 u1 (Int32.toNatClampNeg (4 : Int32)))]) (rest := []) hC hX (mx_X0_areQuarters (cx_l C) E _ _ _ _ h.2.2.2) (lw_S q792 q793 q70 q794) hx_X0_areQuarters.2 rfl rfl (Or.inl (Nat.le_of_ble_eq_true rfl)) ⟨Nat.le_of_ble_eq_true rfl, Nat.le_of_ble_eq_true rfl⟩ dX0_isBooked_36 (Nat.zero_le _) (Nat.zero_le _)) rfl rfl ?_
        intro r13 S12 h
        refine g_if_eq (tgt := 104) hC dX0_isBooked_39 (by decide) (fun c => ?_) (fun c => ?_)
        · have h := it_p c h
          refine g_iconst (v := 0) hC dX0_isBooked_104 (by decide) ?_
          refine gX_zret rfl rfl hC hA hQ dX0_isBooked_105 h
        · have h := it_n c h
          refine g_aload_nR hC dX0_isBooked_42 rfl ?_
          refine g_iconst (v := 5) hC dX0_isBooked_43 (by decide) ?_
          refine g_top1 eu1 ?_
          have hk14 := h.1
          refine gX_iald hC hX dX0_isBooked_44 hk14 h.2.1 ?_
          refine g_i2l hC dX0_isBooked_45 ?_
          refine g_lconst (v := 1) hC dX0_isBooked_46 (by decide) ?_
          refine g_ldc2 (v := 999) hC dX0_isBooked_47 q797 ?_
          refine gX_ni hX (gX_runS (As := [.long (Int32.toInt64 (xAI S12 u1 (Int32.toNatClampNeg (5 : Int32)))), .long (1 : Int64), .long (999 : Int64)]) (rest := []) hC hX (mx_X0_isIn (cx_l C) E _ _ _ _ _ h.2.2) (lw_S q269 q270 q70 q271) hx_X0_isIn.2 rfl rfl (Or.inl (Nat.le_of_ble_eq_true rfl)) ⟨Nat.le_of_ble_eq_true rfl, Nat.le_of_ble_eq_true rfl⟩ dX0_isBooked_50 (Nat.zero_le _) (Nat.zero_le _)) rfl rfl ?_
          intro r16 S15 h
          refine g_if_eq (tgt := 104) hC dX0_isBooked_53 (by decide) (fun c => ?_) (fun c => ?_)
          · have h := it_p c h
            refine g_iconst (v := 0) hC dX0_isBooked_104 (by decide) ?_
            refine gX_zret rfl rfl hC hA hQ dX0_isBooked_105 h
          · have h := it_n c h
            refine g_aload_nR hC dX0_isBooked_56 rfl ?_
            refine g_bipush (v := 6) hC dX0_isBooked_57 (by decide) ?_
            refine g_top1 eu1 ?_
            have hk17 := h.1
            refine gX_iald hC hX dX0_isBooked_59 hk17 h.2.1 ?_
            refine g_i2l hC dX0_isBooked_60 ?_
            refine g_lconst (v := 0) hC dX0_isBooked_61 (by decide) ?_
            refine g_ldc2 (v := 4) hC dX0_isBooked_62 q798 ?_
            refine gX_ni hX (gX_runS (As := [.long (Int32.toInt64 (xAI S15 u1 (Int32.toNatClampNeg (6 : Int32)))), .long (0 : Int64), .long (4 : Int64)]) (rest := []) hC hX (mx_X0_isIn (cx_l C) E _ _ _ _ _ h.2.2) (lw_S q269 q270 q70 q271) hx_X0_isIn.2 rfl rfl (Or.inl (Nat.le_of_ble_eq_true rfl)) ⟨Nat.le_of_ble_eq_true rfl, Nat.le_of_ble_eq_true rfl⟩ dX0_isBooked_65 (Nat.zero_le _) (Nat.zero_le _)) rfl rfl ?_
            intro r19 S18 h
            refine g_if_eq (tgt := 104) hC dX0_isBooked_68 (by decide) (fun c => ?_) (fun c => ?_)
            · have h := it_p c h
              refine g_iconst (v := 0) hC dX0_isBooked_104 (by decide) ?_
              refine gX_zret rfl rfl hC hA hQ dX0_isBooked_105 h
            · have h := it_n c h
              refine g_aload_nR hC dX0_isBooked_71 rfl ?_
              refine g_bipush (v := 7) hC dX0_isBooked_72 (by decide) ?_
              refine g_top1 eu1 ?_
              have hk20 := h.1
              refine gX_iald hC hX dX0_isBooked_74 hk20 h.2.1 ?_
              refine g_i2l hC dX0_isBooked_75 ?_
              refine g_lconst (v := 0) hC dX0_isBooked_76 (by decide) ?_
              refine g_lconst (v := 1) hC dX0_isBooked_77 (by decide) ?_
              refine gX_ni hX (gX_runS (As := [.long (Int32.toInt64 (xAI S18 u1 (Int32.toNatClampNeg (7 : Int32)))), .long (0 : Int64), .long (1 : Int64)]) (rest := []) hC hX (mx_X0_isIn (cx_l C) E _ _ _ _ _ h.2.2) (lw_S q269 q270 q70 q271) hx_X0_isIn.2 rfl rfl (Or.inl (Nat.le_of_ble_eq_true rfl)) ⟨Nat.le_of_ble_eq_true rfl, Nat.le_of_ble_eq_true rfl⟩ dX0_isBooked_78 (Nat.zero_le _) (Nat.zero_le _)) rfl rfl ?_
              intro r22 S21 h
              refine g_if_eq (tgt := 104) hC dX0_isBooked_81 (by decide) (fun c => ?_) (fun c => ?_)
              · have h := it_p c h
                refine g_iconst (v := 0) hC dX0_isBooked_104 (by decide) ?_
                refine gX_zret rfl rfl hC hA hQ dX0_isBooked_105 h
              · have h := it_n c h
                refine g_aload_nR hC dX0_isBooked_84 rfl ?_
                refine g_bipush (v := 8) hC dX0_isBooked_85 (by decide) ?_
                refine g_top1 eu1 ?_
                have hk23 := h.1
                refine gX_iald hC hX dX0_isBooked_87 hk23 h.2.1 ?_
                refine g_i2l hC dX0_isBooked_88 ?_
                refine g_lconst (v := 0) hC dX0_isBooked_89 (by decide) ?_
                refine g_aload_nR hC dX0_isBooked_90 rfl ?_
                refine g_iconst (v := 2) hC dX0_isBooked_91 (by decide) ?_
                refine g_top1 eu1 ?_
                refine gX_iald hC hX dX0_isBooked_92 hk23 h.2.2.1 ?_
                refine g_i2l hC dX0_isBooked_93 ?_
                refine gX_ni hX (gX_runS (As := [.long (Int32.toInt64 (xAI S21 u1 (Int32.toNatClampNeg (8 : Int32)))), .long (0 : Int64), .long (Int32.toInt64 (xAI S21 u1 (Int32.toNatClampNeg (2 : Int32))))]) (rest := []) hC hX (mx_X0_isIn (cx_l C) E _ _ _ _ _ h.2.2.2) (lw_S q269 q270 q70 q271) hx_X0_isIn.2 rfl rfl (Or.inl (Nat.le_of_ble_eq_true rfl)) ⟨Nat.le_of_ble_eq_true rfl, Nat.le_of_ble_eq_true rfl⟩ dX0_isBooked_94 (Nat.zero_le _) (Nat.zero_le _)) rfl rfl ?_
                intro r25 S24 h
                refine g_if_eq (tgt := 104) hC dX0_isBooked_97 (by decide) (fun c => ?_) (fun c => ?_)
                · have h := it_p c h
                  refine g_iconst (v := 0) hC dX0_isBooked_104 (by decide) ?_
                  refine gX_zret rfl rfl hC hA hQ dX0_isBooked_105 h
                · have h := it_n c h
                  refine g_iconst (v := 1) hC dX0_isBooked_100 (by decide) ?_
                  refine g_goto (tgt := 105) hC dX0_isBooked_101 (by decide) ?_
                  refine gX_zret rfl rfl hC hA hQ dX0_isBooked_105 h
theorem mx_X0_isBooked (l : Launch) (E : XE) (Q : Int32 → XS → Prop) (S : XS) (x0 : Option Nat) (h : wx_X0_isBooked Q S x0) : XMet E l yX0_isBooked cX0_isBooked 1 (some .boolean) ({ frames := 3, cells := 0, slots := 0, locals := 80 } : Room) [va_rf x0] S (fun sz => va_Qi Q (BX1 E S sz) (xA S sz)) :=
  XMet_of (rm := ({ frames := 3, cells := 0, slots := 0, locals := 80 } : Room)) (by decide) (by simp [lg_sl, va_rf_cat, cat_i, cat_l]) (L0 := [some (va_rf x0)]) (by simp [lx_pairs, lv_args, va_rf_cat, cat_i, cat_l, List.range_succ]) (fun sz C hC hX hl hnm hA hQ => bx_X0_isBooked E C S sz Q S x0 hC hX hA hQ h)
/-! X8_init -/
def wx_X8_init_79 (Q : XS → Prop) (S : XS) (a0 : Option Nat) (a2 : Option Nat) (s0 : Option Nat) (s1 : Int32) : Prop :=
  dr s0 (fun u13 => xKD S u13 = some 7 ∧ narrow .boolean (.int s1) = .int s1 ∧ fits .boolean (.int s1) = true ∧ dr a2 (fun u15 => xKD (sFI S 708 u13 s1) u15 = some 100 ∧ vp_in (8 : Int32) (xLN (sFI S 708 u13 s1) u15) ∧ dr a0 (fun u17 => xKD (sFI S 708 u13 s1) u17 = some 7 ∧ Q (sFI (sFI S 708 u13 s1) 709 u17 (xAI (sFI S 708 u13 s1) u15 (Int32.toNatClampNeg (8 : Int32)))))))
def wx_X8_init (Q : XS → Prop) (S : XS) (x0 : Option Nat) (x1 : Int32) (x2 : Option Nat) : Prop :=
  dr x0 (fun u1 => xKD S u1 = some 7 ∧ dr x2 (fun u3 => xKD (sFI (sFI S 710 u1 (-1000000 : Int32)) 700 u1 x1) u3 = some 100 ∧ vp_in (0 : Int32) (xLN (sFI (sFI S 710 u1 (-1000000 : Int32)) 700 u1 x1) u3) ∧ vp_in (1 : Int32) (xLN (sFI (sFI (sFI S 710 u1 (-1000000 : Int32)) 700 u1 x1) 701 u1 (xAI (sFI (sFI S 710 u1 (-1000000 : Int32)) 700 u1 x1) u3 (Int32.toNatClampNeg (0 : Int32)))) u3) ∧ (∀ S5 : XS, S5 = sFI (sFI (sFI (sFI S 710 u1 (-1000000 : Int32)) 700 u1 x1) 701 u1 (xAI (sFI (sFI S 710 u1 (-1000000 : Int32)) 700 u1 x1) u3 (Int32.toNatClampNeg (0 : Int32)))) 702 u1 (xAI (sFI (sFI (sFI S 710 u1 (-1000000 : Int32)) 700 u1 x1) 701 u1 (xAI (sFI (sFI S 710 u1 (-1000000 : Int32)) 700 u1 x1) u3 (Int32.toNatClampNeg (0 : Int32)))) u3 (Int32.toNatClampNeg (1 : Int32))) → xKD S5 u3 = some 100 ∧ vp_in (2 : Int32) (xLN S5 u3) ∧ xKD S5 u1 = some 7 ∧ vp_in (3 : Int32) (xLN (sFI S5 703 u1 (xAI S5 u3 (Int32.toNatClampNeg (2 : Int32)))) u3) ∧ vp_in (4 : Int32) (xLN (sFI (sFI S5 703 u1 (xAI S5 u3 (Int32.toNatClampNeg (2 : Int32)))) 704 u1 (xAI (sFI S5 703 u1 (xAI S5 u3 (Int32.toNatClampNeg (2 : Int32)))) u3 (Int32.toNatClampNeg (3 : Int32)))) u3) ∧ (∀ S9 : XS, S9 = sFI (sFI (sFI S5 703 u1 (xAI S5 u3 (Int32.toNatClampNeg (2 : Int32)))) 704 u1 (xAI (sFI S5 703 u1 (xAI S5 u3 (Int32.toNatClampNeg (2 : Int32)))) u3 (Int32.toNatClampNeg (3 : Int32)))) 705 u1 (xAI (sFI (sFI S5 703 u1 (xAI S5 u3 (Int32.toNatClampNeg (2 : Int32)))) 704 u1 (xAI (sFI S5 703 u1 (xAI S5 u3 (Int32.toNatClampNeg (2 : Int32)))) u3 (Int32.toNatClampNeg (3 : Int32)))) u3 (Int32.toNatClampNeg (4 : Int32))) → xKD S9 u3 = some 100 ∧ vp_in (5 : Int32) (xLN S9 u3) ∧ xKD S9 u1 = some 7 ∧ vp_in (6 : Int32) (xLN (sFI S9 706 u1 (xAI S9 u3 (Int32.toNatClampNeg (5 : Int32)))) u3) ∧ vp_in (7 : Int32) (xLN (sFI (sFI S9 706 u1 (xAI S9 u3 (Int32.toNatClampNeg (5 : Int32)))) 707 u1 (xAI (sFI S9 706 u1 (xAI S9 u3 (Int32.toNatClampNeg (5 : Int32)))) u3 (Int32.toNatClampNeg (6 : Int32)))) u3) ∧ (if (xAI (sFI (sFI S9 706 u1 (xAI S9 u3 (Int32.toNatClampNeg (5 : Int32)))) 707 u1 (xAI (sFI S9 706 u1 (xAI S9 u3 (Int32.toNatClampNeg (5 : Int32)))) u3 (Int32.toNatClampNeg (6 : Int32)))) u3 (Int32.toNatClampNeg (7 : Int32))) = (1 : Int32) then wx_X8_init_79 Q (sFI (sFI S9 706 u1 (xAI S9 u3 (Int32.toNatClampNeg (5 : Int32)))) 707 u1 (xAI (sFI S9 706 u1 (xAI S9 u3 (Int32.toNatClampNeg (5 : Int32)))) u3 (Int32.toNatClampNeg (6 : Int32)))) x0 x2 x0 (1 : Int32) else wx_X8_init_79 Q (sFI (sFI S9 706 u1 (xAI S9 u3 (Int32.toNatClampNeg (5 : Int32)))) 707 u1 (xAI (sFI S9 706 u1 (xAI S9 u3 (Int32.toNatClampNeg (5 : Int32)))) u3 (Int32.toNatClampNeg (6 : Int32)))) x0 x2 x0 (0 : Int32))))))
theorem hx_X8_init : yX8_init.cls = RX8 ∧ yX8_init.cls ≠ "java/lang/invoke/MethodHandle" ∧ yX8_init.cls ≠ "java/lang/invoke/VarHandle" ∧ (parseMethodDescriptor yX8_init.desc).map (fun d => d.parameters.length) = some 2 := by decide +kernel
set_option maxHeartbeats 4000000 in
set_option maxRecDepth 100000 in
theorem bx_X8_init (E : XE) (C : Cx) (S0 : XS) (sz : Nat) (Q : XS → Prop) (S : XS) (x0 : Option Nat) (x1 : Int32) (x2 : Option Nat) (hC : COk C cX8_init RX8 none 1 34 3) (hX : XOk E C) (hA : cx_A C = xA S0 sz) (hini : (cx_h C).name = "<init>") (hQ : cx_Q C = MQ (cx_b C) (va_Qv Q (BX1 E S0 sz) (xA S0 sz)) (cx_a C) (cx_s C) (cx_MC C) (cx_MS C) (xA S0 sz)) (h : wx_X8_init Q S x0 x1 x2) : GX E C S 0 0 0 [some (va_rf x0), some (.int x1), some (va_rf x2)] [] := by
  have s_79 : ∀ (S : XS) (a0 : Option Nat) (a2 : Option Nat) (s0 : Option Nat) (s1 : Int32), wx_X8_init_79 Q  S a0 a2 s0 s1 → GX E C S 0 0 79 [some (va_rf a0), none, some (va_rf a2)] [.int s1, va_rf s0] := by
    intro  S a0 a2 s0 s1 h
    obtain ⟨u13, eu13, h⟩ := h
    refine g_top1 eu13 ?_
    have hk14 := h.1
    refine gX_putIF (C0 := RX8) (T := TX8) (ty0 := tyX8) (N := 11) (n := 7) (k := 8) (f := 708) hC hX dX8_init_79 q830 rfl in_X8 tyX8_ok nmX8 (by decide) rfl rfl hini rfl rfl h.2.1 h.2.2.1 rfl (by decide) (Or.inl (by decide)) hk14 ?_
    refine g_aload_nR hC dX8_init_82 rfl ?_
    refine g_aload_nR hC dX8_init_83 rfl ?_
    refine g_bipush (v := 8) hC dX8_init_84 (by decide) ?_
    obtain ⟨u15, eu15, h⟩ := h.2.2.2
    refine g_top1 eu15 ?_
    have hk16 := h.1
    refine gX_iald hC hX dX8_init_86 hk16 h.2.1 ?_
    obtain ⟨u17, eu17, h⟩ := h.2.2
    refine g_top1 eu17 ?_
    have hk18 := h.1
    refine gX_putIF (C0 := RX8) (T := TX8) (ty0 := tyX8) (N := 11) (n := 7) (k := 9) (f := 709) hC hX dX8_init_87 q832 rfl in_X8 tyX8_ok nmX8 (by decide) rfl rfl hini rfl rfl rfl rfl rfl (by decide) (Or.inl (by decide)) hk18 ?_
    refine gX_vret hC hA hQ rfl dX8_init_90 h.2
  refine g_aload_nR hC dX8_init_0 rfl ?_
  obtain ⟨u1, eu1, h⟩ := h
  refine g_top0 eu1 ?_
  refine gX_oinit hC dX8_init_1 q803 q115 q116 (Nat.le_of_ble_eq_true rfl) (by decide) (by decide) ?_
  refine g_aload_nR hC dX8_init_4 rfl ?_
  refine g_ldc (v := -1000000) hC dX8_init_5 q804 ?_
  refine g_top1 eu1 ?_
  have hk2 := h.1
  refine gX_putI (C0 := RX8) (T := TX8) (ty0 := tyX8) (N := 11) (n := 7) (k := 10) (f := 710) hC hX dX8_init_7 q834 rfl in_X8 tyX8_ok nmX8 (by decide) (Or.inl rfl) rfl rfl rfl rfl rfl (by decide) (Or.inl (by decide)) hk2 ?_
  refine g_aload_nR hC dX8_init_10 rfl ?_
  refine g_iload_n hC dX8_init_11 rfl ?_
  refine g_top1 eu1 ?_
  refine gX_putIF (C0 := RX8) (T := TX8) (ty0 := tyX8) (N := 11) (n := 7) (k := 0) (f := 700) hC hX dX8_init_12 q805 rfl in_X8 tyX8_ok nmX8 (by decide) rfl rfl hini rfl rfl rfl rfl rfl (by decide) (Or.inl (by decide)) hk2 ?_
  refine g_aload_nR hC dX8_init_15 rfl ?_
  refine g_aload_nR hC dX8_init_16 rfl ?_
  refine g_iconst (v := 0) hC dX8_init_17 (by decide) ?_
  obtain ⟨u3, eu3, h⟩ := h.2
  refine g_top1 eu3 ?_
  have hk4 := h.1
  refine gX_iald hC hX dX8_init_18 hk4 h.2.1 ?_
  refine g_top1 eu1 ?_
  refine gX_putIF (C0 := RX8) (T := TX8) (ty0 := tyX8) (N := 11) (n := 7) (k := 1) (f := 701) hC hX dX8_init_19 q807 rfl in_X8 tyX8_ok nmX8 (by decide) rfl rfl hini rfl rfl rfl rfl rfl (by decide) (Or.inl (by decide)) hk2 ?_
  refine g_aload_nR hC dX8_init_22 rfl ?_
  refine g_aload_nR hC dX8_init_23 rfl ?_
  refine g_iconst (v := 1) hC dX8_init_24 (by decide) ?_
  refine g_top1 eu3 ?_
  refine gX_iald hC hX dX8_init_25 hk4 h.2.2.1 ?_
  refine g_top1 eu1 ?_
  refine gX_putIF (C0 := RX8) (T := TX8) (ty0 := tyX8) (N := 11) (n := 7) (k := 2) (f := 702) hC hX dX8_init_26 q810 rfl in_X8 tyX8_ok nmX8 (by decide) rfl rfl hini rfl rfl rfl rfl rfl (by decide) (Or.inl (by decide)) hk2 ?_
  obtain ⟨S5, hS6⟩ : ∃ S5 : XS, S5 = sFI (sFI (sFI (sFI S 710 u1 (-1000000 : Int32)) 700 u1 x1) 701 u1 (xAI (sFI (sFI S 710 u1 (-1000000 : Int32)) 700 u1 x1) u3 (Int32.toNatClampNeg (0 : Int32)))) 702 u1 (xAI (sFI (sFI (sFI S 710 u1 (-1000000 : Int32)) 700 u1 x1) 701 u1 (xAI (sFI (sFI S 710 u1 (-1000000 : Int32)) 700 u1 x1) u3 (Int32.toNatClampNeg (0 : Int32)))) u3 (Int32.toNatClampNeg (1 : Int32))) := ⟨_, rfl⟩
  have h := h.2.2.2 S5 hS6
  refine gX_nm hS6 ?_
  refine g_aload_nR hC dX8_init_29 rfl ?_
  refine g_aload_nR hC dX8_init_30 rfl ?_
  refine g_iconst (v := 2) hC dX8_init_31 (by decide) ?_
  refine g_top1 eu3 ?_
  have hk7 := h.1
  refine gX_iald hC hX dX8_init_32 hk7 h.2.1 ?_
  refine g_top1 eu1 ?_
  have hk8 := h.2.2.1
  refine gX_putIF (C0 := RX8) (T := TX8) (ty0 := tyX8) (N := 11) (n := 7) (k := 3) (f := 703) hC hX dX8_init_33 q812 rfl in_X8 tyX8_ok nmX8 (by decide) rfl rfl hini rfl rfl rfl rfl rfl (by decide) (Or.inl (by decide)) hk8 ?_
  refine g_aload_nR hC dX8_init_36 rfl ?_
  refine g_aload_nR hC dX8_init_37 rfl ?_
  refine g_iconst (v := 3) hC dX8_init_38 (by decide) ?_
  refine g_top1 eu3 ?_
  refine gX_iald hC hX dX8_init_39 hk7 h.2.2.2.1 ?_
  refine g_top1 eu1 ?_
  refine gX_putIF (C0 := RX8) (T := TX8) (ty0 := tyX8) (N := 11) (n := 7) (k := 4) (f := 704) hC hX dX8_init_40 q816 rfl in_X8 tyX8_ok nmX8 (by decide) rfl rfl hini rfl rfl rfl rfl rfl (by decide) (Or.inl (by decide)) hk8 ?_
  refine g_aload_nR hC dX8_init_43 rfl ?_
  refine g_aload_nR hC dX8_init_44 rfl ?_
  refine g_iconst (v := 4) hC dX8_init_45 (by decide) ?_
  refine g_top1 eu3 ?_
  refine gX_iald hC hX dX8_init_46 hk7 h.2.2.2.2.1 ?_
  refine g_top1 eu1 ?_
  refine gX_putIF (C0 := RX8) (T := TX8) (ty0 := tyX8) (N := 11) (n := 7) (k := 5) (f := 705) hC hX dX8_init_47 q819 rfl in_X8 tyX8_ok nmX8 (by decide) rfl rfl hini rfl rfl rfl rfl rfl (by decide) (Or.inl (by decide)) hk8 ?_
  obtain ⟨S9, hS10⟩ : ∃ S9 : XS, S9 = sFI (sFI (sFI S5 703 u1 (xAI S5 u3 (Int32.toNatClampNeg (2 : Int32)))) 704 u1 (xAI (sFI S5 703 u1 (xAI S5 u3 (Int32.toNatClampNeg (2 : Int32)))) u3 (Int32.toNatClampNeg (3 : Int32)))) 705 u1 (xAI (sFI (sFI S5 703 u1 (xAI S5 u3 (Int32.toNatClampNeg (2 : Int32)))) 704 u1 (xAI (sFI S5 703 u1 (xAI S5 u3 (Int32.toNatClampNeg (2 : Int32)))) u3 (Int32.toNatClampNeg (3 : Int32)))) u3 (Int32.toNatClampNeg (4 : Int32))) := ⟨_, rfl⟩
  have h := h.2.2.2.2.2 S9 hS10
  refine gX_nm hS10 ?_
  refine g_aload_nR hC dX8_init_50 rfl ?_
  refine g_aload_nR hC dX8_init_51 rfl ?_
  refine g_iconst (v := 5) hC dX8_init_52 (by decide) ?_
  refine g_top1 eu3 ?_
  have hk11 := h.1
  refine gX_iald hC hX dX8_init_53 hk11 h.2.1 ?_
  refine g_top1 eu1 ?_
  have hk12 := h.2.2.1
  refine gX_putIF (C0 := RX8) (T := TX8) (ty0 := tyX8) (N := 11) (n := 7) (k := 6) (f := 706) hC hX dX8_init_54 q822 rfl in_X8 tyX8_ok nmX8 (by decide) rfl rfl hini rfl rfl rfl rfl rfl (by decide) (Or.inl (by decide)) hk12 ?_
  refine g_aload_nR hC dX8_init_57 rfl ?_
  refine g_aload_nR hC dX8_init_58 rfl ?_
  refine g_bipush (v := 6) hC dX8_init_59 (by decide) ?_
  refine g_top1 eu3 ?_
  refine gX_iald hC hX dX8_init_61 hk11 h.2.2.2.1 ?_
  refine g_top1 eu1 ?_
  refine gX_putIF (C0 := RX8) (T := TX8) (ty0 := tyX8) (N := 11) (n := 7) (k := 7) (f := 707) hC hX dX8_init_62 q826 rfl in_X8 tyX8_ok nmX8 (by decide) rfl rfl hini rfl rfl rfl rfl rfl (by decide) (Or.inl (by decide)) hk12 ?_
  refine g_aload_nR hC dX8_init_65 rfl ?_
  refine g_aload_nR hC dX8_init_66 rfl ?_
  refine g_bipush (v := 7) hC dX8_init_67 (by decide) ?_
  refine g_top1 eu3 ?_
  refine gX_iald hC hX dX8_init_69 hk11 h.2.2.2.2.1 ?_
  refine g_iconst (v := 1) hC dX8_init_70 (by decide) ?_
  refine g_icmp_ne (tgt := 78) hC dX8_init_71 (by decide) (fun c => ?_) (fun c => ?_)
  · have h := it_n c h.2.2.2.2.2
    refine g_iconst (v := 0) hC dX8_init_78 (by decide) ?_
    refine g_sub [true, false, true] rfl ?_
    exact s_79 (sFI (sFI S9 706 u1 (xAI S9 u3 (Int32.toNatClampNeg (5 : Int32)))) 707 u1 (xAI (sFI S9 706 u1 (xAI S9 u3 (Int32.toNatClampNeg (5 : Int32)))) u3 (Int32.toNatClampNeg (6 : Int32)))) x0 x2 x0 (0 : Int32) h
  · have h := it_p c h.2.2.2.2.2
    refine g_iconst (v := 1) hC dX8_init_74 (by decide) ?_
    refine g_goto (tgt := 79) hC dX8_init_75 (by decide) ?_
    refine g_sub [true, false, true] rfl ?_
    exact s_79 (sFI (sFI S9 706 u1 (xAI S9 u3 (Int32.toNatClampNeg (5 : Int32)))) 707 u1 (xAI (sFI S9 706 u1 (xAI S9 u3 (Int32.toNatClampNeg (5 : Int32)))) u3 (Int32.toNatClampNeg (6 : Int32)))) x0 x2 x0 (1 : Int32) h
theorem mx_X8_init (l : Launch) (E : XE) (Q : XS → Prop) (S : XS) (x0 : Option Nat) (x1 : Int32) (x2 : Option Nat) (h : wx_X8_init Q S x0 x1 x2) : XMet E l yX8_init cX8_init 3 none ({ frames := 1, cells := 0, slots := 0, locals := 34 } : Room) [va_rf x0, .int x1, va_rf x2] S (fun sz => va_Qv Q (BX1 E S sz) (xA S sz)) :=
  XMet_of (rm := ({ frames := 1, cells := 0, slots := 0, locals := 34 } : Room)) (by decide) (by simp [lg_sl, va_rf_cat, cat_i, cat_l]) (L0 := [some (va_rf x0), some (.int x1), some (va_rf x2)]) (by simp [lx_pairs, lv_args, va_rf_cat, cat_i, cat_l, List.range_succ]) (fun sz C hC hX hl hnm hA hQ => bx_X8_init E C S sz Q S x0 x1 x2 hC hX hA hnm hQ h)
/-! X0_book -/
def wx_X0_book_92 (Q : Int32 → XS → Prop) (mc ms : Nat) (S : XS) (a0 : Option Nat) (s0 : Option Nat) : Prop :=
  dr a0 (fun u15 => xKD S u15 = some 0 ∧ wx_X0_found (fun r18 S17 => Q r18 S17) S (some u15) s0)
def wx_X0_book (Q : Int32 → XS → Prop) (mc ms : Nat) (S : XS) (x0 : Option Nat) (x1 : Int32) (x2 : Int32) : Prop :=
  wx_X0_isSheet (fun r2 S1 => (if r2 = 0 then Q (-1000001 : Int32) S1 else dr x0 (fun u3 => xKD S1 u3 = some 0 ∧ dr (xFR S1 2 u3) (fun u5 => xKD S1 u5 = some 16 ∧ wx_J2_size (fun r8 S7 => (if r8 = (16 : Int32) then Q (-1000003 : Int32) S7 else xKD S7 u3 = some 0 ∧ (∃ k10 n11, k10 ≤ mc ∧ n11 ≤ ms ∧ wx_X0_sheetAt (fun r20 S19 => dr r20 (fun u21 => xKD S19 u21 = some 4 ∧ (∃ k23 n24, k23 ≤ (mc - k10) ∧ n24 ≤ (ms - n11) ∧ wx_X5_row (fun r29 S28 => wx_X0_isBooked (fun r31 S30 => (if r31 = 0 then Q (-1000001 : Int32) S30 else xKD S30 u3 = some 0 ∧ 1 ≤ ((mc - k10) - k23) ∧ 11 ≤ ((ms - n11) - n24) ∧ (∀ q33 : Nat, xKD S30 q33 = none → dr (xFR (sNew S30 q33 7) 2 u3) (fun u37 => xKD (sNew S30 q33 7) u37 = some 16 ∧ wx_J2_size (fun r40 S39 => wx_X8_init (fun S41 => dr (xFR S30 2 u3) (fun u43 => xKD S41 u43 = some 16 ∧ (∃ k45 n46, k45 ≤ (((mc - k10) - k23) - 1) ∧ n46 ≤ (((ms - n11) - n24) - 11) ∧ wx_J2_add (fun r48 S47 => xKD S47 u3 = some 0 ∧ dr (xFR S47 2 u3) (fun u50 => xKD S47 u50 = some 16 ∧ wx_J2_size (fun r53 S52 => xKD S52 u3 = some 0 ∧ wx_X0_well (fun r56 S55 => Q r56 S55) S52 (some u3) (r53 - (1 : Int32))) S47 (some u50))) k45 n46 S41 (some u43) (some q33)))) S39 (some q33) r40 r29) (sNew S30 q33 7) (some u37))))) S28 r29) (fun q25 S26 => wx_X0_book_92 Q ((mc - k10) - k23) ((ms - n11) - n24) S26 x0 (some q25)) k23 n24 S19 (some u21) x2 (9 : Int32)))) (fun q12 S13 => wx_X0_book_92 Q (mc - k10) (ms - n11) S13 x0 (some q12)) k10 n11 S7 (some u3) x1))) S1 (some u5))))) S x1
theorem hx_X0_book : yX0_book.cls = RX0 ∧ yX0_book.cls ≠ "java/lang/invoke/MethodHandle" ∧ yX0_book.cls ≠ "java/lang/invoke/VarHandle" ∧ (parseMethodDescriptor yX0_book.desc).map (fun d => d.parameters.length) = some 2 := by decide +kernel
set_option maxHeartbeats 4000000 in
set_option maxRecDepth 100000 in
theorem bx_X0_book (E : XE) (C : Cx) (S0 : XS) (sz : Nat) (Q : Int32 → XS → Prop) (mc ms : Nat) (S : XS) (x0 : Option Nat) (x1 : Int32) (x2 : Int32) (hC : COk C cX0_book RX0 (some .int) 7 165 4) (hX : XOk E C) (hT : (cx_c C).exceptionTable.toList = tableOf [(27, 48, 92, 130), (49, 91, 92, 130)]) (hA : cx_A C = xA S0 sz) (hQ : cx_Q C = MQ (cx_b C) (va_Qi Q (BX1 E S0 sz) (xA S0 sz)) (cx_a C) (cx_s C) (cx_MC C) (cx_MS C) (xA S0 sz)) (h : wx_X0_book Q mc ms S x0 x1 x2) : GX E C S mc ms 0 [some (va_rf x0), some (.int x1), some (.int x2), none] [] := by
  have s_92 : ∀ (mc ms : Nat) (S : XS) (a0 : Option Nat) (s0 : Option Nat), wx_X0_book_92 Q  mc ms S a0 s0 → GX E C S mc ms 92 [some (va_rf a0), none, none, none] [va_rf s0] := by
    intro  mc ms S a0 s0 h
    refine g_astore_nR hC dX0_book_92 rfl (by decide) rfl rfl ?_
    refine g_aload_nR hC dX0_book_93 rfl ?_
    refine g_aload_nR hC dX0_book_94 rfl ?_
    obtain ⟨u15, eu15, h⟩ := h
    refine g_top1 eu15 ?_
    have hk16 := h.1
    refine gX_ni hX (gX_runV (As := [va_rf s0]) (rest := []) (Cr := RX0) hC hX (mx_X0_found (cx_l C) E _ _ _ _ h.2) (lw_V q361 q363 qs2 q70 q364) hx_X0_found rfl rfl (Or.inl (Nat.le_of_ble_eq_true rfl)) ⟨Nat.le_of_ble_eq_true rfl, Nat.le_of_ble_eq_true rfl⟩ dX0_book_95 (Nat.zero_le _) (Nat.zero_le _) hk16 rfl (by decide) rfl) rfl rfl ?_
    intro r18 S17 h
    refine gX_iret rfl hC hA hQ dX0_book_98 h
  refine g_iload_n hC dX0_book_0 rfl ?_
  refine gX_ni hX (gX_runS (As := [.int x1]) (rest := []) hC hX (mx_X0_isSheet (cx_l C) E _ _ _ h) (lw_S q265 q266 q70 q267) hx_X0_isSheet.2 rfl rfl (Or.inl (Nat.le_of_ble_eq_true rfl)) ⟨Nat.le_of_ble_eq_true rfl, Nat.le_of_ble_eq_true rfl⟩ dX0_book_1 (Nat.zero_le _) (Nat.zero_le _)) rfl rfl ?_
  intro r2 S1 h
  refine g_if_ne (tgt := 10) hC dX0_book_4 (by decide) (fun c => ?_) (fun c => ?_)
  · have h := it_n c h
    refine g_aload_nR hC dX0_book_10 rfl ?_
    obtain ⟨u3, eu3, h⟩ := h
    refine g_top0 eu3 ?_
    have hk4 := h.1
    refine gX_get (C0 := RX0) (T := TX0) (N := 15) (n := 0) (k := 2) (q := (2, true)) hC hX dX0_book_11 q213 rfl in_X0 (by decide) (Or.inl rfl) rfl (by decide) hk4 ?_
    show GX _ _ _ _ _ _ _ (va_rf (xFR S1 2 u3) :: _)
    obtain ⟨u5, eu5, h⟩ := h.2
    refine g_top0 eu5 ?_
    have hk6 := h.1
    refine gX_ni5 hX (gX_runF (n := 0) (As := []) (rest := []) (Cr := "java/util/ArrayList") (x := ⟨"java/util/List", "size", "()I"⟩) hC hX (mx_J2_size (cx_l C) E _ _ _ h.2) (lw_app (lw_4 q770 q774 q776 q73) (lw_meth q778)) (List.mem_of_getElem? (i := 0) rfl) (by decide +kernel) rfl rfl (Or.inl (Nat.le_of_ble_eq_true rfl)) ⟨Nat.le_of_ble_eq_true rfl, Nat.le_of_ble_eq_true rfl⟩ dX0_book_14 (Nat.zero_le _) (Nat.zero_le _) hk6 rfl (by decide) rfl) rfl rfl ?_
    intro r8 S7 h
    refine g_bipush (v := 16) hC dX0_book_19 (by decide) ?_
    refine g_icmp_ne (tgt := 27) hC dX0_book_21 (by decide) (fun c => ?_) (fun c => ?_)
    · have h := it_n c h
      refine g_aload_nR hC dX0_book_27 rfl ?_
      refine g_iload_n hC dX0_book_28 rfl ?_
      refine g_top1 eu3 ?_
      have hk9 := h.1
      obtain ⟨k10, n11, hk10, hn11, h⟩ := h.2
      refine gX_xq hX (gX_xrunV (As := [.int x1]) (rest := []) (Cr := RX0) hC hX (mx_X0_sheetAt (cx_l C) E k10 n11 _ _ _ _ _ h) (lw_V q370 q372 qs3 q70 q373) hx_X0_sheetAt rfl rfl (Or.inl (Nat.le_of_ble_eq_true rfl)) ⟨Nat.le_of_ble_eq_true rfl, Nat.le_of_ble_eq_true rfl⟩ dX0_book_29 hk10 hn11 hk9 rfl (by decide) rfl) hk10 hn11 (fun q12 S13 h hk14 => ?_) ?_
      · refine gT_catch (r := (RX4, TX4, 7)) (name := "VillageHalls$Finding") hC hX hT [] (27, 48, 92, 130) [(49, 91, 92, 130)] rfl (by decide) (by decide) (by decide) q264 q278 hk14 rfl (by decide) ?_
        refine g_sub [true, false, false, false] rfl ?_
        exact s_92 (mc - k10) (ms - n11) S13 x0 (some q12) h
      intro r20 S19 h
      refine g_iload_n hC dX0_book_32 rfl ?_
      refine g_bipush (v := 9) hC dX0_book_33 (by decide) ?_
      obtain ⟨u21, eu21, h⟩ := h
      refine g_top2 eu21 ?_
      have hk22 := h.1
      obtain ⟨k23, n24, hk23, hn24, h⟩ := h.2
      refine gX_xq hX (gX_xrunV (As := [.int x2, .int (9 : Int32)]) (rest := []) (Cr := RX5) hC hX (mx_X5_row (cx_l C) E k23 n24 _ _ _ _ _ _ h) (lw_V q779 q780 q781 q80 q782) hx_X5_row rfl rfl (Or.inl (Nat.le_of_ble_eq_true rfl)) ⟨Nat.le_of_ble_eq_true rfl, Nat.le_of_ble_eq_true rfl⟩ dX0_book_35 hk23 hn24 hk22 rfl (by decide) rfl) hk23 hn24 (fun q25 S26 h hk27 => ?_) ?_
      · refine gT_catch (r := (RX4, TX4, 7)) (name := "VillageHalls$Finding") hC hX hT [] (27, 48, 92, 130) [(49, 91, 92, 130)] rfl (by decide) (by decide) (by decide) q264 q278 hk27 rfl (by decide) ?_
        refine g_sub [true, false, false, false] rfl ?_
        exact s_92 ((mc - k10) - k23) ((ms - n11) - n24) S26 x0 (some q25) h
      intro r29 S28 h
      refine g_astore_nR hC dX0_book_38 rfl (by decide) rfl rfl ?_
      refine g_sub [true, false, false, true] rfl ?_
      refine g_aload_nR hC dX0_book_39 rfl ?_
      refine gX_ni hX (gX_runS (As := [va_rf r29]) (rest := []) hC hX (mx_X0_isBooked (cx_l C) E _ _ _ h) (lw_S q785 q786 q70 q787) hx_X0_isBooked.2 rfl rfl (Or.inl (Nat.le_of_ble_eq_true rfl)) ⟨Nat.le_of_ble_eq_true rfl, Nat.le_of_ble_eq_true rfl⟩ dX0_book_40 (Nat.zero_le _) (Nat.zero_le _)) rfl rfl ?_
      intro r31 S30 h
      refine g_if_ne (tgt := 49) hC dX0_book_43 (by decide) (fun c => ?_) (fun c => ?_)
      · have h := it_n c h
        refine g_aload_nR hC dX0_book_49 rfl ?_
        refine g_top0 eu3 ?_
        have hk32 := h.1
        refine gX_get (C0 := RX0) (T := TX0) (N := 15) (n := 0) (k := 2) (q := (2, true)) hC hX dX0_book_50 q213 rfl in_X0 (by decide) (Or.inl rfl) rfl (by decide) hk32 ?_
        show GX _ _ _ _ _ _ _ (va_rf (xFR S30 2 u3) :: _)
        refine gX_new (C0 := RX8) (T := TX8) (ty0 := tyX8) (N := 11) (n := 7) hC hX dX0_book_53 q164 q799 q96 rfl in_X8 tyX8_ok (by decide) dv_X8 h.2.1 h.2.2.1 ?_
        intro q33 hq34
        have h := h.2.2.2 q33 hq34
        have hk35 := kd_new (q := q33) (n := 7) hk32 hq34
        have hk36 : xKD (sNew S30 q33 7) q33 = some 7 := kd_self
        refine g_dup hC dX0_book_56 (va_rf_cat _) ?_
        refine g_aload_nR hC dX0_book_57 rfl ?_
        refine g_top0 eu3 ?_
        refine gX_get (C0 := RX0) (T := TX0) (N := 15) (n := 0) (k := 2) (q := (2, true)) hC hX dX0_book_58 q213 rfl in_X0 (by decide) (Or.inl rfl) rfl (by decide) hk35 ?_
        show GX _ _ _ _ _ _ _ (va_rf (xFR (sNew S30 q33 7) 2 u3) :: _)
        obtain ⟨u37, eu37, h⟩ := h
        refine g_top0 eu37 ?_
        have hk38 := h.1
        refine gX_ni5 hX (gX_runF (n := 0) (As := []) (rest := [va_rf (some q33), va_rf (some q33), va_rf (xFR S30 2 u3)]) (Cr := "java/util/ArrayList") (x := ⟨"java/util/List", "size", "()I"⟩) hC hX (mx_J2_size (cx_l C) E _ _ _ h.2) (lw_app (lw_4 q770 q774 q776 q73) (lw_meth q778)) (List.mem_of_getElem? (i := 0) rfl) (by decide +kernel) rfl rfl (Or.inl (Nat.le_of_ble_eq_true rfl)) ⟨Nat.le_of_ble_eq_true rfl, Nat.le_of_ble_eq_true rfl⟩ dX0_book_61 (Nat.zero_le _) (Nat.zero_le _) hk38 rfl (by decide) rfl) rfl rfl ?_
        intro r40 S39 h
        refine g_aload_nR hC dX0_book_66 rfl ?_
        refine gX_nv hX (gX_runI (As := [.int r40, va_rf r29]) (rest := [va_rf (some q33), va_rf (xFR S30 2 u3)]) hC hX (mx_X8_init (cx_l C) E _ _ _ _ _ h) q802 q96 q800 q801 rfl hx_X8_init.2 rfl rfl (Or.inl (Nat.le_of_ble_eq_true rfl)) ⟨Nat.le_of_ble_eq_true rfl, Nat.le_of_ble_eq_true rfl⟩ dX0_book_67 (Nat.zero_le _) (Nat.zero_le _)) rfl rfl ?_
        intro S41 h
        obtain ⟨u43, eu43, h⟩ := h
        refine g_top1 eu43 ?_
        have hk44 := h.1
        obtain ⟨k45, n46, hk45, hn46, h⟩ := h.2
        refine gX_ci5 hX (gX_runF (n := 1) (As := [va_rf (some q33)]) (rest := []) (Cr := "java/util/ArrayList") (x := ⟨"java/util/List", "add", "(Ljava/lang/Object;)Z"⟩) hC hX (mx_J2_add (cx_l C) E k45 n46 _ _ _ _ h) (lw_app (lw_4 q860 q863 q865 q73) (lw_meth q867)) (List.mem_of_getElem? (i := 1) rfl) (by decide +kernel) rfl rfl (Or.inl (Nat.le_of_ble_eq_true rfl)) ⟨Nat.le_of_ble_eq_true rfl, Nat.le_of_ble_eq_true rfl⟩ dX0_book_70 hk45 hn46 hk44 rfl (by decide) rfl) hk45 hn46 ?_
        intro r48 S47 h
        refine g_pop hC dX0_book_75 rfl ?_
        refine g_aload_nR hC dX0_book_76 rfl ?_
        refine g_aload_nR hC dX0_book_77 rfl ?_
        refine g_top0 eu3 ?_
        have hk49 := h.1
        refine gX_get (C0 := RX0) (T := TX0) (N := 15) (n := 0) (k := 2) (q := (2, true)) hC hX dX0_book_78 q213 rfl in_X0 (by decide) (Or.inl rfl) rfl (by decide) hk49 ?_
        show GX _ _ _ _ _ _ _ (va_rf (xFR S47 2 u3) :: _)
        obtain ⟨u50, eu50, h⟩ := h.2
        refine g_top0 eu50 ?_
        have hk51 := h.1
        refine gX_ni5 hX (gX_runF (n := 0) (As := []) (rest := [va_rf x0]) (Cr := "java/util/ArrayList") (x := ⟨"java/util/List", "size", "()I"⟩) hC hX (mx_J2_size (cx_l C) E _ _ _ h.2) (lw_app (lw_4 q770 q774 q776 q73) (lw_meth q778)) (List.mem_of_getElem? (i := 0) rfl) (by decide +kernel) rfl rfl (Or.inl (Nat.le_of_ble_eq_true rfl)) ⟨Nat.le_of_ble_eq_true rfl, Nat.le_of_ble_eq_true rfl⟩ dX0_book_81 (Nat.zero_le _) (Nat.zero_le _) hk51 rfl (by decide) rfl) rfl rfl ?_
        intro r53 S52 h
        refine g_iconst (v := 1) hC dX0_book_86 (by decide) ?_
        refine g_isub hC dX0_book_87 ?_
        refine g_top1 eu3 ?_
        have hk54 := h.1
        refine gX_ni hX (gX_runV (As := [.int (r53 - (1 : Int32))]) (rest := []) (Cr := RX0) hC hX (mx_X0_well (cx_l C) E _ _ _ _ h.2) (lw_V q357 q359 qs1 q70 q360) hx_X0_well rfl rfl (Or.inl (Nat.le_of_ble_eq_true rfl)) ⟨Nat.le_of_ble_eq_true rfl, Nat.le_of_ble_eq_true rfl⟩ dX0_book_88 (Nat.zero_le _) (Nat.zero_le _) hk54 rfl (by decide) rfl) rfl rfl ?_
        intro r56 S55 h
        refine gX_iret rfl hC hA hQ dX0_book_91 h
      · have h := it_p c h
        refine g_ldc (v := -1000001) hC dX0_book_46 q273 ?_
        refine gX_iret rfl hC hA hQ dX0_book_48 h
    · have h := it_p c h
      refine g_ldc (v := -1000003) hC dX0_book_24 q428 ?_
      refine gX_iret rfl hC hA hQ dX0_book_26 h
  · have h := it_p c h
    refine g_ldc (v := -1000001) hC dX0_book_7 q273 ?_
    refine gX_iret rfl hC hA hQ dX0_book_9 h
theorem mx_X0_book (l : Launch) (E : XE) (mc ms : Nat) (Q : Int32 → XS → Prop) (S : XS) (x0 : Option Nat) (x1 : Int32) (x2 : Int32) (h : wx_X0_book Q mc ms S x0 x1 x2) : XMetW E l yX0_book cX0_book 4 (some .int) [(27, 48, 92, 130), (49, 91, 92, 130)] ({ frames := 7, cells := mc, slots := ms, locals := 165 } : Room) [va_rf x0, .int x1, .int x2] S (fun sz => va_Qi Q (BX1 E S sz) (xA S sz)) :=
  XMetW_of (rm := ({ frames := 7, cells := mc, slots := ms, locals := 165 } : Room)) (by decide) (by simp [lg_sl, va_rf_cat, cat_i, cat_l]) (L0 := [some (va_rf x0), some (.int x1), some (.int x2), none]) (by simp [lx_pairs, lv_args, va_rf_cat, cat_i, cat_l, List.range_succ]) (fun sz C hC hX hl hnm hT hA hQ => bx_X0_book E C S sz Q mc ms S x0 x1 x2 hC hX hT hA hQ h)
