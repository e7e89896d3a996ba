/-! X9_placeFor -/
def wx_X9_placeFor_2 (Q : Int32 → XS → Prop) : Nat → XS → Option Nat → Option Nat → Int32 → Prop
  | 0, _, _, _, _ => False
  | n + 1, S, a0, a1, a2 => (if (8 : Int32) ≤ a2 then Q (-1000000 : Int32) S else dr a1 (fun u1 => xKD S u1 = some 7 ∧ dr a0 (fun u3 => xKD S u3 = some 8 ∧ wx_X9_isFreeFor (fun r6 S5 => (if r6 = 0 then wx_X9_placeFor_2 Q n S5 a0 a1 (a2 + (1 : Int32)) else Q (((2 : Int32) * (((xFI S 701 u1) + (a2 / (2 : Int32))) - ((xFI S 701 u1) + (a2 / (2 : Int32))) / (4 : Int32) * (4 : Int32))) + (a2 - a2 / (2 : Int32) * (2 : Int32))) S5)) S (some u3) a1 (((xFI S 701 u1) + (a2 / (2 : Int32))) - ((xFI S 701 u1) + (a2 / (2 : Int32))) / (4 : Int32) * (4 : Int32)) (a2 - a2 / (2 : Int32) * (2 : Int32)))))
def wx_X9_placeFor (Q : Int32 → XS → Prop) (S : XS) (x0 : Option Nat) (x1 : Option Nat) : Prop :=
  ∃ n7, wx_X9_placeFor_2 Q n7 S x0 x1 (0 : Int32)
theorem hx_X9_placeFor : yX9_placeFor.cls = RX9 ∧ yX9_placeFor.cls ≠ "java/lang/invoke/MethodHandle" ∧ yX9_placeFor.cls ≠ "java/lang/invoke/VarHandle" ∧ (parseMethodDescriptor yX9_placeFor.desc).map (fun d => d.parameters.length) = some 1 := by decide +kernel
set_option maxHeartbeats 4000000 in
set_option maxRecDepth 100000 in
theorem bx_X9_placeFor (E : XE) (C : Cx) (S0 : XS) (sz : Nat) (Q : Int32 → XS → Prop) (S : XS) (x0 : Option Nat) (x1 : Option Nat) (hC : COk C cX9_placeFor RX9 (some .int) 5 126 4) (hX : XOk E C) (hA : cx_A C = xA S0 sz) (hQ : cx_Q C = MQ (cx_b C) (va_Qi Q (BX1 E S0 sz) (xA S0 sz)) (cx_a C) (cx_s C) (cx_MC C) (cx_MS C) (xA S0 sz)) (h : wx_X9_placeFor Q S x0 x1) : GX E C S 0 0 0 [some (va_rf x0), some (va_rf x1), none, none] [] := by
  have s_2 : ∀ (n : Nat) (S : XS) (a0 : Option Nat) (a1 : Option Nat) (a2 : Int32), wx_X9_placeFor_2 Q  n S a0 a1 a2 → GX E C S 0 0 2 [some (va_rf a0), some (va_rf a1), some (.int a2), none] [] := by
    intro  n
    induction n with
    | zero =>
      intro S a0 a1 a2 h
      exact False.elim h
    | succ n ih =>
      intro S a0 a1 a2 h
      refine g_iload_n hC dX9_placeFor_2 rfl ?_
      refine g_bipush (v := 8) hC dX9_placeFor_3 (by decide) ?_
      refine g_icmp_ge (tgt := 45) hC dX9_placeFor_5 (by decide) (fun c => ?_) (fun c => ?_)
      · have h := it_p c h
        refine g_ldc (v := -1000000) hC dX9_placeFor_45 q1018 ?_
        refine gX_iret rfl hC hA hQ dX9_placeFor_47 h
      · have h := it_n c h
        refine g_aload_nR hC dX9_placeFor_8 rfl ?_
        obtain ⟨u1, eu1, h⟩ := h
        refine g_top0 eu1 ?_
        have hk2 := h.1
        refine gX_get (C0 := RX8) (T := TX8) (N := 11) (n := 7) (k := 1) (q := (701, false)) hC hX dX9_placeFor_9 q809 rfl in_X8 (by decide) (Or.inl rfl) rfl (by decide) hk2 ?_
        show GX _ _ _ _ _ _ _ (.int (xFI S 701 u1) :: _)
        refine g_iload_n hC dX9_placeFor_12 rfl ?_
        refine g_iconst (v := 2) hC dX9_placeFor_13 (by decide) ?_
        refine g_idiv hC dX9_placeFor_14 (by decide) ?_
        refine g_iadd hC dX9_placeFor_15 ?_
        refine g_iconst (v := 4) hC dX9_placeFor_16 (by decide) ?_
        refine g_irem hC dX9_placeFor_17 (by decide) ?_
        refine g_istore_n hC dX9_placeFor_18 rfl (by decide) rfl rfl ?_
        refine g_aload_nR hC dX9_placeFor_19 rfl ?_
        refine g_aload_nR hC dX9_placeFor_20 rfl ?_
        refine g_iload_n hC dX9_placeFor_21 rfl ?_
        refine g_iload_n hC dX9_placeFor_22 rfl ?_
        refine g_iconst (v := 2) hC dX9_placeFor_23 (by decide) ?_
        refine g_irem hC dX9_placeFor_24 (by decide) ?_
        obtain ⟨u3, eu3, h⟩ := h.2
        refine g_top3 eu3 ?_
        have hk4 := h.1
        refine gX_ni hX (gX_runV (As := [va_rf a1, .int (((xFI S 701 u1) + (a2 / (2 : Int32))) - ((xFI S 701 u1) + (a2 / (2 : Int32))) / (4 : Int32) * (4 : Int32)), .int (a2 - a2 / (2 : Int32) * (2 : Int32))]) (rest := []) (Cr := RX9) hC hX (mx_X9_isFreeFor (cx_l C) E _ _ _ _ _ _ h.2) (lw_V q1041 q1043 qs28 q98 q1044) hx_X9_isFreeFor rfl rfl (Or.inl (Nat.le_of_ble_eq_true rfl)) ⟨Nat.le_of_ble_eq_true rfl, Nat.le_of_ble_eq_true rfl⟩ dX9_placeFor_25 (Nat.zero_le _) (Nat.zero_le _) hk4 rfl (by decide) rfl) rfl rfl ?_
        intro r6 S5 h
        refine g_if_eq (tgt := 39) hC dX9_placeFor_28 (by decide) (fun c => ?_) (fun c => ?_)
        · have h := it_p c h
          refine g_iinc (v := (a2 + (1 : Int32))) hC dX9_placeFor_39 rfl rfl (by decide) (lx_okR (j := 1) rfl) rfl ?_
          refine g_goto (tgt := 2) hC dX9_placeFor_42 (by decide) ?_
          refine g_sub [true, true, true, false] rfl ?_
          exact ih S5 a0 a1 (a2 + (1 : Int32)) h
        · have h := it_n c h
          refine g_iconst (v := 2) hC dX9_placeFor_31 (by decide) ?_
          refine g_iload_n hC dX9_placeFor_32 rfl ?_
          refine g_imul hC dX9_placeFor_33 ?_
          refine g_iload_n hC dX9_placeFor_34 rfl ?_
          refine g_iconst (v := 2) hC dX9_placeFor_35 (by decide) ?_
          refine g_irem hC dX9_placeFor_36 (by decide) ?_
          refine g_iadd hC dX9_placeFor_37 ?_
          refine gX_iret rfl hC hA hQ dX9_placeFor_38 h
  refine g_iconst (v := 0) hC dX9_placeFor_0 (by decide) ?_
  refine g_istore_n hC dX9_placeFor_1 rfl (by decide) (lx_okR (j := 1) rfl) rfl ?_
  obtain ⟨n0, h0⟩ := h
  exact s_2 n0 S x0 x1 (0 : Int32) h0
theorem mx_X9_placeFor (l : Launch) (E : XE) (Q : Int32 → XS → Prop) (S : XS) (x0 : Option Nat) (x1 : Option Nat) (h : wx_X9_placeFor Q S x0 x1) : XMet E l yX9_placeFor cX9_placeFor 4 (some .int) ({ frames := 5, cells := 0, slots := 0, locals := 126 } : Room) [va_rf x0, va_rf x1] S (fun sz => va_Qi Q (BX1 E S sz) (xA S sz)) :=
  XMet_of (rm := ({ frames := 5, cells := 0, slots := 0, locals := 126 } : Room)) (by decide) (by simp [lg_sl, va_rf_cat, cat_i, cat_l]) (L0 := [some (va_rf x0), some (va_rf x1), none, none]) (by simp [lx_pairs, lv_args, va_rf_cat, cat_i, cat_l, List.range_succ]) (fun sz C hC hX hl hnm hA hQ => bx_X9_placeFor E C S sz Q S x0 x1 hC hX hA hQ h)
/-! X9_init -/
def wx_X9_init_232 (Q : XS → Prop) (K180 : Nat → Nat → XS → Option Nat → Option Nat → Int32 → Prop) (mc ms : Nat) (S : XS) (a0 : Option Nat) (a1 : Option Nat) (a7 : Int32) : Prop :=
  K180 mc ms S a0 a1 (a7 + (1 : Int32))
def wx_X9_init_180 (Q : XS → Prop) : Nat → Nat → Nat → XS → Option Nat → Option Nat → Int32 → Prop
  | 0, _, _, _, _, _, _ => False
  | n + 1, mc, ms, S, a0, a1, a7 => dr a1 (fun u18 => xKD S u18 = some 0 ∧ dr (xFR S 2 u18) (fun u20 => xKD S u20 = some 16 ∧ wx_J2_size (fun r23 S22 => (if r23 ≤ a7 then Q S22 else dr a0 (fun u24 => xKD S22 u24 = some 8 ∧ (if (((xFI S22 806 u24) >>> (a7 &&& 31)) &&& (1 : Int32)) = (1 : Int32) then xKD S22 u18 = some 0 ∧ dr (xFR S22 2 u18) (fun u27 => xKD S22 u27 = some 16 ∧ wx_J2_get (fun r30 S29 => dr r30 (fun u31 => xKD S29 u31 = some 7 ∧ xKD S29 u24 = some 8 ∧ wx_X9_placeFor (fun r35 S34 => dr (xFR S22 807 u24) (fun u36 => xKD S34 u36 = some 100 ∧ vp_in a7 (xLN S34 u36) ∧ wx_X9_init_232 Q (wx_X9_init_180 Q n) mc ms (sAI S34 u36 (Int32.toNatClampNeg a7) r35) a0 a1 a7)) S29 (some u24) (some u31))) S22 (some u27) a7) else wx_X9_init_232 Q (wx_X9_init_180 Q n) mc ms S22 a0 a1 a7)))) S (some u20)))
def wx_X9_init_174 (Q : XS → Prop) (mc ms : Nat) (S : XS) (a0 : Option Nat) (a1 : Option Nat) (s0 : Option Nat) (s1 : Int32) : Prop :=
  dr s0 (fun u16 => xKD S u16 = some 8 ∧ ∃ n38, wx_X9_init_180 Q n38 mc ms (sFI S 806 u16 s1) a0 a1 (0 : Int32))
def wx_X9_init_146 (Q : XS → Prop) (K85 : Nat → Nat → XS → Option Nat → Option Nat → Int32 → Int32 → Int32 → Prop) (mc ms : Nat) (S : XS) (a0 : Option Nat) (a1 : Option Nat) (a2 : Int32) (a6 : Int32) (a7 : Int32) : Prop :=
  K85 mc ms S a0 a1 a2 a6 (a7 + (1 : Int32))
def wx_X9_init_140 (Q : XS → Prop) (K85 : Nat → Nat → XS → Option Nat → Option Nat → Int32 → Int32 → Int32 → Prop) (mc ms : Nat) (S : XS) (a0 : Option Nat) (a1 : Option Nat) (a2 : Int32) (a6 : Int32) (a7 : Int32) : Prop :=
  dr a0 (fun u49 => xKD S u49 = some 8 ∧ wx_X9_init_146 Q K85 mc ms (sFI S 805 u49 a7) a0 a1 a2 a6 a7)
def wx_X9_init_85 (Q : XS → Prop) : Nat → Nat → Nat → XS → Option Nat → Option Nat → Int32 → Int32 → Int32 → Prop
  | 0, _, _, _, _, _, _, _, _ => False
  | n + 1, mc, ms, S, a0, a1, a2, a6, a7 => (if (2 : Int32) ≤ a7 then dr a0 (fun u12 => xKD S u12 = some 8 ∧ (if (xFI S 805 u12) = (-1000000 : Int32) then wx_X9_init_174 Q mc ms S a0 a1 a0 (0 : Int32) else wx_X9_inWay (fun r15 S14 => wx_X9_init_174 Q mc ms S14 a0 a1 a0 r15) S (some u12) (xFI S 805 u12))) else dr a1 (fun u39 => xKD S u39 = some 0 ∧ dr (xFR S 1 u39) (fun u41 => xKD S u41 = some 104 ∧ vp_in a2 (xLN S u41) ∧ dr (xAR S u41 (Int32.toNatClampNeg a2)) (fun u43 => xKD S u43 = some 2 ∧ dr (xFR S 204 u43) (fun u45 => xKD S u45 = some 100 ∧ vp_in a7 (xLN S u45) ∧ (if (xAI S u45 (Int32.toNatClampNeg a7)) < a6 then wx_X9_init_146 Q (wx_X9_init_85 Q n) mc ms S a0 a1 a2 a6 a7 else dr a0 (fun u47 => xKD S u47 = some 8 ∧ (if (xFI S 805 u47) = (-1000000 : Int32) then wx_X9_init_140 Q (wx_X9_init_85 Q n) mc ms S a0 a1 a2 a6 a7 else wx_X9_inWay (fun r52 S51 => wx_J18_bitCount (fun r54 S53 => xKD S53 u47 = some 8 ∧ wx_X9_inWay (fun r57 S56 => wx_J18_bitCount (fun r59 S58 => (if r59 ≤ r54 then wx_X9_init_146 Q (wx_X9_init_85 Q n) mc ms S58 a0 a1 a2 a6 a7 else wx_X9_init_140 Q (wx_X9_init_85 Q n) mc ms S58 a0 a1 a2 a6 a7)) S56 r57) S53 (some u47) (xFI S53 805 u47)) S51 r52) S (some u47) a7))))))))
def wx_X9_init_60 (Q : XS → Prop) : Nat → Nat → Nat → XS → Option Nat → Option Nat → Int32 → Int32 → Int32 → Prop
  | 0, _, _, _, _, _, _, _, _ => False
  | n + 1, mc, ms, S, a0, a1, a2, a6, a7 => (if (16 : Int32) ≤ a7 then ∃ n60, wx_X9_init_85 Q n60 mc ms S a0 a1 a2 a6 (0 : Int32) else dr a0 (fun u61 => xKD S u61 = some 8 ∧ dr (xFR S 807 u61) (fun u63 => xKD S u63 = some 100 ∧ vp_in a7 (xLN S u63) ∧ wx_X9_init_60 Q n mc ms (sAI S u63 (Int32.toNatClampNeg a7) (-1000000 : Int32)) a0 a1 a2 a6 (a7 + (1 : Int32)))))
def wx_X9_init (Q : XS → Prop) (mc ms : Nat) (S : XS) (x0 : Option Nat) (x1 : Option Nat) (x2 : Int32) (x3 : Int32) (x4 : Int32) (x5 : Int32) (x6 : Int32) : Prop :=
  dr x0 (fun u1 => xKD S u1 = some 8 ∧ ¬ (16 : Int32) < 0 ∧ (Int32.toNatClampNeg (16 : Int32)) ≤ 100000 ∧ 1 ≤ mc ∧ (Int32.toNatClampNeg (16 : Int32)) ≤ ms ∧ (∀ q3 : Nat, xKD (sFI (sFR S 808 u1 x1) 805 u1 (-1000000 : Int32)) q3 = none → dr x1 (fun u7 => xKD (sFI (sFI (sFI (sFI (sFR (sNewA (sFI (sFR S 808 u1 x1) 805 u1 (-1000000 : Int32)) q3 100 (Int32.toNatClampNeg (16 : Int32))) 807 u1 (some q3)) 800 u1 x2) 801 u1 x3) 802 u1 x4) 803 u1 x5) u7 = some 0 ∧ wx_X0_held (fun r10 S9 => xKD S9 u1 = some 8 ∧ ∃ n65, wx_X9_init_60 Q n65 (mc - 1) (ms - (Int32.toNatClampNeg (16 : Int32))) (sFI S9 804 u1 r10) x0 x1 x2 x6 (0 : Int32)) (sFI (sFI (sFI (sFI (sFR (sNewA (sFI (sFR S 808 u1 x1) 805 u1 (-1000000 : Int32)) q3 100 (Int32.toNatClampNeg (16 : Int32))) 807 u1 (some q3)) 800 u1 x2) 801 u1 x3) 802 u1 x4) 803 u1 x5) (some u7) (xFI (sFI (sFI (sFI (sFI (sFR (sNewA (sFI (sFR S 808 u1 x1) 805 u1 (-1000000 : Int32)) q3 100 (Int32.toNatClampNeg (16 : Int32))) 807 u1 (some q3)) 800 u1 x2) 801 u1 x3) 802 u1 x4) 803 u1 x5) 10 u7))))
theorem hx_X9_init : yX9_init.cls = RX9 ∧ yX9_init.cls ≠ "java/lang/invoke/MethodHandle" ∧ yX9_init.cls ≠ "java/lang/invoke/VarHandle" ∧ (parseMethodDescriptor yX9_init.desc).map (fun d => d.parameters.length) = some 6 := by decide +kernel
set_option maxHeartbeats 4000000 in
set_option maxRecDepth 100000 in
theorem bx_X9_init (E : XE) (C : Cx) (S0 : XS) (sz : Nat) (Q : XS → Prop) (mc ms : Nat) (S : XS) (x0 : Option Nat) (x1 : Option Nat) (x2 : Int32) (x3 : Int32) (x4 : Int32) (x5 : Int32) (x6 : Int32) (hC : COk C cX9_init RX9 none 6 149 8) (hX : XOk E C) (hA : cx_A C = xA S0 sz) (hini : (cx_h C).name = "<init>") (hQ : cx_Q C = MQ (cx_b C) (va_Qv Q (BX1 E S0 sz) (xA S0 sz)) (cx_a C) (cx_s C) (cx_MC C) (cx_MS C) (xA S0 sz)) (h : wx_X9_init Q mc ms S x0 x1 x2 x3 x4 x5 x6) : GX E C S mc ms 0 [some (va_rf x0), some (va_rf x1), some (.int x2), some (.int x3), some (.int x4), some (.int x5), some (.int x6), none] [] := by
  have s_232 : ∀ (K180 : Nat → Nat → XS → Option Nat → Option Nat → Int32 → Prop) (hK180 : ∀ (mc ms : Nat) (S : XS) (b0 : Option Nat) (b1 : Option Nat) (b7 : Int32), K180 mc ms S b0 b1 b7 → GX E C S mc ms 180 [some (va_rf b0), some (va_rf b1), none, none, none, none, none, some (.int b7)] []) (mc ms : Nat) (S : XS) (a0 : Option Nat) (a1 : Option Nat) (a7 : Int32), wx_X9_init_232 Q K180 mc ms S a0 a1 a7 → GX E C S mc ms 232 [some (va_rf a0), some (va_rf a1), none, none, none, none, none, some (.int a7)] [] := by
    intro K180 hK180 mc ms S a0 a1 a7 h
    refine g_iinc (v := (a7 + (1 : Int32))) hC dX9_init_232 rfl rfl (by decide) rfl rfl ?_
    refine g_goto (tgt := 180) hC dX9_init_235 (by decide) ?_
    exact hK180 mc ms S a0 a1 (a7 + (1 : Int32)) h
  have s_180 : ∀ (n : Nat) (mc ms : Nat) (S : XS) (a0 : Option Nat) (a1 : Option Nat) (a7 : Int32), wx_X9_init_180 Q  n mc ms S a0 a1 a7 → GX E C S mc ms 180 [some (va_rf a0), some (va_rf a1), none, none, none, none, none, some (.int a7)] [] := by
    intro  n
    induction n with
    | zero =>
      intro mc ms S a0 a1 a7 h
      exact False.elim h
    | succ n ih =>
      intro mc ms S a0 a1 a7 h
      refine g_iload hC dX9_init_180 rfl ?_
      refine g_aload_nR hC dX9_init_182 rfl ?_
      obtain ⟨u18, eu18, h⟩ := h
      refine g_top0 eu18 ?_
      have hk19 := h.1
      refine gX_getN (C0 := RX0) (T := TX0) (N := 15) (n := 0) (k := 2) (q := (2, true)) hC hX dX9_init_183 q212 rfl in_X0 (by decide) rfl rfl (by decide) hk19 ?_
      show GX _ _ _ _ _ _ _ (va_rf (xFR S 2 u18) :: _)
      obtain ⟨u20, eu20, h⟩ := h.2
      refine g_top0 eu20 ?_
      have hk21 := h.1
      refine gX_ni5 hX (gX_runF (n := 0) (As := []) (rest := [.int a7]) (Cr := "java/util/ArrayList") (x := ⟨"java/util/List", "size", "()I"⟩) hC hX (mx_J2_size (cx_l C) E _ _ _ h.2) (lw_app (lw_4 q1025 q774 q776 q73) (lw_meth q778)) (List.mem_of_getElem? (i := 0) rfl) (by decide +kernel) rfl rfl (Or.inl (Nat.le_of_ble_eq_true rfl)) ⟨Nat.le_of_ble_eq_true rfl, Nat.le_of_ble_eq_true rfl⟩ dX9_init_186 (Nat.zero_le _) (Nat.zero_le _) hk21 rfl (by decide) rfl) rfl rfl ?_
      intro r23 S22 h
      refine g_icmp_ge (tgt := 238) hC dX9_init_191 (by decide) (fun c => ?_) (fun c => ?_)
      · have h := it_p c h
        refine gX_vret hC hA hQ rfl dX9_init_238 h
      · have h := it_n c h
        refine g_aload_nR hC dX9_init_194 rfl ?_
        obtain ⟨u24, eu24, h⟩ := h
        refine g_top0 eu24 ?_
        have hk25 := h.1
        refine gX_get (C0 := RX9) (T := TX9) (N := 9) (n := 8) (k := 6) (q := (806, false)) hC hX dX9_init_195 q1052 rfl in_X9 (by decide) (Or.inl rfl) rfl (by decide) hk25 ?_
        show GX _ _ _ _ _ _ _ (.int (xFI S22 806 u24) :: _)
        refine g_iload hC dX9_init_198 rfl ?_
        refine g_ishr hC dX9_init_200 ?_
        refine g_iconst (v := 1) hC dX9_init_201 (by decide) ?_
        refine g_iand hC dX9_init_202 ?_
        refine g_iconst (v := 1) hC dX9_init_203 (by decide) ?_
        refine g_icmp_ne (tgt := 232) hC dX9_init_204 (by decide) (fun c => ?_) (fun c => ?_)
        · have h := it_n c h.2
          exact s_232 (wx_X9_init_180 Q n) ih mc ms S22 a0 a1 a7 h
        · have h := it_p c h.2
          refine g_aload_nR hC dX9_init_207 rfl ?_
          refine g_top0 eu24 ?_
          refine gX_get (C0 := RX9) (T := TX9) (N := 9) (n := 8) (k := 7) (q := (807, true)) hC hX dX9_init_208 q1054 rfl in_X9 (by decide) (Or.inl rfl) rfl (by decide) hk25 ?_
          show GX _ _ _ _ _ _ _ (va_rf (xFR S22 807 u24) :: _)
          refine g_iload hC dX9_init_211 rfl ?_
          refine g_aload_nR hC dX9_init_213 rfl ?_
          refine g_aload_nR hC dX9_init_214 rfl ?_
          refine g_top0 eu18 ?_
          have hk26 := h.1
          refine gX_getN (C0 := RX0) (T := TX0) (N := 15) (n := 0) (k := 2) (q := (2, true)) hC hX dX9_init_215 q212 rfl in_X0 (by decide) rfl rfl (by decide) hk26 ?_
          show GX _ _ _ _ _ _ _ (va_rf (xFR S22 2 u18) :: _)
          refine g_iload hC dX9_init_218 rfl ?_
          obtain ⟨u27, eu27, h⟩ := h.2
          refine g_top1 eu27 ?_
          have hk28 := h.1
          refine gX_nq5 hX (gX_runF (n := 1) (As := [.int a7]) (rest := [va_rf a0, .int a7, va_rf (xFR S22 807 u24)]) (Cr := "java/util/ArrayList") (x := ⟨"java/util/List", "get", "(I)Ljava/lang/Object;"⟩) hC hX (mx_J2_get (cx_l C) E _ _ _ _ h.2) (lw_app (lw_4 q1027 q931 q933 q73) (lw_meth q935)) (List.mem_of_getElem? (i := 2) rfl) (by decide +kernel) rfl rfl (Or.inl (Nat.le_of_ble_eq_true rfl)) ⟨Nat.le_of_ble_eq_true rfl, Nat.le_of_ble_eq_true rfl⟩ dX9_init_220 (Nat.zero_le _) (Nat.zero_le _) hk28 rfl (by decide) rfl) rfl rfl ?_
          intro r30 S29 h
          obtain ⟨u31, eu31, h⟩ := h
          refine g_top0 eu31 ?_
          have hk32 := h.1
          refine gX_cast (r := (RX8, TX8, 11)) (n := 7) hC hX dX9_init_225 q1028 rfl (by decide) hk32 ?_
          refine g_top1 eu24 ?_
          have hk33 := h.2.1
          refine gX_ni hX (gX_runV (As := [va_rf (some u31)]) (rest := [.int a7, va_rf (xFR S22 807 u24)]) (Cr := RX9) hC hX (mx_X9_placeFor (cx_l C) E _ _ _ _ h.2.2) (lw_V q1037 q1039 qs27 q98 q1040) hx_X9_placeFor rfl rfl (Or.inl (Nat.le_of_ble_eq_true rfl)) ⟨Nat.le_of_ble_eq_true rfl, Nat.le_of_ble_eq_true rfl⟩ dX9_init_228 (Nat.zero_le _) (Nat.zero_le _) hk33 rfl (by decide) rfl) rfl rfl ?_
          intro r35 S34 h
          obtain ⟨u36, eu36, h⟩ := h
          refine g_top2 eu36 ?_
          have hk37 := h.1
          refine gX_iast hC hX dX9_init_231 hk37 h.2.1 ?_
          exact s_232 (wx_X9_init_180 Q n) ih mc ms (sAI S34 u36 (Int32.toNatClampNeg a7) r35) a0 a1 a7 h.2.2
  have s_174 : ∀ (mc ms : Nat) (S : XS) (a0 : Option Nat) (a1 : Option Nat) (s0 : Option Nat) (s1 : Int32), wx_X9_init_174 Q  mc ms S a0 a1 s0 s1 → GX E C S mc ms 174 [some (va_rf a0), some (va_rf a1), none, none, none, none, none, none] [.int s1, va_rf s0] := by
    intro  mc ms S a0 a1 s0 s1 h
    obtain ⟨u16, eu16, h⟩ := h
    refine g_top1 eu16 ?_
    have hk17 := h.1
    refine gX_putI (C0 := RX9) (T := TX9) (ty0 := tyX9) (N := 9) (n := 8) (k := 6) (f := 806) hC hX dX9_init_174 q1052 rfl in_X9 tyX9_ok nmX9 (by decide) (Or.inl rfl) rfl rfl rfl rfl rfl (by decide) (Or.inl (by decide)) hk17 ?_
    refine g_iconst (v := 0) hC dX9_init_177 (by decide) ?_
    refine g_istore hC dX9_init_178 (by decide) rfl rfl ?_
    obtain ⟨n0, h0⟩ := h.2
    exact s_180 n0 mc ms (sFI S 806 u16 s1) a0 a1 (0 : Int32) h0
  have s_146 : ∀ (K85 : Nat → Nat → XS → Option Nat → Option Nat → Int32 → Int32 → Int32 → Prop) (hK85 : ∀ (mc ms : Nat) (S : XS) (b0 : Option Nat) (b1 : Option Nat) (b2 : Int32) (b6 : Int32) (b7 : Int32), K85 mc ms S b0 b1 b2 b6 b7 → GX E C S mc ms 85 [some (va_rf b0), some (va_rf b1), some (.int b2), none, none, none, some (.int b6), some (.int b7)] []) (mc ms : Nat) (S : XS) (a0 : Option Nat) (a1 : Option Nat) (a2 : Int32) (a6 : Int32) (a7 : Int32), wx_X9_init_146 Q K85 mc ms S a0 a1 a2 a6 a7 → GX E C S mc ms 146 [some (va_rf a0), some (va_rf a1), some (.int a2), none, none, none, some (.int a6), some (.int a7)] [] := by
    intro K85 hK85 mc ms S a0 a1 a2 a6 a7 h
    refine g_iinc (v := (a7 + (1 : Int32))) hC dX9_init_146 rfl rfl (by decide) rfl rfl ?_
    refine g_goto (tgt := 85) hC dX9_init_149 (by decide) ?_
    exact hK85 mc ms S a0 a1 a2 a6 (a7 + (1 : Int32)) h
  have s_140 : ∀ (K85 : Nat → Nat → XS → Option Nat → Option Nat → Int32 → Int32 → Int32 → Prop) (hK85 : ∀ (mc ms : Nat) (S : XS) (b0 : Option Nat) (b1 : Option Nat) (b2 : Int32) (b6 : Int32) (b7 : Int32), K85 mc ms S b0 b1 b2 b6 b7 → GX E C S mc ms 85 [some (va_rf b0), some (va_rf b1), some (.int b2), none, none, none, some (.int b6), some (.int b7)] []) (mc ms : Nat) (S : XS) (a0 : Option Nat) (a1 : Option Nat) (a2 : Int32) (a6 : Int32) (a7 : Int32), wx_X9_init_140 Q K85 mc ms S a0 a1 a2 a6 a7 → GX E C S mc ms 140 [some (va_rf a0), some (va_rf a1), some (.int a2), none, none, none, some (.int a6), some (.int a7)] [] := by
    intro K85 hK85 mc ms S a0 a1 a2 a6 a7 h
    refine g_aload_nR hC dX9_init_140 rfl ?_
    refine g_iload hC dX9_init_141 rfl ?_
    obtain ⟨u49, eu49, h⟩ := h
    refine g_top1 eu49 ?_
    have hk50 := h.1
    refine gX_putI (C0 := RX9) (T := TX9) (ty0 := tyX9) (N := 9) (n := 8) (k := 5) (f := 805) hC hX dX9_init_143 q1050 rfl in_X9 tyX9_ok nmX9 (by decide) (Or.inl rfl) rfl rfl rfl rfl rfl (by decide) (Or.inl (by decide)) hk50 ?_
    exact s_146 K85 hK85 mc ms (sFI S 805 u49 a7) a0 a1 a2 a6 a7 h.2
  have s_85 : ∀ (n : Nat) (mc ms : Nat) (S : XS) (a0 : Option Nat) (a1 : Option Nat) (a2 : Int32) (a6 : Int32) (a7 : Int32), wx_X9_init_85 Q  n mc ms S a0 a1 a2 a6 a7 → GX E C S mc ms 85 [some (va_rf a0), some (va_rf a1), some (.int a2), none, none, none, some (.int a6), some (.int a7)] [] := by
    intro  n
    induction n with
    | zero =>
      intro mc ms S a0 a1 a2 a6 a7 h
      exact False.elim h
    | succ n ih =>
      intro mc ms S a0 a1 a2 a6 a7 h
      refine g_iload hC dX9_init_85 rfl ?_
      refine g_iconst (v := 2) hC dX9_init_87 (by decide) ?_
      refine g_icmp_ge (tgt := 152) hC dX9_init_88 (by decide) (fun c => ?_) (fun c => ?_)
      · have h := it_p c h
        refine g_aload_nR hC dX9_init_152 rfl ?_
        refine g_aload_nR hC dX9_init_153 rfl ?_
        obtain ⟨u12, eu12, h⟩ := h
        refine g_top0 eu12 ?_
        have hk13 := h.1
        refine gX_get (C0 := RX9) (T := TX9) (N := 9) (n := 8) (k := 5) (q := (805, false)) hC hX dX9_init_154 q1050 rfl in_X9 (by decide) (Or.inl rfl) rfl (by decide) hk13 ?_
        show GX _ _ _ _ _ _ _ (.int (xFI S 805 u12) :: _)
        refine g_ldc (v := -1000000) hC dX9_init_157 q1018 ?_
        refine g_icmp_ne (tgt := 166) hC dX9_init_159 (by decide) (fun c => ?_) (fun c => ?_)
        · have h := it_n c h.2
          refine g_aload_nR hC dX9_init_166 rfl ?_
          refine g_aload_nR hC dX9_init_167 rfl ?_
          refine g_top0 eu12 ?_
          refine gX_get (C0 := RX9) (T := TX9) (N := 9) (n := 8) (k := 5) (q := (805, false)) hC hX dX9_init_168 q1050 rfl in_X9 (by decide) (Or.inl rfl) rfl (by decide) hk13 ?_
          show GX _ _ _ _ _ _ _ (.int (xFI S 805 u12) :: _)
          refine g_top1 eu12 ?_
          refine gX_ni hX (gX_runV (As := [.int (xFI S 805 u12)]) (rest := [va_rf a0]) (Cr := RX9) hC hX (mx_X9_inWay (cx_l C) E _ _ _ _ h) (lw_V q1020 q1022 qs26 q98 q1023) hx_X9_inWay rfl rfl (Or.inl (Nat.le_of_ble_eq_true rfl)) ⟨Nat.le_of_ble_eq_true rfl, Nat.le_of_ble_eq_true rfl⟩ dX9_init_171 (Nat.zero_le _) (Nat.zero_le _) hk13 rfl (by decide) rfl) rfl rfl ?_
          intro r15 S14 h
          refine g_sub [true, true, false, false, false, false, false, false] rfl ?_
          exact s_174 mc ms S14 a0 a1 a0 r15 h
        · have h := it_p c h.2
          refine g_iconst (v := 0) hC dX9_init_162 (by decide) ?_
          refine g_goto (tgt := 174) hC dX9_init_163 (by decide) ?_
          refine g_sub [true, true, false, false, false, false, false, false] rfl ?_
          exact s_174 mc ms S a0 a1 a0 (0 : Int32) h
      · have h := it_n c h
        refine g_aload_nR hC dX9_init_91 rfl ?_
        obtain ⟨u39, eu39, h⟩ := h
        refine g_top0 eu39 ?_
        have hk40 := h.1
        refine gX_getN (C0 := RX0) (T := TX0) (N := 15) (n := 0) (k := 1) (q := (1, true)) hC hX dX9_init_92 q210 rfl in_X0 (by decide) rfl rfl (by decide) hk40 ?_
        show GX _ _ _ _ _ _ _ (va_rf (xFR S 1 u39) :: _)
        refine g_iload_n hC dX9_init_95 rfl ?_
        obtain ⟨u41, eu41, h⟩ := h.2
        refine g_top1 eu41 ?_
        have hk42 := h.1
        refine gX_aald (n := 104) hC hX dX9_init_96 (by decide) hk42 h.2.1 ?_
        obtain ⟨u43, eu43, h⟩ := h.2.2
        refine g_top0 eu43 ?_
        have hk44 := h.1
        refine gX_getN (C0 := RX2) (T := TX2) (N := 7) (n := 2) (k := 4) (q := (204, true)) hC hX dX9_init_97 q185 rfl in_X2 (by decide) rfl rfl (by decide) hk44 ?_
        show GX _ _ _ _ _ _ _ (va_rf (xFR S 204 u43) :: _)
        refine g_iload hC dX9_init_100 rfl ?_
        obtain ⟨u45, eu45, h⟩ := h.2
        refine g_top1 eu45 ?_
        have hk46 := h.1
        refine gX_iald hC hX dX9_init_102 hk46 h.2.1 ?_
        refine g_iload hC dX9_init_103 rfl ?_
        refine g_icmp_lt (tgt := 146) hC dX9_init_105 (by decide) (fun c => ?_) (fun c => ?_)
        · have h := it_p c h.2.2
          exact s_146 (wx_X9_init_85 Q n) ih mc ms S a0 a1 a2 a6 a7 h
        · have h := it_n c h.2.2
          refine g_aload_nR hC dX9_init_108 rfl ?_
          obtain ⟨u47, eu47, h⟩ := h
          refine g_top0 eu47 ?_
          have hk48 := h.1
          refine gX_get (C0 := RX9) (T := TX9) (N := 9) (n := 8) (k := 5) (q := (805, false)) hC hX dX9_init_109 q1050 rfl in_X9 (by decide) (Or.inl rfl) rfl (by decide) hk48 ?_
          show GX _ _ _ _ _ _ _ (.int (xFI S 805 u47) :: _)
          refine g_ldc (v := -1000000) hC dX9_init_112 q1018 ?_
          refine g_icmp_eq (tgt := 140) hC dX9_init_114 (by decide) (fun c => ?_) (fun c => ?_)
          · have h := it_p c h.2
            exact s_140 (wx_X9_init_85 Q n) ih mc ms S a0 a1 a2 a6 a7 h
          · have h := it_n c h.2
            refine g_aload_nR hC dX9_init_117 rfl ?_
            refine g_iload hC dX9_init_118 rfl ?_
            refine g_top1 eu47 ?_
            refine gX_ni hX (gX_runV (As := [.int a7]) (rest := []) (Cr := RX9) hC hX (mx_X9_inWay (cx_l C) E _ _ _ _ h) (lw_V q1020 q1022 qs26 q98 q1023) hx_X9_inWay rfl rfl (Or.inl (Nat.le_of_ble_eq_true rfl)) ⟨Nat.le_of_ble_eq_true rfl, Nat.le_of_ble_eq_true rfl⟩ dX9_init_120 (Nat.zero_le _) (Nat.zero_le _) hk48 rfl (by decide) rfl) rfl rfl ?_
            intro r52 S51 h
            refine gX_ni hX (gX_runS (As := [.int r52]) (rest := []) hC hX (mx_J18_bitCount (cx_l C) E _ _ _ h) (lw_S q1031 q1032 q100 q1033) hx_J18_bitCount.2 rfl rfl (Or.inl (Nat.le_of_ble_eq_true rfl)) ⟨Nat.le_of_ble_eq_true rfl, Nat.le_of_ble_eq_true rfl⟩ dX9_init_123 (Nat.zero_le _) (Nat.zero_le _)) rfl rfl ?_
            intro r54 S53 h
            refine g_aload_nR hC dX9_init_126 rfl ?_
            refine g_aload_nR hC dX9_init_127 rfl ?_
            refine g_top0 eu47 ?_
            have hk55 := h.1
            refine gX_get (C0 := RX9) (T := TX9) (N := 9) (n := 8) (k := 5) (q := (805, false)) hC hX dX9_init_128 q1050 rfl in_X9 (by decide) (Or.inl rfl) rfl (by decide) hk55 ?_
            show GX _ _ _ _ _ _ _ (.int (xFI S53 805 u47) :: _)
            refine g_top1 eu47 ?_
            refine gX_ni hX (gX_runV (As := [.int (xFI S53 805 u47)]) (rest := [.int r54]) (Cr := RX9) hC hX (mx_X9_inWay (cx_l C) E _ _ _ _ h.2) (lw_V q1020 q1022 qs26 q98 q1023) hx_X9_inWay rfl rfl (Or.inl (Nat.le_of_ble_eq_true rfl)) ⟨Nat.le_of_ble_eq_true rfl, Nat.le_of_ble_eq_true rfl⟩ dX9_init_131 (Nat.zero_le _) (Nat.zero_le _) hk55 rfl (by decide) rfl) rfl rfl ?_
            intro r57 S56 h
            refine gX_ni hX (gX_runS (As := [.int r57]) (rest := [.int r54]) hC hX (mx_J18_bitCount (cx_l C) E _ _ _ h) (lw_S q1031 q1032 q100 q1033) hx_J18_bitCount.2 rfl rfl (Or.inl (Nat.le_of_ble_eq_true rfl)) ⟨Nat.le_of_ble_eq_true rfl, Nat.le_of_ble_eq_true rfl⟩ dX9_init_134 (Nat.zero_le _) (Nat.zero_le _)) rfl rfl ?_
            intro r59 S58 h
            refine g_icmp_ge (tgt := 146) hC dX9_init_137 (by decide) (fun c => ?_) (fun c => ?_)
            · have h := it_p c h
              exact s_146 (wx_X9_init_85 Q n) ih mc ms S58 a0 a1 a2 a6 a7 h
            · have h := it_n c h
              exact s_140 (wx_X9_init_85 Q n) ih mc ms S58 a0 a1 a2 a6 a7 h
  have s_60 : ∀ (n : Nat) (mc ms : Nat) (S : XS) (a0 : Option Nat) (a1 : Option Nat) (a2 : Int32) (a6 : Int32) (a7 : Int32), wx_X9_init_60 Q  n mc ms S a0 a1 a2 a6 a7 → GX E C S mc ms 60 [some (va_rf a0), some (va_rf a1), some (.int a2), none, none, none, some (.int a6), some (.int a7)] [] := by
    intro  n
    induction n with
    | zero =>
      intro mc ms S a0 a1 a2 a6 a7 h
      exact False.elim h
    | succ n ih =>
      intro mc ms S a0 a1 a2 a6 a7 h
      refine g_iload hC dX9_init_60 rfl ?_
      refine g_bipush (v := 16) hC dX9_init_62 (by decide) ?_
      refine g_icmp_ge (tgt := 82) hC dX9_init_64 (by decide) (fun c => ?_) (fun c => ?_)
      · have h := it_p c h
        refine g_iconst (v := 0) hC dX9_init_82 (by decide) ?_
        refine g_istore hC dX9_init_83 (by decide) rfl rfl ?_
        obtain ⟨n0, h0⟩ := h
        exact s_85 n0 mc ms S a0 a1 a2 a6 (0 : Int32) h0
      · have h := it_n c h
        refine g_aload_nR hC dX9_init_67 rfl ?_
        obtain ⟨u61, eu61, h⟩ := h
        refine g_top0 eu61 ?_
        have hk62 := h.1
        refine gX_get (C0 := RX9) (T := TX9) (N := 9) (n := 8) (k := 7) (q := (807, true)) hC hX dX9_init_68 q1054 rfl in_X9 (by decide) (Or.inl rfl) rfl (by decide) hk62 ?_
        show GX _ _ _ _ _ _ _ (va_rf (xFR S 807 u61) :: _)
        refine g_iload hC dX9_init_71 rfl ?_
        refine g_ldc (v := -1000000) hC dX9_init_73 q1018 ?_
        obtain ⟨u63, eu63, h⟩ := h.2
        refine g_top2 eu63 ?_
        have hk64 := h.1
        refine gX_iast hC hX dX9_init_75 hk64 h.2.1 ?_
        refine g_iinc (v := (a7 + (1 : Int32))) hC dX9_init_76 rfl rfl (by decide) rfl rfl ?_
        refine g_goto (tgt := 60) hC dX9_init_79 (by decide) ?_
        exact ih mc ms (sAI S u63 (Int32.toNatClampNeg a7) (-1000000 : Int32)) a0 a1 a2 a6 (a7 + (1 : Int32)) h.2.2
  refine g_aload_nR hC dX9_init_0 rfl ?_
  refine g_aload_nR hC dX9_init_1 rfl ?_
  obtain ⟨u1, eu1, h⟩ := h
  refine g_top1 eu1 ?_
  have hk2 := h.1
  refine gX_putRF (C0 := RX9) (T := TX9) (ty0 := tyX9) (N := 9) (n := 8) (k := 8) (f := 808) hC hX dX9_init_2 q1056 rfl in_X9 tyX9_ok nmX9 (by decide) rfl rfl hini rfl rfl (narrow_rf (Or.inl ⟨_, rfl⟩) _) (fits_rf (Or.inl ⟨_, rfl⟩) _) rfl (by decide) (Or.inl (by decide)) hk2 ?_
  refine g_aload_nR hC dX9_init_5 rfl ?_
  refine g_top0 eu1 ?_
  refine gX_oinit hC dX9_init_6 q1017 q115 q116 (Nat.le_of_ble_eq_true rfl) (by decide) (by decide) ?_
  refine g_aload_nR hC dX9_init_9 rfl ?_
  refine g_ldc (v := -1000000) hC dX9_init_10 q1018 ?_
  refine g_top1 eu1 ?_
  refine gX_putI (C0 := RX9) (T := TX9) (ty0 := tyX9) (N := 9) (n := 8) (k := 5) (f := 805) hC hX dX9_init_12 q1050 rfl in_X9 tyX9_ok nmX9 (by decide) (Or.inl rfl) rfl rfl rfl rfl rfl (by decide) (Or.inl (by decide)) hk2 ?_
  refine g_aload_nR hC dX9_init_15 rfl ?_
  refine g_bipush (v := 16) hC dX9_init_16 (by decide) ?_
  refine gX_newi hC hX dX9_init_18 q163 h.2.1 h.2.2.1 h.2.2.2.1 h.2.2.2.2.1 ?_
  intro q3 hq4
  have h := h.2.2.2.2.2 q3 hq4
  have hk5 := kd_newA (q := q3) (n := 100) (k := (Int32.toNatClampNeg (16 : Int32))) hk2 hq4
  have hk6 : xKD (sNewA (sFI (sFR S 808 u1 x1) 805 u1 (-1000000 : Int32)) q3 100 (Int32.toNatClampNeg (16 : Int32))) q3 = some 100 := kd_selfA
  refine g_top1 eu1 ?_
  refine gX_putRF (C0 := RX9) (T := TX9) (ty0 := tyX9) (N := 9) (n := 8) (k := 7) (f := 807) hC hX dX9_init_20 q1054 rfl in_X9 tyX9_ok nmX9 (by decide) rfl rfl hini rfl rfl (narrow_rf (Or.inr ⟨_, rfl⟩) _) (fits_rf (Or.inr ⟨_, rfl⟩) _) rfl (by decide) (Or.inl (by decide)) hk5 ?_
  refine g_aload_nR hC dX9_init_23 rfl ?_
  refine g_iload_n hC dX9_init_24 rfl ?_
  refine g_top1 eu1 ?_
  refine gX_putIF (C0 := RX9) (T := TX9) (ty0 := tyX9) (N := 9) (n := 8) (k := 0) (f := 800) hC hX dX9_init_25 q1045 rfl in_X9 tyX9_ok nmX9 (by decide) rfl rfl hini rfl rfl rfl rfl rfl (by decide) (Or.inl (by decide)) hk5 ?_
  refine g_aload_nR hC dX9_init_28 rfl ?_
  refine g_iload_n hC dX9_init_29 rfl ?_
  refine g_top1 eu1 ?_
  refine gX_putIF (C0 := RX9) (T := TX9) (ty0 := tyX9) (N := 9) (n := 8) (k := 1) (f := 801) hC hX dX9_init_30 q1046 rfl in_X9 tyX9_ok nmX9 (by decide) rfl rfl hini rfl rfl rfl rfl rfl (by decide) (Or.inl (by decide)) hk5 ?_
  refine g_aload_nR hC dX9_init_33 rfl ?_
  refine g_iload hC dX9_init_34 rfl ?_
  refine g_top1 eu1 ?_
  refine gX_putIF (C0 := RX9) (T := TX9) (ty0 := tyX9) (N := 9) (n := 8) (k := 2) (f := 802) hC hX dX9_init_36 q1047 rfl in_X9 tyX9_ok nmX9 (by decide) rfl rfl hini rfl rfl rfl rfl rfl (by decide) (Or.inl (by decide)) hk5 ?_
  refine g_aload_nR hC dX9_init_39 rfl ?_
  refine g_iload hC dX9_init_40 rfl ?_
  refine g_top1 eu1 ?_
  refine gX_putIF (C0 := RX9) (T := TX9) (ty0 := tyX9) (N := 9) (n := 8) (k := 3) (f := 803) hC hX dX9_init_42 q1048 rfl in_X9 tyX9_ok nmX9 (by decide) rfl rfl hini rfl rfl rfl rfl rfl (by decide) (Or.inl (by decide)) hk5 ?_
  refine g_aload_nR hC dX9_init_45 rfl ?_
  refine g_aload_nR hC dX9_init_46 rfl ?_
  refine g_aload_nR hC dX9_init_47 rfl ?_
  obtain ⟨u7, eu7, h⟩ := h
  refine g_top0 eu7 ?_
  have hk8 := h.1
  refine gX_getN (C0 := RX0) (T := TX0) (N := 15) (n := 0) (k := 10) (q := (10, false)) hC hX dX9_init_48 q223 rfl in_X0 (by decide) rfl rfl (by decide) hk8 ?_
  show GX _ _ _ _ _ _ _ (.int (xFI (sFI (sFI (sFI (sFI (sFR (sNewA (sFI (sFR S 808 u1 x1) 805 u1 (-1000000 : Int32)) q3 100 (Int32.toNatClampNeg (16 : Int32))) 807 u1 (some q3)) 800 u1 x2) 801 u1 x3) 802 u1 x4) 803 u1 x5) 10 u7) :: _)
  refine g_top1 eu7 ?_
  refine gX_ni hX (gX_runVN (As := [.int (xFI (sFI (sFI (sFI (sFI (sFR (sNewA (sFI (sFR S 808 u1 x1) 805 u1 (-1000000 : Int32)) q3 100 (Int32.toNatClampNeg (16 : Int32))) 807 u1 (some q3)) 800 u1 x2) 801 u1 x3) 802 u1 x4) 803 u1 x5) 10 u7)]) (rest := [va_rf x0]) (Cr := "VillageHalls") hC hX (mx_X0_held (cx_l C) E _ _ _ _ h.2) q977 q1019 q70 hx_X0_held.2 q976 qs20 rfl rfl (Or.inl (Nat.le_of_ble_eq_true rfl)) ⟨Nat.le_of_ble_eq_true rfl, Nat.le_of_ble_eq_true rfl⟩ dX9_init_51 (Nat.zero_le _) (Nat.zero_le _) hk8 rfl (by decide) rfl) rfl rfl ?_
  intro r10 S9 h
  refine g_top1 eu1 ?_
  have hk11 := h.1
  refine gX_putIF (C0 := RX9) (T := TX9) (ty0 := tyX9) (N := 9) (n := 8) (k := 4) (f := 804) hC hX dX9_init_54 q1049 rfl in_X9 tyX9_ok nmX9 (by decide) rfl rfl hini rfl rfl rfl rfl rfl (by decide) (Or.inl (by decide)) hk11 ?_
  refine g_iconst (v := 0) hC dX9_init_57 (by decide) ?_
  refine g_istore hC dX9_init_58 (by decide) rfl rfl ?_
  refine g_sub [true, true, true, false, false, false, true, true] rfl ?_
  obtain ⟨n0, h0⟩ := h.2
  exact s_60 n0 (mc - 1) (ms - (Int32.toNatClampNeg (16 : Int32))) (sFI S9 804 u1 r10) x0 x1 x2 x6 (0 : Int32) h0
theorem mx_X9_init (l : Launch) (E : XE) (mc ms : Nat) (Q : XS → Prop) (S : XS) (x0 : Option Nat) (x1 : Option Nat) (x2 : Int32) (x3 : Int32) (x4 : Int32) (x5 : Int32) (x6 : Int32) (h : wx_X9_init Q mc ms S x0 x1 x2 x3 x4 x5 x6) : XMet E l yX9_init cX9_init 8 none ({ frames := 6, cells := mc, slots := ms, locals := 149 } : Room) [va_rf x0, va_rf x1, .int x2, .int x3, .int x4, .int x5, .int x6] S (fun sz => va_Qv Q (BX1 E S sz) (xA S sz)) :=
  XMet_of (rm := ({ frames := 6, cells := mc, slots := ms, locals := 149 } : Room)) (by decide) (by simp [lg_sl, va_rf_cat, cat_i, cat_l]) (L0 := [some (va_rf x0), some (va_rf x1), some (.int x2), some (.int x3), some (.int x4), some (.int x5), some (.int x6), none]) (by simp [lx_pairs, lv_args, va_rf_cat, cat_i, cat_l, List.range_succ]) (fun sz C hC hX hl hnm hA hQ => bx_X9_init E C S sz Q mc ms S x0 x1 x2 x3 x4 x5 x6 hC hX hA hnm hQ h)
/-! X9_lost -/
def wx_X9_lost_39 (Q : Int32 → XS → Prop) (K4 : XS → Option Nat → Int32 → Int32 → Prop) (S : XS) (a0 : Option Nat) (a2 : Int32) (s0 : Int32) (s1 : Int32) : Prop :=
  K4 S a0 (s0 + s1) (a2 + (1 : Int32))
def wx_X9_lost_38 (Q : Int32 → XS → Prop) (K4 : XS → Option Nat → Int32 → Int32 → Prop) (S : XS) (a0 : Option Nat) (a2 : Int32) (s0 : Int32) : Prop :=
  wx_X9_lost_39 Q K4 S a0 a2 s0 (0 : Int32)
def wx_X9_lost_4 (Q : Int32 → XS → Prop) : Nat → XS → Option Nat → Int32 → Int32 → Prop
  | 0, _, _, _, _ => False
  | n + 1, S, a0, a1, a2 => (if (16 : Int32) ≤ a2 then Q a1 S else dr a0 (fun u1 => xKD S u1 = some 8 ∧ (if (((xFI S 806 u1) >>> (a2 &&& 31)) &&& (1 : Int32)) = (1 : Int32) then dr (xFR S 807 u1) (fun u3 => xKD S u3 = some 100 ∧ vp_in a2 (xLN S u3) ∧ (if (xAI S u3 (Int32.toNatClampNeg a2)) = (-1000000 : Int32) then wx_X9_lost_39 Q (wx_X9_lost_4 Q n) S a0 a2 a1 (1 : Int32) else wx_X9_lost_38 Q (wx_X9_lost_4 Q n) S a0 a2 a1)) else wx_X9_lost_38 Q (wx_X9_lost_4 Q n) S a0 a2 a1)))
def wx_X9_lost (Q : Int32 → XS → Prop) (S : XS) (x0 : Option Nat) : Prop :=
  ∃ n5, wx_X9_lost_4 Q n5 S x0 (0 : Int32) (0 : Int32)
theorem hx_X9_lost : yX9_lost.cls = RX9 ∧ yX9_lost.cls ≠ "java/lang/invoke/MethodHandle" ∧ yX9_lost.cls ≠ "java/lang/invoke/VarHandle" ∧ (parseMethodDescriptor yX9_lost.desc).map (fun d => d.parameters.length) = some 0 := by decide +kernel
set_option maxHeartbeats 4000000 in
set_option maxRecDepth 100000 in
theorem bx_X9_lost (E : XE) (C : Cx) (S0 : XS) (sz : Nat) (Q : Int32 → XS → Prop) (S : XS) (x0 : Option Nat) (hC : COk C cX9_lost RX9 (some .int) 1 34 3) (hX : XOk E C) (hA : cx_A C = xA S0 sz) (hQ : cx_Q C = MQ (cx_b C) (va_Qi Q (BX1 E S0 sz) (xA S0 sz)) (cx_a C) (cx_s C) (cx_MC C) (cx_MS C) (xA S0 sz)) (h : wx_X9_lost Q S x0) : GX E C S 0 0 0 [some (va_rf x0), none, none] [] := by
  have s_39 : ∀ (K4 : XS → Option Nat → Int32 → Int32 → Prop) (hK4 : ∀ (S : XS) (b0 : Option Nat) (b1 : Int32) (b2 : Int32), K4 S b0 b1 b2 → GX E C S 0 0 4 [some (va_rf b0), some (.int b1), some (.int b2)] []) (S : XS) (a0 : Option Nat) (a2 : Int32) (s0 : Int32) (s1 : Int32), wx_X9_lost_39 Q K4 S a0 a2 s0 s1 → GX E C S 0 0 39 [some (va_rf a0), none, some (.int a2)] [.int s1, .int s0] := by
    intro K4 hK4 S a0 a2 s0 s1 h
    refine g_iadd hC dX9_lost_39 ?_
    refine g_istore_n hC dX9_lost_40 rfl (by decide) (lx_okR (j := 0) rfl) rfl ?_
    refine g_iinc (v := (a2 + (1 : Int32))) hC dX9_lost_41 rfl rfl (by decide) rfl rfl ?_
    refine g_goto (tgt := 4) hC dX9_lost_44 (by decide) ?_
    exact hK4 S a0 (s0 + s1) (a2 + (1 : Int32)) h
  have s_38 : ∀ (K4 : XS → Option Nat → Int32 → Int32 → Prop) (hK4 : ∀ (S : XS) (b0 : Option Nat) (b1 : Int32) (b2 : Int32), K4 S b0 b1 b2 → GX E C S 0 0 4 [some (va_rf b0), some (.int b1), some (.int b2)] []) (S : XS) (a0 : Option Nat) (a2 : Int32) (s0 : Int32), wx_X9_lost_38 Q K4 S a0 a2 s0 → GX E C S 0 0 38 [some (va_rf a0), none, some (.int a2)] [.int s0] := by
    intro K4 hK4 S a0 a2 s0 h
    refine g_iconst (v := 0) hC dX9_lost_38 (by decide) ?_
    exact s_39 K4 hK4 S a0 a2 s0 (0 : Int32) h
  have s_4 : ∀ (n : Nat) (S : XS) (a0 : Option Nat) (a1 : Int32) (a2 : Int32), wx_X9_lost_4 Q  n S a0 a1 a2 → GX E C S 0 0 4 [some (va_rf a0), some (.int a1), some (.int a2)] [] := by
    intro  n
    induction n with
    | zero =>
      intro S a0 a1 a2 h
      exact False.elim h
    | succ n ih =>
      intro S a0 a1 a2 h
      refine g_iload_n hC dX9_lost_4 rfl ?_
      refine g_bipush (v := 16) hC dX9_lost_5 (by decide) ?_
      refine g_icmp_ge (tgt := 47) hC dX9_lost_7 (by decide) (fun c => ?_) (fun c => ?_)
      · have h := it_p c h
        refine g_iload_n hC dX9_lost_47 rfl ?_
        refine gX_iret rfl hC hA hQ dX9_lost_48 h
      · have h := it_n c h
        refine g_iload_n hC dX9_lost_10 rfl ?_
        refine g_aload_nR hC dX9_lost_11 rfl ?_
        obtain ⟨u1, eu1, h⟩ := h
        refine g_top0 eu1 ?_
        have hk2 := h.1
        refine gX_get (C0 := RX9) (T := TX9) (N := 9) (n := 8) (k := 6) (q := (806, false)) hC hX dX9_lost_12 q1052 rfl in_X9 (by decide) (Or.inl rfl) rfl (by decide) hk2 ?_
        show GX _ _ _ _ _ _ _ (.int (xFI S 806 u1) :: _)
        refine g_iload_n hC dX9_lost_15 rfl ?_
        refine g_ishr hC dX9_lost_16 ?_
        refine g_iconst (v := 1) hC dX9_lost_17 (by decide) ?_
        refine g_iand hC dX9_lost_18 ?_
        refine g_iconst (v := 1) hC dX9_lost_19 (by decide) ?_
        refine g_icmp_ne (tgt := 38) hC dX9_lost_20 (by decide) (fun c => ?_) (fun c => ?_)
        · have h := it_n c h.2
          refine g_sub [true, false, true] rfl ?_
          exact s_38 (wx_X9_lost_4 Q n) ih S a0 a2 a1 h
        · have h := it_p c h.2
          refine g_aload_nR hC dX9_lost_23 rfl ?_
          refine g_top0 eu1 ?_
          refine gX_get (C0 := RX9) (T := TX9) (N := 9) (n := 8) (k := 7) (q := (807, true)) hC hX dX9_lost_24 q1054 rfl in_X9 (by decide) (Or.inl rfl) rfl (by decide) hk2 ?_
          show GX _ _ _ _ _ _ _ (va_rf (xFR S 807 u1) :: _)
          refine g_iload_n hC dX9_lost_27 rfl ?_
          obtain ⟨u3, eu3, h⟩ := h
          refine g_top1 eu3 ?_
          have hk4 := h.1
          refine gX_iald hC hX dX9_lost_28 hk4 h.2.1 ?_
          refine g_ldc (v := -1000000) hC dX9_lost_29 q1018 ?_
          refine g_icmp_ne (tgt := 38) hC dX9_lost_31 (by decide) (fun c => ?_) (fun c => ?_)
          · have h := it_n c h.2.2
            refine g_sub [true, false, true] rfl ?_
            exact s_38 (wx_X9_lost_4 Q n) ih S a0 a2 a1 h
          · have h := it_p c h.2.2
            refine g_iconst (v := 1) hC dX9_lost_34 (by decide) ?_
            refine g_goto (tgt := 39) hC dX9_lost_35 (by decide) ?_
            refine g_sub [true, false, true] rfl ?_
            exact s_39 (wx_X9_lost_4 Q n) ih S a0 a2 a1 (1 : Int32) h
  refine g_iconst (v := 0) hC dX9_lost_0 (by decide) ?_
  refine g_istore_n hC dX9_lost_1 rfl (by decide) (lx_okR (j := 0) rfl) rfl ?_
  refine g_iconst (v := 0) hC dX9_lost_2 (by decide) ?_
  refine g_istore_n hC dX9_lost_3 rfl (by decide) rfl rfl ?_
  obtain ⟨n0, h0⟩ := h
  exact s_4 n0 S x0 (0 : Int32) (0 : Int32) h0
theorem mx_X9_lost (l : Launch) (E : XE) (Q : Int32 → XS → Prop) (S : XS) (x0 : Option Nat) (h : wx_X9_lost Q S x0) : XMet E l yX9_lost cX9_lost 3 (some .int) ({ frames := 1, cells := 0, slots := 0, locals := 34 } : Room) [va_rf x0] S (fun sz => va_Qi Q (BX1 E S sz) (xA S sz)) :=
  XMet_of (rm := ({ frames := 1, cells := 0, slots := 0, locals := 34 } : Room)) (by decide) (by simp [lg_sl, va_rf_cat, cat_i, cat_l]) (L0 := [some (va_rf x0), none, none]) (by simp [lx_pairs, lv_args, va_rf_cat, cat_i, cat_l, List.range_succ]) (fun sz C hC hX hl hnm hA hQ => bx_X9_lost E C S sz Q S x0 hC hX hA hQ h)
/-! X0_funeral -/
def wx_X0_funeral (Q : Int32 → XS → Prop) (mc ms : Nat) (S : XS) (x0 : Option Nat) (x1 : Int32) (x2 : Int32) (x3 : Int32) (x4 : Int32) (x5 : Int32) (x6 : Int32) : Prop :=
  wx_X0_isHall (fun r2 S1 => (if r2 = 0 then Q (-1000001 : Int32) S1 else wx_X0_isDay (fun r4 S3 => (if r4 = 0 then Q (-1000001 : Int32) S3 else wx_X0_areQuarters (fun r6 S5 => (if r6 = 0 then Q (-1000001 : Int32) S5 else wx_X0_isIn (fun r8 S7 => (if r8 = 0 then Q (-1000001 : Int32) S7 else wx_X0_isIn (fun r10 S9 => (if r10 = 0 then Q (-1000001 : Int32) S9 else 1 ≤ mc ∧ 9 ≤ ms ∧ (∀ q11 : Nat, xKD S9 q11 = none → (∃ k14 n15, k14 ≤ (mc - 1) ∧ n15 ≤ (ms - 9) ∧ wx_X9_init (fun S16 => (if x6 = 0 then xKD S16 q11 = some 8 ∧ Q (xFI S16 805 q11) S16 else (if x6 = (1 : Int32) then xKD S16 q11 = some 8 ∧ wx_J18_bitCount (fun r26 S25 => Q r26 S25) S16 (xFI S16 806 q11) else (if x6 = (2 : Int32) then xKD S16 q11 = some 8 ∧ wx_X9_lost (fun r23 S22 => Q r23 S22) S16 (some q11) else xKD S16 q11 = some 8 ∧ dr (xFR S16 807 q11) (fun u19 => xKD S16 u19 = some 100 ∧ vp_in (x6 - (3 : Int32)) (xLN S16 u19) ∧ Q (xAI S16 u19 (Int32.toNatClampNeg (x6 - (3 : Int32)))) S16))))) k14 n15 (sNew S9 q11 8) (some q11) x0 x1 x2 x3 x4 x5)))) S7 (Int32.toInt64 x6) (0 : Int64) (18 : Int64))) S5 (Int32.toInt64 x5) (1 : Int64) (500 : Int64))) S3 x3 x4)) S1 x2)) S x1
theorem hx_X0_funeral : yX0_funeral.cls = RX0 ∧ yX0_funeral.cls ≠ "java/lang/invoke/MethodHandle" ∧ yX0_funeral.cls ≠ "java/lang/invoke/VarHandle" ∧ (parseMethodDescriptor yX0_funeral.desc).map (fun d => d.parameters.length) = some 6 := by decide +kernel
set_option maxHeartbeats 4000000 in
set_option maxRecDepth 100000 in
theorem bx_X0_funeral (E : XE) (C : Cx) (S0 : XS) (sz : Nat) (Q : Int32 → XS → Prop) (mc ms : Nat) (S : XS) (x0 : Option Nat) (x1 : Int32) (x2 : Int32) (x3 : Int32) (x4 : Int32) (x5 : Int32) (x6 : Int32) (hC : COk C cX0_funeral RX0 (some .int) 7 176 8) (hX : XOk E C) (hA : cx_A C = xA S0 sz) (hQ : cx_Q C = MQ (cx_b C) (va_Qi Q (BX1 E S0 sz) (xA S0 sz)) (cx_a C) (cx_s C) (cx_MC C) (cx_MS C) (xA S0 sz)) (h : wx_X0_funeral Q mc ms S x0 x1 x2 x3 x4 x5 x6) : GX E C S mc ms 0 [some (va_rf x0), some (.int x1), some (.int x2), some (.int x3), some (.int x4), some (.int x5), some (.int x6), none] [] := by
  refine g_iload_n hC dX0_funeral_0 rfl ?_
  refine gX_ni hX (gX_runS (As := [.int x1]) (rest := []) hC hX (mx_X0_isHall (cx_l C) E _ _ _ h) (lw_S q752 q753 q70 q754) hx_X0_isHall.2 rfl rfl (Or.inl (Nat.le_of_ble_eq_true rfl)) ⟨Nat.le_of_ble_eq_true rfl, Nat.le_of_ble_eq_true rfl⟩ dX0_funeral_1 (Nat.zero_le _) (Nat.zero_le _)) rfl rfl ?_
  intro r2 S1 h
  refine g_if_eq (tgt := 49) hC dX0_funeral_4 (by decide) (fun c => ?_) (fun c => ?_)
  · have h := it_p c h
    refine g_ldc (v := -1000001) hC dX0_funeral_49 q273 ?_
    refine gX_iret rfl hC hA hQ dX0_funeral_51 h
  · have h := it_n c h
    refine g_iload_n hC dX0_funeral_7 rfl ?_
    refine gX_ni hX (gX_runS (As := [.int x2]) (rest := []) hC hX (mx_X0_isDay (cx_l C) E _ _ _ h) (lw_S q788 q789 q70 q790) hx_X0_isDay.2 rfl rfl (Or.inl (Nat.le_of_ble_eq_true rfl)) ⟨Nat.le_of_ble_eq_true rfl, Nat.le_of_ble_eq_true rfl⟩ dX0_funeral_8 (Nat.zero_le _) (Nat.zero_le _)) rfl rfl ?_
    intro r4 S3 h
    refine g_if_eq (tgt := 49) hC dX0_funeral_11 (by decide) (fun c => ?_) (fun c => ?_)
    · have h := it_p c h
      refine g_ldc (v := -1000001) hC dX0_funeral_49 q273 ?_
      refine gX_iret rfl hC hA hQ dX0_funeral_51 h
    · have h := it_n c h
      refine g_iload_n hC dX0_funeral_14 rfl ?_
      refine g_iload hC dX0_funeral_15 rfl ?_
      refine gX_ni hX (gX_runS (As := [.int x3, .int x4]) (rest := []) hC hX (mx_X0_areQuarters (cx_l C) E _ _ _ _ h) (lw_S q792 q793 q70 q794) hx_X0_areQuarters.2 rfl rfl (Or.inl (Nat.le_of_ble_eq_true rfl)) ⟨Nat.le_of_ble_eq_true rfl, Nat.le_of_ble_eq_true rfl⟩ dX0_funeral_17 (Nat.zero_le _) (Nat.zero_le _)) rfl rfl ?_
      intro r6 S5 h
      refine g_if_eq (tgt := 49) hC dX0_funeral_20 (by decide) (fun c => ?_) (fun c => ?_)
      · have h := it_p c h
        refine g_ldc (v := -1000001) hC dX0_funeral_49 q273 ?_
        refine gX_iret rfl hC hA hQ dX0_funeral_51 h
      · have h := it_n c h
        refine g_iload hC dX0_funeral_23 rfl ?_
        refine g_i2l hC dX0_funeral_25 ?_
        refine g_lconst (v := 1) hC dX0_funeral_26 (by decide) ?_
        refine g_ldc2 (v := 500) hC dX0_funeral_27 q1010 ?_
        refine gX_ni hX (gX_runS (As := [.long (Int32.toInt64 x5), .long (1 : Int64), .long (500 : Int64)]) (rest := []) hC hX (mx_X0_isIn (cx_l C) E _ _ _ _ _ h) (lw_S q269 q270 q70 q271) hx_X0_isIn.2 rfl rfl (Or.inl (Nat.le_of_ble_eq_true rfl)) ⟨Nat.le_of_ble_eq_true rfl, Nat.le_of_ble_eq_true rfl⟩ dX0_funeral_30 (Nat.zero_le _) (Nat.zero_le _)) rfl rfl ?_
        intro r8 S7 h
        refine g_if_eq (tgt := 49) hC dX0_funeral_33 (by decide) (fun c => ?_) (fun c => ?_)
        · have h := it_p c h
          refine g_ldc (v := -1000001) hC dX0_funeral_49 q273 ?_
          refine gX_iret rfl hC hA hQ dX0_funeral_51 h
        · have h := it_n c h
          refine g_iload hC dX0_funeral_36 rfl ?_
          refine g_i2l hC dX0_funeral_38 ?_
          refine g_lconst (v := 0) hC dX0_funeral_39 (by decide) ?_
          refine g_ldc2 (v := 18) hC dX0_funeral_40 q1011 ?_
          refine gX_ni hX (gX_runS (As := [.long (Int32.toInt64 x6), .long (0 : Int64), .long (18 : Int64)]) (rest := []) hC hX (mx_X0_isIn (cx_l C) E _ _ _ _ _ h) (lw_S q269 q270 q70 q271) hx_X0_isIn.2 rfl rfl (Or.inl (Nat.le_of_ble_eq_true rfl)) ⟨Nat.le_of_ble_eq_true rfl, Nat.le_of_ble_eq_true rfl⟩ dX0_funeral_43 (Nat.zero_le _) (Nat.zero_le _)) rfl rfl ?_
          intro r10 S9 h
          refine g_if_ne (tgt := 52) hC dX0_funeral_46 (by decide) (fun c => ?_) (fun c => ?_)
          · have h := it_n c h
            refine gX_new (C0 := RX9) (T := TX9) (ty0 := tyX9) (N := 9) (n := 8) hC hX dX0_funeral_52 q1012 q1013 q98 rfl in_X9 tyX9_ok (by decide) dv_X9 h.1 h.2.1 ?_
            intro q11 hq12
            have h := h.2.2 q11 hq12
            have hk13 : xKD (sNew S9 q11 8) q11 = some 8 := kd_self
            refine g_dup hC dX0_funeral_55 (va_rf_cat _) ?_
            refine g_aload_nR hC dX0_funeral_56 rfl ?_
            refine g_iload_n hC dX0_funeral_57 rfl ?_
            refine g_iload_n hC dX0_funeral_58 rfl ?_
            refine g_iload_n hC dX0_funeral_59 rfl ?_
            refine g_iload hC dX0_funeral_60 rfl ?_
            refine g_iload hC dX0_funeral_62 rfl ?_
            obtain ⟨k14, n15, hk14, hn15, h⟩ := h
            refine gX_cv hX (gX_runI (As := [va_rf x0, .int x1, .int x2, .int x3, .int x4, .int x5]) (rest := [va_rf (some q11)]) hC hX (mx_X9_init (cx_l C) E k14 n15 _ _ _ _ _ _ _ _ _ h) q1016 q98 q1014 q1015 rfl hx_X9_init.2 rfl rfl (Or.inl (Nat.le_of_ble_eq_true rfl)) ⟨Nat.le_of_ble_eq_true rfl, Nat.le_of_ble_eq_true rfl⟩ dX0_funeral_64 hk14 hn15) hk14 hn15 ?_
            intro S16 h
            refine g_astoreR hC dX0_funeral_67 (by decide) rfl rfl ?_
            refine g_sub [false, false, false, false, false, false, true, true] rfl ?_
            refine g_iload hC dX0_funeral_69 rfl ?_
            refine g_if_ne (tgt := 82) hC dX0_funeral_71 (by decide) (fun c => ?_) (fun c => ?_)
            · have h := it_n c h
              refine g_iload hC dX0_funeral_82 rfl ?_
              refine g_iconst (v := 1) hC dX0_funeral_84 (by decide) ?_
              refine g_icmp_ne (tgt := 99) hC dX0_funeral_85 (by decide) (fun c => ?_) (fun c => ?_)
              · have h := it_n c h
                refine g_iload hC dX0_funeral_99 rfl ?_
                refine g_iconst (v := 2) hC dX0_funeral_101 (by decide) ?_
                refine g_icmp_ne (tgt := 113) hC dX0_funeral_102 (by decide) (fun c => ?_) (fun c => ?_)
                · have h := it_n c h
                  refine g_aloadR hC dX0_funeral_113 rfl ?_
                  have hk18 := h.1
                  refine gX_getN (C0 := RX9) (T := TX9) (N := 9) (n := 8) (k := 7) (q := (807, true)) hC hX dX0_funeral_115 q1055 rfl in_X9 (by decide) rfl rfl (by decide) hk18 ?_
                  show GX _ _ _ _ _ _ _ (va_rf (xFR S16 807 q11) :: _)
                  refine g_iload hC dX0_funeral_118 rfl ?_
                  refine g_iconst (v := 3) hC dX0_funeral_120 (by decide) ?_
                  refine g_isub hC dX0_funeral_121 ?_
                  obtain ⟨u19, eu19, h⟩ := h.2
                  refine g_top1 eu19 ?_
                  have hk20 := h.1
                  refine gX_iald hC hX dX0_funeral_122 hk20 h.2.1 ?_
                  refine gX_iret rfl hC hA hQ dX0_funeral_123 h.2.2
                · have h := it_p c h
                  refine g_aloadR hC dX0_funeral_105 rfl ?_
                  have hk21 := h.1
                  refine gX_ni hX (gX_runV (As := []) (rest := []) (Cr := RX9) hC hX (mx_X9_lost (cx_l C) E _ _ _ h.2) (lw_V q1077 q1078 q1079 q98 q1080) hx_X9_lost rfl rfl (Or.inl (Nat.le_of_ble_eq_true rfl)) ⟨Nat.le_of_ble_eq_true rfl, Nat.le_of_ble_eq_true rfl⟩ dX0_funeral_107 (Nat.zero_le _) (Nat.zero_le _) hk21 rfl (by decide) rfl) rfl rfl ?_
                  intro r23 S22 h
                  refine g_goto (tgt := 123) hC dX0_funeral_110 (by decide) ?_
                  refine gX_iret rfl hC hA hQ dX0_funeral_123 h
              · have h := it_p c h
                refine g_aloadR hC dX0_funeral_88 rfl ?_
                have hk24 := h.1
                refine gX_getN (C0 := RX9) (T := TX9) (N := 9) (n := 8) (k := 6) (q := (806, false)) hC hX dX0_funeral_90 q1053 rfl in_X9 (by decide) rfl rfl (by decide) hk24 ?_
                show GX _ _ _ _ _ _ _ (.int (xFI S16 806 q11) :: _)
                refine gX_ni hX (gX_runS (As := [.int (xFI S16 806 q11)]) (rest := []) hC hX (mx_J18_bitCount (cx_l C) E _ _ _ h.2) (lw_S q1076 q1032 q100 q1033) hx_J18_bitCount.2 rfl rfl (Or.inl (Nat.le_of_ble_eq_true rfl)) ⟨Nat.le_of_ble_eq_true rfl, Nat.le_of_ble_eq_true rfl⟩ dX0_funeral_93 (Nat.zero_le _) (Nat.zero_le _)) rfl rfl ?_
                intro r26 S25 h
                refine g_goto (tgt := 123) hC dX0_funeral_96 (by decide) ?_
                refine gX_iret rfl hC hA hQ dX0_funeral_123 h
            · have h := it_p c h
              refine g_aloadR hC dX0_funeral_74 rfl ?_
              have hk27 := h.1
              refine gX_getN (C0 := RX9) (T := TX9) (N := 9) (n := 8) (k := 5) (q := (805, false)) hC hX dX0_funeral_76 q1051 rfl in_X9 (by decide) rfl rfl (by decide) hk27 ?_
              show GX _ _ _ _ _ _ _ (.int (xFI S16 805 q11) :: _)
              refine g_goto (tgt := 123) hC dX0_funeral_79 (by decide) ?_
              refine gX_iret rfl hC hA hQ dX0_funeral_123 h.2
          · have h := it_p c h
            refine g_ldc (v := -1000001) hC dX0_funeral_49 q273 ?_
            refine gX_iret rfl hC hA hQ dX0_funeral_51 h
theorem mx_X0_funeral (l : Launch) (E : XE) (mc ms : Nat) (Q : Int32 → XS → Prop) (S : XS) (x0 : Option Nat) (x1 : Int32) (x2 : Int32) (x3 : Int32) (x4 : Int32) (x5 : Int32) (x6 : Int32) (h : wx_X0_funeral Q mc ms S x0 x1 x2 x3 x4 x5 x6) : XMet E l yX0_funeral cX0_funeral 8 (some .int) ({ frames := 7, cells := mc, slots := ms, locals := 176 } : Room) [va_rf x0, .int x1, .int x2, .int x3, .int x4, .int x5, .int x6] S (fun sz => va_Qi Q (BX1 E S sz) (xA S sz)) :=
  XMet_of (rm := ({ frames := 7, cells := mc, slots := ms, locals := 176 } : Room)) (by decide) (by simp [lg_sl, va_rf_cat, cat_i, cat_l]) (L0 := [some (va_rf x0), some (.int x1), some (.int x2), some (.int x3), some (.int x4), some (.int x5), some (.int x6), none]) (by simp [lx_pairs, lv_args, va_rf_cat, cat_i, cat_l, List.range_succ]) (fun sz C hC hX hl hnm hA hQ => bx_X0_funeral E C S sz Q mc ms S x0 x1 x2 x3 x4 x5 x6 hC hX hA hQ h)
/-! X0_isTime -/
def wx_X0_isTime (Q : Int32 → XS → Prop) (S : XS) (x0 : Int32) (x1 : Int32) (x2 : Int32) (x3 : Int32) : Prop :=
  wx_X0_isHall (fun r2 S1 => (if r2 = 0 then Q (0 : Int32) S1 else wx_X0_isDay (fun r4 S3 => (if r4 = 0 then Q (0 : Int32) S3 else wx_X0_isIn (fun r6 S5 => (if r6 = 0 then Q (0 : Int32) S5 else Q (1 : Int32) S5)) S3 (Int32.toInt64 x2) (0 : Int64) (Int32.toInt64 x3))) S1 x1)) S x0
theorem hx_X0_isTime : yX0_isTime.cls = RX0 ∧ yX0_isTime.cls ≠ "java/lang/invoke/MethodHandle" ∧ yX0_isTime.cls ≠ "java/lang/invoke/VarHandle" ∧ (parseMethodDescriptor yX0_isTime.desc).map (fun d => d.parameters.length) = some 4 := by decide +kernel
set_option maxHeartbeats 4000000 in
set_option maxRecDepth 100000 in
theorem bx_X0_isTime (E : XE) (C : Cx) (S0 : XS) (sz : Nat) (Q : Int32 → XS → Prop) (S : XS) (x0 : Int32) (x1 : Int32) (x2 : Int32) (x3 : Int32) (hC : COk C cX0_isTime RX0 (some .boolean) 3 79 4) (hX : XOk E C) (hA : cx_A C = xA S0 sz) (hQ : cx_Q C = MQ (cx_b C) (va_Qi Q (BX1 E S0 sz) (xA S0 sz)) (cx_a C) (cx_s C) (cx_MC C) (cx_MS C) (xA S0 sz)) (h : wx_X0_isTime Q S x0 x1 x2 x3) : GX E C S 0 0 0 [some (.int x0), some (.int x1), some (.int x2), some (.int x3)] [] := by
  refine g_iload_n hC dX0_isTime_0 rfl ?_
  refine gX_ni hX (gX_runS (As := [.int x0]) (rest := []) hC hX (mx_X0_isHall (cx_l C) E _ _ _ h) (lw_S q752 q753 q70 q754) hx_X0_isHall.2 rfl rfl (Or.inl (Nat.le_of_ble_eq_true rfl)) ⟨Nat.le_of_ble_eq_true rfl, Nat.le_of_ble_eq_true rfl⟩ dX0_isTime_1 (Nat.zero_le _) (Nat.zero_le _)) rfl rfl ?_
  intro r2 S1 h
  refine g_if_eq (tgt := 29) hC dX0_isTime_4 (by decide) (fun c => ?_) (fun c => ?_)
  · have h := it_p c h
    refine g_iconst (v := 0) hC dX0_isTime_29 (by decide) ?_
    refine gX_zret rfl rfl hC hA hQ dX0_isTime_30 h
  · have h := it_n c h
    refine g_iload_n hC dX0_isTime_7 rfl ?_
    refine gX_ni hX (gX_runS (As := [.int x1]) (rest := []) hC hX (mx_X0_isDay (cx_l C) E _ _ _ h) (lw_S q788 q789 q70 q790) hx_X0_isDay.2 rfl rfl (Or.inl (Nat.le_of_ble_eq_true rfl)) ⟨Nat.le_of_ble_eq_true rfl, Nat.le_of_ble_eq_true rfl⟩ dX0_isTime_8 (Nat.zero_le _) (Nat.zero_le _)) rfl rfl ?_
    intro r4 S3 h
    refine g_if_eq (tgt := 29) hC dX0_isTime_11 (by decide) (fun c => ?_) (fun c => ?_)
    · have h := it_p c h
      refine g_iconst (v := 0) hC dX0_isTime_29 (by decide) ?_
      refine gX_zret rfl rfl hC hA hQ dX0_isTime_30 h
    · have h := it_n c h
      refine g_iload_n hC dX0_isTime_14 rfl ?_
      refine g_i2l hC dX0_isTime_15 ?_
      refine g_lconst (v := 0) hC dX0_isTime_16 (by decide) ?_
      refine g_iload_n hC dX0_isTime_17 rfl ?_
      refine g_i2l hC dX0_isTime_18 ?_
      refine gX_ni hX (gX_runS (As := [.long (Int32.toInt64 x2), .long (0 : Int64), .long (Int32.toInt64 x3)]) (rest := []) hC hX (mx_X0_isIn (cx_l C) E _ _ _ _ _ h) (lw_S q269 q270 q70 q271) hx_X0_isIn.2 rfl rfl (Or.inl (Nat.le_of_ble_eq_true rfl)) ⟨Nat.le_of_ble_eq_true rfl, Nat.le_of_ble_eq_true rfl⟩ dX0_isTime_19 (Nat.zero_le _) (Nat.zero_le _)) rfl rfl ?_
      intro r6 S5 h
      refine g_if_eq (tgt := 29) hC dX0_isTime_22 (by decide) (fun c => ?_) (fun c => ?_)
      · have h := it_p c h
        refine g_iconst (v := 0) hC dX0_isTime_29 (by decide) ?_
        refine gX_zret rfl rfl hC hA hQ dX0_isTime_30 h
      · have h := it_n c h
        refine g_iconst (v := 1) hC dX0_isTime_25 (by decide) ?_
        refine g_goto (tgt := 30) hC dX0_isTime_26 (by decide) ?_
        refine gX_zret rfl rfl hC hA hQ dX0_isTime_30 h
theorem mx_X0_isTime (l : Launch) (E : XE) (Q : Int32 → XS → Prop) (S : XS) (x0 : Int32) (x1 : Int32) (x2 : Int32) (x3 : Int32) (h : wx_X0_isTime Q S x0 x1 x2 x3) : XMet E l yX0_isTime cX0_isTime 4 (some .boolean) ({ frames := 3, cells := 0, slots := 0, locals := 79 } : Room) [.int x0, .int x1, .int x2, .int x3] S (fun sz => va_Qi Q (BX1 E S sz) (xA S sz)) :=
  XMet_of (rm := ({ frames := 3, cells := 0, slots := 0, locals := 79 } : Room)) (by decide) (by simp [lg_sl, va_rf_cat, cat_i, cat_l]) (L0 := [some (.int x0), some (.int x1), some (.int x2), some (.int x3)]) (by simp [lx_pairs, lv_args, va_rf_cat, cat_i, cat_l, List.range_succ]) (fun sz C hC hX hl hnm hA hQ => bx_X0_isTime E C S sz Q S x0 x1 x2 x3 hC hX hA hQ h)
/-! X10_init -/
def wx_X10_init (Q : XS → Prop) (S : XS) (x0 : Option Nat) (x1 : Int32) (x2 : Int32) (x3 : Int32) (x4 : Int32) : Prop :=
  dr x0 (fun u1 => xKD S u1 = some 9 ∧ Q (sFI (sFI (sFI (sFI S 900 u1 x1) 901 u1 x2) 902 u1 x3) 903 u1 x4))
theorem hx_X10_init : yX10_init.cls = RX10 ∧ yX10_init.cls ≠ "java/lang/invoke/MethodHandle" ∧ yX10_init.cls ≠ "java/lang/invoke/VarHandle" ∧ (parseMethodDescriptor yX10_init.desc).map (fun d => d.parameters.length) = some 4 := by decide +kernel
set_option maxHeartbeats 4000000 in
set_option maxRecDepth 100000 in
theorem bx_X10_init (E : XE) (C : Cx) (S0 : XS) (sz : Nat) (Q : XS → Prop) (S : XS) (x0 : Option Nat) (x1 : Int32) (x2 : Int32) (x3 : Int32) (x4 : Int32) (hC : COk C cX10_init RX10 none 1 34 5) (hX : XOk E C) (hA : cx_A C = xA S0 sz) (hini : (cx_h C).name = "<init>") (hQ : cx_Q C = MQ (cx_b C) (va_Qv Q (BX1 E S0 sz) (xA S0 sz)) (cx_a C) (cx_s C) (cx_MC C) (cx_MS C) (xA S0 sz)) (h : wx_X10_init Q S x0 x1 x2 x3 x4) : GX E C S 0 0 0 [some (va_rf x0), some (.int x1), some (.int x2), some (.int x3), some (.int x4)] [] := by
  refine g_aload_nR hC dX10_init_0 rfl ?_
  obtain ⟨u1, eu1, h⟩ := h
  refine g_top0 eu1 ?_
  refine gX_oinit hC dX10_init_1 q1094 q115 q116 (Nat.le_of_ble_eq_true rfl) (by decide) (by decide) ?_
  refine g_aload_nR hC dX10_init_4 rfl ?_
  refine g_iload_n hC dX10_init_5 rfl ?_
  refine g_top1 eu1 ?_
  have hk2 := h.1
  refine gX_putIF (C0 := RX10) (T := TX10) (ty0 := tyX10) (N := 4) (n := 9) (k := 0) (f := 900) hC hX dX10_init_6 q1095 rfl in_X10 tyX10_ok nmX10 (by decide) rfl rfl hini rfl rfl rfl rfl rfl (by decide) (Or.inl (by decide)) hk2 ?_
  refine g_aload_nR hC dX10_init_9 rfl ?_
  refine g_iload_n hC dX10_init_10 rfl ?_
  refine g_top1 eu1 ?_
  refine gX_putIF (C0 := RX10) (T := TX10) (ty0 := tyX10) (N := 4) (n := 9) (k := 1) (f := 901) hC hX dX10_init_11 q1097 rfl in_X10 tyX10_ok nmX10 (by decide) rfl rfl hini rfl rfl rfl rfl rfl (by decide) (Or.inl (by decide)) hk2 ?_
  refine g_aload_nR hC dX10_init_14 rfl ?_
  refine g_iload_n hC dX10_init_15 rfl ?_
  refine g_top1 eu1 ?_
  refine gX_putIF (C0 := RX10) (T := TX10) (ty0 := tyX10) (N := 4) (n := 9) (k := 2) (f := 902) hC hX dX10_init_16 q1099 rfl in_X10 tyX10_ok nmX10 (by decide) rfl rfl hini rfl rfl rfl rfl rfl (by decide) (Or.inl (by decide)) hk2 ?_
  refine g_aload_nR hC dX10_init_19 rfl ?_
  refine g_iload hC dX10_init_20 rfl ?_
  refine g_top1 eu1 ?_
  refine gX_putIF (C0 := RX10) (T := TX10) (ty0 := tyX10) (N := 4) (n := 9) (k := 3) (f := 903) hC hX dX10_init_22 q1101 rfl in_X10 tyX10_ok nmX10 (by decide) rfl rfl hini rfl rfl rfl rfl rfl (by decide) (Or.inl (by decide)) hk2 ?_
  refine gX_vret hC hA hQ rfl dX10_init_25 h.2
theorem mx_X10_init (l : Launch) (E : XE) (Q : XS → Prop) (S : XS) (x0 : Option Nat) (x1 : Int32) (x2 : Int32) (x3 : Int32) (x4 : Int32) (h : wx_X10_init Q S x0 x1 x2 x3 x4) : XMet E l yX10_init cX10_init 5 none ({ frames := 1, cells := 0, slots := 0, locals := 34 } : Room) [va_rf x0, .int x1, .int x2, .int x3, .int x4] S (fun sz => va_Qv Q (BX1 E S sz) (xA S sz)) :=
  XMet_of (rm := ({ frames := 1, cells := 0, slots := 0, locals := 34 } : Room)) (by decide) (by simp [lg_sl, va_rf_cat, cat_i, cat_l]) (L0 := [some (va_rf x0), some (.int x1), some (.int x2), some (.int x3), some (.int x4)]) (by simp [lx_pairs, lv_args, va_rf_cat, cat_i, cat_l, List.range_succ]) (fun sz C hC hX hl hnm hA hQ => bx_X10_init E C S sz Q S x0 x1 x2 x3 x4 hC hX hA hnm hQ h)
/-! X0_come -/
def wx_X0_come_39 (Q : Int32 → XS → Prop) (mc ms : Nat) (S : XS) (a0 : Option Nat) (a1 : Option Nat) (a2 : Int32) : Prop :=
  dr a0 (fun u5 => xKD S u5 = some 16 ∧ (∃ k7 n8, k7 ≤ mc ∧ n8 ≤ ms ∧ wx_J2_add_3 (fun S9 => xKD S9 u5 = some 16 ∧ wx_J2_size (fun r13 S12 => Q r13 S12) S9 (some u5)) k7 n8 S (some u5) a2 a1))
def wx_X0_come_7 (Q : Int32 → XS → Prop) : Nat → Nat → Nat → XS → Option Nat → Option Nat → Int32 → Prop
  | 0, _, _, _, _, _, _ => False
  | n + 1, mc, ms, S, a0, a1, a2 => (if a2 ≤ 0 then wx_X0_come_39 Q mc ms S a0 a1 a2 else dr a1 (fun u14 => xKD S u14 = some 9 ∧ dr a0 (fun u16 => xKD S u16 = some 16 ∧ wx_J2_get (fun r19 S18 => dr r19 (fun u20 => xKD S18 u20 = some 9 ∧ (if (xFI S18 901 u20) ≤ (xFI S 901 u14) then wx_X0_come_39 Q mc ms S18 a0 a1 a2 else wx_X0_come_7 Q n mc ms S18 a0 a1 (a2 + (-1 : Int32))))) S (some u16) (a2 - (1 : Int32)))))
def wx_X0_come (Q : Int32 → XS → Prop) (mc ms : Nat) (S : XS) (x0 : Option Nat) (x1 : Option Nat) : Prop :=
  dr x0 (fun u1 => xKD S u1 = some 16 ∧ wx_J2_size (fun r4 S3 => ∃ n22, wx_X0_come_7 Q n22 mc ms S3 x0 x1 r4) S (some u1))
theorem hx_X0_come : yX0_come.cls = RX0 ∧ yX0_come.cls ≠ "java/lang/invoke/MethodHandle" ∧ yX0_come.cls ≠ "java/lang/invoke/VarHandle" ∧ (parseMethodDescriptor yX0_come.desc).map (fun d => d.parameters.length) = some 2 := by decide +kernel
set_option maxHeartbeats 4000000 in
set_option maxRecDepth 100000 in
theorem bx_X0_come (E : XE) (C : Cx) (S0 : XS) (sz : Nat) (Q : Int32 → XS → Prop) (mc ms : Nat) (S : XS) (x0 : Option Nat) (x1 : Option Nat) (hC : COk C cX0_come RX0 (some .int) 6 145 3) (hX : XOk E C) (hA : cx_A C = xA S0 sz) (hQ : cx_Q C = MQ (cx_b C) (va_Qi Q (BX1 E S0 sz) (xA S0 sz)) (cx_a C) (cx_s C) (cx_MC C) (cx_MS C) (xA S0 sz)) (h : wx_X0_come Q mc ms S x0 x1) : GX E C S mc ms 0 [some (va_rf x0), some (va_rf x1), none] [] := by
  have s_39 : ∀ (mc ms : Nat) (S : XS) (a0 : Option Nat) (a1 : Option Nat) (a2 : Int32), wx_X0_come_39 Q  mc ms S a0 a1 a2 → GX E C S mc ms 39 [some (va_rf a0), some (va_rf a1), some (.int a2)] [] := by
    intro  mc ms S a0 a1 a2 h
    refine g_aload_nR hC dX0_come_39 rfl ?_
    refine g_iload_n hC dX0_come_40 rfl ?_
    refine g_aload_nR hC dX0_come_41 rfl ?_
    obtain ⟨u5, eu5, h⟩ := h
    refine g_top2 eu5 ?_
    have hk6 := h.1
    obtain ⟨k7, n8, hk7, hn8, h⟩ := h.2
    refine gX_cv5 hX (gX_runF (n := 2) (As := [.int a2, va_rf a1]) (rest := []) (Cr := "java/util/ArrayList") (x := ⟨"java/util/List", "add", "(ILjava/lang/Object;)V"⟩) hC hX (mx_J2_add_3 (cx_l C) E k7 n8 _ _ _ _ _ h) (lw_app (lw_4 q1116 q1119 q1121 q73) (lw_meth q1123)) (List.mem_of_getElem? (i := 3) rfl) (by decide +kernel) rfl rfl (Or.inl (Nat.le_of_ble_eq_true rfl)) ⟨Nat.le_of_ble_eq_true rfl, Nat.le_of_ble_eq_true rfl⟩ dX0_come_42 hk7 hn8 hk6 rfl (by decide) rfl) hk7 hn8 ?_
    intro S9 h
    refine g_aload_nR hC dX0_come_47 rfl ?_
    refine g_top0 eu5 ?_
    have hk11 := h.1
    refine gX_ni5 hX (gX_runF (n := 0) (As := []) (rest := []) (Cr := "java/util/ArrayList") (x := ⟨"java/util/List", "size", "()I"⟩) hC hX (mx_J2_size (cx_l C) E _ _ _ h.2) (lw_app (lw_4 q770 q774 q776 q73) (lw_meth q778)) (List.mem_of_getElem? (i := 0) rfl) (by decide +kernel) rfl rfl (Or.inl (Nat.le_of_ble_eq_true rfl)) ⟨Nat.le_of_ble_eq_true rfl, Nat.le_of_ble_eq_true rfl⟩ dX0_come_48 (Nat.zero_le _) (Nat.zero_le _) hk11 rfl (by decide) rfl) rfl rfl ?_
    intro r13 S12 h
    refine gX_iret rfl hC hA hQ dX0_come_53 h
  have s_7 : ∀ (n : Nat) (mc ms : Nat) (S : XS) (a0 : Option Nat) (a1 : Option Nat) (a2 : Int32), wx_X0_come_7 Q  n mc ms S a0 a1 a2 → GX E C S mc ms 7 [some (va_rf a0), some (va_rf a1), some (.int a2)] [] := by
    intro  n
    induction n with
    | zero =>
      intro mc ms S a0 a1 a2 h
      exact False.elim h
    | succ n ih =>
      intro mc ms S a0 a1 a2 h
      refine g_iload_n hC dX0_come_7 rfl ?_
      refine g_if_le (tgt := 39) hC dX0_come_8 (by decide) (fun c => ?_) (fun c => ?_)
      · have h := it_p c h
        exact s_39 mc ms S a0 a1 a2 h
      · have h := it_n c h
        refine g_aload_nR hC dX0_come_11 rfl ?_
        obtain ⟨u14, eu14, h⟩ := h
        refine g_top0 eu14 ?_
        have hk15 := h.1
        refine gX_get (C0 := RX10) (T := TX10) (N := 4) (n := 9) (k := 1) (q := (901, false)) hC hX dX0_come_12 q1098 rfl in_X10 (by decide) (Or.inl rfl) rfl (by decide) hk15 ?_
        show GX _ _ _ _ _ _ _ (.int (xFI S 901 u14) :: _)
        refine g_aload_nR hC dX0_come_15 rfl ?_
        refine g_iload_n hC dX0_come_16 rfl ?_
        refine g_iconst (v := 1) hC dX0_come_17 (by decide) ?_
        refine g_isub hC dX0_come_18 ?_
        obtain ⟨u16, eu16, h⟩ := h.2
        refine g_top1 eu16 ?_
        have hk17 := h.1
        refine gX_nq5 hX (gX_runF (n := 1) (As := [.int (a2 - (1 : Int32))]) (rest := [.int (xFI S 901 u14)]) (Cr := "java/util/ArrayList") (x := ⟨"java/util/List", "get", "(I)Ljava/lang/Object;"⟩) hC hX (mx_J2_get (cx_l C) E _ _ _ _ h.2) (lw_app (lw_4 q928 q931 q933 q73) (lw_meth q935)) (List.mem_of_getElem? (i := 2) rfl) (by decide +kernel) rfl rfl (Or.inl (Nat.le_of_ble_eq_true rfl)) ⟨Nat.le_of_ble_eq_true rfl, Nat.le_of_ble_eq_true rfl⟩ dX0_come_19 (Nat.zero_le _) (Nat.zero_le _) hk17 rfl (by decide) rfl) rfl rfl ?_
        intro r19 S18 h
        obtain ⟨u20, eu20, h⟩ := h
        refine g_top0 eu20 ?_
        have hk21 := h.1
        refine gX_cast (r := (RX10, TX10, 4)) (n := 9) hC hX dX0_come_24 q1089 rfl (by decide) hk21 ?_
        refine gX_get (C0 := RX10) (T := TX10) (N := 4) (n := 9) (k := 1) (q := (901, false)) hC hX dX0_come_27 q1098 rfl in_X10 (by decide) (Or.inl rfl) rfl (by decide) hk21 ?_
        show GX _ _ _ _ _ _ _ (.int (xFI S18 901 u20) :: _)
        refine g_icmp_ge (tgt := 39) hC dX0_come_30 (by decide) (fun c => ?_) (fun c => ?_)
        · have h := it_p c h.2
          exact s_39 mc ms S18 a0 a1 a2 h
        · have h := it_n c h.2
          refine g_iinc (v := (a2 + (-1 : Int32))) hC dX0_come_33 rfl rfl (by decide) (lx_okR (j := 1) rfl) rfl ?_
          refine g_goto (tgt := 7) hC dX0_come_36 (by decide) ?_
          exact ih mc ms S18 a0 a1 (a2 + (-1 : Int32)) h
  refine g_aload_nR hC dX0_come_0 rfl ?_
  obtain ⟨u1, eu1, h⟩ := h
  refine g_top0 eu1 ?_
  have hk2 := h.1
  refine gX_ni5 hX (gX_runF (n := 0) (As := []) (rest := []) (Cr := "java/util/ArrayList") (x := ⟨"java/util/List", "size", "()I"⟩) hC hX (mx_J2_size (cx_l C) E _ _ _ h.2) (lw_app (lw_4 q770 q774 q776 q73) (lw_meth q778)) (List.mem_of_getElem? (i := 0) rfl) (by decide +kernel) rfl rfl (Or.inl (Nat.le_of_ble_eq_true rfl)) ⟨Nat.le_of_ble_eq_true rfl, Nat.le_of_ble_eq_true rfl⟩ dX0_come_1 (Nat.zero_le _) (Nat.zero_le _) hk2 rfl (by decide) rfl) rfl rfl ?_
  intro r4 S3 h
  refine g_istore_n hC dX0_come_6 rfl (by decide) (lx_okR (j := 1) rfl) rfl ?_
  obtain ⟨n0, h0⟩ := h
  exact s_7 n0 mc ms S3 x0 x1 r4 h0
theorem mx_X0_come (l : Launch) (E : XE) (mc ms : Nat) (Q : Int32 → XS → Prop) (S : XS) (x0 : Option Nat) (x1 : Option Nat) (h : wx_X0_come Q mc ms S x0 x1) : XMet E l yX0_come cX0_come 3 (some .int) ({ frames := 6, cells := mc, slots := ms, locals := 145 } : Room) [va_rf x0, va_rf x1] S (fun sz => va_Qi Q (BX1 E S sz) (xA S sz)) :=
  XMet_of (rm := ({ frames := 6, cells := mc, slots := ms, locals := 145 } : Room)) (by decide) (by simp [lg_sl, va_rf_cat, cat_i, cat_l]) (L0 := [some (va_rf x0), some (va_rf x1), none]) (by simp [lx_pairs, lv_args, va_rf_cat, cat_i, cat_l, List.range_succ]) (fun sz C hC hX hl hnm hA hQ => bx_X0_come E C S sz Q mc ms S x0 x1 hC hX hA hQ h)
/-! X0_coin -/
def wx_X0_coin (Q : Int32 → XS → Prop) (mc ms : Nat) (S : XS) (x0 : Option Nat) (x1 : Int32) (x2 : Int32) (x3 : Int32) (x4 : Int32) : Prop :=
  wx_X0_isTime (fun r2 S1 => (if r2 = 0 then Q (-1000001 : Int32) S1 else wx_X0_isIn (fun r4 S3 => (if r4 = 0 then Q (-1000001 : Int32) S3 else dr x0 (fun u5 => xKD S3 u5 = some 0 ∧ dr (xFR S3 3 u5) (fun u7 => xKD S3 u7 = some 16 ∧ wx_J2_size (fun r10 S9 => (if r10 = (40 : Int32) then Q (-1000003 : Int32) S9 else xKD S9 u5 = some 0 ∧ 1 ≤ mc ∧ 4 ≤ ms ∧ (∀ q12 : Nat, xKD S9 q12 = none → wx_X10_init (fun S16 => (∃ k18 n19, k18 ≤ (mc - 1) ∧ n19 ≤ (ms - 4) ∧ wx_X0_come (fun r21 S20 => Q r21 S20) k18 n19 S16 (xFR S9 3 u5) (some q12))) (sNew S9 q12 9) (some q12) x1 (((1440 : Int32) * x2) + ((15 : Int32) * x3)) x4 (0 : Int32)))) S3 (some u7))))) S1 (Int32.toInt64 x4) (1 : Int64) (600 : Int64))) S x1 x2 x3 (95 : Int32)
theorem hx_X0_coin : yX0_coin.cls = RX0 ∧ yX0_coin.cls ≠ "java/lang/invoke/MethodHandle" ∧ yX0_coin.cls ≠ "java/lang/invoke/VarHandle" ∧ (parseMethodDescriptor yX0_coin.desc).map (fun d => d.parameters.length) = some 4 := by decide +kernel
set_option maxHeartbeats 4000000 in
set_option maxRecDepth 100000 in
theorem bx_X0_coin (E : XE) (C : Cx) (S0 : XS) (sz : Nat) (Q : Int32 → XS → Prop) (mc ms : Nat) (S : XS) (x0 : Option Nat) (x1 : Int32) (x2 : Int32) (x3 : Int32) (x4 : Int32) (hC : COk C cX0_coin RX0 (some .int) 7 167 5) (hX : XOk E C) (hA : cx_A C = xA S0 sz) (hQ : cx_Q C = MQ (cx_b C) (va_Qi Q (BX1 E S0 sz) (xA S0 sz)) (cx_a C) (cx_s C) (cx_MC C) (cx_MS C) (xA S0 sz)) (h : wx_X0_coin Q mc ms S x0 x1 x2 x3 x4) : GX E C S mc ms 0 [some (va_rf x0), some (.int x1), some (.int x2), some (.int x3), some (.int x4)] [] := by
  refine g_iload_n hC dX0_coin_0 rfl ?_
  refine g_iload_n hC dX0_coin_1 rfl ?_
  refine g_iload_n hC dX0_coin_2 rfl ?_
  refine g_bipush (v := 95) hC dX0_coin_3 (by decide) ?_
  refine gX_ni hX (gX_runS (As := [.int x1, .int x2, .int x3, .int (95 : Int32)]) (rest := []) hC hX (mx_X0_isTime (cx_l C) E _ _ _ _ _ _ h) (lw_S q1085 q1086 q70 q1087) hx_X0_isTime.2 rfl rfl (Or.inl (Nat.le_of_ble_eq_true rfl)) ⟨Nat.le_of_ble_eq_true rfl, Nat.le_of_ble_eq_true rfl⟩ dX0_coin_5 (Nat.zero_le _) (Nat.zero_le _)) rfl rfl ?_
  intro r2 S1 h
  refine g_if_eq (tgt := 24) hC dX0_coin_8 (by decide) (fun c => ?_) (fun c => ?_)
  · have h := it_p c h
    refine g_ldc (v := -1000001) hC dX0_coin_24 q273 ?_
    refine gX_iret rfl hC hA hQ dX0_coin_26 h
  · have h := it_n c h
    refine g_iload hC dX0_coin_11 rfl ?_
    refine g_i2l hC dX0_coin_13 ?_
    refine g_lconst (v := 1) hC dX0_coin_14 (by decide) ?_
    refine g_ldc2 (v := 600) hC dX0_coin_15 q1088 ?_
    refine gX_ni hX (gX_runS (As := [.long (Int32.toInt64 x4), .long (1 : Int64), .long (600 : Int64)]) (rest := []) hC hX (mx_X0_isIn (cx_l C) E _ _ _ _ _ h) (lw_S q269 q270 q70 q271) hx_X0_isIn.2 rfl rfl (Or.inl (Nat.le_of_ble_eq_true rfl)) ⟨Nat.le_of_ble_eq_true rfl, Nat.le_of_ble_eq_true rfl⟩ dX0_coin_18 (Nat.zero_le _) (Nat.zero_le _)) rfl rfl ?_
    intro r4 S3 h
    refine g_if_ne (tgt := 27) hC dX0_coin_21 (by decide) (fun c => ?_) (fun c => ?_)
    · have h := it_n c h
      refine g_aload_nR hC dX0_coin_27 rfl ?_
      obtain ⟨u5, eu5, h⟩ := h
      refine g_top0 eu5 ?_
      have hk6 := h.1
      refine gX_get (C0 := RX0) (T := TX0) (N := 15) (n := 0) (k := 3) (q := (3, true)) hC hX dX0_coin_28 q214 rfl in_X0 (by decide) (Or.inl rfl) rfl (by decide) hk6 ?_
      show GX _ _ _ _ _ _ _ (va_rf (xFR S3 3 u5) :: _)
      obtain ⟨u7, eu7, h⟩ := h.2
      refine g_top0 eu7 ?_
      have hk8 := h.1
      refine gX_ni5 hX (gX_runF (n := 0) (As := []) (rest := []) (Cr := "java/util/ArrayList") (x := ⟨"java/util/List", "size", "()I"⟩) hC hX (mx_J2_size (cx_l C) E _ _ _ h.2) (lw_app (lw_4 q770 q774 q776 q73) (lw_meth q778)) (List.mem_of_getElem? (i := 0) rfl) (by decide +kernel) rfl rfl (Or.inl (Nat.le_of_ble_eq_true rfl)) ⟨Nat.le_of_ble_eq_true rfl, Nat.le_of_ble_eq_true rfl⟩ dX0_coin_31 (Nat.zero_le _) (Nat.zero_le _) hk8 rfl (by decide) rfl) rfl rfl ?_
      intro r10 S9 h
      refine g_bipush (v := 40) hC dX0_coin_36 (by decide) ?_
      refine g_icmp_ne (tgt := 46) hC dX0_coin_38 (by decide) (fun c => ?_) (fun c => ?_)
      · have h := it_n c h
        refine g_aload_nR hC dX0_coin_46 rfl ?_
        refine g_top0 eu5 ?_
        have hk11 := h.1
        refine gX_get (C0 := RX0) (T := TX0) (N := 15) (n := 0) (k := 3) (q := (3, true)) hC hX dX0_coin_47 q214 rfl in_X0 (by decide) (Or.inl rfl) rfl (by decide) hk11 ?_
        show GX _ _ _ _ _ _ _ (va_rf (xFR S9 3 u5) :: _)
        refine gX_new (C0 := RX10) (T := TX10) (ty0 := tyX10) (N := 4) (n := 9) hC hX dX0_coin_50 q1089 q1090 q101 rfl in_X10 tyX10_ok (by decide) dv_X10 h.2.1 h.2.2.1 ?_
        intro q12 hq13
        have h := h.2.2.2 q12 hq13
        have hk14 := kd_new (q := q12) (n := 9) hk11 hq13
        have hk15 : xKD (sNew S9 q12 9) q12 = some 9 := kd_self
        refine g_dup hC dX0_coin_53 (va_rf_cat _) ?_
        refine g_iload_n hC dX0_coin_54 rfl ?_
        refine g_sipush (v := 1440) hC dX0_coin_55 (by decide) ?_
        refine g_iload_n hC dX0_coin_58 rfl ?_
        refine g_imul hC dX0_coin_59 ?_
        refine g_bipush (v := 15) hC dX0_coin_60 (by decide) ?_
        refine g_iload_n hC dX0_coin_62 rfl ?_
        refine g_imul hC dX0_coin_63 ?_
        refine g_iadd hC dX0_coin_64 ?_
        refine g_iload hC dX0_coin_65 rfl ?_
        refine g_iconst (v := 0) hC dX0_coin_67 (by decide) ?_
        refine gX_nv hX (gX_runI (As := [.int x1, .int (((1440 : Int32) * x2) + ((15 : Int32) * x3)), .int x4, .int (0 : Int32)]) (rest := [va_rf (some q12), va_rf (xFR S9 3 u5)]) hC hX (mx_X10_init (cx_l C) E _ _ _ _ _ _ _ h) q1093 q101 q1091 q1092 rfl hx_X10_init.2 rfl rfl (Or.inl (Nat.le_of_ble_eq_true rfl)) ⟨Nat.le_of_ble_eq_true rfl, Nat.le_of_ble_eq_true rfl⟩ dX0_coin_68 (Nat.zero_le _) (Nat.zero_le _)) rfl rfl ?_
        intro S16 h
        obtain ⟨k18, n19, hk18, hn19, h⟩ := h
        refine gX_ci hX (gX_runS (As := [va_rf (xFR S9 3 u5), va_rf (some q12)]) (rest := []) hC hX (mx_X0_come (cx_l C) E k18 n19 _ _ _ _ h) (lw_S q1112 q1113 q70 q1114) hx_X0_come.2 rfl rfl (Or.inl (Nat.le_of_ble_eq_true rfl)) ⟨Nat.le_of_ble_eq_true rfl, Nat.le_of_ble_eq_true rfl⟩ dX0_coin_71 hk18 hn19) hk18 hn19 ?_
        intro r21 S20 h
        refine gX_iret rfl hC hA hQ dX0_coin_74 h
      · have h := it_p c h
        refine g_ldc (v := -1000003) hC dX0_coin_41 q428 ?_
        refine g_goto (tgt := 74) hC dX0_coin_43 (by decide) ?_
        refine gX_iret rfl hC hA hQ dX0_coin_74 h
    · have h := it_p c h
      refine g_ldc (v := -1000001) hC dX0_coin_24 q273 ?_
      refine gX_iret rfl hC hA hQ dX0_coin_26 h
theorem mx_X0_coin (l : Launch) (E : XE) (mc ms : Nat) (Q : Int32 → XS → Prop) (S : XS) (x0 : Option Nat) (x1 : Int32) (x2 : Int32) (x3 : Int32) (x4 : Int32) (h : wx_X0_coin Q mc ms S x0 x1 x2 x3 x4) : XMet E l yX0_coin cX0_coin 5 (some .int) ({ frames := 7, cells := mc, slots := ms, locals := 167 } : Room) [va_rf x0, .int x1, .int x2, .int x3, .int x4] S (fun sz => va_Qi Q (BX1 E S sz) (xA S sz)) :=
  XMet_of (rm := ({ frames := 7, cells := mc, slots := ms, locals := 167 } : Room)) (by decide) (by simp [lg_sl, va_rf_cat, cat_i, cat_l]) (L0 := [some (va_rf x0), some (.int x1), some (.int x2), some (.int x3), some (.int x4)]) (by simp [lx_pairs, lv_args, va_rf_cat, cat_i, cat_l, List.range_succ]) (fun sz C hC hX hl hnm hA hQ => bx_X0_coin E C S sz Q mc ms S x0 x1 x2 x3 x4 hC hX hA hQ h)
/-! X0_runOf -/
def wx_X0_runOf_96 (Q : Int32 → XS → Prop) (K8 : XS → Option Nat → Int32 → Int32 → Int32 → Int32 → Int32 → Prop) (S : XS) (a0 : Option Nat) (a1 : Int32) (a2 : Int32) (a3 : Int32) (a4 : Int32) (a5 : Int32) : Prop :=
  K8 S a0 a1 a2 a3 a4 (a5 + (1 : Int32))
def wx_X0_runOf_8 (Q : Int32 → XS → Prop) : Nat → XS → Option Nat → Int32 → Int32 → Int32 → Int32 → Int32 → Prop
  | 0, _, _, _, _, _, _, _ => False
  | n + 1, S, a0, a1, a2, a3, a4, a5 => dr a0 (fun u1 => xKD S u1 = some 0 ∧ dr (xFR S 3 u1) (fun u3 => xKD S u3 = some 16 ∧ wx_J2_size (fun r6 S5 => (if r6 ≤ a5 then Q a4 S5 else xKD S5 u1 = some 0 ∧ dr (xFR S5 3 u1) (fun u8 => xKD S5 u8 = some 16 ∧ wx_J2_get (fun r11 S10 => dr r11 (fun u12 => xKD S10 u12 = some 9 ∧ (if (xFI S10 900 u12) = a1 then (if (xFI S10 901 u12) ≤ a2 then wx_X0_runOf_96 Q (wx_X0_runOf_8 Q n) S10 a0 a1 a2 ((if a3 < (xFI S10 901 u12) then (xFI S10 901 u12) else a3) + (xFI S10 902 u12)) (a4 + (if (0 : Int32) < ((if a2 < ((if a3 < (xFI S10 901 u12) then (xFI S10 901 u12) else a3) + (xFI S10 902 u12)) then a2 else ((if a3 < (xFI S10 901 u12) then (xFI S10 901 u12) else a3) + (xFI S10 902 u12))) - (if a3 < (xFI S10 901 u12) then (xFI S10 901 u12) else a3)) then ((if a2 < ((if a3 < (xFI S10 901 u12) then (xFI S10 901 u12) else a3) + (xFI S10 902 u12)) then a2 else ((if a3 < (xFI S10 901 u12) then (xFI S10 901 u12) else a3) + (xFI S10 902 u12))) - (if a3 < (xFI S10 901 u12) then (xFI S10 901 u12) else a3)) else (0 : Int32))) a5 else wx_X0_runOf_96 Q (wx_X0_runOf_8 Q n) S10 a0 a1 a2 a3 a4 a5) else wx_X0_runOf_96 Q (wx_X0_runOf_8 Q n) S10 a0 a1 a2 a3 a4 a5))) S5 (some u8) a5))) S (some u3)))
def wx_X0_runOf (Q : Int32 → XS → Prop) (S : XS) (x0 : Option Nat) (x1 : Int32) (x2 : Int32) : Prop :=
  ∃ n14, wx_X0_runOf_8 Q n14 S x0 x1 x2 (0 : Int32) (0 : Int32) (0 : Int32)
theorem hx_X0_runOf : yX0_runOf.cls = RX0 ∧ yX0_runOf.cls ≠ "java/lang/invoke/MethodHandle" ∧ yX0_runOf.cls ≠ "java/lang/invoke/VarHandle" ∧ (parseMethodDescriptor yX0_runOf.desc).map (fun d => d.parameters.length) = some 2 := by decide +kernel
set_option maxHeartbeats 4000000 in
set_option maxRecDepth 100000 in
theorem bx_X0_runOf (E : XE) (C : Cx) (S0 : XS) (sz : Nat) (Q : Int32 → XS → Prop) (S : XS) (x0 : Option Nat) (x1 : Int32) (x2 : Int32) (hC : COk C cX0_runOf RX0 (some .int) 4 98 8) (hX : XOk E C) (hA : cx_A C = xA S0 sz) (hQ : cx_Q C = MQ (cx_b C) (va_Qi Q (BX1 E S0 sz) (xA S0 sz)) (cx_a C) (cx_s C) (cx_MC C) (cx_MS C) (xA S0 sz)) (h : wx_X0_runOf Q S x0 x1 x2) : GX E C S 0 0 0 [some (va_rf x0), some (.int x1), some (.int x2), none, none, none, none, none] [] := by
  have s_96 : ∀ (K8 : XS → Option Nat → Int32 → Int32 → Int32 → Int32 → Int32 → Prop) (hK8 : ∀ (S : XS) (b0 : Option Nat) (b1 : Int32) (b2 : Int32) (b3 : Int32) (b4 : Int32) (b5 : Int32), K8 S b0 b1 b2 b3 b4 b5 → GX E C S 0 0 8 [some (va_rf b0), some (.int b1), some (.int b2), some (.int b3), some (.int b4), some (.int b5), none, none] []) (S : XS) (a0 : Option Nat) (a1 : Int32) (a2 : Int32) (a3 : Int32) (a4 : Int32) (a5 : Int32), wx_X0_runOf_96 Q K8 S a0 a1 a2 a3 a4 a5 → GX E C S 0 0 96 [some (va_rf a0), some (.int a1), some (.int a2), some (.int a3), some (.int a4), some (.int a5), none, none] [] := by
    intro K8 hK8 S a0 a1 a2 a3 a4 a5 h
    refine g_iinc (v := (a5 + (1 : Int32))) hC dX0_runOf_96 rfl rfl (by decide) rfl rfl ?_
    refine g_goto (tgt := 8) hC dX0_runOf_99 (by decide) ?_
    exact hK8 S a0 a1 a2 a3 a4 (a5 + (1 : Int32)) h
  have s_8 : ∀ (n : Nat) (S : XS) (a0 : Option Nat) (a1 : Int32) (a2 : Int32) (a3 : Int32) (a4 : Int32) (a5 : Int32), wx_X0_runOf_8 Q  n S a0 a1 a2 a3 a4 a5 → GX E C S 0 0 8 [some (va_rf a0), some (.int a1), some (.int a2), some (.int a3), some (.int a4), some (.int a5), none, none] [] := by
    intro  n
    induction n with
    | zero =>
      intro S a0 a1 a2 a3 a4 a5 h
      exact False.elim h
    | succ n ih =>
      intro S a0 a1 a2 a3 a4 a5 h
      refine g_iload hC dX0_runOf_8 rfl ?_
      refine g_aload_nR hC dX0_runOf_10 rfl ?_
      obtain ⟨u1, eu1, h⟩ := h
      refine g_top0 eu1 ?_
      have hk2 := h.1
      refine gX_get (C0 := RX0) (T := TX0) (N := 15) (n := 0) (k := 3) (q := (3, true)) hC hX dX0_runOf_11 q214 rfl in_X0 (by decide) (Or.inl rfl) rfl (by decide) hk2 ?_
      show GX _ _ _ _ _ _ _ (va_rf (xFR S 3 u1) :: _)
      obtain ⟨u3, eu3, h⟩ := h.2
      refine g_top0 eu3 ?_
      have hk4 := h.1
      refine gX_ni5 hX (gX_runF (n := 0) (As := []) (rest := [.int a5]) (Cr := "java/util/ArrayList") (x := ⟨"java/util/List", "size", "()I"⟩) hC hX (mx_J2_size (cx_l C) E _ _ _ h.2) (lw_app (lw_4 q770 q774 q776 q73) (lw_meth q778)) (List.mem_of_getElem? (i := 0) rfl) (by decide +kernel) rfl rfl (Or.inl (Nat.le_of_ble_eq_true rfl)) ⟨Nat.le_of_ble_eq_true rfl, Nat.le_of_ble_eq_true rfl⟩ dX0_runOf_14 (Nat.zero_le _) (Nat.zero_le _) hk4 rfl (by decide) rfl) rfl rfl ?_
      intro r6 S5 h
      refine g_icmp_ge (tgt := 102) hC dX0_runOf_19 (by decide) (fun c => ?_) (fun c => ?_)
      · have h := it_p c h
        refine g_iload hC dX0_runOf_102 rfl ?_
        refine gX_iret rfl hC hA hQ dX0_runOf_104 h
      · have h := it_n c h
        refine g_aload_nR hC dX0_runOf_22 rfl ?_
        refine g_top0 eu1 ?_
        have hk7 := h.1
        refine gX_get (C0 := RX0) (T := TX0) (N := 15) (n := 0) (k := 3) (q := (3, true)) hC hX dX0_runOf_23 q214 rfl in_X0 (by decide) (Or.inl rfl) rfl (by decide) hk7 ?_
        show GX _ _ _ _ _ _ _ (va_rf (xFR S5 3 u1) :: _)
        refine g_iload hC dX0_runOf_26 rfl ?_
        obtain ⟨u8, eu8, h⟩ := h.2
        refine g_top1 eu8 ?_
        have hk9 := h.1
        refine gX_nq5 hX (gX_runF (n := 1) (As := [.int a5]) (rest := []) (Cr := "java/util/ArrayList") (x := ⟨"java/util/List", "get", "(I)Ljava/lang/Object;"⟩) hC hX (mx_J2_get (cx_l C) E _ _ _ _ h.2) (lw_app (lw_4 q928 q931 q933 q73) (lw_meth q935)) (List.mem_of_getElem? (i := 2) rfl) (by decide +kernel) rfl rfl (Or.inl (Nat.le_of_ble_eq_true rfl)) ⟨Nat.le_of_ble_eq_true rfl, Nat.le_of_ble_eq_true rfl⟩ dX0_runOf_28 (Nat.zero_le _) (Nat.zero_le _) hk9 rfl (by decide) rfl) rfl rfl ?_
        intro r11 S10 h
        obtain ⟨u12, eu12, h⟩ := h
        refine g_top0 eu12 ?_
        have hk13 := h.1
        refine gX_cast (r := (RX10, TX10, 4)) (n := 9) hC hX dX0_runOf_33 q1089 rfl (by decide) hk13 ?_
        refine g_astoreR hC dX0_runOf_36 (by decide) rfl rfl ?_
        refine g_aloadR hC dX0_runOf_38 rfl ?_
        refine gX_get (C0 := RX10) (T := TX10) (N := 4) (n := 9) (k := 0) (q := (900, false)) hC hX dX0_runOf_40 q1096 rfl in_X10 (by decide) (Or.inl rfl) rfl (by decide) hk13 ?_
        show GX _ _ _ _ _ _ _ (.int (xFI S10 900 u12) :: _)
        refine g_iload_n hC dX0_runOf_43 rfl ?_
        refine g_icmp_ne (tgt := 96) hC dX0_runOf_44 (by decide) (fun c => ?_) (fun c => ?_)
        · have h := it_n c h.2
          refine g_sub [true, true, true, true, true, true, false, false] rfl ?_
          exact s_96 (wx_X0_runOf_8 Q n) ih S10 a0 a1 a2 a3 a4 a5 h
        · have h := it_p c h.2
          refine g_aloadR hC dX0_runOf_47 rfl ?_
          refine gX_get (C0 := RX10) (T := TX10) (N := 4) (n := 9) (k := 1) (q := (901, false)) hC hX dX0_runOf_49 q1098 rfl in_X10 (by decide) (Or.inl rfl) rfl (by decide) hk13 ?_
          show GX _ _ _ _ _ _ _ (.int (xFI S10 901 u12) :: _)
          refine g_iload_n hC dX0_runOf_52 rfl ?_
          refine g_icmp_le (tgt := 59) hC dX0_runOf_53 (by decide) (fun c => ?_) (fun c => ?_)
          · have h := it_p c h
            refine g_iload_n hC dX0_runOf_59 rfl ?_
            refine g_aloadR hC dX0_runOf_60 rfl ?_
            refine gX_get (C0 := RX10) (T := TX10) (N := 4) (n := 9) (k := 1) (q := (901, false)) hC hX dX0_runOf_62 q1098 rfl in_X10 (by decide) (Or.inl rfl) rfl (by decide) hk13 ?_
            show GX _ _ _ _ _ _ _ (.int (xFI S10 901 u12) :: _)
            refine g_mmax hC dX0_runOf_65 q1229 q539 q91 q540 (Nat.le_of_ble_eq_true rfl) (by decide) (by decide) ?_
            refine g_istore hC dX0_runOf_68 (by decide) (lx_okR (j := 6) rfl) rfl ?_
            refine g_sub [true, true, true, false, true, true, true, true] rfl ?_
            refine g_iload hC dX0_runOf_70 rfl ?_
            refine g_aloadR hC dX0_runOf_72 rfl ?_
            refine gX_get (C0 := RX10) (T := TX10) (N := 4) (n := 9) (k := 2) (q := (902, false)) hC hX dX0_runOf_74 q1100 rfl in_X10 (by decide) (Or.inl rfl) rfl (by decide) hk13 ?_
            show GX _ _ _ _ _ _ _ (.int (xFI S10 902 u12) :: _)
            refine g_iadd hC dX0_runOf_77 ?_
            refine g_istore_n hC dX0_runOf_78 rfl (by decide) rfl rfl ?_
            refine g_sub [true, true, true, true, true, true, false, true] rfl ?_
            refine g_iload hC dX0_runOf_79 rfl ?_
            refine g_iconst (v := 0) hC dX0_runOf_81 (by decide) ?_
            refine g_iload_n hC dX0_runOf_82 rfl ?_
            refine g_iload_n hC dX0_runOf_83 rfl ?_
            refine g_mmin hC dX0_runOf_84 q1230 q557 q91 q558 (Nat.le_of_ble_eq_true rfl) (by decide) (by decide) ?_
            refine g_iload hC dX0_runOf_87 rfl ?_
            refine g_isub hC dX0_runOf_89 ?_
            refine g_mmax hC dX0_runOf_90 q1229 q539 q91 q540 (Nat.le_of_ble_eq_true rfl) (by decide) (by decide) ?_
            refine g_iadd hC dX0_runOf_93 ?_
            refine g_istore hC dX0_runOf_94 (by decide) rfl rfl ?_
            refine g_sub [true, true, true, true, true, true, false, false] rfl ?_
            exact s_96 (wx_X0_runOf_8 Q n) ih S10 a0 a1 a2 ((if a3 < (xFI S10 901 u12) then (xFI S10 901 u12) else a3) + (xFI S10 902 u12)) (a4 + (if (0 : Int32) < ((if a2 < ((if a3 < (xFI S10 901 u12) then (xFI S10 901 u12) else a3) + (xFI S10 902 u12)) then a2 else ((if a3 < (xFI S10 901 u12) then (xFI S10 901 u12) else a3) + (xFI S10 902 u12))) - (if a3 < (xFI S10 901 u12) then (xFI S10 901 u12) else a3)) then ((if a2 < ((if a3 < (xFI S10 901 u12) then (xFI S10 901 u12) else a3) + (xFI S10 902 u12)) then a2 else ((if a3 < (xFI S10 901 u12) then (xFI S10 901 u12) else a3) + (xFI S10 902 u12))) - (if a3 < (xFI S10 901 u12) then (xFI S10 901 u12) else a3)) else (0 : Int32))) a5 h
          · have h := it_n c h
            refine g_goto (tgt := 96) hC dX0_runOf_56 (by decide) ?_
            refine g_sub [true, true, true, true, true, true, false, false] rfl ?_
            exact s_96 (wx_X0_runOf_8 Q n) ih S10 a0 a1 a2 a3 a4 a5 h
  refine g_iconst (v := 0) hC dX0_runOf_0 (by decide) ?_
  refine g_istore_n hC dX0_runOf_1 rfl (by decide) rfl rfl ?_
  refine g_iconst (v := 0) hC dX0_runOf_2 (by decide) ?_
  refine g_istore hC dX0_runOf_3 (by decide) rfl rfl ?_
  refine g_iconst (v := 0) hC dX0_runOf_5 (by decide) ?_
  refine g_istore hC dX0_runOf_6 (by decide) rfl rfl ?_
  obtain ⟨n0, h0⟩ := h
  exact s_8 n0 S x0 x1 x2 (0 : Int32) (0 : Int32) (0 : Int32) h0
theorem mx_X0_runOf (l : Launch) (E : XE) (Q : Int32 → XS → Prop) (S : XS) (x0 : Option Nat) (x1 : Int32) (x2 : Int32) (h : wx_X0_runOf Q S x0 x1 x2) : XMet E l yX0_runOf cX0_runOf 8 (some .int) ({ frames := 4, cells := 0, slots := 0, locals := 98 } : Room) [va_rf x0, .int x1, .int x2] S (fun sz => va_Qi Q (BX1 E S sz) (xA S sz)) :=
  XMet_of (rm := ({ frames := 4, cells := 0, slots := 0, locals := 98 } : Room)) (by decide) (by simp [lg_sl, va_rf_cat, cat_i, cat_l]) (L0 := [some (va_rf x0), some (.int x1), some (.int x2), none, none, none, none, none]) (by simp [lx_pairs, lv_args, va_rf_cat, cat_i, cat_l, List.range_succ]) (fun sz C hC hX hl hnm hA hQ => bx_X0_runOf E C S sz Q S x0 x1 x2 hC hX hA hQ h)
/-! X0_run -/
def wx_X0_run (Q : Int32 → XS → Prop) (S : XS) (x0 : Option Nat) (x1 : Int32) (x2 : Int32) (x3 : Int32) : Prop :=
  wx_X0_isTime (fun r2 S1 => (if r2 = 0 then Q (-1000001 : Int32) S1 else dr x0 (fun u3 => xKD S1 u3 = some 0 ∧ wx_X0_runOf (fun r6 S5 => Q r6 S5) S1 (some u3) x1 (((1440 : Int32) * x2) + ((15 : Int32) * x3))))) S x1 x2 x3 (96 : Int32)
theorem hx_X0_run : yX0_run.cls = RX0 ∧ yX0_run.cls ≠ "java/lang/invoke/MethodHandle" ∧ yX0_run.cls ≠ "java/lang/invoke/VarHandle" ∧ (parseMethodDescriptor yX0_run.desc).map (fun d => d.parameters.length) = some 3 := by decide +kernel
set_option maxHeartbeats 4000000 in
set_option maxRecDepth 100000 in
theorem bx_X0_run (E : XE) (C : Cx) (S0 : XS) (sz : Nat) (Q : Int32 → XS → Prop) (S : XS) (x0 : Option Nat) (x1 : Int32) (x2 : Int32) (x3 : Int32) (hC : COk C cX0_run RX0 (some .int) 5 125 4) (hX : XOk E C) (hA : cx_A C = xA S0 sz) (hQ : cx_Q C = MQ (cx_b C) (va_Qi Q (BX1 E S0 sz) (xA S0 sz)) (cx_a C) (cx_s C) (cx_MC C) (cx_MS C) (xA S0 sz)) (h : wx_X0_run Q S x0 x1 x2 x3) : GX E C S 0 0 0 [some (va_rf x0), some (.int x1), some (.int x2), some (.int x3)] [] := by
  refine g_iload_n hC dX0_run_0 rfl ?_
  refine g_iload_n hC dX0_run_1 rfl ?_
  refine g_iload_n hC dX0_run_2 rfl ?_
  refine g_bipush (v := 96) hC dX0_run_3 (by decide) ?_
  refine gX_ni hX (gX_runS (As := [.int x1, .int x2, .int x3, .int (96 : Int32)]) (rest := []) hC hX (mx_X0_isTime (cx_l C) E _ _ _ _ _ _ h) (lw_S q1085 q1086 q70 q1087) hx_X0_isTime.2 rfl rfl (Or.inl (Nat.le_of_ble_eq_true rfl)) ⟨Nat.le_of_ble_eq_true rfl, Nat.le_of_ble_eq_true rfl⟩ dX0_run_5 (Nat.zero_le _) (Nat.zero_le _)) rfl rfl ?_
  intro r2 S1 h
  refine g_if_eq (tgt := 29) hC dX0_run_8 (by decide) (fun c => ?_) (fun c => ?_)
  · have h := it_p c h
    refine g_ldc (v := -1000001) hC dX0_run_29 q273 ?_
    refine gX_iret rfl hC hA hQ dX0_run_31 h
  · have h := it_n c h
    refine g_aload_nR hC dX0_run_11 rfl ?_
    refine g_iload_n hC dX0_run_12 rfl ?_
    refine g_sipush (v := 1440) hC dX0_run_13 (by decide) ?_
    refine g_iload_n hC dX0_run_16 rfl ?_
    refine g_imul hC dX0_run_17 ?_
    refine g_bipush (v := 15) hC dX0_run_18 (by decide) ?_
    refine g_iload_n hC dX0_run_20 rfl ?_
    refine g_imul hC dX0_run_21 ?_
    refine g_iadd hC dX0_run_22 ?_
    obtain ⟨u3, eu3, h⟩ := h
    refine g_top2 eu3 ?_
    have hk4 := h.1
    refine gX_ni hX (gX_runV (As := [.int x1, .int (((1440 : Int32) * x2) + ((15 : Int32) * x3))]) (rest := []) (Cr := RX0) hC hX (mx_X0_runOf (cx_l C) E _ _ _ _ _ h.2) (lw_V q1225 q1227 qs31 q70 q1228) hx_X0_runOf rfl rfl (Or.inl (Nat.le_of_ble_eq_true rfl)) ⟨Nat.le_of_ble_eq_true rfl, Nat.le_of_ble_eq_true rfl⟩ dX0_run_23 (Nat.zero_le _) (Nat.zero_le _) hk4 rfl (by decide) rfl) rfl rfl ?_
    intro r6 S5 h
    refine g_goto (tgt := 31) hC dX0_run_26 (by decide) ?_
    refine gX_iret rfl hC hA hQ dX0_run_31 h
theorem mx_X0_run (l : Launch) (E : XE) (Q : Int32 → XS → Prop) (S : XS) (x0 : Option Nat) (x1 : Int32) (x2 : Int32) (x3 : Int32) (h : wx_X0_run Q S x0 x1 x2 x3) : XMet E l yX0_run cX0_run 4 (some .int) ({ frames := 5, cells := 0, slots := 0, locals := 125 } : Room) [va_rf x0, .int x1, .int x2, .int x3] S (fun sz => va_Qi Q (BX1 E S sz) (xA S sz)) :=
  XMet_of (rm := ({ frames := 5, cells := 0, slots := 0, locals := 125 } : Room)) (by decide) (by simp [lg_sl, va_rf_cat, cat_i, cat_l]) (L0 := [some (va_rf x0), some (.int x1), some (.int x2), some (.int x3)]) (by simp [lx_pairs, lv_args, va_rf_cat, cat_i, cat_l, List.range_succ]) (fun sz C hC hX hl hnm hA hQ => bx_X0_run E C S sz Q S x0 x1 x2 x3 hC hX hA hQ h)
/-! X0_meter -/
def wx_X0_meter (Q : Int32 → XS → Prop) (S : XS) (x0 : Option Nat) (x1 : Int32) (x2 : Int32) (x3 : Int32) (x4 : Int32) : Prop :=
  wx_X0_isTime (fun r2 S1 => (if r2 = 0 then Q (-1000001 : Int32) S1 else wx_X0_isIn (fun r4 S3 => (if r4 = 0 then Q (-1000001 : Int32) S3 else dr x0 (fun u5 => xKD S3 u5 = some 0 ∧ wx_X0_runOf (fun r8 S7 => (if (15 : Int32) < (if 0 ≤ (x4 - r8) then (x4 - r8) else 0 - (x4 - r8)) then Q (0 : Int32) S7 else Q (1 : Int32) S7)) S3 (some u5) x1 (((1440 : Int32) * x2) + ((15 : Int32) * x3))))) S1 (Int32.toInt64 x4) (0 : Int64) (100000 : Int64))) S x1 x2 x3 (96 : Int32)
theorem hx_X0_meter : yX0_meter.cls = RX0 ∧ yX0_meter.cls ≠ "java/lang/invoke/MethodHandle" ∧ yX0_meter.cls ≠ "java/lang/invoke/VarHandle" ∧ (parseMethodDescriptor yX0_meter.desc).map (fun d => d.parameters.length) = some 4 := by decide +kernel
set_option maxHeartbeats 4000000 in
set_option maxRecDepth 100000 in
theorem bx_X0_meter (E : XE) (C : Cx) (S0 : XS) (sz : Nat) (Q : Int32 → XS → Prop) (S : XS) (x0 : Option Nat) (x1 : Int32) (x2 : Int32) (x3 : Int32) (x4 : Int32) (hC : COk C cX0_meter RX0 (some .int) 5 125 5) (hX : XOk E C) (hA : cx_A C = xA S0 sz) (hQ : cx_Q C = MQ (cx_b C) (va_Qi Q (BX1 E S0 sz) (xA S0 sz)) (cx_a C) (cx_s C) (cx_MC C) (cx_MS C) (xA S0 sz)) (h : wx_X0_meter Q S x0 x1 x2 x3 x4) : GX E C S 0 0 0 [some (va_rf x0), some (.int x1), some (.int x2), some (.int x3), some (.int x4)] [] := by
  refine g_iload_n hC dX0_meter_0 rfl ?_
  refine g_iload_n hC dX0_meter_1 rfl ?_
  refine g_iload_n hC dX0_meter_2 rfl ?_
  refine g_bipush (v := 96) hC dX0_meter_3 (by decide) ?_
  refine gX_ni hX (gX_runS (As := [.int x1, .int x2, .int x3, .int (96 : Int32)]) (rest := []) hC hX (mx_X0_isTime (cx_l C) E _ _ _ _ _ _ h) (lw_S q1085 q1086 q70 q1087) hx_X0_isTime.2 rfl rfl (Or.inl (Nat.le_of_ble_eq_true rfl)) ⟨Nat.le_of_ble_eq_true rfl, Nat.le_of_ble_eq_true rfl⟩ dX0_meter_5 (Nat.zero_le _) (Nat.zero_le _)) rfl rfl ?_
  intro r2 S1 h
  refine g_if_eq (tgt := 24) hC dX0_meter_8 (by decide) (fun c => ?_) (fun c => ?_)
  · have h := it_p c h
    refine g_ldc (v := -1000001) hC dX0_meter_24 q273 ?_
    refine gX_iret rfl hC hA hQ dX0_meter_26 h
  · have h := it_n c h
    refine g_iload hC dX0_meter_11 rfl ?_
    refine g_i2l hC dX0_meter_13 ?_
    refine g_lconst (v := 0) hC dX0_meter_14 (by decide) ?_
    refine g_ldc2 (v := 100000) hC dX0_meter_15 q1235 ?_
    refine gX_ni hX (gX_runS (As := [.long (Int32.toInt64 x4), .long (0 : Int64), .long (100000 : Int64)]) (rest := []) hC hX (mx_X0_isIn (cx_l C) E _ _ _ _ _ h) (lw_S q269 q270 q70 q271) hx_X0_isIn.2 rfl rfl (Or.inl (Nat.le_of_ble_eq_true rfl)) ⟨Nat.le_of_ble_eq_true rfl, Nat.le_of_ble_eq_true rfl⟩ dX0_meter_18 (Nat.zero_le _) (Nat.zero_le _)) rfl rfl ?_
    intro r4 S3 h
    refine g_if_ne (tgt := 27) hC dX0_meter_21 (by decide) (fun c => ?_) (fun c => ?_)
    · have h := it_n c h
      refine g_iload hC dX0_meter_27 rfl ?_
      refine g_aload_nR hC dX0_meter_29 rfl ?_
      refine g_iload_n hC dX0_meter_30 rfl ?_
      refine g_sipush (v := 1440) hC dX0_meter_31 (by decide) ?_
      refine g_iload_n hC dX0_meter_34 rfl ?_
      refine g_imul hC dX0_meter_35 ?_
      refine g_bipush (v := 15) hC dX0_meter_36 (by decide) ?_
      refine g_iload_n hC dX0_meter_38 rfl ?_
      refine g_imul hC dX0_meter_39 ?_
      refine g_iadd hC dX0_meter_40 ?_
      obtain ⟨u5, eu5, h⟩ := h
      refine g_top2 eu5 ?_
      have hk6 := h.1
      refine gX_ni hX (gX_runV (As := [.int x1, .int (((1440 : Int32) * x2) + ((15 : Int32) * x3))]) (rest := [.int x4]) (Cr := RX0) hC hX (mx_X0_runOf (cx_l C) E _ _ _ _ _ h.2) (lw_V q1225 q1227 qs31 q70 q1228) hx_X0_runOf rfl rfl (Or.inl (Nat.le_of_ble_eq_true rfl)) ⟨Nat.le_of_ble_eq_true rfl, Nat.le_of_ble_eq_true rfl⟩ dX0_meter_41 (Nat.zero_le _) (Nat.zero_le _) hk6 rfl (by decide) rfl) rfl rfl ?_
      intro r8 S7 h
      refine g_isub hC dX0_meter_44 ?_
      refine g_mabs hC dX0_meter_45 q1236 q1237 q91 q1238 (Nat.le_of_ble_eq_true rfl) (by decide) (by decide) ?_
      refine g_bipush (v := 15) hC dX0_meter_48 (by decide) ?_
      refine g_icmp_gt (tgt := 57) hC dX0_meter_50 (by decide) (fun c => ?_) (fun c => ?_)
      · have h := it_p c h
        refine g_iconst (v := 0) hC dX0_meter_57 (by decide) ?_
        refine gX_iret rfl hC hA hQ dX0_meter_58 h
      · have h := it_n c h
        refine g_iconst (v := 1) hC dX0_meter_53 (by decide) ?_
        refine g_goto (tgt := 58) hC dX0_meter_54 (by decide) ?_
        refine gX_iret rfl hC hA hQ dX0_meter_58 h
    · have h := it_p c h
      refine g_ldc (v := -1000001) hC dX0_meter_24 q273 ?_
      refine gX_iret rfl hC hA hQ dX0_meter_26 h
theorem mx_X0_meter (l : Launch) (E : XE) (Q : Int32 → XS → Prop) (S : XS) (x0 : Option Nat) (x1 : Int32) (x2 : Int32) (x3 : Int32) (x4 : Int32) (h : wx_X0_meter Q S x0 x1 x2 x3 x4) : XMet E l yX0_meter cX0_meter 5 (some .int) ({ frames := 5, cells := 0, slots := 0, locals := 125 } : Room) [va_rf x0, .int x1, .int x2, .int x3, .int x4] S (fun sz => va_Qi Q (BX1 E S sz) (xA S sz)) :=
  XMet_of (rm := ({ frames := 5, cells := 0, slots := 0, locals := 125 } : Room)) (by decide) (by simp [lg_sl, va_rf_cat, cat_i, cat_l]) (L0 := [some (va_rf x0), some (.int x1), some (.int x2), some (.int x3), some (.int x4)]) (by simp [lx_pairs, lv_args, va_rf_cat, cat_i, cat_l, List.range_succ]) (fun sz C hC hX hl hnm hA hQ => bx_X0_meter E C S sz Q S x0 x1 x2 x3 x4 hC hX hA hQ h)
/-! X0_isKey -/
def wx_X0_isKey (Q : Int32 → XS → Prop) (S : XS) (x0 : Int32) : Prop :=
  wx_X0_isIn (fun r2 S1 => narrow .boolean (.int r2) = .int r2 ∧ Q r2 S1) S (Int32.toInt64 x0) (0 : Int64) (3 : Int64)
theorem hx_X0_isKey : yX0_isKey.cls = RX0 ∧ yX0_isKey.cls ≠ "java/lang/invoke/MethodHandle" ∧ yX0_isKey.cls ≠ "java/lang/invoke/VarHandle" ∧ (parseMethodDescriptor yX0_isKey.desc).map (fun d => d.parameters.length) = some 1 := by decide +kernel
set_option maxHeartbeats 4000000 in
set_option maxRecDepth 100000 in
theorem bx_X0_isKey (E : XE) (C : Cx) (S0 : XS) (sz : Nat) (Q : Int32 → XS → Prop) (S : XS) (x0 : Int32) (hC : COk C cX0_isKey RX0 (some .boolean) 2 59 1) (hX : XOk E C) (hA : cx_A C = xA S0 sz) (hQ : cx_Q C = MQ (cx_b C) (va_Qi Q (BX1 E S0 sz) (xA S0 sz)) (cx_a C) (cx_s C) (cx_MC C) (cx_MS C) (xA S0 sz)) (h : wx_X0_isKey Q S x0) : GX E C S 0 0 0 [some (.int x0)] [] := by
  refine g_iload_n hC dX0_isKey_0 rfl ?_
  refine g_i2l hC dX0_isKey_1 ?_
  refine g_lconst (v := 0) hC dX0_isKey_2 (by decide) ?_
  refine g_ldc2 (v := 3) hC dX0_isKey_3 q755 ?_
  refine gX_ni hX (gX_runS (As := [.long (Int32.toInt64 x0), .long (0 : Int64), .long (3 : Int64)]) (rest := []) hC hX (mx_X0_isIn (cx_l C) E _ _ _ _ _ h) (lw_S q269 q270 q70 q271) hx_X0_isIn.2 rfl rfl (Or.inl (Nat.le_of_ble_eq_true rfl)) ⟨Nat.le_of_ble_eq_true rfl, Nat.le_of_ble_eq_true rfl⟩ dX0_isKey_6 (Nat.zero_le _) (Nat.zero_le _)) rfl rfl ?_
  intro r2 S1 h
  refine gX_zret rfl h.1 hC hA hQ dX0_isKey_9 h.2
theorem mx_X0_isKey (l : Launch) (E : XE) (Q : Int32 → XS → Prop) (S : XS) (x0 : Int32) (h : wx_X0_isKey Q S x0) : XMet E l yX0_isKey cX0_isKey 1 (some .boolean) ({ frames := 2, cells := 0, slots := 0, locals := 59 } : Room) [.int x0] S (fun sz => va_Qi Q (BX1 E S sz) (xA S sz)) :=
  XMet_of (rm := ({ frames := 2, cells := 0, slots := 0, locals := 59 } : Room)) (by decide) (by simp [lg_sl, va_rf_cat, cat_i, cat_l]) (L0 := [some (.int x0)]) (by simp [lx_pairs, lv_args, va_rf_cat, cat_i, cat_l, List.range_succ]) (fun sz C hC hX hl hnm hA hQ => bx_X0_isKey E C S sz Q S x0 hC hX hA hQ h)
/-! X0_isPerson -/
def wx_X0_isPerson (Q : Int32 → XS → Prop) (S : XS) (x0 : Int32) : Prop :=
  wx_X0_isIn (fun r2 S1 => narrow .boolean (.int r2) = .int r2 ∧ Q r2 S1) S (Int32.toInt64 x0) (0 : Int64) (9 : Int64)
theorem hx_X0_isPerson : yX0_isPerson.cls = RX0 ∧ yX0_isPerson.cls ≠ "java/lang/invoke/MethodHandle" ∧ yX0_isPerson.cls ≠ "java/lang/invoke/VarHandle" ∧ (parseMethodDescriptor yX0_isPerson.desc).map (fun d => d.parameters.length) = some 1 := by decide +kernel
set_option maxHeartbeats 4000000 in
set_option maxRecDepth 100000 in
theorem bx_X0_isPerson (E : XE) (C : Cx) (S0 : XS) (sz : Nat) (Q : Int32 → XS → Prop) (S : XS) (x0 : Int32) (hC : COk C cX0_isPerson RX0 (some .boolean) 2 59 1) (hX : XOk E C) (hA : cx_A C = xA S0 sz) (hQ : cx_Q C = MQ (cx_b C) (va_Qi Q (BX1 E S0 sz) (xA S0 sz)) (cx_a C) (cx_s C) (cx_MC C) (cx_MS C) (xA S0 sz)) (h : wx_X0_isPerson Q S x0) : GX E C S 0 0 0 [some (.int x0)] [] := by
  refine g_iload_n hC dX0_isPerson_0 rfl ?_
  refine g_i2l hC dX0_isPerson_1 ?_
  refine g_lconst (v := 0) hC dX0_isPerson_2 (by decide) ?_
  refine g_ldc2 (v := 9) hC dX0_isPerson_3 q1249 ?_
  refine gX_ni hX (gX_runS (As := [.long (Int32.toInt64 x0), .long (0 : Int64), .long (9 : Int64)]) (rest := []) hC hX (mx_X0_isIn (cx_l C) E _ _ _ _ _ h) (lw_S q269 q270 q70 q271) hx_X0_isIn.2 rfl rfl (Or.inl (Nat.le_of_ble_eq_true rfl)) ⟨Nat.le_of_ble_eq_true rfl, Nat.le_of_ble_eq_true rfl⟩ dX0_isPerson_6 (Nat.zero_le _) (Nat.zero_le _)) rfl rfl ?_
  intro r2 S1 h
  refine gX_zret rfl h.1 hC hA hQ dX0_isPerson_9 h.2
theorem mx_X0_isPerson (l : Launch) (E : XE) (Q : Int32 → XS → Prop) (S : XS) (x0 : Int32) (h : wx_X0_isPerson Q S x0) : XMet E l yX0_isPerson cX0_isPerson 1 (some .boolean) ({ frames := 2, cells := 0, slots := 0, locals := 59 } : Room) [.int x0] S (fun sz => va_Qi Q (BX1 E S sz) (xA S sz)) :=
  XMet_of (rm := ({ frames := 2, cells := 0, slots := 0, locals := 59 } : Room)) (by decide) (by simp [lg_sl, va_rf_cat, cat_i, cat_l]) (L0 := [some (.int x0)]) (by simp [lx_pairs, lv_args, va_rf_cat, cat_i, cat_l, List.range_succ]) (fun sz C hC hX hl hnm hA hQ => bx_X0_isPerson E C S sz Q S x0 hC hX hA hQ h)
/-! X0_give -/
def wx_X0_give (Q : Int32 → XS → Prop) (mc ms : Nat) (S : XS) (x0 : Option Nat) (x1 : Int32) (x2 : Int32) (x3 : Int32) (x4 : Int32) : Prop :=
  wx_X0_isKey (fun r2 S1 => (if r2 = 0 then Q (-1000001 : Int32) S1 else wx_X0_isPerson (fun r4 S3 => (if r4 = 0 then Q (-1000001 : Int32) S3 else wx_X0_isPerson (fun r6 S5 => (if r6 = 0 then Q (-1000001 : Int32) S5 else (if x2 = x3 then Q (-1000001 : Int32) S5 else wx_X0_isDay (fun r8 S7 => (if r8 = 0 then Q (-1000001 : Int32) S7 else dr x0 (fun u9 => xKD S7 u9 = some 0 ∧ dr (xFR S7 4 u9) (fun u11 => xKD S7 u11 = some 16 ∧ wx_J2_size (fun r14 S13 => (if r14 = (40 : Int32) then Q (-1000003 : Int32) S13 else xKD S13 u9 = some 0 ∧ 1 ≤ mc ∧ 4 ≤ ms ∧ (∀ q16 : Nat, xKD S13 q16 = none → wx_X10_init (fun S20 => (∃ k22 n23, k22 ≤ (mc - 1) ∧ n23 ≤ (ms - 4) ∧ wx_X0_come (fun r25 S24 => Q r25 S24) k22 n23 S20 (xFR S13 4 u9) (some q16))) (sNew S13 q16 9) (some q16) x1 x4 x2 x3))) S7 (some u11))))) S5 x4))) S3 x3)) S1 x2)) S x1
theorem hx_X0_give : yX0_give.cls = RX0 ∧ yX0_give.cls ≠ "java/lang/invoke/MethodHandle" ∧ yX0_give.cls ≠ "java/lang/invoke/VarHandle" ∧ (parseMethodDescriptor yX0_give.desc).map (fun d => d.parameters.length) = some 4 := by decide +kernel
set_option maxHeartbeats 4000000 in
set_option maxRecDepth 100000 in
theorem bx_X0_give (E : XE) (C : Cx) (S0 : XS) (sz : Nat) (Q : Int32 → XS → Prop) (mc ms : Nat) (S : XS) (x0 : Option Nat) (x1 : Int32) (x2 : Int32) (x3 : Int32) (x4 : Int32) (hC : COk C cX0_give RX0 (some .int) 7 167 5) (hX : XOk E C) (hA : cx_A C = xA S0 sz) (hQ : cx_Q C = MQ (cx_b C) (va_Qi Q (BX1 E S0 sz) (xA S0 sz)) (cx_a C) (cx_s C) (cx_MC C) (cx_MS C) (xA S0 sz)) (h : wx_X0_give Q mc ms S x0 x1 x2 x3 x4) : GX E C S mc ms 0 [some (va_rf x0), some (.int x1), some (.int x2), some (.int x3), some (.int x4)] [] := by
  refine g_iload_n hC dX0_give_0 rfl ?_
  refine gX_ni hX (gX_runS (As := [.int x1]) (rest := []) hC hX (mx_X0_isKey (cx_l C) E _ _ _ h) (lw_S q1243 q1244 q70 q1245) hx_X0_isKey.2 rfl rfl (Or.inl (Nat.le_of_ble_eq_true rfl)) ⟨Nat.le_of_ble_eq_true rfl, Nat.le_of_ble_eq_true rfl⟩ dX0_give_1 (Nat.zero_le _) (Nat.zero_le _)) rfl rfl ?_
  intro r2 S1 h
  refine g_if_eq (tgt := 34) hC dX0_give_4 (by decide) (fun c => ?_) (fun c => ?_)
  · have h := it_p c h
    refine g_ldc (v := -1000001) hC dX0_give_34 q273 ?_
    refine gX_iret rfl hC hA hQ dX0_give_36 h
  · have h := it_n c h
    refine g_iload_n hC dX0_give_7 rfl ?_
    refine gX_ni hX (gX_runS (As := [.int x2]) (rest := []) hC hX (mx_X0_isPerson (cx_l C) E _ _ _ h) (lw_S q1246 q1247 q70 q1248) hx_X0_isPerson.2 rfl rfl (Or.inl (Nat.le_of_ble_eq_true rfl)) ⟨Nat.le_of_ble_eq_true rfl, Nat.le_of_ble_eq_true rfl⟩ dX0_give_8 (Nat.zero_le _) (Nat.zero_le _)) rfl rfl ?_
    intro r4 S3 h
    refine g_if_eq (tgt := 34) hC dX0_give_11 (by decide) (fun c => ?_) (fun c => ?_)
    · have h := it_p c h
      refine g_ldc (v := -1000001) hC dX0_give_34 q273 ?_
      refine gX_iret rfl hC hA hQ dX0_give_36 h
    · have h := it_n c h
      refine g_iload_n hC dX0_give_14 rfl ?_
      refine gX_ni hX (gX_runS (As := [.int x3]) (rest := []) hC hX (mx_X0_isPerson (cx_l C) E _ _ _ h) (lw_S q1246 q1247 q70 q1248) hx_X0_isPerson.2 rfl rfl (Or.inl (Nat.le_of_ble_eq_true rfl)) ⟨Nat.le_of_ble_eq_true rfl, Nat.le_of_ble_eq_true rfl⟩ dX0_give_15 (Nat.zero_le _) (Nat.zero_le _)) rfl rfl ?_
      intro r6 S5 h
      refine g_if_eq (tgt := 34) hC dX0_give_18 (by decide) (fun c => ?_) (fun c => ?_)
      · have h := it_p c h
        refine g_ldc (v := -1000001) hC dX0_give_34 q273 ?_
        refine gX_iret rfl hC hA hQ dX0_give_36 h
      · have h := it_n c h
        refine g_iload_n hC dX0_give_21 rfl ?_
        refine g_iload_n hC dX0_give_22 rfl ?_
        refine g_icmp_eq (tgt := 34) hC dX0_give_23 (by decide) (fun c => ?_) (fun c => ?_)
        · have h := it_p c h
          refine g_ldc (v := -1000001) hC dX0_give_34 q273 ?_
          refine gX_iret rfl hC hA hQ dX0_give_36 h
        · have h := it_n c h
          refine g_iload hC dX0_give_26 rfl ?_
          refine gX_ni hX (gX_runS (As := [.int x4]) (rest := []) hC hX (mx_X0_isDay (cx_l C) E _ _ _ h) (lw_S q788 q789 q70 q790) hx_X0_isDay.2 rfl rfl (Or.inl (Nat.le_of_ble_eq_true rfl)) ⟨Nat.le_of_ble_eq_true rfl, Nat.le_of_ble_eq_true rfl⟩ dX0_give_28 (Nat.zero_le _) (Nat.zero_le _)) rfl rfl ?_
          intro r8 S7 h
          refine g_if_ne (tgt := 37) hC dX0_give_31 (by decide) (fun c => ?_) (fun c => ?_)
          · have h := it_n c h
            refine g_aload_nR hC dX0_give_37 rfl ?_
            obtain ⟨u9, eu9, h⟩ := h
            refine g_top0 eu9 ?_
            have hk10 := h.1
            refine gX_get (C0 := RX0) (T := TX0) (N := 15) (n := 0) (k := 4) (q := (4, true)) hC hX dX0_give_38 q215 rfl in_X0 (by decide) (Or.inl rfl) rfl (by decide) hk10 ?_
            show GX _ _ _ _ _ _ _ (va_rf (xFR S7 4 u9) :: _)
            obtain ⟨u11, eu11, h⟩ := h.2
            refine g_top0 eu11 ?_
            have hk12 := h.1
            refine gX_ni5 hX (gX_runF (n := 0) (As := []) (rest := []) (Cr := "java/util/ArrayList") (x := ⟨"java/util/List", "size", "()I"⟩) hC hX (mx_J2_size (cx_l C) E _ _ _ h.2) (lw_app (lw_4 q770 q774 q776 q73) (lw_meth q778)) (List.mem_of_getElem? (i := 0) rfl) (by decide +kernel) rfl rfl (Or.inl (Nat.le_of_ble_eq_true rfl)) ⟨Nat.le_of_ble_eq_true rfl, Nat.le_of_ble_eq_true rfl⟩ dX0_give_41 (Nat.zero_le _) (Nat.zero_le _) hk12 rfl (by decide) rfl) rfl rfl ?_
            intro r14 S13 h
            refine g_bipush (v := 40) hC dX0_give_46 (by decide) ?_
            refine g_icmp_ne (tgt := 56) hC dX0_give_48 (by decide) (fun c => ?_) (fun c => ?_)
            · have h := it_n c h
              refine g_aload_nR hC dX0_give_56 rfl ?_
              refine g_top0 eu9 ?_
              have hk15 := h.1
              refine gX_get (C0 := RX0) (T := TX0) (N := 15) (n := 0) (k := 4) (q := (4, true)) hC hX dX0_give_57 q215 rfl in_X0 (by decide) (Or.inl rfl) rfl (by decide) hk15 ?_
              show GX _ _ _ _ _ _ _ (va_rf (xFR S13 4 u9) :: _)
              refine gX_new (C0 := RX10) (T := TX10) (ty0 := tyX10) (N := 4) (n := 9) hC hX dX0_give_60 q1089 q1090 q101 rfl in_X10 tyX10_ok (by decide) dv_X10 h.2.1 h.2.2.1 ?_
              intro q16 hq17
              have h := h.2.2.2 q16 hq17
              have hk18 := kd_new (q := q16) (n := 9) hk15 hq17
              have hk19 : xKD (sNew S13 q16 9) q16 = some 9 := kd_self
              refine g_dup hC dX0_give_63 (va_rf_cat _) ?_
              refine g_iload_n hC dX0_give_64 rfl ?_
              refine g_iload hC dX0_give_65 rfl ?_
              refine g_iload_n hC dX0_give_67 rfl ?_
              refine g_iload_n hC dX0_give_68 rfl ?_
              refine gX_nv hX (gX_runI (As := [.int x1, .int x4, .int x2, .int x3]) (rest := [va_rf (some q16), va_rf (xFR S13 4 u9)]) hC hX (mx_X10_init (cx_l C) E _ _ _ _ _ _ _ h) q1093 q101 q1091 q1092 rfl hx_X10_init.2 rfl rfl (Or.inl (Nat.le_of_ble_eq_true rfl)) ⟨Nat.le_of_ble_eq_true rfl, Nat.le_of_ble_eq_true rfl⟩ dX0_give_69 (Nat.zero_le _) (Nat.zero_le _)) rfl rfl ?_
              intro S20 h
              obtain ⟨k22, n23, hk22, hn23, h⟩ := h
              refine gX_ci hX (gX_runS (As := [va_rf (xFR S13 4 u9), va_rf (some q16)]) (rest := []) hC hX (mx_X0_come (cx_l C) E k22 n23 _ _ _ _ h) (lw_S q1112 q1113 q70 q1114) hx_X0_come.2 rfl rfl (Or.inl (Nat.le_of_ble_eq_true rfl)) ⟨Nat.le_of_ble_eq_true rfl, Nat.le_of_ble_eq_true rfl⟩ dX0_give_72 hk22 hn23) hk22 hn23 ?_
              intro r25 S24 h
              refine gX_iret rfl hC hA hQ dX0_give_75 h
            · have h := it_p c h
              refine g_ldc (v := -1000003) hC dX0_give_51 q428 ?_
              refine g_goto (tgt := 75) hC dX0_give_53 (by decide) ?_
              refine gX_iret rfl hC hA hQ dX0_give_75 h
          · have h := it_p c h
            refine g_ldc (v := -1000001) hC dX0_give_34 q273 ?_
            refine gX_iret rfl hC hA hQ dX0_give_36 h
theorem mx_X0_give (l : Launch) (E : XE) (mc ms : Nat) (Q : Int32 → XS → Prop) (S : XS) (x0 : Option Nat) (x1 : Int32) (x2 : Int32) (x3 : Int32) (x4 : Int32) (h : wx_X0_give Q mc ms S x0 x1 x2 x3 x4) : XMet E l yX0_give cX0_give 5 (some .int) ({ frames := 7, cells := mc, slots := ms, locals := 167 } : Room) [va_rf x0, .int x1, .int x2, .int x3, .int x4] S (fun sz => va_Qi Q (BX1 E S sz) (xA S sz)) :=
  XMet_of (rm := ({ frames := 7, cells := mc, slots := ms, locals := 167 } : Room)) (by decide) (by simp [lg_sl, va_rf_cat, cat_i, cat_l]) (L0 := [some (va_rf x0), some (.int x1), some (.int x2), some (.int x3), some (.int x4)]) (by simp [lx_pairs, lv_args, va_rf_cat, cat_i, cat_l, List.range_succ]) (fun sz C hC hX hl hnm hA hQ => bx_X0_give E C S sz Q mc ms S x0 x1 x2 x3 x4 hC hX hA hQ h)
/-! X0_key -/
def wx_X0_key_136 (Q : Int32 → XS → Prop) (S : XS) (a3 : Int32) (a4 : Int32) (a5 : Int32) : Prop :=
  (if a3 = 0 then Q a4 S else Q a5 S)
def wx_X0_key_130 (Q : Int32 → XS → Prop) (K37 : XS → Option Nat → Int32 → Int32 → Int32 → Int32 → Int32 → Int32 → Prop) (S : XS) (a0 : Option Nat) (a1 : Int32) (a2 : Int32) (a3 : Int32) (a4 : Int32) (a5 : Int32) (a6 : Int32) : Prop :=
  K37 S a0 a1 a2 a3 a4 a5 (a6 + (1 : Int32))
def wx_X0_key_123 (Q : Int32 → XS → Prop) (K37 : XS → Option Nat → Int32 → Int32 → Int32 → Int32 → Int32 → Int32 → Prop) (S : XS) (a0 : Option Nat) (a1 : Int32) (a2 : Int32) (a3 : Int32) (a5 : Int32) (a6 : Int32) (a7 : Option Nat) : Prop :=
  dr a7 (fun u27 => xKD S u27 = some 9 ∧ wx_X0_key_130 Q K37 S a0 a1 a2 a3 (xFI S 903 u27) a5 a6)
def wx_X0_key_37 (Q : Int32 → XS → Prop) : Nat → XS → Option Nat → Int32 → Int32 → Int32 → Int32 → Int32 → Int32 → Prop
  | 0, _, _, _, _, _, _, _, _ => False
  | n + 1, S, a0, a1, a2, a3, a4, a5, a6 => dr a0 (fun u7 => xKD S u7 = some 0 ∧ dr (xFR S 4 u7) (fun u9 => xKD S u9 = some 16 ∧ wx_J2_size (fun r12 S11 => (if r12 ≤ a6 then wx_X0_key_136 Q S11 a3 a4 a5 else xKD S11 u7 = some 0 ∧ dr (xFR S11 4 u7) (fun u14 => xKD S11 u14 = some 16 ∧ wx_J2_get (fun r17 S16 => dr r17 (fun u18 => xKD S16 u18 = some 9 ∧ (if a2 < (xFI S16 901 u18) then wx_X0_key_136 Q S16 a3 a4 a5 else xKD S16 u7 = some 0 ∧ dr (xFR S16 4 u7) (fun u21 => xKD S16 u21 = some 16 ∧ wx_J2_get (fun r24 S23 => dr r24 (fun u25 => xKD S23 u25 = some 9 ∧ (if (xFI S23 900 u25) = a1 then (if a4 = (-1000000 : Int32) then wx_X0_key_123 Q (wx_X0_key_37 Q n) S23 a0 a1 a2 a3 a5 a6 (some u25) else (if a4 = (xFI S23 902 u25) then wx_X0_key_123 Q (wx_X0_key_37 Q n) S23 a0 a1 a2 a3 a5 a6 (some u25) else wx_X0_key_130 Q (wx_X0_key_37 Q n) S23 a0 a1 a2 a3 a4 (a5 + (1 : Int32)) a6)) else wx_X0_key_130 Q (wx_X0_key_37 Q n) S23 a0 a1 a2 a3 a4 a5 a6))) S16 (some u21) a6)))) S11 (some u14) a6))) S (some u9)))
def wx_X0_key (Q : Int32 → XS → Prop) (S : XS) (x0 : Option Nat) (x1 : Int32) (x2 : Int32) (x3 : Int32) : Prop :=
  wx_X0_isKey (fun r2 S1 => (if r2 = 0 then Q (-1000001 : Int32) S1 else wx_X0_isDay (fun r4 S3 => (if r4 = 0 then Q (-1000001 : Int32) S3 else wx_X0_isIn (fun r6 S5 => (if r6 = 0 then Q (-1000001 : Int32) S5 else ∃ n29, wx_X0_key_37 Q n29 S5 x0 x1 x2 x3 (-1000000 : Int32) (0 : Int32) (0 : Int32))) S3 (Int32.toInt64 x3) (0 : Int64) (1 : Int64))) S1 x2)) S x1
theorem hx_X0_key : yX0_key.cls = RX0 ∧ yX0_key.cls ≠ "java/lang/invoke/MethodHandle" ∧ yX0_key.cls ≠ "java/lang/invoke/VarHandle" ∧ (parseMethodDescriptor yX0_key.desc).map (fun d => d.parameters.length) = some 3 := by decide +kernel
set_option maxHeartbeats 4000000 in
set_option maxRecDepth 100000 in
theorem bx_X0_key (E : XE) (C : Cx) (S0 : XS) (sz : Nat) (Q : Int32 → XS → Prop) (S : XS) (x0 : Option Nat) (x1 : Int32) (x2 : Int32) (x3 : Int32) (hC : COk C cX0_key RX0 (some .int) 4 98 8) (hX : XOk E C) (hA : cx_A C = xA S0 sz) (hQ : cx_Q C = MQ (cx_b C) (va_Qi Q (BX1 E S0 sz) (xA S0 sz)) (cx_a C) (cx_s C) (cx_MC C) (cx_MS C) (xA S0 sz)) (h : wx_X0_key Q S x0 x1 x2 x3) : GX E C S 0 0 0 [some (va_rf x0), some (.int x1), some (.int x2), some (.int x3), none, none, none, none] [] := by
  have s_136 : ∀ (S : XS) (a3 : Int32) (a4 : Int32) (a5 : Int32), wx_X0_key_136 Q  S a3 a4 a5 → GX E C S 0 0 136 [none, none, none, some (.int a3), some (.int a4), some (.int a5), none, none] [] := by
    intro  S a3 a4 a5 h
    refine g_iload_n hC dX0_key_136 rfl ?_
    refine g_if_ne (tgt := 145) hC dX0_key_137 (by decide) (fun c => ?_) (fun c => ?_)
    · have h := it_n c h
      refine g_iload hC dX0_key_145 rfl ?_
      refine gX_iret rfl hC hA hQ dX0_key_147 h
    · have h := it_p c h
      refine g_iload hC dX0_key_140 rfl ?_
      refine g_goto (tgt := 147) hC dX0_key_142 (by decide) ?_
      refine gX_iret rfl hC hA hQ dX0_key_147 h
  have s_130 : ∀ (K37 : XS → Option Nat → Int32 → Int32 → Int32 → Int32 → Int32 → Int32 → Prop) (hK37 : ∀ (S : XS) (b0 : Option Nat) (b1 : Int32) (b2 : Int32) (b3 : Int32) (b4 : Int32) (b5 : Int32) (b6 : Int32), K37 S b0 b1 b2 b3 b4 b5 b6 → GX E C S 0 0 37 [some (va_rf b0), some (.int b1), some (.int b2), some (.int b3), some (.int b4), some (.int b5), some (.int b6), none] []) (S : XS) (a0 : Option Nat) (a1 : Int32) (a2 : Int32) (a3 : Int32) (a4 : Int32) (a5 : Int32) (a6 : Int32), wx_X0_key_130 Q K37 S a0 a1 a2 a3 a4 a5 a6 → GX E C S 0 0 130 [some (va_rf a0), some (.int a1), some (.int a2), some (.int a3), some (.int a4), some (.int a5), some (.int a6), none] [] := by
    intro K37 hK37 S a0 a1 a2 a3 a4 a5 a6 h
    refine g_iinc (v := (a6 + (1 : Int32))) hC dX0_key_130 rfl rfl (by decide) rfl rfl ?_
    refine g_goto (tgt := 37) hC dX0_key_133 (by decide) ?_
    exact hK37 S a0 a1 a2 a3 a4 a5 (a6 + (1 : Int32)) h
  have s_123 : ∀ (K37 : XS → Option Nat → Int32 → Int32 → Int32 → Int32 → Int32 → Int32 → Prop) (hK37 : ∀ (S : XS) (b0 : Option Nat) (b1 : Int32) (b2 : Int32) (b3 : Int32) (b4 : Int32) (b5 : Int32) (b6 : Int32), K37 S b0 b1 b2 b3 b4 b5 b6 → GX E C S 0 0 37 [some (va_rf b0), some (.int b1), some (.int b2), some (.int b3), some (.int b4), some (.int b5), some (.int b6), none] []) (S : XS) (a0 : Option Nat) (a1 : Int32) (a2 : Int32) (a3 : Int32) (a5 : Int32) (a6 : Int32) (a7 : Option Nat), wx_X0_key_123 Q K37 S a0 a1 a2 a3 a5 a6 a7 → GX E C S 0 0 123 [some (va_rf a0), some (.int a1), some (.int a2), some (.int a3), none, some (.int a5), some (.int a6), some (va_rf a7)] [] := by
    intro K37 hK37 S a0 a1 a2 a3 a5 a6 a7 h
    refine g_aloadR hC dX0_key_123 rfl ?_
    obtain ⟨u27, eu27, h⟩ := h
    refine g_top0 eu27 ?_
    have hk28 := h.1
    refine gX_get (C0 := RX10) (T := TX10) (N := 4) (n := 9) (k := 3) (q := (903, false)) hC hX dX0_key_125 q1102 rfl in_X10 (by decide) (Or.inl rfl) rfl (by decide) hk28 ?_
    show GX _ _ _ _ _ _ _ (.int (xFI S 903 u27) :: _)
    refine g_istore hC dX0_key_128 (by decide) rfl rfl ?_
    refine g_sub [true, true, true, true, true, true, true, false] rfl ?_
    exact s_130 K37 hK37 S a0 a1 a2 a3 (xFI S 903 u27) a5 a6 h.2
  have s_37 : ∀ (n : Nat) (S : XS) (a0 : Option Nat) (a1 : Int32) (a2 : Int32) (a3 : Int32) (a4 : Int32) (a5 : Int32) (a6 : Int32), wx_X0_key_37 Q  n S a0 a1 a2 a3 a4 a5 a6 → GX E C S 0 0 37 [some (va_rf a0), some (.int a1), some (.int a2), some (.int a3), some (.int a4), some (.int a5), some (.int a6), none] [] := by
    intro  n
    induction n with
    | zero =>
      intro S a0 a1 a2 a3 a4 a5 a6 h
      exact False.elim h
    | succ n ih =>
      intro S a0 a1 a2 a3 a4 a5 a6 h
      refine g_iload hC dX0_key_37 rfl ?_
      refine g_aload_nR hC dX0_key_39 rfl ?_
      obtain ⟨u7, eu7, h⟩ := h
      refine g_top0 eu7 ?_
      have hk8 := h.1
      refine gX_get (C0 := RX0) (T := TX0) (N := 15) (n := 0) (k := 4) (q := (4, true)) hC hX dX0_key_40 q215 rfl in_X0 (by decide) (Or.inl rfl) rfl (by decide) hk8 ?_
      show GX _ _ _ _ _ _ _ (va_rf (xFR S 4 u7) :: _)
      obtain ⟨u9, eu9, h⟩ := h.2
      refine g_top0 eu9 ?_
      have hk10 := h.1
      refine gX_ni5 hX (gX_runF (n := 0) (As := []) (rest := [.int a6]) (Cr := "java/util/ArrayList") (x := ⟨"java/util/List", "size", "()I"⟩) hC hX (mx_J2_size (cx_l C) E _ _ _ h.2) (lw_app (lw_4 q770 q774 q776 q73) (lw_meth q778)) (List.mem_of_getElem? (i := 0) rfl) (by decide +kernel) rfl rfl (Or.inl (Nat.le_of_ble_eq_true rfl)) ⟨Nat.le_of_ble_eq_true rfl, Nat.le_of_ble_eq_true rfl⟩ dX0_key_43 (Nat.zero_le _) (Nat.zero_le _) hk10 rfl (by decide) rfl) rfl rfl ?_
      intro r12 S11 h
      refine g_icmp_ge (tgt := 136) hC dX0_key_48 (by decide) (fun c => ?_) (fun c => ?_)
      · have h := it_p c h
        refine g_sub [false, false, false, true, true, true, false, false] rfl ?_
        exact s_136 S11 a3 a4 a5 h
      · have h := it_n c h
        refine g_aload_nR hC dX0_key_51 rfl ?_
        refine g_top0 eu7 ?_
        have hk13 := h.1
        refine gX_get (C0 := RX0) (T := TX0) (N := 15) (n := 0) (k := 4) (q := (4, true)) hC hX dX0_key_52 q215 rfl in_X0 (by decide) (Or.inl rfl) rfl (by decide) hk13 ?_
        show GX _ _ _ _ _ _ _ (va_rf (xFR S11 4 u7) :: _)
        refine g_iload hC dX0_key_55 rfl ?_
        obtain ⟨u14, eu14, h⟩ := h.2
        refine g_top1 eu14 ?_
        have hk15 := h.1
        refine gX_nq5 hX (gX_runF (n := 1) (As := [.int a6]) (rest := []) (Cr := "java/util/ArrayList") (x := ⟨"java/util/List", "get", "(I)Ljava/lang/Object;"⟩) hC hX (mx_J2_get (cx_l C) E _ _ _ _ h.2) (lw_app (lw_4 q928 q931 q933 q73) (lw_meth q935)) (List.mem_of_getElem? (i := 2) rfl) (by decide +kernel) rfl rfl (Or.inl (Nat.le_of_ble_eq_true rfl)) ⟨Nat.le_of_ble_eq_true rfl, Nat.le_of_ble_eq_true rfl⟩ dX0_key_57 (Nat.zero_le _) (Nat.zero_le _) hk15 rfl (by decide) rfl) rfl rfl ?_
        intro r17 S16 h
        obtain ⟨u18, eu18, h⟩ := h
        refine g_top0 eu18 ?_
        have hk19 := h.1
        refine gX_cast (r := (RX10, TX10, 4)) (n := 9) hC hX dX0_key_62 q1089 rfl (by decide) hk19 ?_
        refine gX_get (C0 := RX10) (T := TX10) (N := 4) (n := 9) (k := 1) (q := (901, false)) hC hX dX0_key_65 q1098 rfl in_X10 (by decide) (Or.inl rfl) rfl (by decide) hk19 ?_
        show GX _ _ _ _ _ _ _ (.int (xFI S16 901 u18) :: _)
        refine g_iload_n hC dX0_key_68 rfl ?_
        refine g_icmp_gt (tgt := 136) hC dX0_key_69 (by decide) (fun c => ?_) (fun c => ?_)
        · have h := it_p c h.2
          refine g_sub [false, false, false, true, true, true, false, false] rfl ?_
          exact s_136 S16 a3 a4 a5 h
        · have h := it_n c h.2
          refine g_aload_nR hC dX0_key_72 rfl ?_
          refine g_top0 eu7 ?_
          have hk20 := h.1
          refine gX_get (C0 := RX0) (T := TX0) (N := 15) (n := 0) (k := 4) (q := (4, true)) hC hX dX0_key_73 q215 rfl in_X0 (by decide) (Or.inl rfl) rfl (by decide) hk20 ?_
          show GX _ _ _ _ _ _ _ (va_rf (xFR S16 4 u7) :: _)
          refine g_iload hC dX0_key_76 rfl ?_
          obtain ⟨u21, eu21, h⟩ := h.2
          refine g_top1 eu21 ?_
          have hk22 := h.1
          refine gX_nq5 hX (gX_runF (n := 1) (As := [.int a6]) (rest := []) (Cr := "java/util/ArrayList") (x := ⟨"java/util/List", "get", "(I)Ljava/lang/Object;"⟩) hC hX (mx_J2_get (cx_l C) E _ _ _ _ h.2) (lw_app (lw_4 q928 q931 q933 q73) (lw_meth q935)) (List.mem_of_getElem? (i := 2) rfl) (by decide +kernel) rfl rfl (Or.inl (Nat.le_of_ble_eq_true rfl)) ⟨Nat.le_of_ble_eq_true rfl, Nat.le_of_ble_eq_true rfl⟩ dX0_key_78 (Nat.zero_le _) (Nat.zero_le _) hk22 rfl (by decide) rfl) rfl rfl ?_
          intro r24 S23 h
          obtain ⟨u25, eu25, h⟩ := h
          refine g_top0 eu25 ?_
          have hk26 := h.1
          refine gX_cast (r := (RX10, TX10, 4)) (n := 9) hC hX dX0_key_83 q1089 rfl (by decide) hk26 ?_
          refine g_astoreR hC dX0_key_86 (by decide) rfl rfl ?_
          refine g_aloadR hC dX0_key_88 rfl ?_
          refine gX_get (C0 := RX10) (T := TX10) (N := 4) (n := 9) (k := 0) (q := (900, false)) hC hX dX0_key_90 q1096 rfl in_X10 (by decide) (Or.inl rfl) rfl (by decide) hk26 ?_
          show GX _ _ _ _ _ _ _ (.int (xFI S23 900 u25) :: _)
          refine g_iload_n hC dX0_key_93 rfl ?_
          refine g_icmp_eq (tgt := 100) hC dX0_key_94 (by decide) (fun c => ?_) (fun c => ?_)
          · have h := it_p c h.2
            refine g_iload hC dX0_key_100 rfl ?_
            refine g_ldc (v := -1000000) hC dX0_key_102 q944 ?_
            refine g_icmp_eq (tgt := 123) hC dX0_key_104 (by decide) (fun c => ?_) (fun c => ?_)
            · have h := it_p c h
              refine g_sub [true, true, true, true, false, true, true, true] rfl ?_
              exact s_123 (wx_X0_key_37 Q n) ih S23 a0 a1 a2 a3 a5 a6 (some u25) h
            · have h := it_n c h
              refine g_iload hC dX0_key_107 rfl ?_
              refine g_aloadR hC dX0_key_109 rfl ?_
              refine gX_get (C0 := RX10) (T := TX10) (N := 4) (n := 9) (k := 2) (q := (902, false)) hC hX dX0_key_111 q1100 rfl in_X10 (by decide) (Or.inl rfl) rfl (by decide) hk26 ?_
              show GX _ _ _ _ _ _ _ (.int (xFI S23 902 u25) :: _)
              refine g_icmp_eq (tgt := 123) hC dX0_key_114 (by decide) (fun c => ?_) (fun c => ?_)
              · have h := it_p c h
                refine g_sub [true, true, true, true, false, true, true, true] rfl ?_
                exact s_123 (wx_X0_key_37 Q n) ih S23 a0 a1 a2 a3 a5 a6 (some u25) h
              · have h := it_n c h
                refine g_iinc (v := (a5 + (1 : Int32))) hC dX0_key_117 rfl rfl (by decide) rfl rfl ?_
                refine g_goto (tgt := 130) hC dX0_key_120 (by decide) ?_
                refine g_sub [true, true, true, true, true, true, true, false] rfl ?_
                exact s_130 (wx_X0_key_37 Q n) ih S23 a0 a1 a2 a3 a4 (a5 + (1 : Int32)) a6 h
          · have h := it_n c h.2
            refine g_goto (tgt := 130) hC dX0_key_97 (by decide) ?_
            refine g_sub [true, true, true, true, true, true, true, false] rfl ?_
            exact s_130 (wx_X0_key_37 Q n) ih S23 a0 a1 a2 a3 a4 a5 a6 h
  refine g_iload_n hC dX0_key_0 rfl ?_
  refine gX_ni hX (gX_runS (As := [.int x1]) (rest := []) hC hX (mx_X0_isKey (cx_l C) E _ _ _ h) (lw_S q1243 q1244 q70 q1245) hx_X0_isKey.2 rfl rfl (Or.inl (Nat.le_of_ble_eq_true rfl)) ⟨Nat.le_of_ble_eq_true rfl, Nat.le_of_ble_eq_true rfl⟩ dX0_key_1 (Nat.zero_le _) (Nat.zero_le _)) rfl rfl ?_
  intro r2 S1 h
  refine g_if_eq (tgt := 24) hC dX0_key_4 (by decide) (fun c => ?_) (fun c => ?_)
  · have h := it_p c h
    refine g_ldc (v := -1000001) hC dX0_key_24 q273 ?_
    refine gX_iret rfl hC hA hQ dX0_key_26 h
  · have h := it_n c h
    refine g_iload_n hC dX0_key_7 rfl ?_
    refine gX_ni hX (gX_runS (As := [.int x2]) (rest := []) hC hX (mx_X0_isDay (cx_l C) E _ _ _ h) (lw_S q788 q789 q70 q790) hx_X0_isDay.2 rfl rfl (Or.inl (Nat.le_of_ble_eq_true rfl)) ⟨Nat.le_of_ble_eq_true rfl, Nat.le_of_ble_eq_true rfl⟩ dX0_key_8 (Nat.zero_le _) (Nat.zero_le _)) rfl rfl ?_
    intro r4 S3 h
    refine g_if_eq (tgt := 24) hC dX0_key_11 (by decide) (fun c => ?_) (fun c => ?_)
    · have h := it_p c h
      refine g_ldc (v := -1000001) hC dX0_key_24 q273 ?_
      refine gX_iret rfl hC hA hQ dX0_key_26 h
    · have h := it_n c h
      refine g_iload_n hC dX0_key_14 rfl ?_
      refine g_i2l hC dX0_key_15 ?_
      refine g_lconst (v := 0) hC dX0_key_16 (by decide) ?_
      refine g_lconst (v := 1) hC dX0_key_17 (by decide) ?_
      refine gX_ni hX (gX_runS (As := [.long (Int32.toInt64 x3), .long (0 : Int64), .long (1 : Int64)]) (rest := []) hC hX (mx_X0_isIn (cx_l C) E _ _ _ _ _ h) (lw_S q269 q270 q70 q271) hx_X0_isIn.2 rfl rfl (Or.inl (Nat.le_of_ble_eq_true rfl)) ⟨Nat.le_of_ble_eq_true rfl, Nat.le_of_ble_eq_true rfl⟩ dX0_key_18 (Nat.zero_le _) (Nat.zero_le _)) rfl rfl ?_
      intro r6 S5 h
      refine g_if_ne (tgt := 27) hC dX0_key_21 (by decide) (fun c => ?_) (fun c => ?_)
      · have h := it_n c h
        refine g_ldc (v := -1000000) hC dX0_key_27 q944 ?_
        refine g_istore hC dX0_key_29 (by decide) rfl rfl ?_
        refine g_iconst (v := 0) hC dX0_key_31 (by decide) ?_
        refine g_istore hC dX0_key_32 (by decide) rfl rfl ?_
        refine g_iconst (v := 0) hC dX0_key_34 (by decide) ?_
        refine g_istore hC dX0_key_35 (by decide) rfl rfl ?_
        obtain ⟨n0, h0⟩ := h
        exact s_37 n0 S5 x0 x1 x2 x3 (-1000000 : Int32) (0 : Int32) (0 : Int32) h0
      · have h := it_p c h
        refine g_ldc (v := -1000001) hC dX0_key_24 q273 ?_
        refine gX_iret rfl hC hA hQ dX0_key_26 h
theorem mx_X0_key (l : Launch) (E : XE) (Q : Int32 → XS → Prop) (S : XS) (x0 : Option Nat) (x1 : Int32) (x2 : Int32) (x3 : Int32) (h : wx_X0_key Q S x0 x1 x2 x3) : XMet E l yX0_key cX0_key 8 (some .int) ({ frames := 4, cells := 0, slots := 0, locals := 98 } : Room) [va_rf x0, .int x1, .int x2, .int x3] S (fun sz => va_Qi Q (BX1 E S sz) (xA S sz)) :=
  XMet_of (rm := ({ frames := 4, cells := 0, slots := 0, locals := 98 } : Room)) (by decide) (by simp [lg_sl, va_rf_cat, cat_i, cat_l]) (L0 := [some (va_rf x0), some (.int x1), some (.int x2), some (.int x3), none, none, none, none]) (by simp [lx_pairs, lv_args, va_rf_cat, cat_i, cat_l, List.range_succ]) (fun sz C hC hX hl hnm hA hQ => bx_X0_key E C S sz Q S x0 x1 x2 x3 hC hX hA hQ h)
