/-! began -/
def wm_began (Q : MS → Prop) (J : MS) (x1 : Int32) : Prop :=
  (if (16 : Int32) ≤ (J 53 0) then Q J else vp_in (J 53 0) 16 ∧ Q (mset (mset J 52 (Int32.toNatClampNeg (J 53 0)) x1) 53 0 (((mset J 52 (Int32.toNatClampNeg (J 53 0)) x1) 53 0) + (1 : Int32))))
theorem hd_began : yX3_began.cls = RX3 ∧ yX3_began.cls ≠ "java/lang/invoke/MethodHandle" ∧ yX3_began.cls ≠ "java/lang/invoke/VarHandle" ∧ (parseMethodDescriptor yX3_began.desc).map (fun d => d.parameters.length) = some 1 := by decide +kernel
set_option maxHeartbeats 4000000 in
set_option maxRecDepth 100000 in
theorem bm_began (E : ME) (C : Cx) (Q : MS → Prop) (J : MS) (x1 : Int32) (hC : COk C cX3_began RX3 none 1 16 2) (hM : MOk E C) (hQ : cx_Q C = MQ (cx_b C) (va_Qv Q (BM E) (mA E)) (cx_a C) (cx_s C) (cx_MC C) (cx_MS C) (mA E)) (h : wm_began Q J x1) : GM E C J 0 [some (.ref (me_a E 54)), some (.int x1)] [] := by
  refine g_aload_n hC dX3_began_0 rfl ?_
  refine gM_getS hC hM 53 dX3_began_1 q1556 (by decide) (by decide) rfl ?_
  refine g_bipush (v := 16) hC dX3_began_4 (by decide) ?_
  refine g_icmp_ge (tgt := 29) hC dX3_began_6 (by decide) (fun c => ?_) (fun c => ?_)
  · have h := it_p c h
    refine gM_vret hC hM hQ rfl dX3_began_29 h
  · have h := it_n c h
    refine g_aload_n hC dX3_began_9 rfl ?_
    refine gM_getA hC hM 52 dX3_began_10 q1555 (by decide) (by decide) rfl ?_
    refine g_aload_n hC dX3_began_13 rfl ?_
    refine gM_getS hC hM 53 dX3_began_14 q1556 (by decide) (by decide) rfl ?_
    refine g_iload_n hC dX3_began_17 rfl ?_
    refine gM_iast hC hM 52 32 dX3_began_18 rfl (by decide) h.1 ?_
    refine g_aload_n hC dX3_began_19 rfl ?_
    refine g_dup hC dX3_began_20 rfl ?_
    refine gM_getS hC hM 53 dX3_began_21 q1556 (by decide) (by decide) rfl ?_
    refine g_iconst (v := 1) hC dX3_began_24 (by decide) ?_
    refine g_iadd hC dX3_began_25 ?_
    refine gM_put hC hM 53 (ty := .int) dX3_began_26 q1556 (by decide) (by decide) rfl rfl rfl rfl rfl ?_
    refine gM_vret hC hM hQ rfl dX3_began_29 h.2
theorem mm_began (l : Launch) (E : ME) (hI : mInj E) (Q : MS → Prop) (J : MS) (x1 : Int32) (h : wm_began Q J x1) : MMet E l yX3_began cX3_began 2 none ({ frames := 1, cells := 0, slots := 0, locals := 16 }) [.ref (me_a E 54), .int x1] J (va_Qv Q (BM E) (mA E)) :=
  MMet_of hI (by decide) rfl (Nat.le_of_ble_eq_true rfl) (L0 := [some (.ref (me_a E 54)), some (.int x1)]) rfl (fun C hC hM hl hQ => bm_began E C Q J x1 hC hM hQ h)
/-! sizeHeld -/
def wm_sizeHeld_54 (Q : Int32 → MS → Prop) (J : MS) (a2 : Int32) (s0 : Int32) (s1 : Int32) : Prop :=
  (if a2 = (2 : Int32) then Q ((2 : Int32) * (s0 + s1)) J else Q (s0 + s1) J)
def wm_sizeHeld_25 (Q : Int32 → MS → Prop) (J : MS) (a1 : Int32) (a2 : Int32) : Prop :=
  wm_began (fun J3 => wm_of (fun r6 J5 => wm_isOf (fun r8 J7 => (if r8 = 0 then wm_sizeHeld_54 Q J7 a2 r6 (0 : Int32) else wm_priceOf (fun r10 J9 => wm_sizeHeld_54 Q J9 a2 r6 r10) J7 a1)) J5 a2 (1 : Int32)) J3 a1 (5 : Int32)) J (10 : Int32)
def wm_sizeHeld_11 (Q : Int32 → MS → Prop) (J : MS) (a1 : Int32) (a2 : Int32) : Prop :=
  wm_isOf (fun r2 J1 => (if r2 = 0 then wm_sizeHeld_25 Q J1 a1 a2 else wm_began (fun J11 => wm_sizeHeld_25 Q J11 a1 a2) J1 (11 : Int32))) J a2 (1 : Int32)
def wm_sizeHeld (Q : Int32 → MS → Prop) (J : MS) (x1 : Int32) (x2 : Int32) : Prop :=
  (if x2 = (2 : Int32) then wm_began (fun J13 => wm_sizeHeld_11 Q J13 x1 x2) J (12 : Int32) else wm_sizeHeld_11 Q J x1 x2)
theorem hd_sizeHeld : yX3_sizeHeld.cls = RX3 ∧ yX3_sizeHeld.cls ≠ "java/lang/invoke/MethodHandle" ∧ yX3_sizeHeld.cls ≠ "java/lang/invoke/VarHandle" ∧ (parseMethodDescriptor yX3_sizeHeld.desc).map (fun d => d.parameters.length) = some 2 := by decide +kernel
set_option maxHeartbeats 4000000 in
set_option maxRecDepth 100000 in
theorem bm_sizeHeld (E : ME) (C : Cx) (Q : Int32 → MS → Prop) (J : MS) (x1 : Int32) (x2 : Int32) (hC : COk C cX3_sizeHeld RX3 (some .int) 3 61 4) (hM : MOk E C) (hQ : cx_Q C = MQ (cx_b C) (va_Qi Q (BM E) (mA E)) (cx_a C) (cx_s C) (cx_MC C) (cx_MS C) (mA E)) (h : wm_sizeHeld Q J x1 x2) : GM E C J 0 [some (.ref (me_a E 54)), some (.int x1), some (.int x2), none] [] := by
  have s_54 : ∀ (J : MS) (a2 : Int32) (s0 : Int32) (s1 : Int32), wm_sizeHeld_54 Q  J a2 s0 s1 → GM E C J 54 [some (.ref (me_a E 54)), none, some (.int a2), none] [.int s1, .int s0] := by
    intro  J a2 s0 s1 h
    refine g_iadd hC dX3_sizeHeld_54 ?_
    refine g_istore_n hC dX3_sizeHeld_55 rfl (by decide) rfl rfl ?_
    refine g_iload_n hC dX3_sizeHeld_56 rfl ?_
    refine g_iconst (v := 2) hC dX3_sizeHeld_57 (by decide) ?_
    refine g_icmp_ne (tgt := 67) hC dX3_sizeHeld_58 (by decide) (fun c => ?_) (fun c => ?_)
    · have h := it_n c h
      refine g_iload_n hC dX3_sizeHeld_67 rfl ?_
      refine gM_iret hC hM hQ rfl dX3_sizeHeld_68 h
    · have h := it_p c h
      refine g_iconst (v := 2) hC dX3_sizeHeld_61 (by decide) ?_
      refine g_iload_n hC dX3_sizeHeld_62 rfl ?_
      refine g_imul hC dX3_sizeHeld_63 ?_
      refine g_goto (tgt := 68) hC dX3_sizeHeld_64 (by decide) ?_
      refine gM_iret hC hM hQ rfl dX3_sizeHeld_68 h
  have s_25 : ∀ (J : MS) (a1 : Int32) (a2 : Int32), wm_sizeHeld_25 Q  J a1 a2 → GM E C J 25 [some (.ref (me_a E 54)), some (.int a1), some (.int a2), none] [] := by
    intro  J a1 a2 h
    refine g_aload_n hC dX3_sizeHeld_25 rfl ?_
    refine g_bipush (v := 10) hC dX3_sizeHeld_26 (by decide) ?_
    refine gM_Vv (As := [.int (10 : Int32)]) (rest := []) hC hM (mm_began (cx_l C) E hM.2.1 _ _ _ h) (lw_V q1967 q1969 qs67 q76 q1970) hd_began rfl rfl (Nat.le_of_ble_eq_true rfl) ⟨Nat.le_of_ble_eq_true rfl, Nat.le_of_ble_eq_true rfl⟩ dX3_sizeHeld_28 ?_
    intro J3 h
    refine g_aload_n hC dX3_sizeHeld_31 rfl ?_
    refine g_iload_n hC dX3_sizeHeld_32 rfl ?_
    refine g_iconst (v := 5) hC dX3_sizeHeld_33 (by decide) ?_
    refine gM_Vi (As := [.int a1, .int (5 : Int32)]) (rest := []) hC hM (mm_of (cx_l C) E hM.2.1 _ _ _ _ h) (lw_V q1814 q1816 qs51 q76 q1817) hd_of rfl rfl (Nat.le_of_ble_eq_true rfl) ⟨Nat.le_of_ble_eq_true rfl, Nat.le_of_ble_eq_true rfl⟩ dX3_sizeHeld_34 ?_
    intro r6 J5 h
    refine g_iload_n hC dX3_sizeHeld_37 rfl ?_
    refine g_iconst (v := 1) hC dX3_sizeHeld_38 (by decide) ?_
    refine gM_Si (As := [.int a2, .int (1 : Int32)]) (rest := [.int r6]) hC hM (mm_isOf (cx_l C) E hM.2.1 _ _ _ _ h) (lw_S q1952 q1953 q76 q1954) hd_isOf rfl rfl (Nat.le_of_ble_eq_true rfl) ⟨Nat.le_of_ble_eq_true rfl, Nat.le_of_ble_eq_true rfl⟩ dX3_sizeHeld_39 ?_
    intro r8 J7 h
    refine g_if_eq (tgt := 53) hC dX3_sizeHeld_42 (by decide) (fun c => ?_) (fun c => ?_)
    · have h := it_p c h
      refine g_iconst (v := 0) hC dX3_sizeHeld_53 (by decide) ?_
      refine g_sub [true, false, true, false] rfl ?_
      exact s_54 J7 a2 r6 (0 : Int32) h
    · have h := it_n c h
      refine g_aload_n hC dX3_sizeHeld_45 rfl ?_
      refine g_iload_n hC dX3_sizeHeld_46 rfl ?_
      refine gM_Vi (As := [.int a1]) (rest := [.int r6]) hC hM (mm_priceOf (cx_l C) E hM.2.1 _ _ _ h) (lw_V q1823 q1825 qs52 q76 q1826) hd_priceOf rfl rfl (Nat.le_of_ble_eq_true rfl) ⟨Nat.le_of_ble_eq_true rfl, Nat.le_of_ble_eq_true rfl⟩ dX3_sizeHeld_47 ?_
      intro r10 J9 h
      refine g_goto (tgt := 54) hC dX3_sizeHeld_50 (by decide) ?_
      refine g_sub [true, false, true, false] rfl ?_
      exact s_54 J9 a2 r6 r10 h
  have s_11 : ∀ (J : MS) (a1 : Int32) (a2 : Int32), wm_sizeHeld_11 Q  J a1 a2 → GM E C J 11 [some (.ref (me_a E 54)), some (.int a1), some (.int a2), none] [] := by
    intro  J a1 a2 h
    refine g_iload_n hC dX3_sizeHeld_11 rfl ?_
    refine g_iconst (v := 1) hC dX3_sizeHeld_12 (by decide) ?_
    refine gM_Si (As := [.int a2, .int (1 : Int32)]) (rest := []) hC hM (mm_isOf (cx_l C) E hM.2.1 _ _ _ _ h) (lw_S q1952 q1953 q76 q1954) hd_isOf rfl rfl (Nat.le_of_ble_eq_true rfl) ⟨Nat.le_of_ble_eq_true rfl, Nat.le_of_ble_eq_true rfl⟩ dX3_sizeHeld_13 ?_
    intro r2 J1 h
    refine g_if_eq (tgt := 25) hC dX3_sizeHeld_16 (by decide) (fun c => ?_) (fun c => ?_)
    · have h := it_p c h
      exact s_25 J1 a1 a2 h
    · have h := it_n c h
      refine g_aload_n hC dX3_sizeHeld_19 rfl ?_
      refine g_bipush (v := 11) hC dX3_sizeHeld_20 (by decide) ?_
      refine gM_Vv (As := [.int (11 : Int32)]) (rest := []) hC hM (mm_began (cx_l C) E hM.2.1 _ _ _ h) (lw_V q1967 q1969 qs67 q76 q1970) hd_began rfl rfl (Nat.le_of_ble_eq_true rfl) ⟨Nat.le_of_ble_eq_true rfl, Nat.le_of_ble_eq_true rfl⟩ dX3_sizeHeld_22 ?_
      intro J11 h
      exact s_25 J11 a1 a2 h
  refine g_iload_n hC dX3_sizeHeld_0 rfl ?_
  refine g_iconst (v := 2) hC dX3_sizeHeld_1 (by decide) ?_
  refine g_icmp_ne (tgt := 11) hC dX3_sizeHeld_2 (by decide) (fun c => ?_) (fun c => ?_)
  · have h := it_n c h
    exact s_11 J x1 x2 h
  · have h := it_p c h
    refine g_aload_n hC dX3_sizeHeld_5 rfl ?_
    refine g_bipush (v := 12) hC dX3_sizeHeld_6 (by decide) ?_
    refine gM_Vv (As := [.int (12 : Int32)]) (rest := []) hC hM (mm_began (cx_l C) E hM.2.1 _ _ _ h) (lw_V q1967 q1969 qs67 q76 q1970) hd_began rfl rfl (Nat.le_of_ble_eq_true rfl) ⟨Nat.le_of_ble_eq_true rfl, Nat.le_of_ble_eq_true rfl⟩ dX3_sizeHeld_8 ?_
    intro J13 h
    exact s_11 J13 x1 x2 h
theorem mm_sizeHeld (l : Launch) (E : ME) (hI : mInj E) (Q : Int32 → MS → Prop) (J : MS) (x1 : Int32) (x2 : Int32) (h : wm_sizeHeld Q J x1 x2) : MMet E l yX3_sizeHeld cX3_sizeHeld 4 (some .int) ({ frames := 3, cells := 0, slots := 0, locals := 61 }) [.ref (me_a E 54), .int x1, .int x2] J (va_Qi Q (BM E) (mA E)) :=
  MMet_of hI (by decide) rfl (Nat.le_of_ble_eq_true rfl) (L0 := [some (.ref (me_a E 54)), some (.int x1), some (.int x2), none]) rfl (fun C hC hM hl hQ => bm_sizeHeld E C Q J x1 x2 hC hM hQ h)
/-! markOf -/
def wm_markOf_79 (Q : Int32 → MS → Prop) (J : MS) (a1 : Int32) (a2 : Int32) (a3 : Int32) : Prop :=
  wm_sizeHeld (fun r10 J9 => Q (a3 + r10) J9) J a1 a2
def wm_markOf_67 (Q : Int32 → MS → Prop) (J : MS) (a1 : Int32) (a2 : Int32) (s0 : Int32) (s1 : Int32) : Prop :=
  (if a2 = (2 : Int32) then wm_markOf_79 Q J a1 a2 (s0 + s1) else (if a2 = (4 : Int32) then wm_markOf_79 Q J a1 a2 (s0 + s1) else Q (s0 + s1) J))
def wm_markOf_36 (Q : Int32 → MS → Prop) (J : MS) (a1 : Int32) (a2 : Int32) : Prop :=
  wm_began (fun J3 => wm_of (fun r6 J5 => wm_isOf (fun r8 J7 => (if r8 = 0 then wm_markOf_67 Q J7 a1 a2 r6 (0 : Int32) else wm_of (fun r12 J11 => wm_markOf_67 Q J11 a1 a2 r6 r12) J7 a1 (2 : Int32))) J5 a2 (1 : Int32)) J3 a1 (6 : Int32)) J (20 : Int32)
def wm_markOf_25 (Q : Int32 → MS → Prop) (J : MS) (a1 : Int32) (a2 : Int32) : Prop :=
  (if a2 = (4 : Int32) then wm_began (fun J13 => wm_markOf_36 Q J13 a1 a2) J (23 : Int32) else wm_markOf_36 Q J a1 a2)
def wm_markOf_11 (Q : Int32 → MS → Prop) (J : MS) (a1 : Int32) (a2 : Int32) : Prop :=
  wm_isOf (fun r2 J1 => (if r2 = 0 then wm_markOf_25 Q J1 a1 a2 else wm_began (fun J15 => wm_markOf_25 Q J15 a1 a2) J1 (21 : Int32))) J a2 (1 : Int32)
def wm_markOf (Q : Int32 → MS → Prop) (J : MS) (x1 : Int32) (x2 : Int32) : Prop :=
  (if x2 = (2 : Int32) then wm_began (fun J17 => wm_markOf_11 Q J17 x1 x2) J (22 : Int32) else wm_markOf_11 Q J x1 x2)
theorem hd_markOf : yX3_markOf.cls = RX3 ∧ yX3_markOf.cls ≠ "java/lang/invoke/MethodHandle" ∧ yX3_markOf.cls ≠ "java/lang/invoke/VarHandle" ∧ (parseMethodDescriptor yX3_markOf.desc).map (fun d => d.parameters.length) = some 2 := by decide +kernel
set_option maxHeartbeats 4000000 in
set_option maxRecDepth 100000 in
theorem bm_markOf (E : ME) (C : Cx) (Q : Int32 → MS → Prop) (J : MS) (x1 : Int32) (x2 : Int32) (hC : COk C cX3_markOf RX3 (some .int) 4 84 4) (hM : MOk E C) (hQ : cx_Q C = MQ (cx_b C) (va_Qi Q (BM E) (mA E)) (cx_a C) (cx_s C) (cx_MC C) (cx_MS C) (mA E)) (h : wm_markOf Q J x1 x2) : GM E C J 0 [some (.ref (me_a E 54)), some (.int x1), some (.int x2), none] [] := by
  have s_79 : ∀ (J : MS) (a1 : Int32) (a2 : Int32) (a3 : Int32), wm_markOf_79 Q  J a1 a2 a3 → GM E C J 79 [some (.ref (me_a E 54)), some (.int a1), some (.int a2), some (.int a3)] [] := by
    intro  J a1 a2 a3 h
    refine g_iload_n hC dX3_markOf_79 rfl ?_
    refine g_aload_n hC dX3_markOf_80 rfl ?_
    refine g_iload_n hC dX3_markOf_81 rfl ?_
    refine g_iload_n hC dX3_markOf_82 rfl ?_
    refine gM_Vi (As := [.int a1, .int a2]) (rest := [.int a3]) hC hM (mm_sizeHeld (cx_l C) E hM.2.1 _ _ _ _ h) (lw_V q1963 q1965 qs66 q76 q1966) hd_sizeHeld rfl rfl (Nat.le_of_ble_eq_true rfl) ⟨Nat.le_of_ble_eq_true rfl, Nat.le_of_ble_eq_true rfl⟩ dX3_markOf_83 ?_
    intro r10 J9 h
    refine g_iadd hC dX3_markOf_86 ?_
    refine g_goto (tgt := 91) hC dX3_markOf_87 (by decide) ?_
    refine gM_iret hC hM hQ rfl dX3_markOf_91 h
  have s_67 : ∀ (J : MS) (a1 : Int32) (a2 : Int32) (s0 : Int32) (s1 : Int32), wm_markOf_67 Q  J a1 a2 s0 s1 → GM E C J 67 [some (.ref (me_a E 54)), some (.int a1), some (.int a2), none] [.int s1, .int s0] := by
    intro  J a1 a2 s0 s1 h
    refine g_iadd hC dX3_markOf_67 ?_
    refine g_istore_n hC dX3_markOf_68 rfl (by decide) rfl rfl ?_
    refine g_iload_n hC dX3_markOf_69 rfl ?_
    refine g_iconst (v := 2) hC dX3_markOf_70 (by decide) ?_
    refine g_icmp_eq (tgt := 79) hC dX3_markOf_71 (by decide) (fun c => ?_) (fun c => ?_)
    · have h := it_p c h
      exact s_79 J a1 a2 (s0 + s1) h
    · have h := it_n c h
      refine g_iload_n hC dX3_markOf_74 rfl ?_
      refine g_iconst (v := 4) hC dX3_markOf_75 (by decide) ?_
      refine g_icmp_ne (tgt := 90) hC dX3_markOf_76 (by decide) (fun c => ?_) (fun c => ?_)
      · have h := it_n c h
        refine g_iload_n hC dX3_markOf_90 rfl ?_
        refine gM_iret hC hM hQ rfl dX3_markOf_91 h
      · have h := it_p c h
        exact s_79 J a1 a2 (s0 + s1) h
  have s_36 : ∀ (J : MS) (a1 : Int32) (a2 : Int32), wm_markOf_36 Q  J a1 a2 → GM E C J 36 [some (.ref (me_a E 54)), some (.int a1), some (.int a2), none] [] := by
    intro  J a1 a2 h
    refine g_aload_n hC dX3_markOf_36 rfl ?_
    refine g_bipush (v := 20) hC dX3_markOf_37 (by decide) ?_
    refine gM_Vv (As := [.int (20 : Int32)]) (rest := []) hC hM (mm_began (cx_l C) E hM.2.1 _ _ _ h) (lw_V q1967 q1969 qs67 q76 q1970) hd_began rfl rfl (Nat.le_of_ble_eq_true rfl) ⟨Nat.le_of_ble_eq_true rfl, Nat.le_of_ble_eq_true rfl⟩ dX3_markOf_39 ?_
    intro J3 h
    refine g_aload_n hC dX3_markOf_42 rfl ?_
    refine g_iload_n hC dX3_markOf_43 rfl ?_
    refine g_bipush (v := 6) hC dX3_markOf_44 (by decide) ?_
    refine gM_Vi (As := [.int a1, .int (6 : Int32)]) (rest := []) hC hM (mm_of (cx_l C) E hM.2.1 _ _ _ _ h) (lw_V q1814 q1816 qs51 q76 q1817) hd_of rfl rfl (Nat.le_of_ble_eq_true rfl) ⟨Nat.le_of_ble_eq_true rfl, Nat.le_of_ble_eq_true rfl⟩ dX3_markOf_46 ?_
    intro r6 J5 h
    refine g_iload_n hC dX3_markOf_49 rfl ?_
    refine g_iconst (v := 1) hC dX3_markOf_50 (by decide) ?_
    refine gM_Si (As := [.int a2, .int (1 : Int32)]) (rest := [.int r6]) hC hM (mm_isOf (cx_l C) E hM.2.1 _ _ _ _ h) (lw_S q1952 q1953 q76 q1954) hd_isOf rfl rfl (Nat.le_of_ble_eq_true rfl) ⟨Nat.le_of_ble_eq_true rfl, Nat.le_of_ble_eq_true rfl⟩ dX3_markOf_51 ?_
    intro r8 J7 h
    refine g_if_eq (tgt := 66) hC dX3_markOf_54 (by decide) (fun c => ?_) (fun c => ?_)
    · have h := it_p c h
      refine g_iconst (v := 0) hC dX3_markOf_66 (by decide) ?_
      exact s_67 J7 a1 a2 r6 (0 : Int32) h
    · have h := it_n c h
      refine g_aload_n hC dX3_markOf_57 rfl ?_
      refine g_iload_n hC dX3_markOf_58 rfl ?_
      refine g_iconst (v := 2) hC dX3_markOf_59 (by decide) ?_
      refine gM_Vi (As := [.int a1, .int (2 : Int32)]) (rest := [.int r6]) hC hM (mm_of (cx_l C) E hM.2.1 _ _ _ _ h) (lw_V q1814 q1816 qs51 q76 q1817) hd_of rfl rfl (Nat.le_of_ble_eq_true rfl) ⟨Nat.le_of_ble_eq_true rfl, Nat.le_of_ble_eq_true rfl⟩ dX3_markOf_60 ?_
      intro r12 J11 h
      refine g_goto (tgt := 67) hC dX3_markOf_63 (by decide) ?_
      exact s_67 J11 a1 a2 r6 r12 h
  have s_25 : ∀ (J : MS) (a1 : Int32) (a2 : Int32), wm_markOf_25 Q  J a1 a2 → GM E C J 25 [some (.ref (me_a E 54)), some (.int a1), some (.int a2), none] [] := by
    intro  J a1 a2 h
    refine g_iload_n hC dX3_markOf_25 rfl ?_
    refine g_iconst (v := 4) hC dX3_markOf_26 (by decide) ?_
    refine g_icmp_ne (tgt := 36) hC dX3_markOf_27 (by decide) (fun c => ?_) (fun c => ?_)
    · have h := it_n c h
      exact s_36 J a1 a2 h
    · have h := it_p c h
      refine g_aload_n hC dX3_markOf_30 rfl ?_
      refine g_bipush (v := 23) hC dX3_markOf_31 (by decide) ?_
      refine gM_Vv (As := [.int (23 : Int32)]) (rest := []) hC hM (mm_began (cx_l C) E hM.2.1 _ _ _ h) (lw_V q1967 q1969 qs67 q76 q1970) hd_began rfl rfl (Nat.le_of_ble_eq_true rfl) ⟨Nat.le_of_ble_eq_true rfl, Nat.le_of_ble_eq_true rfl⟩ dX3_markOf_33 ?_
      intro J13 h
      exact s_36 J13 a1 a2 h
  have s_11 : ∀ (J : MS) (a1 : Int32) (a2 : Int32), wm_markOf_11 Q  J a1 a2 → GM E C J 11 [some (.ref (me_a E 54)), some (.int a1), some (.int a2), none] [] := by
    intro  J a1 a2 h
    refine g_iload_n hC dX3_markOf_11 rfl ?_
    refine g_iconst (v := 1) hC dX3_markOf_12 (by decide) ?_
    refine gM_Si (As := [.int a2, .int (1 : Int32)]) (rest := []) hC hM (mm_isOf (cx_l C) E hM.2.1 _ _ _ _ h) (lw_S q1952 q1953 q76 q1954) hd_isOf rfl rfl (Nat.le_of_ble_eq_true rfl) ⟨Nat.le_of_ble_eq_true rfl, Nat.le_of_ble_eq_true rfl⟩ dX3_markOf_13 ?_
    intro r2 J1 h
    refine g_if_eq (tgt := 25) hC dX3_markOf_16 (by decide) (fun c => ?_) (fun c => ?_)
    · have h := it_p c h
      exact s_25 J1 a1 a2 h
    · have h := it_n c h
      refine g_aload_n hC dX3_markOf_19 rfl ?_
      refine g_bipush (v := 21) hC dX3_markOf_20 (by decide) ?_
      refine gM_Vv (As := [.int (21 : Int32)]) (rest := []) hC hM (mm_began (cx_l C) E hM.2.1 _ _ _ h) (lw_V q1967 q1969 qs67 q76 q1970) hd_began rfl rfl (Nat.le_of_ble_eq_true rfl) ⟨Nat.le_of_ble_eq_true rfl, Nat.le_of_ble_eq_true rfl⟩ dX3_markOf_22 ?_
      intro J15 h
      exact s_25 J15 a1 a2 h
  refine g_iload_n hC dX3_markOf_0 rfl ?_
  refine g_iconst (v := 2) hC dX3_markOf_1 (by decide) ?_
  refine g_icmp_ne (tgt := 11) hC dX3_markOf_2 (by decide) (fun c => ?_) (fun c => ?_)
  · have h := it_n c h
    exact s_11 J x1 x2 h
  · have h := it_p c h
    refine g_aload_n hC dX3_markOf_5 rfl ?_
    refine g_bipush (v := 22) hC dX3_markOf_6 (by decide) ?_
    refine gM_Vv (As := [.int (22 : Int32)]) (rest := []) hC hM (mm_began (cx_l C) E hM.2.1 _ _ _ h) (lw_V q1967 q1969 qs67 q76 q1970) hd_began rfl rfl (Nat.le_of_ble_eq_true rfl) ⟨Nat.le_of_ble_eq_true rfl, Nat.le_of_ble_eq_true rfl⟩ dX3_markOf_8 ?_
    intro J17 h
    exact s_11 J17 x1 x2 h
theorem mm_markOf (l : Launch) (E : ME) (hI : mInj E) (Q : Int32 → MS → Prop) (J : MS) (x1 : Int32) (x2 : Int32) (h : wm_markOf Q J x1 x2) : MMet E l yX3_markOf cX3_markOf 4 (some .int) ({ frames := 4, cells := 0, slots := 0, locals := 84 }) [.ref (me_a E 54), .int x1, .int x2] J (va_Qi Q (BM E) (mA E)) :=
  MMet_of hI (by decide) rfl (Nat.le_of_ble_eq_true rfl) (L0 := [some (.ref (me_a E 54)), some (.int x1), some (.int x2), none]) rfl (fun C hC hM hl hQ => bm_markOf E C Q J x1 x2 hC hM hQ h)
/-! sizeOf -/
def wm_sizeOf (Q : Int32 → MS → Prop) (J : MS) (x1 : Int32) (x2 : Int32) : Prop :=
  (if x2 = (3 : Int32) then wm_began (fun J1 => wm_began (fun J3 => wm_of (fun r6 J5 => wm_markOf (fun r8 J7 => Q (r6 - r8) J7) J5 x1 x2) J3 x1 (5 : Int32)) J1 (10 : Int32)) J (13 : Int32) else wm_sizeHeld (fun r10 J9 => Q r10 J9) J x1 x2)
theorem hd_sizeOf : yX3_sizeOf.cls = RX3 ∧ yX3_sizeOf.cls ≠ "java/lang/invoke/MethodHandle" ∧ yX3_sizeOf.cls ≠ "java/lang/invoke/VarHandle" ∧ (parseMethodDescriptor yX3_sizeOf.desc).map (fun d => d.parameters.length) = some 2 := by decide +kernel
set_option maxHeartbeats 4000000 in
set_option maxRecDepth 100000 in
theorem bm_sizeOf (E : ME) (C : Cx) (Q : Int32 → MS → Prop) (J : MS) (x1 : Int32) (x2 : Int32) (hC : COk C cX3_sizeOf RX3 (some .int) 5 107 3) (hM : MOk E C) (hQ : cx_Q C = MQ (cx_b C) (va_Qi Q (BM E) (mA E)) (cx_a C) (cx_s C) (cx_MC C) (cx_MS C) (mA E)) (h : wm_sizeOf Q J x1 x2) : GM E C J 0 [some (.ref (me_a E 54)), some (.int x1), some (.int x2)] [] := by
  refine g_iload_n hC dX3_sizeOf_0 rfl ?_
  refine g_iconst (v := 3) hC dX3_sizeOf_1 (by decide) ?_
  refine g_icmp_eq (tgt := 12) hC dX3_sizeOf_2 (by decide) (fun c => ?_) (fun c => ?_)
  · have h := it_p c h
    refine g_aload_n hC dX3_sizeOf_12 rfl ?_
    refine g_bipush (v := 13) hC dX3_sizeOf_13 (by decide) ?_
    refine gM_Vv (As := [.int (13 : Int32)]) (rest := []) hC hM (mm_began (cx_l C) E hM.2.1 _ _ _ h) (lw_V q1967 q1969 qs67 q76 q1970) hd_began rfl rfl (Nat.le_of_ble_eq_true rfl) ⟨Nat.le_of_ble_eq_true rfl, Nat.le_of_ble_eq_true rfl⟩ dX3_sizeOf_15 ?_
    intro J1 h
    refine g_aload_n hC dX3_sizeOf_18 rfl ?_
    refine g_bipush (v := 10) hC dX3_sizeOf_19 (by decide) ?_
    refine gM_Vv (As := [.int (10 : Int32)]) (rest := []) hC hM (mm_began (cx_l C) E hM.2.1 _ _ _ h) (lw_V q1967 q1969 qs67 q76 q1970) hd_began rfl rfl (Nat.le_of_ble_eq_true rfl) ⟨Nat.le_of_ble_eq_true rfl, Nat.le_of_ble_eq_true rfl⟩ dX3_sizeOf_21 ?_
    intro J3 h
    refine g_aload_n hC dX3_sizeOf_24 rfl ?_
    refine g_iload_n hC dX3_sizeOf_25 rfl ?_
    refine g_iconst (v := 5) hC dX3_sizeOf_26 (by decide) ?_
    refine gM_Vi (As := [.int x1, .int (5 : Int32)]) (rest := []) hC hM (mm_of (cx_l C) E hM.2.1 _ _ _ _ h) (lw_V q1814 q1816 qs51 q76 q1817) hd_of rfl rfl (Nat.le_of_ble_eq_true rfl) ⟨Nat.le_of_ble_eq_true rfl, Nat.le_of_ble_eq_true rfl⟩ dX3_sizeOf_27 ?_
    intro r6 J5 h
    refine g_aload_n hC dX3_sizeOf_30 rfl ?_
    refine g_iload_n hC dX3_sizeOf_31 rfl ?_
    refine g_iload_n hC dX3_sizeOf_32 rfl ?_
    refine gM_Vi (As := [.int x1, .int x2]) (rest := [.int r6]) hC hM (mm_markOf (cx_l C) E hM.2.1 _ _ _ _ h) (lw_V q1971 q1973 qs68 q76 q1974) hd_markOf rfl rfl (Nat.le_of_ble_eq_true rfl) ⟨Nat.le_of_ble_eq_true rfl, Nat.le_of_ble_eq_true rfl⟩ dX3_sizeOf_33 ?_
    intro r8 J7 h
    refine g_isub hC dX3_sizeOf_36 ?_
    refine gM_iret hC hM hQ rfl dX3_sizeOf_37 h
  · have h := it_n c h
    refine g_aload_n hC dX3_sizeOf_5 rfl ?_
    refine g_iload_n hC dX3_sizeOf_6 rfl ?_
    refine g_iload_n hC dX3_sizeOf_7 rfl ?_
    refine gM_Vi (As := [.int x1, .int x2]) (rest := []) hC hM (mm_sizeHeld (cx_l C) E hM.2.1 _ _ _ _ h) (lw_V q1963 q1965 qs66 q76 q1966) hd_sizeHeld rfl rfl (Nat.le_of_ble_eq_true rfl) ⟨Nat.le_of_ble_eq_true rfl, Nat.le_of_ble_eq_true rfl⟩ dX3_sizeOf_8 ?_
    intro r10 J9 h
    refine gM_iret hC hM hQ rfl dX3_sizeOf_11 h
theorem mm_sizeOf (l : Launch) (E : ME) (hI : mInj E) (Q : Int32 → MS → Prop) (J : MS) (x1 : Int32) (x2 : Int32) (h : wm_sizeOf Q J x1 x2) : MMet E l yX3_sizeOf cX3_sizeOf 3 (some .int) ({ frames := 5, cells := 0, slots := 0, locals := 107 }) [.ref (me_a E 54), .int x1, .int x2] J (va_Qi Q (BM E) (mA E)) :=
  MMet_of hI (by decide) rfl (Nat.le_of_ble_eq_true rfl) (L0 := [some (.ref (me_a E 54)), some (.int x1), some (.int x2)]) rfl (fun C hC hM hl hQ => bm_sizeOf E C Q J x1 x2 hC hM hQ h)
/-! ask -/
def wm_ask (Q : Int32 → MS → Prop) (J : MS) (x1 : Int32) (x2 : Int32) : Prop :=
  wm_isBooking (fun r2 J1 => (if r2 = 0 then Q (-1000001 : Int32) J1 else wm_in (fun r4 J3 => (if r4 = 0 then Q (-1000001 : Int32) J3 else wm_kindOf (fun r6 J5 => (if x2 = 0 then wm_sizeOf (fun r10 J9 => Q r10 J9) J5 x1 r6 else wm_markOf (fun r8 J7 => Q r8 J7) J5 x1 r6)) (mset J3 53 0 (0 : Int32)) x1)) J1 (Int32.toInt64 x2) (0 : Int64) (1 : Int64))) (mset J 0 0 (0 : Int32)) x1
theorem hd_ask : yX3_ask.cls = RX3 ∧ yX3_ask.cls ≠ "java/lang/invoke/MethodHandle" ∧ yX3_ask.cls ≠ "java/lang/invoke/VarHandle" ∧ (parseMethodDescriptor yX3_ask.desc).map (fun d => d.parameters.length) = some 2 := by decide +kernel
set_option maxHeartbeats 4000000 in
set_option maxRecDepth 100000 in
theorem bm_ask (E : ME) (C : Cx) (Q : Int32 → MS → Prop) (J : MS) (x1 : Int32) (x2 : Int32) (hC : COk C cX3_ask RX3 (some .int) 6 131 4) (hM : MOk E C) (hQ : cx_Q C = MQ (cx_b C) (va_Qi Q (BM E) (mA E)) (cx_a C) (cx_s C) (cx_MC C) (cx_MS C) (mA E)) (h : wm_ask Q J x1 x2) : GM E C J 0 [some (.ref (me_a E 54)), some (.int x1), some (.int x2), none] [] := by
  refine g_aload_n hC dX3_ask_0 rfl ?_
  refine g_iconst (v := 0) hC dX3_ask_1 (by decide) ?_
  refine gM_put hC hM 0 (ty := .int) dX3_ask_2 q1503 (by decide) (by decide) rfl rfl rfl rfl rfl ?_
  refine g_aload_n hC dX3_ask_5 rfl ?_
  refine g_iload_n hC dX3_ask_6 rfl ?_
  refine gM_Vi (As := [.int x1]) (rest := []) hC hM (mm_isBooking (cx_l C) E hM.2.1 _ _ _ h) (lw_V q1810 q1812 qs50 q76 q1813) hd_isBooking rfl rfl (Nat.le_of_ble_eq_true rfl) ⟨Nat.le_of_ble_eq_true rfl, Nat.le_of_ble_eq_true rfl⟩ dX3_ask_7 ?_
  intro r2 J1 h
  refine g_if_eq (tgt := 23) hC dX3_ask_10 (by decide) (fun c => ?_) (fun c => ?_)
  · have h := it_p c h
    refine g_ldc (v := -1000001) hC dX3_ask_23 q1679 ?_
    refine gM_iret hC hM hQ rfl dX3_ask_25 h
  · have h := it_n c h
    refine g_iload_n hC dX3_ask_13 rfl ?_
    refine g_i2l hC dX3_ask_14 ?_
    refine g_lconst (v := 0) hC dX3_ask_15 (by decide) ?_
    refine g_lconst (v := 1) hC dX3_ask_16 (by decide) ?_
    refine gM_Si (As := [.long (Int32.toInt64 x2), .long (0 : Int64), .long (1 : Int64)]) (rest := []) hC hM (mm_in (cx_l C) E hM.2.1 _ _ _ _ _ h) (lw_S q1675 q1676 q76 q1677) hd_in rfl rfl (Nat.le_of_ble_eq_true rfl) ⟨Nat.le_of_ble_eq_true rfl, Nat.le_of_ble_eq_true rfl⟩ dX3_ask_17 ?_
    intro r4 J3 h
    refine g_if_ne (tgt := 26) hC dX3_ask_20 (by decide) (fun c => ?_) (fun c => ?_)
    · have h := it_n c h
      refine g_aload_n hC dX3_ask_26 rfl ?_
      refine g_iconst (v := 0) hC dX3_ask_27 (by decide) ?_
      refine gM_put hC hM 53 (ty := .int) dX3_ask_28 q1556 (by decide) (by decide) rfl rfl rfl rfl rfl ?_
      refine g_aload_n hC dX3_ask_31 rfl ?_
      refine g_iload_n hC dX3_ask_32 rfl ?_
      refine gM_Vi (As := [.int x1]) (rest := []) hC hM (mm_kindOf (cx_l C) E hM.2.1 _ _ _ h) (lw_V q1944 q1946 qs64 q76 q1947) hd_kindOf rfl rfl (Nat.le_of_ble_eq_true rfl) ⟨Nat.le_of_ble_eq_true rfl, Nat.le_of_ble_eq_true rfl⟩ dX3_ask_33 ?_
      intro r6 J5 h
      refine g_istore_n hC dX3_ask_36 rfl (by decide) rfl rfl ?_
      refine g_iload_n hC dX3_ask_37 rfl ?_
      refine g_if_ne (tgt := 50) hC dX3_ask_38 (by decide) (fun c => ?_) (fun c => ?_)
      · have h := it_n c h
        refine g_aload_n hC dX3_ask_50 rfl ?_
        refine g_iload_n hC dX3_ask_51 rfl ?_
        refine g_iload_n hC dX3_ask_52 rfl ?_
        refine gM_Vi (As := [.int x1, .int r6]) (rest := []) hC hM (mm_markOf (cx_l C) E hM.2.1 _ _ _ _ h) (lw_V q1971 q1973 qs68 q76 q1974) hd_markOf rfl rfl (Nat.le_of_ble_eq_true rfl) ⟨Nat.le_of_ble_eq_true rfl, Nat.le_of_ble_eq_true rfl⟩ dX3_ask_53 ?_
        intro r8 J7 h
        refine gM_iret hC hM hQ rfl dX3_ask_56 h
      · have h := it_p c h
        refine g_aload_n hC dX3_ask_41 rfl ?_
        refine g_iload_n hC dX3_ask_42 rfl ?_
        refine g_iload_n hC dX3_ask_43 rfl ?_
        refine gM_Vi (As := [.int x1, .int r6]) (rest := []) hC hM (mm_sizeOf (cx_l C) E hM.2.1 _ _ _ _ h) (lw_V q1959 q1961 qs65 q76 q1962) hd_sizeOf rfl rfl (Nat.le_of_ble_eq_true rfl) ⟨Nat.le_of_ble_eq_true rfl, Nat.le_of_ble_eq_true rfl⟩ dX3_ask_44 ?_
        intro r10 J9 h
        refine g_goto (tgt := 56) hC dX3_ask_47 (by decide) ?_
        refine gM_iret hC hM hQ rfl dX3_ask_56 h
    · have h := it_p c h
      refine g_ldc (v := -1000001) hC dX3_ask_23 q1679 ?_
      refine gM_iret hC hM hQ rfl dX3_ask_25 h
theorem mm_ask (l : Launch) (E : ME) (hI : mInj E) (Q : Int32 → MS → Prop) (J : MS) (x1 : Int32) (x2 : Int32) (h : wm_ask Q J x1 x2) : MMet E l yX3_ask cX3_ask 4 (some .int) ({ frames := 6, cells := 0, slots := 0, locals := 131 }) [.ref (me_a E 54), .int x1, .int x2] J (va_Qi Q (BM E) (mA E)) :=
  MMet_of hI (by decide) rfl (Nat.le_of_ble_eq_true rfl) (L0 := [some (.ref (me_a E 54)), some (.int x1), some (.int x2), none]) rfl (fun C hC hM hl hQ => bm_ask E C Q J x1 x2 hC hM hQ h)
/-! trace -/
def wm_trace (Q : Int32 → MS → Prop) (J : MS) (x1 : Int32) : Prop :=
  wm_in (fun r2 J1 => (if r2 = 0 then Q (-1000000 : Int32) J1 else vp_in x1 16 ∧ Q (J1 52 (Int32.toNatClampNeg x1)) J1)) (mset J 0 0 (0 : Int32)) (Int32.toInt64 x1) (0 : Int64) (Int32.toInt64 (((mset J 0 0 (0 : Int32)) 53 0) - (1 : Int32)))
theorem hd_trace : yX3_trace.cls = RX3 ∧ yX3_trace.cls ≠ "java/lang/invoke/MethodHandle" ∧ yX3_trace.cls ≠ "java/lang/invoke/VarHandle" ∧ (parseMethodDescriptor yX3_trace.desc).map (fun d => d.parameters.length) = some 1 := by decide +kernel
set_option maxHeartbeats 4000000 in
set_option maxRecDepth 100000 in
theorem bm_trace (E : ME) (C : Cx) (Q : Int32 → MS → Prop) (J : MS) (x1 : Int32) (hC : COk C cX3_trace RX3 (some .int) 2 41 2) (hM : MOk E C) (hQ : cx_Q C = MQ (cx_b C) (va_Qi Q (BM E) (mA E)) (cx_a C) (cx_s C) (cx_MC C) (cx_MS C) (mA E)) (h : wm_trace Q J x1) : GM E C J 0 [some (.ref (me_a E 54)), some (.int x1)] [] := by
  refine g_aload_n hC dX3_trace_0 rfl ?_
  refine g_iconst (v := 0) hC dX3_trace_1 (by decide) ?_
  refine gM_put hC hM 0 (ty := .int) dX3_trace_2 q1503 (by decide) (by decide) rfl rfl rfl rfl rfl ?_
  refine g_iload_n hC dX3_trace_5 rfl ?_
  refine g_i2l hC dX3_trace_6 ?_
  refine g_lconst (v := 0) hC dX3_trace_7 (by decide) ?_
  refine g_aload_n hC dX3_trace_8 rfl ?_
  refine gM_getS hC hM 53 dX3_trace_9 q1556 (by decide) (by decide) rfl ?_
  refine g_iconst (v := 1) hC dX3_trace_12 (by decide) ?_
  refine g_isub hC dX3_trace_13 ?_
  refine g_i2l hC dX3_trace_14 ?_
  refine gM_Si (As := [.long (Int32.toInt64 x1), .long (0 : Int64), .long (Int32.toInt64 (((mset J 0 0 (0 : Int32)) 53 0) - (1 : Int32)))]) (rest := []) hC hM (mm_in (cx_l C) E hM.2.1 _ _ _ _ _ h) (lw_S q1675 q1676 q76 q1677) hd_in rfl rfl (Nat.le_of_ble_eq_true rfl) ⟨Nat.le_of_ble_eq_true rfl, Nat.le_of_ble_eq_true rfl⟩ dX3_trace_15 ?_
  intro r2 J1 h
  refine g_if_eq (tgt := 30) hC dX3_trace_18 (by decide) (fun c => ?_) (fun c => ?_)
  · have h := it_p c h
    refine g_ldc (v := -1000000) hC dX3_trace_30 q1720 ?_
    refine gM_iret hC hM hQ rfl dX3_trace_32 h
  · have h := it_n c h
    refine g_aload_n hC dX3_trace_21 rfl ?_
    refine gM_getA hC hM 52 dX3_trace_22 q1555 (by decide) (by decide) rfl ?_
    refine g_iload_n hC dX3_trace_25 rfl ?_
    refine gM_iald hC hM 52 32 dX3_trace_26 rfl (by decide) h.1 ?_
    refine g_goto (tgt := 32) hC dX3_trace_27 (by decide) ?_
    refine gM_iret hC hM hQ rfl dX3_trace_32 h.2
theorem mm_trace (l : Launch) (E : ME) (hI : mInj E) (Q : Int32 → MS → Prop) (J : MS) (x1 : Int32) (h : wm_trace Q J x1) : MMet E l yX3_trace cX3_trace 2 (some .int) ({ frames := 2, cells := 0, slots := 0, locals := 41 }) [.ref (me_a E 54), .int x1] J (va_Qi Q (BM E) (mA E)) :=
  MMet_of hI (by decide) rfl (Nat.le_of_ble_eq_true rfl) (L0 := [some (.ref (me_a E 54)), some (.int x1)]) rfl (fun C hC hM hl hQ => bm_trace E C Q J x1 hC hM hQ h)
/-! count -/
def wm_count_83 (Q : Int32 → MS → Prop) (K62 : MS → Int32 → Int32 → Prop) (J : MS) (a3 : Int32) (s0 : Int32) (s1 : Int32) : Prop :=
  K62 J (s0 + s1) (a3 + (1 : Int32))
def wm_count_62 (Q : Int32 → MS → Prop) : Nat → MS → Int32 → Int32 → Prop
  | 0, _, _, _ => False
  | n + 1, J, a2, a3 => (if (8 : Int32) ≤ a3 then Q a2 J else vp_in a3 8 ∧ (if (J 9 (Int32.toNatClampNeg a3)) < 0 then wm_count_83 Q (wm_count_62 Q n) J a3 a2 (0 : Int32) else wm_count_83 Q (wm_count_62 Q n) J a3 a2 (1 : Int32)))
def wm_count_128 (Q : Int32 → MS → Prop) (K100 : MS → Int32 → Int32 → Int32 → Prop) (J : MS) (a1 : Int32) (a3 : Int32) (s0 : Int32) (s1 : Int32) : Prop :=
  K100 J a1 (s0 + s1) (a3 + (1 : Int32))
def wm_count_100 (Q : Int32 → MS → Prop) : Nat → MS → Int32 → Int32 → Int32 → Prop
  | 0, _, _, _, _ => False
  | n + 1, J, a1, a2, a3 => (if (J 24 0) ≤ a3 then Q a2 J else wm_kindOf (fun r3 J2 => wm_isOf (fun r5 J4 => (if r5 = 0 then wm_count_128 Q (wm_count_100 Q n) J4 a1 a3 a2 (0 : Int32) else wm_count_128 Q (wm_count_100 Q n) J4 a1 a3 a2 (1 : Int32))) J2 r3 (a1 - (1 : Int32))) J a3)
def wm_count_98 (Q : Int32 → MS → Prop) (J : MS) (a1 : Int32) (a2 : Int32) : Prop :=
  ∃ n6, wm_count_100 Q n6 J a1 a2 (0 : Int32)
def wm_count (Q : Int32 → MS → Prop) (J : MS) (x1 : Int32) : Prop :=
  (if x1 = (0 : Int32) then ∃ n1, wm_count_62 Q n1 (mset J 0 0 (0 : Int32)) (0 : Int32) (0 : Int32) else (if x1 = (1 : Int32) then Q ((mset J 0 0 (0 : Int32)) 24 0) (mset J 0 0 (0 : Int32)) else (if x1 = (2 : Int32) then wm_count_98 Q (mset J 0 0 (0 : Int32)) x1 (0 : Int32) else (if x1 = (3 : Int32) then wm_count_98 Q (mset J 0 0 (0 : Int32)) x1 (0 : Int32) else (if x1 = (4 : Int32) then wm_count_98 Q (mset J 0 0 (0 : Int32)) x1 (0 : Int32) else (if x1 = (5 : Int32) then wm_count_98 Q (mset J 0 0 (0 : Int32)) x1 (0 : Int32) else (if x1 = (6 : Int32) then Q ((mset J 0 0 (0 : Int32)) 33 0) (mset J 0 0 (0 : Int32)) else (if x1 = (7 : Int32) then Q ((mset J 0 0 (0 : Int32)) 46 0) (mset J 0 0 (0 : Int32)) else (if x1 = (8 : Int32) then Q ((mset J 0 0 (0 : Int32)) 13 0) (mset J 0 0 (0 : Int32)) else Q (-1000001 : Int32) (mset J 0 0 (0 : Int32)))))))))))
theorem hd_count : yX3_count.cls = RX3 ∧ yX3_count.cls ≠ "java/lang/invoke/MethodHandle" ∧ yX3_count.cls ≠ "java/lang/invoke/VarHandle" ∧ (parseMethodDescriptor yX3_count.desc).map (fun d => d.parameters.length) = some 1 := by decide +kernel
set_option maxHeartbeats 4000000 in
set_option maxRecDepth 100000 in
theorem bm_count (E : ME) (C : Cx) (Q : Int32 → MS → Prop) (J : MS) (x1 : Int32) (hC : COk C cX3_count RX3 (some .int) 6 131 4) (hM : MOk E C) (hQ : cx_Q C = MQ (cx_b C) (va_Qi Q (BM E) (mA E)) (cx_a C) (cx_s C) (cx_MC C) (cx_MS C) (mA E)) (h : wm_count Q J x1) : GM E C J 0 [some (.ref (me_a E 54)), some (.int x1), none, none] [] := by
  have s_83 : ∀ (K62 : MS → Int32 → Int32 → Prop) (hK62 : ∀ (J : MS) (b2 : Int32) (b3 : Int32), K62 J b2 b3 → GM E C J 62 [some (.ref (me_a E 54)), none, some (.int b2), some (.int b3)] []) (J : MS) (a3 : Int32) (s0 : Int32) (s1 : Int32), wm_count_83 Q K62 J a3 s0 s1 → GM E C J 83 [some (.ref (me_a E 54)), none, none, some (.int a3)] [.int s1, .int s0] := by
    intro K62 hK62 J a3 s0 s1 h
    refine g_iadd hC dX3_count_83 ?_
    refine g_istore_n hC dX3_count_84 rfl (by decide) rfl rfl ?_
    refine g_iinc (v := (a3 + (1 : Int32))) hC dX3_count_85 rfl rfl (by decide) rfl rfl ?_
    refine g_goto (tgt := 62) hC dX3_count_88 (by decide) ?_
    exact hK62 J (s0 + s1) (a3 + (1 : Int32)) h
  have s_62 : ∀ (n : Nat) (J : MS) (a2 : Int32) (a3 : Int32), wm_count_62 Q  n J a2 a3 → GM E C J 62 [some (.ref (me_a E 54)), none, some (.int a2), some (.int a3)] [] := by
    intro  n
    induction n with
    | zero =>
      intro J a2 a3 h
      exact False.elim h
    | succ n ih =>
      intro J a2 a3 h
      refine g_iload_n hC dX3_count_62 rfl ?_
      refine g_bipush (v := 8) hC dX3_count_63 (by decide) ?_
      refine g_icmp_ge (tgt := 91) hC dX3_count_65 (by decide) (fun c => ?_) (fun c => ?_)
      · have h := it_p c h
        refine g_iload_n hC dX3_count_91 rfl ?_
        refine gM_iret hC hM hQ rfl dX3_count_92 h
      · have h := it_n c h
        refine g_iload_n hC dX3_count_68 rfl ?_
        refine g_aload_n hC dX3_count_69 rfl ?_
        refine gM_getA hC hM 9 dX3_count_70 q1512 (by decide) (by decide) rfl ?_
        refine g_iload_n hC dX3_count_73 rfl ?_
        refine gM_iald hC hM 9 7 dX3_count_74 rfl (by decide) h.1 ?_
        refine g_if_lt (tgt := 82) hC dX3_count_75 (by decide) (fun c => ?_) (fun c => ?_)
        · have h := it_p c h.2
          refine g_iconst (v := 0) hC dX3_count_82 (by decide) ?_
          refine g_sub [true, false, false, true] rfl ?_
          exact s_83 (wm_count_62 Q n) ih J a3 a2 (0 : Int32) h
        · have h := it_n c h.2
          refine g_iconst (v := 1) hC dX3_count_78 (by decide) ?_
          refine g_goto (tgt := 83) hC dX3_count_79 (by decide) ?_
          refine g_sub [true, false, false, true] rfl ?_
          exact s_83 (wm_count_62 Q n) ih J a3 a2 (1 : Int32) h
  have s_128 : ∀ (K100 : MS → Int32 → Int32 → Int32 → Prop) (hK100 : ∀ (J : MS) (b1 : Int32) (b2 : Int32) (b3 : Int32), K100 J b1 b2 b3 → GM E C J 100 [some (.ref (me_a E 54)), some (.int b1), some (.int b2), some (.int b3)] []) (J : MS) (a1 : Int32) (a3 : Int32) (s0 : Int32) (s1 : Int32), wm_count_128 Q K100 J a1 a3 s0 s1 → GM E C J 128 [some (.ref (me_a E 54)), some (.int a1), none, some (.int a3)] [.int s1, .int s0] := by
    intro K100 hK100 J a1 a3 s0 s1 h
    refine g_iadd hC dX3_count_128 ?_
    refine g_istore_n hC dX3_count_129 rfl (by decide) rfl rfl ?_
    refine g_iinc (v := (a3 + (1 : Int32))) hC dX3_count_130 rfl rfl (by decide) rfl rfl ?_
    refine g_goto (tgt := 100) hC dX3_count_133 (by decide) ?_
    exact hK100 J a1 (s0 + s1) (a3 + (1 : Int32)) h
  have s_100 : ∀ (n : Nat) (J : MS) (a1 : Int32) (a2 : Int32) (a3 : Int32), wm_count_100 Q  n J a1 a2 a3 → GM E C J 100 [some (.ref (me_a E 54)), some (.int a1), some (.int a2), some (.int a3)] [] := by
    intro  n
    induction n with
    | zero =>
      intro J a1 a2 a3 h
      exact False.elim h
    | succ n ih =>
      intro J a1 a2 a3 h
      refine g_iload_n hC dX3_count_100 rfl ?_
      refine g_aload_n hC dX3_count_101 rfl ?_
      refine gM_getS hC hM 24 dX3_count_102 q1527 (by decide) (by decide) rfl ?_
      refine g_icmp_ge (tgt := 136) hC dX3_count_105 (by decide) (fun c => ?_) (fun c => ?_)
      · have h := it_p c h
        refine g_iload_n hC dX3_count_136 rfl ?_
        refine gM_iret hC hM hQ rfl dX3_count_137 h
      · have h := it_n c h
        refine g_iload_n hC dX3_count_108 rfl ?_
        refine g_aload_n hC dX3_count_109 rfl ?_
        refine g_iload_n hC dX3_count_110 rfl ?_
        refine gM_Vi (As := [.int a3]) (rest := [.int a2]) hC hM (mm_kindOf (cx_l C) E hM.2.1 _ _ _ h) (lw_V q1944 q1946 qs64 q76 q1947) hd_kindOf rfl rfl (Nat.le_of_ble_eq_true rfl) ⟨Nat.le_of_ble_eq_true rfl, Nat.le_of_ble_eq_true rfl⟩ dX3_count_111 ?_
        intro r3 J2 h
        refine g_iload_n hC dX3_count_114 rfl ?_
        refine g_iconst (v := 1) hC dX3_count_115 (by decide) ?_
        refine g_isub hC dX3_count_116 ?_
        refine gM_Si (As := [.int r3, .int (a1 - (1 : Int32))]) (rest := [.int a2]) hC hM (mm_isOf (cx_l C) E hM.2.1 _ _ _ _ h) (lw_S q1952 q1953 q76 q1954) hd_isOf rfl rfl (Nat.le_of_ble_eq_true rfl) ⟨Nat.le_of_ble_eq_true rfl, Nat.le_of_ble_eq_true rfl⟩ dX3_count_117 ?_
        intro r5 J4 h
        refine g_if_eq (tgt := 127) hC dX3_count_120 (by decide) (fun c => ?_) (fun c => ?_)
        · have h := it_p c h
          refine g_iconst (v := 0) hC dX3_count_127 (by decide) ?_
          refine g_sub [true, true, false, true] rfl ?_
          exact s_128 (wm_count_100 Q n) ih J4 a1 a3 a2 (0 : Int32) h
        · have h := it_n c h
          refine g_iconst (v := 1) hC dX3_count_123 (by decide) ?_
          refine g_goto (tgt := 128) hC dX3_count_124 (by decide) ?_
          refine g_sub [true, true, false, true] rfl ?_
          exact s_128 (wm_count_100 Q n) ih J4 a1 a3 a2 (1 : Int32) h
  have s_98 : ∀ (J : MS) (a1 : Int32) (a2 : Int32), wm_count_98 Q  J a1 a2 → GM E C J 98 [some (.ref (me_a E 54)), some (.int a1), some (.int a2), none] [] := by
    intro  J a1 a2 h
    refine g_iconst (v := 0) hC dX3_count_98 (by decide) ?_
    refine g_istore_n hC dX3_count_99 rfl (by decide) rfl rfl ?_
    obtain ⟨n0, h0⟩ := h
    exact s_100 n0 J a1 a2 (0 : Int32) h0
  refine g_aload_n hC dX3_count_0 rfl ?_
  refine g_iconst (v := 0) hC dX3_count_1 (by decide) ?_
  refine gM_put hC hM 0 (ty := .int) dX3_count_2 q1503 (by decide) (by decide) rfl rfl rfl rfl rfl ?_
  refine g_iconst (v := 0) hC dX3_count_5 (by decide) ?_
  refine g_istore_n hC dX3_count_6 rfl (by decide) rfl rfl ?_
  refine g_iload_n hC dX3_count_7 rfl ?_
  rcases Decidable.em (x1 = (0 : Int32)) with c0 | c0
  · have h := it_p c0 h
    refine g_tin (v := 0) (tgt := 60) hC dX3_count_8 c0 (by decide) (by decide) rfl (by decide) ?_
    refine g_iconst (v := 0) hC dX3_count_60 (by decide) ?_
    refine g_istore_n hC dX3_count_61 rfl (by decide) rfl rfl ?_
    refine g_sub [true, false, true, true] rfl ?_
    obtain ⟨n0, h0⟩ := h
    exact s_62 n0 (mset J 0 0 (0 : Int32)) (0 : Int32) (0 : Int32) h0
  have h := it_n c0 h
  rcases Decidable.em (x1 = (1 : Int32)) with c1 | c1
  · have h := it_p c1 h
    refine g_tin (v := 1) (tgt := 93) hC dX3_count_8 c1 (by decide) (by decide) rfl (by decide) ?_
    refine g_aload_n hC dX3_count_93 rfl ?_
    refine gM_getS hC hM 24 dX3_count_94 q1527 (by decide) (by decide) rfl ?_
    refine gM_iret hC hM hQ rfl dX3_count_97 h
  have h := it_n c1 h
  rcases Decidable.em (x1 = (2 : Int32)) with c2 | c2
  · have h := it_p c2 h
    refine g_tin (v := 2) (tgt := 98) hC dX3_count_8 c2 (by decide) (by decide) rfl (by decide) ?_
    exact s_98 (mset J 0 0 (0 : Int32)) x1 (0 : Int32) h
  have h := it_n c2 h
  rcases Decidable.em (x1 = (3 : Int32)) with c3 | c3
  · have h := it_p c3 h
    refine g_tin (v := 3) (tgt := 98) hC dX3_count_8 c3 (by decide) (by decide) rfl (by decide) ?_
    exact s_98 (mset J 0 0 (0 : Int32)) x1 (0 : Int32) h
  have h := it_n c3 h
  rcases Decidable.em (x1 = (4 : Int32)) with c4 | c4
  · have h := it_p c4 h
    refine g_tin (v := 4) (tgt := 98) hC dX3_count_8 c4 (by decide) (by decide) rfl (by decide) ?_
    exact s_98 (mset J 0 0 (0 : Int32)) x1 (0 : Int32) h
  have h := it_n c4 h
  rcases Decidable.em (x1 = (5 : Int32)) with c5 | c5
  · have h := it_p c5 h
    refine g_tin (v := 5) (tgt := 98) hC dX3_count_8 c5 (by decide) (by decide) rfl (by decide) ?_
    exact s_98 (mset J 0 0 (0 : Int32)) x1 (0 : Int32) h
  have h := it_n c5 h
  rcases Decidable.em (x1 = (6 : Int32)) with c6 | c6
  · have h := it_p c6 h
    refine g_tin (v := 6) (tgt := 138) hC dX3_count_8 c6 (by decide) (by decide) rfl (by decide) ?_
    refine g_aload_n hC dX3_count_138 rfl ?_
    refine gM_getS hC hM 33 dX3_count_139 q1536 (by decide) (by decide) rfl ?_
    refine gM_iret hC hM hQ rfl dX3_count_142 h
  have h := it_n c6 h
  rcases Decidable.em (x1 = (7 : Int32)) with c7 | c7
  · have h := it_p c7 h
    refine g_tin (v := 7) (tgt := 143) hC dX3_count_8 c7 (by decide) (by decide) rfl (by decide) ?_
    refine g_aload_n hC dX3_count_143 rfl ?_
    refine gM_getS hC hM 46 dX3_count_144 q1549 (by decide) (by decide) rfl ?_
    refine gM_iret hC hM hQ rfl dX3_count_147 h
  have h := it_n c7 h
  rcases Decidable.em (x1 = (8 : Int32)) with c8 | c8
  · have h := it_p c8 h
    refine g_tin (v := 8) (tgt := 148) hC dX3_count_8 c8 (by decide) (by decide) rfl (by decide) ?_
    refine g_aload_n hC dX3_count_148 rfl ?_
    refine gM_getS hC hM 13 dX3_count_149 q1516 (by decide) (by decide) rfl ?_
    refine gM_iret hC hM hQ rfl dX3_count_152 h
  have h := it_n c8 h
  refine g_tout (tgt := 153) hC dX3_count_8 (sw_out 0 8 (by decide) (fun v hv => ?_)) (by decide) ?_
  · exact sw_no9 c0 c1 c2 c3 c4 c5 c6 c7 c8 v hv
  refine g_ldc (v := -1000001) hC dX3_count_153 q1679 ?_
  refine gM_iret hC hM hQ rfl dX3_count_155 h
theorem mm_count (l : Launch) (E : ME) (hI : mInj E) (Q : Int32 → MS → Prop) (J : MS) (x1 : Int32) (h : wm_count Q J x1) : MMet E l yX3_count cX3_count 4 (some .int) ({ frames := 6, cells := 0, slots := 0, locals := 131 }) [.ref (me_a E 54), .int x1] J (va_Qi Q (BM E) (mA E)) :=
  MMet_of hI (by decide) rfl (Nat.le_of_ble_eq_true rfl) (L0 := [some (.ref (me_a E 54)), some (.int x1), none, none]) rfl (fun C hC hM hl hQ => bm_count E C Q J x1 hC hM hQ h)
/-! status -/
def wm_status (Q : Int32 → MS → Prop) (J : MS) : Prop :=
  Q ((mset J 0 0 (0 : Int32)) 1 0) (mset J 0 0 (0 : Int32))
theorem hd_status : yX3_status.cls = RX3 ∧ yX3_status.cls ≠ "java/lang/invoke/MethodHandle" ∧ yX3_status.cls ≠ "java/lang/invoke/VarHandle" ∧ (parseMethodDescriptor yX3_status.desc).map (fun d => d.parameters.length) = some 0 := by decide +kernel
set_option maxHeartbeats 4000000 in
set_option maxRecDepth 100000 in
theorem bm_status (E : ME) (C : Cx) (Q : Int32 → MS → Prop) (J : MS) (hC : COk C cX3_status RX3 (some .int) 1 16 1) (hM : MOk E C) (hQ : cx_Q C = MQ (cx_b C) (va_Qi Q (BM E) (mA E)) (cx_a C) (cx_s C) (cx_MC C) (cx_MS C) (mA E)) (h : wm_status Q J ) : GM E C J 0 [some (.ref (me_a E 54))] [] := by
  refine g_aload_n hC dX3_status_0 rfl ?_
  refine g_iconst (v := 0) hC dX3_status_1 (by decide) ?_
  refine gM_put hC hM 0 (ty := .int) dX3_status_2 q1503 (by decide) (by decide) rfl rfl rfl rfl rfl ?_
  refine g_aload_n hC dX3_status_5 rfl ?_
  refine gM_getS hC hM 1 dX3_status_6 q1504 (by decide) (by decide) rfl ?_
  refine gM_iret hC hM hQ rfl dX3_status_9 h
theorem mm_status (l : Launch) (E : ME) (hI : mInj E) (Q : Int32 → MS → Prop) (J : MS) (h : wm_status Q J ) : MMet E l yX3_status cX3_status 1 (some .int) ({ frames := 1, cells := 0, slots := 0, locals := 16 }) [.ref (me_a E 54)] J (va_Qi Q (BM E) (mA E)) :=
  MMet_of hI (by decide) rfl (Nat.le_of_ble_eq_true rfl) (L0 := [some (.ref (me_a E 54))]) rfl (fun C hC hM hl hQ => bm_status E C Q J  hC hM hQ h)
