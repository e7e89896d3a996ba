/-! readAll -/
def wm_readAll_124 (Q : MS → Prop) (K14 : MS → Prop) (J : MS) : Prop :=
  K14 J
def wm_readAll_121 (Q : MS → Prop) (K14 : MS → Prop) (J : MS) (s1 : Int32) : Prop :=
  wm_need (fun J9 => wm_readAll_124 Q K14 J9 ) J s1
def wm_readAll_96 (Q : MS → Prop) (K14 : MS → Prop) (K68 : MS → Int32 → Int32 → Prop) (J : MS) (a1 : Int32) (s0 : Int32) : Prop :=
  K68 J a1 s0
def wm_readAll_95 (Q : MS → Prop) (K14 : MS → Prop) (K68 : MS → Int32 → Int32 → Prop) (J : MS) (a1 : Int32) : Prop :=
  wm_readAll_96 Q K14 K68 J a1 (0 : Int32)
def wm_readAll_68 (Q : MS → Prop) (K14 : MS → Prop) : Nat → MS → Int32 → Int32 → Prop
  | 0, _, _, _ => False
  | n + 1, J, a1, a2 => (if a2 = 0 then (if (J 20 0) = 0 then (if (J 17 0) = (4 : Int32) then wm_readAll_121 Q K14 J (1 : Int32) else wm_readAll_121 Q K14 J (0 : Int32)) else wm_readAll_124 Q K14 J ) else wm_readRule (fun J11 => (if (J11 20 0) = 0 then wm_isRule (fun r14 J13 => (if r14 = 0 then wm_readAll_95 Q K14 (wm_readAll_68 Q K14 n) J13 a1 else wm_readAll_96 Q K14 (wm_readAll_68 Q K14 n) J13 a1 (1 : Int32))) J11 else wm_readAll_95 Q K14 (wm_readAll_68 Q K14 n) J11 a1)) J a1)
def wm_readAll_67 (Q : MS → Prop) (K14 : MS → Prop) (J : MS) (a1 : Int32) (s0 : Int32) : Prop :=
  ∃ n15, wm_readAll_68 Q K14 n15 J a1 s0
def wm_readAll_46 (Q : MS → Prop) (K14 : MS → Prop) (J : MS) (s1 : Int32) : Prop :=
  wm_need (fun J5 => wm_numberTo (fun r8 J7 => (if (J7 20 0) = 0 then wm_readAll_67 Q K14 J7 r8 (1 : Int32) else wm_readAll_67 Q K14 J7 r8 (0 : Int32))) J5 (3 : Int32)) J s1
def wm_readAll_14 (Q : MS → Prop) : Nat → MS → Prop
  | 0, _ => False
  | n + 1, J => (if (J 20 0) = 0 then (if (J 17 0) = (1 : Int32) then Q J else wm_word (fun r4 J3 => (if (lg_cmp r4 (1751215212 : Int64)) = 0 then wm_readAll_46 Q (wm_readAll_14 Q n) J3 (1 : Int32) else wm_readAll_46 Q (wm_readAll_14 Q n) J3 (0 : Int32))) J) else Q J)
def wm_readAll (Q : MS → Prop) (J : MS) : Prop :=
  wm_step (fun J1 => ∃ n16, wm_readAll_14 Q n16 J1 ) (mset (mset J 16 0 (0 : Int32)) 23 0 (0 : Int32))
theorem hd_readAll : yX3_readAll.cls = RX3 ∧ yX3_readAll.cls ≠ "java/lang/invoke/MethodHandle" ∧ yX3_readAll.cls ≠ "java/lang/invoke/VarHandle" ∧ (parseMethodDescriptor yX3_readAll.desc).map (fun d => d.parameters.length) = some 0 := by decide +kernel
set_option maxHeartbeats 4000000 in
set_option maxRecDepth 100000 in
theorem bm_readAll (E : ME) (C : Cx) (Q : MS → Prop) (J : MS) (hC : COk C cX3_readAll RX3 none 6 129 3) (hM : MOk E C) (hQ : cx_Q C = MQ (cx_b C) (va_Qv Q (BM E) (mA E)) (cx_a C) (cx_s C) (cx_MC C) (cx_MS C) (mA E)) (h : wm_readAll Q J ) : GM E C J 0 [some (.ref (me_a E 54)), none, none] [] := by
  have s_124 : ∀ (K14 : MS → Prop) (hK14 : ∀ (J : MS), K14 J  → GM E C J 14 [some (.ref (me_a E 54)), none, none] []) (J : MS), wm_readAll_124 Q K14 J  → GM E C J 124 [some (.ref (me_a E 54)), none, none] [] := by
    intro K14 hK14 J  h
    refine g_goto (tgt := 14) hC dX3_readAll_124 (by decide) ?_
    exact hK14 J  h
  have s_121 : ∀ (K14 : MS → Prop) (hK14 : ∀ (J : MS), K14 J  → GM E C J 14 [some (.ref (me_a E 54)), none, none] []) (J : MS) (s1 : Int32), wm_readAll_121 Q K14 J s1 → GM E C J 121 [some (.ref (me_a E 54)), none, none] [.int s1, .ref (me_a E 54)] := by
    intro K14 hK14 J s1 h
    refine gM_Vv (As := [.int s1]) (rest := []) hC hM (mm_need (cx_l C) E hM.2.1 _ _ _ h) (lw_V q1732 q1734 qs42 q76 q1735) hd_need rfl rfl (Nat.le_of_ble_eq_true rfl) ⟨Nat.le_of_ble_eq_true rfl, Nat.le_of_ble_eq_true rfl⟩ dX3_readAll_121 ?_
    intro J9 h
    exact s_124 K14 hK14 J9 h
  have s_96 : ∀ (K14 : MS → Prop) (hK14 : ∀ (J : MS), K14 J  → GM E C J 14 [some (.ref (me_a E 54)), none, none] []) (K68 : MS → Int32 → Int32 → Prop) (hK68 : ∀ (J : MS) (b1 : Int32) (b2 : Int32), K68 J b1 b2 → GM E C J 68 [some (.ref (me_a E 54)), some (.int b1), some (.int b2)] []) (J : MS) (a1 : Int32) (s0 : Int32), wm_readAll_96 Q K14 K68 J a1 s0 → GM E C J 96 [some (.ref (me_a E 54)), some (.int a1), none] [.int s0] := by
    intro K14 hK14 K68 hK68 J a1 s0 h
    refine g_istore_n hC dX3_readAll_96 rfl (by decide) rfl rfl ?_
    refine g_goto (tgt := 68) hC dX3_readAll_97 (by decide) ?_
    exact hK68 J a1 s0 h
  have s_95 : ∀ (K14 : MS → Prop) (hK14 : ∀ (J : MS), K14 J  → GM E C J 14 [some (.ref (me_a E 54)), none, none] []) (K68 : MS → Int32 → Int32 → Prop) (hK68 : ∀ (J : MS) (b1 : Int32) (b2 : Int32), K68 J b1 b2 → GM E C J 68 [some (.ref (me_a E 54)), some (.int b1), some (.int b2)] []) (J : MS) (a1 : Int32), wm_readAll_95 Q K14 K68 J a1 → GM E C J 95 [some (.ref (me_a E 54)), some (.int a1), none] [] := by
    intro K14 hK14 K68 hK68 J a1 h
    refine g_iconst (v := 0) hC dX3_readAll_95 (by decide) ?_
    exact s_96 K14 hK14 K68 hK68 J a1 (0 : Int32) h
  have s_68 : ∀ (K14 : MS → Prop) (hK14 : ∀ (J : MS), K14 J  → GM E C J 14 [some (.ref (me_a E 54)), none, none] []) (n : Nat) (J : MS) (a1 : Int32) (a2 : Int32), wm_readAll_68 Q K14 n J a1 a2 → GM E C J 68 [some (.ref (me_a E 54)), some (.int a1), some (.int a2)] [] := by
    intro K14 hK14 n
    induction n with
    | zero =>
      intro J a1 a2 h
      exact False.elim h
    | succ n ih =>
      intro J a1 a2 h
      refine g_iload_n hC dX3_readAll_68 rfl ?_
      refine g_if_eq (tgt := 100) hC dX3_readAll_69 (by decide) (fun c => ?_) (fun c => ?_)
      · have h := it_p c h
        refine g_aload_n hC dX3_readAll_100 rfl ?_
        refine gM_getS hC hM 20 dX3_readAll_101 q1523 (by decide) (by decide) rfl ?_
        refine g_if_ne (tgt := 124) hC dX3_readAll_104 (by decide) (fun c => ?_) (fun c => ?_)
        · have h := it_n c h
          refine g_sub [true, false, false] rfl ?_
          exact s_124 K14 hK14 J h
        · have h := it_p c h
          refine g_aload_n hC dX3_readAll_107 rfl ?_
          refine g_aload_n hC dX3_readAll_108 rfl ?_
          refine gM_getS hC hM 17 dX3_readAll_109 q1520 (by decide) (by decide) rfl ?_
          refine g_iconst (v := 4) hC dX3_readAll_112 (by decide) ?_
          refine g_icmp_ne (tgt := 120) hC dX3_readAll_113 (by decide) (fun c => ?_) (fun c => ?_)
          · have h := it_n c h
            refine g_iconst (v := 0) hC dX3_readAll_120 (by decide) ?_
            refine g_sub [true, false, false] rfl ?_
            exact s_121 K14 hK14 J (0 : Int32) h
          · have h := it_p c h
            refine g_iconst (v := 1) hC dX3_readAll_116 (by decide) ?_
            refine g_goto (tgt := 121) hC dX3_readAll_117 (by decide) ?_
            refine g_sub [true, false, false] rfl ?_
            exact s_121 K14 hK14 J (1 : Int32) h
      · have h := it_n c h
        refine g_aload_n hC dX3_readAll_72 rfl ?_
        refine g_iload_n hC dX3_readAll_73 rfl ?_
        refine gM_Vv (As := [.int a1]) (rest := []) hC hM (mm_readRule (cx_l C) E hM.2.1 _ _ _ h) (lw_V q1744 q1746 qs45 q76 q1747) hd_readRule rfl rfl (Nat.le_of_ble_eq_true rfl) ⟨Nat.le_of_ble_eq_true rfl, Nat.le_of_ble_eq_true rfl⟩ dX3_readAll_74 ?_
        intro J11 h
        refine g_aload_n hC dX3_readAll_77 rfl ?_
        refine gM_getS hC hM 20 dX3_readAll_78 q1523 (by decide) (by decide) rfl ?_
        refine g_if_ne (tgt := 95) hC dX3_readAll_81 (by decide) (fun c => ?_) (fun c => ?_)
        · have h := it_n c h
          refine g_sub [true, true, false] rfl ?_
          exact s_95 K14 hK14 (wm_readAll_68 Q K14 n) ih J11 a1 h
        · have h := it_p c h
          refine g_aload_n hC dX3_readAll_84 rfl ?_
          refine gM_Vi (As := []) (rest := []) hC hM (mm_isRule (cx_l C) E hM.2.1 _ _  h) (lw_V q1748 q1750 qs46 q76 q1751) hd_isRule rfl rfl (Nat.le_of_ble_eq_true rfl) ⟨Nat.le_of_ble_eq_true rfl, Nat.le_of_ble_eq_true rfl⟩ dX3_readAll_85 ?_
          intro r14 J13 h
          refine g_if_eq (tgt := 95) hC dX3_readAll_88 (by decide) (fun c => ?_) (fun c => ?_)
          · have h := it_p c h
            refine g_sub [true, true, false] rfl ?_
            exact s_95 K14 hK14 (wm_readAll_68 Q K14 n) ih J13 a1 h
          · have h := it_n c h
            refine g_iconst (v := 1) hC dX3_readAll_91 (by decide) ?_
            refine g_goto (tgt := 96) hC dX3_readAll_92 (by decide) ?_
            refine g_sub [true, true, false] rfl ?_
            exact s_96 K14 hK14 (wm_readAll_68 Q K14 n) ih J13 a1 (1 : Int32) h
  have s_67 : ∀ (K14 : MS → Prop) (hK14 : ∀ (J : MS), K14 J  → GM E C J 14 [some (.ref (me_a E 54)), none, none] []) (J : MS) (a1 : Int32) (s0 : Int32), wm_readAll_67 Q K14 J a1 s0 → GM E C J 67 [some (.ref (me_a E 54)), some (.int a1), none] [.int s0] := by
    intro K14 hK14 J a1 s0 h
    refine g_istore_n hC dX3_readAll_67 rfl (by decide) rfl rfl ?_
    obtain ⟨n0, h0⟩ := h
    exact s_68 K14 hK14 n0 J a1 s0 h0
  have s_46 : ∀ (K14 : MS → Prop) (hK14 : ∀ (J : MS), K14 J  → GM E C J 14 [some (.ref (me_a E 54)), none, none] []) (J : MS) (s1 : Int32), wm_readAll_46 Q K14 J s1 → GM E C J 46 [some (.ref (me_a E 54)), none, none] [.int s1, .ref (me_a E 54)] := by
    intro K14 hK14 J s1 h
    refine gM_Vv (As := [.int s1]) (rest := []) hC hM (mm_need (cx_l C) E hM.2.1 _ _ _ h) (lw_V q1732 q1734 qs42 q76 q1735) hd_need rfl rfl (Nat.le_of_ble_eq_true rfl) ⟨Nat.le_of_ble_eq_true rfl, Nat.le_of_ble_eq_true rfl⟩ dX3_readAll_46 ?_
    intro J5 h
    refine g_aload_n hC dX3_readAll_49 rfl ?_
    refine g_iconst (v := 3) hC dX3_readAll_50 (by decide) ?_
    refine gM_Vi (As := [.int (3 : Int32)]) (rest := []) hC hM (mm_numberTo (cx_l C) E hM.2.1 _ _ _ h) (lw_V q1740 q1742 qs44 q76 q1743) hd_numberTo rfl rfl (Nat.le_of_ble_eq_true rfl) ⟨Nat.le_of_ble_eq_true rfl, Nat.le_of_ble_eq_true rfl⟩ dX3_readAll_51 ?_
    intro r8 J7 h
    refine g_istore_n hC dX3_readAll_54 rfl (by decide) rfl rfl ?_
    refine g_aload_n hC dX3_readAll_55 rfl ?_
    refine gM_getS hC hM 20 dX3_readAll_56 q1523 (by decide) (by decide) rfl ?_
    refine g_if_ne (tgt := 66) hC dX3_readAll_59 (by decide) (fun c => ?_) (fun c => ?_)
    · have h := it_n c h
      refine g_iconst (v := 0) hC dX3_readAll_66 (by decide) ?_
      exact s_67 K14 hK14 J7 r8 (0 : Int32) h
    · have h := it_p c h
      refine g_iconst (v := 1) hC dX3_readAll_62 (by decide) ?_
      refine g_goto (tgt := 67) hC dX3_readAll_63 (by decide) ?_
      exact s_67 K14 hK14 J7 r8 (1 : Int32) h
  have s_14 : ∀ (n : Nat) (J : MS), wm_readAll_14 Q  n J  → GM E C J 14 [some (.ref (me_a E 54)), none, none] [] := by
    intro  n
    induction n with
    | zero =>
      intro J  h
      exact False.elim h
    | succ n ih =>
      intro J  h
      refine g_aload_n hC dX3_readAll_14 rfl ?_
      refine gM_getS hC hM 20 dX3_readAll_15 q1523 (by decide) (by decide) rfl ?_
      refine g_if_ne (tgt := 127) hC dX3_readAll_18 (by decide) (fun c => ?_) (fun c => ?_)
      · have h := it_n c h
        refine gM_vret hC hM hQ rfl dX3_readAll_127 h
      · have h := it_p c h
        refine g_aload_n hC dX3_readAll_21 rfl ?_
        refine gM_getS hC hM 17 dX3_readAll_22 q1520 (by decide) (by decide) rfl ?_
        refine g_iconst (v := 1) hC dX3_readAll_25 (by decide) ?_
        refine g_icmp_eq (tgt := 127) hC dX3_readAll_26 (by decide) (fun c => ?_) (fun c => ?_)
        · have h := it_p c h
          refine gM_vret hC hM hQ rfl dX3_readAll_127 h
        · have h := it_n c h
          refine g_aload_n hC dX3_readAll_29 rfl ?_
          refine g_aload_n hC dX3_readAll_30 rfl ?_
          refine gM_Vl (As := []) (rest := [.ref (me_a E 54)]) hC hM (mm_word (cx_l C) E hM.2.1 _ _  h) (lw_V q1727 q1729 qs41 q76 q1730) hd_word rfl rfl (Nat.le_of_ble_eq_true rfl) ⟨Nat.le_of_ble_eq_true rfl, Nat.le_of_ble_eq_true rfl⟩ dX3_readAll_31 ?_
          intro r4 J3 h
          refine g_ldc2 (v := 1751215212) hC dX3_readAll_34 q1731 ?_
          refine g_lcmp hC dX3_readAll_37 ?_
          refine g_if_ne (tgt := 45) hC dX3_readAll_38 (by decide) (fun c => ?_) (fun c => ?_)
          · have h := it_n c h
            refine g_iconst (v := 0) hC dX3_readAll_45 (by decide) ?_
            exact s_46 (wm_readAll_14 Q n) ih J3 (0 : Int32) h
          · have h := it_p c h
            refine g_iconst (v := 1) hC dX3_readAll_41 (by decide) ?_
            refine g_goto (tgt := 46) hC dX3_readAll_42 (by decide) ?_
            exact s_46 (wm_readAll_14 Q n) ih J3 (1 : Int32) h
  refine g_aload_n hC dX3_readAll_0 rfl ?_
  refine g_iconst (v := 0) hC dX3_readAll_1 (by decide) ?_
  refine gM_put hC hM 16 (ty := .int) dX3_readAll_2 q1519 (by decide) (by decide) rfl rfl rfl rfl rfl ?_
  refine g_aload_n hC dX3_readAll_5 rfl ?_
  refine g_iconst (v := 0) hC dX3_readAll_6 (by decide) ?_
  refine gM_put hC hM 23 (ty := .int) dX3_readAll_7 q1526 (by decide) (by decide) rfl rfl rfl rfl rfl ?_
  refine g_aload_n hC dX3_readAll_10 rfl ?_
  refine gM_Vv (As := []) (rest := []) hC hM (mm_step (cx_l C) E hM.2.1 _ _  h) (lw_V q1712 q1714 qs39 q76 q1715) hd_step rfl rfl (Nat.le_of_ble_eq_true rfl) ⟨Nat.le_of_ble_eq_true rfl, Nat.le_of_ble_eq_true rfl⟩ dX3_readAll_11 ?_
  intro J1 h
  obtain ⟨n0, h0⟩ := h
  exact s_14 n0 J1 h0
theorem mm_readAll (l : Launch) (E : ME) (hI : mInj E) (Q : MS → Prop) (J : MS) (h : wm_readAll Q J ) : MMet E l yX3_readAll cX3_readAll 3 none ({ frames := 6, cells := 0, slots := 0, locals := 129 }) [.ref (me_a E 54)] J (va_Qv Q (BM E) (mA E)) :=
  MMet_of hI (by decide) rfl (Nat.le_of_ble_eq_true rfl) (L0 := [some (.ref (me_a E 54)), none, none]) rfl (fun C hC hM hl hQ => bm_readAll E C Q J  hC hM hQ h)
/-! rules -/
def wm_rules (Q : Int32 → MS → Prop) (J : MS) : Prop :=
  wm_readAll (fun J1 => (if (J1 20 0) ≤ 0 then wm_readAll (fun J3 => Q (J3 23 0) J3) (mset J1 22 0 (1 : Int32)) else Q ((-1000100 : Int32) - ((mset J1 14 0 (J1 20 0)) 21 0)) (mset J1 14 0 (J1 20 0)))) (mset (mset (mset (mset (mset J 0 0 (0 : Int32)) 15 0 ((mset J 0 0 (0 : Int32)) 13 0)) 13 0 (0 : Int32)) 20 0 (0 : Int32)) 22 0 (0 : Int32))
theorem hd_rules : yX3_rules.cls = RX3 ∧ yX3_rules.cls ≠ "java/lang/invoke/MethodHandle" ∧ yX3_rules.cls ≠ "java/lang/invoke/VarHandle" ∧ (parseMethodDescriptor yX3_rules.desc).map (fun d => d.parameters.length) = some 0 := by decide +kernel
set_option maxHeartbeats 4000000 in
set_option maxRecDepth 100000 in
theorem bm_rules (E : ME) (C : Cx) (Q : Int32 → MS → Prop) (J : MS) (hC : COk C cX3_rules RX3 (some .int) 7 151 1) (hM : MOk E C) (hQ : cx_Q C = MQ (cx_b C) (va_Qi Q (BM E) (mA E)) (cx_a C) (cx_s C) (cx_MC C) (cx_MS C) (mA E)) (h : wm_rules Q J ) : GM E C J 0 [some (.ref (me_a E 54))] [] := by
  refine g_aload_n hC dX3_rules_0 rfl ?_
  refine g_iconst (v := 0) hC dX3_rules_1 (by decide) ?_
  refine gM_put hC hM 0 (ty := .int) dX3_rules_2 q1503 (by decide) (by decide) rfl rfl rfl rfl rfl ?_
  refine g_aload_n hC dX3_rules_5 rfl ?_
  refine g_aload_n hC dX3_rules_6 rfl ?_
  refine gM_getS hC hM 13 dX3_rules_7 q1516 (by decide) (by decide) rfl ?_
  refine gM_put hC hM 15 (ty := .int) dX3_rules_10 q1518 (by decide) (by decide) rfl rfl rfl rfl rfl ?_
  refine g_aload_n hC dX3_rules_13 rfl ?_
  refine g_iconst (v := 0) hC dX3_rules_14 (by decide) ?_
  refine gM_put hC hM 13 (ty := .int) dX3_rules_15 q1516 (by decide) (by decide) rfl rfl rfl rfl rfl ?_
  refine g_aload_n hC dX3_rules_18 rfl ?_
  refine g_iconst (v := 0) hC dX3_rules_19 (by decide) ?_
  refine gM_put hC hM 20 (ty := .int) dX3_rules_20 q1523 (by decide) (by decide) rfl rfl rfl rfl rfl ?_
  refine g_aload_n hC dX3_rules_23 rfl ?_
  refine g_iconst (v := 0) hC dX3_rules_24 (by decide) ?_
  refine gM_put hC hM 22 (ty := .boolean) dX3_rules_25 q1525 (by decide) (by decide) rfl rfl rfl rfl rfl ?_
  refine g_aload_n hC dX3_rules_28 rfl ?_
  refine gM_Vv (As := []) (rest := []) hC hM (mm_readAll (cx_l C) E hM.2.1 _ _  h) (lw_V q1708 q1710 qs38 q76 q1711) hd_readAll rfl rfl (Nat.le_of_ble_eq_true rfl) ⟨Nat.le_of_ble_eq_true rfl, Nat.le_of_ble_eq_true rfl⟩ dX3_rules_29 ?_
  intro J1 h
  refine g_aload_n hC dX3_rules_32 rfl ?_
  refine gM_getS hC hM 20 dX3_rules_33 q1523 (by decide) (by decide) rfl ?_
  refine g_if_le (tgt := 55) hC dX3_rules_36 (by decide) (fun c => ?_) (fun c => ?_)
  · have h := it_p c h
    refine g_aload_n hC dX3_rules_55 rfl ?_
    refine g_iconst (v := 1) hC dX3_rules_56 (by decide) ?_
    refine gM_put hC hM 22 (ty := .boolean) dX3_rules_57 q1525 (by decide) (by decide) rfl rfl rfl rfl rfl ?_
    refine g_aload_n hC dX3_rules_60 rfl ?_
    refine gM_Vv (As := []) (rest := []) hC hM (mm_readAll (cx_l C) E hM.2.1 _ _  h) (lw_V q1708 q1710 qs38 q76 q1711) hd_readAll rfl rfl (Nat.le_of_ble_eq_true rfl) ⟨Nat.le_of_ble_eq_true rfl, Nat.le_of_ble_eq_true rfl⟩ dX3_rules_61 ?_
    intro J3 h
    refine g_aload_n hC dX3_rules_64 rfl ?_
    refine gM_getS hC hM 23 dX3_rules_65 q1526 (by decide) (by decide) rfl ?_
    refine gM_iret hC hM hQ rfl dX3_rules_68 h
  · have h := it_n c h
    refine g_aload_n hC dX3_rules_39 rfl ?_
    refine g_aload_n hC dX3_rules_40 rfl ?_
    refine gM_getS hC hM 20 dX3_rules_41 q1523 (by decide) (by decide) rfl ?_
    refine gM_put hC hM 14 (ty := .int) dX3_rules_44 q1517 (by decide) (by decide) rfl rfl rfl rfl rfl ?_
    refine g_ldc (v := -1000100) hC dX3_rules_47 q1775 ?_
    refine g_aload_n hC dX3_rules_49 rfl ?_
    refine gM_getS hC hM 21 dX3_rules_50 q1524 (by decide) (by decide) rfl ?_
    refine g_isub hC dX3_rules_53 ?_
    refine gM_iret hC hM hQ rfl dX3_rules_54 h
theorem mm_rules (l : Launch) (E : ME) (hI : mInj E) (Q : Int32 → MS → Prop) (J : MS) (h : wm_rules Q J ) : MMet E l yX3_rules cX3_rules 1 (some .int) ({ frames := 7, cells := 0, slots := 0, locals := 151 }) [.ref (me_a E 54)] J (va_Qi Q (BM E) (mA E)) :=
  MMet_of hI (by decide) rfl (Nat.le_of_ble_eq_true rfl) (L0 := [some (.ref (me_a E 54))]) rfl (fun C hC hM hl hQ => bm_rules E C Q J  hC hM hQ h)
/-! fault -/
def wm_fault (Q : Int32 → MS → Prop) (J : MS) : Prop :=
  Q ((mset J 0 0 (0 : Int32)) 14 0) (mset J 0 0 (0 : Int32))
theorem hd_fault : yX3_fault.cls = RX3 ∧ yX3_fault.cls ≠ "java/lang/invoke/MethodHandle" ∧ yX3_fault.cls ≠ "java/lang/invoke/VarHandle" ∧ (parseMethodDescriptor yX3_fault.desc).map (fun d => d.parameters.length) = some 0 := by decide +kernel
set_option maxHeartbeats 4000000 in
set_option maxRecDepth 100000 in
theorem bm_fault (E : ME) (C : Cx) (Q : Int32 → MS → Prop) (J : MS) (hC : COk C cX3_fault RX3 (some .int) 1 16 1) (hM : MOk E C) (hQ : cx_Q C = MQ (cx_b C) (va_Qi Q (BM E) (mA E)) (cx_a C) (cx_s C) (cx_MC C) (cx_MS C) (mA E)) (h : wm_fault Q J ) : GM E C J 0 [some (.ref (me_a E 54))] [] := by
  refine g_aload_n hC dX3_fault_0 rfl ?_
  refine g_iconst (v := 0) hC dX3_fault_1 (by decide) ?_
  refine gM_put hC hM 0 (ty := .int) dX3_fault_2 q1503 (by decide) (by decide) rfl rfl rfl rfl rfl ?_
  refine g_aload_n hC dX3_fault_5 rfl ?_
  refine gM_getS hC hM 14 dX3_fault_6 q1517 (by decide) (by decide) rfl ?_
  refine gM_iret hC hM hQ rfl dX3_fault_9 h
theorem mm_fault (l : Launch) (E : ME) (hI : mInj E) (Q : Int32 → MS → Prop) (J : MS) (h : wm_fault Q J ) : MMet E l yX3_fault cX3_fault 1 (some .int) ({ frames := 1, cells := 0, slots := 0, locals := 16 }) [.ref (me_a E 54)] J (va_Qi Q (BM E) (mA E)) :=
  MMet_of hI (by decide) rfl (Nat.le_of_ble_eq_true rfl) (L0 := [some (.ref (me_a E 54))]) rfl (fun C hC hM hl hQ => bm_fault E C Q J  hC hM hQ h)
/-! isHall -/
def wm_isHall (Q : Int32 → MS → Prop) (J : MS) (x0 : Int32) : Prop :=
  wm_in (fun r2 J1 => narrow .boolean (.int r2) = .int r2 ∧ Q r2 J1) J (Int32.toInt64 x0) (0 : Int64) (3 : Int64)
theorem hd_isHall : yX3_isHall.cls = RX3 ∧ yX3_isHall.cls ≠ "java/lang/invoke/MethodHandle" ∧ yX3_isHall.cls ≠ "java/lang/invoke/VarHandle" ∧ (parseMethodDescriptor yX3_isHall.desc).map (fun d => d.parameters.length) = some 1 := by decide +kernel
set_option maxHeartbeats 4000000 in
set_option maxRecDepth 100000 in
theorem bm_isHall (E : ME) (C : Cx) (Q : Int32 → MS → Prop) (J : MS) (x0 : Int32) (hC : COk C cX3_isHall RX3 (some .boolean) 2 41 1) (hM : MOk E C) (hQ : cx_Q C = MQ (cx_b C) (va_Qi Q (BM E) (mA E)) (cx_a C) (cx_s C) (cx_MC C) (cx_MS C) (mA E)) (h : wm_isHall Q J x0) : GM E C J 0 [some (.int x0)] [] := by
  refine g_iload_n hC dX3_isHall_0 rfl ?_
  refine g_i2l hC dX3_isHall_1 ?_
  refine g_lconst (v := 0) hC dX3_isHall_2 (by decide) ?_
  refine g_ldc2 (v := 3) hC dX3_isHall_3 q1787 ?_
  refine gM_Si (As := [.long (Int32.toInt64 x0), .long (0 : Int64), .long (3 : Int64)]) (rest := []) hC hM (mm_in (cx_l C) E hM.2.1 _ _ _ _ _ h) (lw_S q1675 q1676 q76 q1677) hd_in rfl rfl (Nat.le_of_ble_eq_true rfl) ⟨Nat.le_of_ble_eq_true rfl, Nat.le_of_ble_eq_true rfl⟩ dX3_isHall_6 ?_
  intro r2 J1 h
  refine gM_zret hC hM hQ rfl h.1 dX3_isHall_9 h.2
theorem mm_isHall (l : Launch) (E : ME) (hI : mInj E) (Q : Int32 → MS → Prop) (J : MS) (x0 : Int32) (h : wm_isHall Q J x0) : MMet E l yX3_isHall cX3_isHall 1 (some .boolean) ({ frames := 2, cells := 0, slots := 0, locals := 41 }) [.int x0] J (va_Qi Q (BM E) (mA E)) :=
  MMet_of hI (by decide) rfl (Nat.le_of_ble_eq_true rfl) (L0 := [some (.int x0)]) rfl (fun C hC hM hl hQ => bm_isHall E C Q J x0 hC hM hQ h)
/-! hall -/
def wm_hall (Q : Int32 → MS → Prop) (J : MS) (x1 : Int32) (x2 : Int32) : Prop :=
  wm_isHall (fun r2 J1 => (if r2 = 0 then Q (-1000001 : Int32) J1 else (if x2 = 0 then vp_in x1 4 ∧ Q (J1 2 (Int32.toNatClampNeg x1)) J1 else (if x2 = (1 : Int32) then vp_in x1 4 ∧ Q (J1 3 (Int32.toNatClampNeg x1)) J1 else (if x2 = (2 : Int32) then vp_in x1 4 ∧ Q (J1 4 (Int32.toNatClampNeg x1)) J1 else (if x2 = (3 : Int32) then vp_in x1 4 ∧ Q (J1 5 (Int32.toNatClampNeg x1)) J1 else wm_in (fun r4 J3 => (if r4 = 0 then wm_in (fun r6 J5 => (if r6 = 0 then wm_in (fun r8 J7 => (if r8 = 0 then Q (-1000001 : Int32) J7 else vp_in ((((5 : Int32) * x1) + x2) - (20 : Int32)) 20 ∧ Q (J7 8 (Int32.toNatClampNeg ((((5 : Int32) * x1) + x2) - (20 : Int32)))) J7)) J5 (Int32.toInt64 x2) (20 : Int64) (24 : Int64) else vp_in ((((5 : Int32) * x1) + x2) - (10 : Int32)) 20 ∧ Q (J5 7 (Int32.toNatClampNeg ((((5 : Int32) * x1) + x2) - (10 : Int32)))) J5)) J3 (Int32.toInt64 x2) (10 : Int64) (14 : Int64) else vp_in ((((2 : Int32) * x1) + x2) - (4 : Int32)) 8 ∧ Q (J3 6 (Int32.toNatClampNeg ((((2 : Int32) * x1) + x2) - (4 : Int32)))) J3)) J1 (Int32.toInt64 x2) (4 : Int64) (5 : Int64))))))) (mset J 0 0 (0 : Int32)) x1
theorem hd_hall : yX3_hall.cls = RX3 ∧ yX3_hall.cls ≠ "java/lang/invoke/MethodHandle" ∧ yX3_hall.cls ≠ "java/lang/invoke/VarHandle" ∧ (parseMethodDescriptor yX3_hall.desc).map (fun d => d.parameters.length) = some 2 := by decide +kernel
set_option maxHeartbeats 4000000 in
set_option maxRecDepth 100000 in
theorem bm_hall (E : ME) (C : Cx) (Q : Int32 → MS → Prop) (J : MS) (x1 : Int32) (x2 : Int32) (hC : COk C cX3_hall RX3 (some .int) 3 61 3) (hM : MOk E C) (hQ : cx_Q C = MQ (cx_b C) (va_Qi Q (BM E) (mA E)) (cx_a C) (cx_s C) (cx_MC C) (cx_MS C) (mA E)) (h : wm_hall Q J x1 x2) : GM E C J 0 [some (.ref (me_a E 54)), some (.int x1), some (.int x2)] [] := by
  refine g_aload_n hC dX3_hall_0 rfl ?_
  refine g_iconst (v := 0) hC dX3_hall_1 (by decide) ?_
  refine gM_put hC hM 0 (ty := .int) dX3_hall_2 q1503 (by decide) (by decide) rfl rfl rfl rfl rfl ?_
  refine g_iload_n hC dX3_hall_5 rfl ?_
  refine gM_Si (As := [.int x1]) (rest := []) hC hM (mm_isHall (cx_l C) E hM.2.1 _ _ _ h) (lw_S q1784 q1785 q76 q1786) hd_isHall rfl rfl (Nat.le_of_ble_eq_true rfl) ⟨Nat.le_of_ble_eq_true rfl, Nat.le_of_ble_eq_true rfl⟩ dX3_hall_6 ?_
  intro r2 J1 h
  refine g_if_ne (tgt := 15) hC dX3_hall_9 (by decide) (fun c => ?_) (fun c => ?_)
  · have h := it_n c h
    refine g_iload_n hC dX3_hall_15 rfl ?_
    refine g_if_ne (tgt := 28) hC dX3_hall_16 (by decide) (fun c => ?_) (fun c => ?_)
    · have h := it_n c h
      refine g_iload_n hC dX3_hall_28 rfl ?_
      refine g_iconst (v := 1) hC dX3_hall_29 (by decide) ?_
      refine g_icmp_ne (tgt := 42) hC dX3_hall_30 (by decide) (fun c => ?_) (fun c => ?_)
      · have h := it_n c h
        refine g_iload_n hC dX3_hall_42 rfl ?_
        refine g_iconst (v := 2) hC dX3_hall_43 (by decide) ?_
        refine g_icmp_ne (tgt := 56) hC dX3_hall_44 (by decide) (fun c => ?_) (fun c => ?_)
        · have h := it_n c h
          refine g_iload_n hC dX3_hall_56 rfl ?_
          refine g_iconst (v := 3) hC dX3_hall_57 (by decide) ?_
          refine g_icmp_ne (tgt := 70) hC dX3_hall_58 (by decide) (fun c => ?_) (fun c => ?_)
          · have h := it_n c h
            refine g_iload_n hC dX3_hall_70 rfl ?_
            refine g_i2l hC dX3_hall_71 ?_
            refine g_ldc2 (v := 4) hC dX3_hall_72 q1788 ?_
            refine g_ldc2 (v := 5) hC dX3_hall_75 q1789 ?_
            refine gM_Si (As := [.long (Int32.toInt64 x2), .long (4 : Int64), .long (5 : Int64)]) (rest := []) hC hM (mm_in (cx_l C) E hM.2.1 _ _ _ _ _ h) (lw_S q1675 q1676 q76 q1677) hd_in rfl rfl (Nat.le_of_ble_eq_true rfl) ⟨Nat.le_of_ble_eq_true rfl, Nat.le_of_ble_eq_true rfl⟩ dX3_hall_78 ?_
            intro r4 J3 h
            refine g_if_eq (tgt := 99) hC dX3_hall_81 (by decide) (fun c => ?_) (fun c => ?_)
            · have h := it_p c h
              refine g_iload_n hC dX3_hall_99 rfl ?_
              refine g_i2l hC dX3_hall_100 ?_
              refine g_ldc2 (v := 10) hC dX3_hall_101 q1790 ?_
              refine g_ldc2 (v := 14) hC dX3_hall_104 q1791 ?_
              refine gM_Si (As := [.long (Int32.toInt64 x2), .long (10 : Int64), .long (14 : Int64)]) (rest := []) hC hM (mm_in (cx_l C) E hM.2.1 _ _ _ _ _ h) (lw_S q1675 q1676 q76 q1677) hd_in rfl rfl (Nat.le_of_ble_eq_true rfl) ⟨Nat.le_of_ble_eq_true rfl, Nat.le_of_ble_eq_true rfl⟩ dX3_hall_107 ?_
              intro r6 J5 h
              refine g_if_eq (tgt := 129) hC dX3_hall_110 (by decide) (fun c => ?_) (fun c => ?_)
              · have h := it_p c h
                refine g_iload_n hC dX3_hall_129 rfl ?_
                refine g_i2l hC dX3_hall_130 ?_
                refine g_ldc2 (v := 20) hC dX3_hall_131 q1792 ?_
                refine g_ldc2 (v := 24) hC dX3_hall_134 q1793 ?_
                refine gM_Si (As := [.long (Int32.toInt64 x2), .long (20 : Int64), .long (24 : Int64)]) (rest := []) hC hM (mm_in (cx_l C) E hM.2.1 _ _ _ _ _ h) (lw_S q1675 q1676 q76 q1677) hd_in rfl rfl (Nat.le_of_ble_eq_true rfl) ⟨Nat.le_of_ble_eq_true rfl, Nat.le_of_ble_eq_true rfl⟩ dX3_hall_137 ?_
                intro r8 J7 h
                refine g_if_eq (tgt := 159) hC dX3_hall_140 (by decide) (fun c => ?_) (fun c => ?_)
                · have h := it_p c h
                  refine g_ldc (v := -1000001) hC dX3_hall_159 q1679 ?_
                  refine gM_iret hC hM hQ rfl dX3_hall_161 h
                · have h := it_n c h
                  refine g_aload_n hC dX3_hall_143 rfl ?_
                  refine gM_getA hC hM 8 dX3_hall_144 q1511 (by decide) (by decide) rfl ?_
                  refine g_iconst (v := 5) hC dX3_hall_147 (by decide) ?_
                  refine g_iload_n hC dX3_hall_148 rfl ?_
                  refine g_imul hC dX3_hall_149 ?_
                  refine g_iload_n hC dX3_hall_150 rfl ?_
                  refine g_iadd hC dX3_hall_151 ?_
                  refine g_bipush (v := 20) hC dX3_hall_152 (by decide) ?_
                  refine g_isub hC dX3_hall_154 ?_
                  refine gM_iald hC hM 8 6 dX3_hall_155 rfl (by decide) h.1 ?_
                  refine g_goto (tgt := 161) hC dX3_hall_156 (by decide) ?_
                  refine gM_iret hC hM hQ rfl dX3_hall_161 h.2
              · have h := it_n c h
                refine g_aload_n hC dX3_hall_113 rfl ?_
                refine gM_getA hC hM 7 dX3_hall_114 q1510 (by decide) (by decide) rfl ?_
                refine g_iconst (v := 5) hC dX3_hall_117 (by decide) ?_
                refine g_iload_n hC dX3_hall_118 rfl ?_
                refine g_imul hC dX3_hall_119 ?_
                refine g_iload_n hC dX3_hall_120 rfl ?_
                refine g_iadd hC dX3_hall_121 ?_
                refine g_bipush (v := 10) hC dX3_hall_122 (by decide) ?_
                refine g_isub hC dX3_hall_124 ?_
                refine gM_iald hC hM 7 5 dX3_hall_125 rfl (by decide) h.1 ?_
                refine g_goto (tgt := 161) hC dX3_hall_126 (by decide) ?_
                refine gM_iret hC hM hQ rfl dX3_hall_161 h.2
            · have h := it_n c h
              refine g_aload_n hC dX3_hall_84 rfl ?_
              refine gM_getA hC hM 6 dX3_hall_85 q1509 (by decide) (by decide) rfl ?_
              refine g_iconst (v := 2) hC dX3_hall_88 (by decide) ?_
              refine g_iload_n hC dX3_hall_89 rfl ?_
              refine g_imul hC dX3_hall_90 ?_
              refine g_iload_n hC dX3_hall_91 rfl ?_
              refine g_iadd hC dX3_hall_92 ?_
              refine g_iconst (v := 4) hC dX3_hall_93 (by decide) ?_
              refine g_isub hC dX3_hall_94 ?_
              refine gM_iald hC hM 6 4 dX3_hall_95 rfl (by decide) h.1 ?_
              refine g_goto (tgt := 161) hC dX3_hall_96 (by decide) ?_
              refine gM_iret hC hM hQ rfl dX3_hall_161 h.2
          · have h := it_p c h
            refine g_aload_n hC dX3_hall_61 rfl ?_
            refine gM_getA hC hM 5 dX3_hall_62 q1508 (by decide) (by decide) rfl ?_
            refine g_iload_n hC dX3_hall_65 rfl ?_
            refine gM_iald hC hM 5 3 dX3_hall_66 rfl (by decide) h.1 ?_
            refine g_goto (tgt := 161) hC dX3_hall_67 (by decide) ?_
            refine gM_iret hC hM hQ rfl dX3_hall_161 h.2
        · have h := it_p c h
          refine g_aload_n hC dX3_hall_47 rfl ?_
          refine gM_getA hC hM 4 dX3_hall_48 q1507 (by decide) (by decide) rfl ?_
          refine g_iload_n hC dX3_hall_51 rfl ?_
          refine gM_iald hC hM 4 2 dX3_hall_52 rfl (by decide) h.1 ?_
          refine g_goto (tgt := 161) hC dX3_hall_53 (by decide) ?_
          refine gM_iret hC hM hQ rfl dX3_hall_161 h.2
      · have h := it_p c h
        refine g_aload_n hC dX3_hall_33 rfl ?_
        refine gM_getA hC hM 3 dX3_hall_34 q1506 (by decide) (by decide) rfl ?_
        refine g_iload_n hC dX3_hall_37 rfl ?_
        refine gM_iald hC hM 3 1 dX3_hall_38 rfl (by decide) h.1 ?_
        refine g_goto (tgt := 161) hC dX3_hall_39 (by decide) ?_
        refine gM_iret hC hM hQ rfl dX3_hall_161 h.2
    · have h := it_p c h
      refine g_aload_n hC dX3_hall_19 rfl ?_
      refine gM_getA hC hM 2 dX3_hall_20 q1505 (by decide) (by decide) rfl ?_
      refine g_iload_n hC dX3_hall_23 rfl ?_
      refine gM_iald hC hM 2 0 dX3_hall_24 rfl (by decide) h.1 ?_
      refine g_goto (tgt := 161) hC dX3_hall_25 (by decide) ?_
      refine gM_iret hC hM hQ rfl dX3_hall_161 h.2
  · have h := it_p c h
    refine g_ldc (v := -1000001) hC dX3_hall_12 q1679 ?_
    refine gM_iret hC hM hQ rfl dX3_hall_14 h
theorem mm_hall (l : Launch) (E : ME) (hI : mInj E) (Q : Int32 → MS → Prop) (J : MS) (x1 : Int32) (x2 : Int32) (h : wm_hall Q J x1 x2) : MMet E l yX3_hall cX3_hall 3 (some .int) ({ frames := 3, cells := 0, slots := 0, locals := 61 }) [.ref (me_a E 54), .int x1, .int x2] J (va_Qi Q (BM E) (mA E)) :=
  MMet_of hI (by decide) rfl (Nat.le_of_ble_eq_true rfl) (L0 := [some (.ref (me_a E 54)), some (.int x1), some (.int x2)]) rfl (fun C hC hM hl hQ => bm_hall E C Q J x1 x2 hC hM hQ h)
/-! isDay -/
def wm_isDay (Q : Int32 → MS → Prop) (J : MS) (x0 : Int32) : Prop :=
  wm_in (fun r2 J1 => narrow .boolean (.int r2) = .int r2 ∧ Q r2 J1) J (Int32.toInt64 x0) (0 : Int64) (364 : Int64)
theorem hd_isDay : yX3_isDay.cls = RX3 ∧ yX3_isDay.cls ≠ "java/lang/invoke/MethodHandle" ∧ yX3_isDay.cls ≠ "java/lang/invoke/VarHandle" ∧ (parseMethodDescriptor yX3_isDay.desc).map (fun d => d.parameters.length) = some 1 := by decide +kernel
set_option maxHeartbeats 4000000 in
set_option maxRecDepth 100000 in
theorem bm_isDay (E : ME) (C : Cx) (Q : Int32 → MS → Prop) (J : MS) (x0 : Int32) (hC : COk C cX3_isDay RX3 (some .boolean) 2 41 1) (hM : MOk E C) (hQ : cx_Q C = MQ (cx_b C) (va_Qi Q (BM E) (mA E)) (cx_a C) (cx_s C) (cx_MC C) (cx_MS C) (mA E)) (h : wm_isDay Q J x0) : GM E C J 0 [some (.int x0)] [] := by
  refine g_iload_n hC dX3_isDay_0 rfl ?_
  refine g_i2l hC dX3_isDay_1 ?_
  refine g_lconst (v := 0) hC dX3_isDay_2 (by decide) ?_
  refine g_ldc2 (v := 364) hC dX3_isDay_3 q1802 ?_
  refine gM_Si (As := [.long (Int32.toInt64 x0), .long (0 : Int64), .long (364 : Int64)]) (rest := []) hC hM (mm_in (cx_l C) E hM.2.1 _ _ _ _ _ h) (lw_S q1675 q1676 q76 q1677) hd_in rfl rfl (Nat.le_of_ble_eq_true rfl) ⟨Nat.le_of_ble_eq_true rfl, Nat.le_of_ble_eq_true rfl⟩ dX3_isDay_6 ?_
  intro r2 J1 h
  refine gM_zret hC hM hQ rfl h.1 dX3_isDay_9 h.2
theorem mm_isDay (l : Launch) (E : ME) (hI : mInj E) (Q : Int32 → MS → Prop) (J : MS) (x0 : Int32) (h : wm_isDay Q J x0) : MMet E l yX3_isDay cX3_isDay 1 (some .boolean) ({ frames := 2, cells := 0, slots := 0, locals := 41 }) [.int x0] J (va_Qi Q (BM E) (mA E)) :=
  MMet_of hI (by decide) rfl (Nat.le_of_ble_eq_true rfl) (L0 := [some (.int x0)]) rfl (fun C hC hM hl hQ => bm_isDay E C Q J x0 hC hM hQ h)
/-! book -/
def wm_book_63 (Q : Int32 → MS → Prop) (J : MS) : Prop :=
  wm_finding (fun r4 J3 => Q r4 J3) J (2 : Int32)
def wm_book_273 (Q : Int32 → MS → Prop) : Nat → MS → Int32 → Int32 → Prop
  | 0, _, _, _ => False
  | n + 1, J, a3, a5 => (if (9 : Int32) ≤ a5 then vp_in (J 24 0) 16 ∧ Q (((mset (mset J 26 (Int32.toNatClampNeg (J 24 0)) (-1000000 : Int32)) 24 0 (((mset J 26 (Int32.toNatClampNeg (J 24 0)) (-1000000 : Int32)) 24 0) + (1 : Int32))) 24 0) - (1 : Int32)) (mset (mset J 26 (Int32.toNatClampNeg (J 24 0)) (-1000000 : Int32)) 24 0 (((mset J 26 (Int32.toNatClampNeg (J 24 0)) (-1000000 : Int32)) 24 0) + (1 : Int32))) else vp_in (a3 + a5) 480 ∧ vp_in (((9 : Int32) * (J 24 0)) + a5) 144 ∧ wm_book_273 Q n (mset J 25 (Int32.toNatClampNeg (((9 : Int32) * (J 24 0)) + a5)) (J 11 (Int32.toNatClampNeg (a3 + a5)))) a3 (a5 + (1 : Int32)))
def wm_book_255 (Q : Int32 → MS → Prop) (J : MS) (a3 : Int32) (s0 : Int32) : Prop :=
  (if s0 = 0 then Q (-1000001 : Int32) J else ∃ n7, wm_book_273 Q n7 (mset J 1 0 (0 : Int32)) a3 (0 : Int32))
def wm_book_254 (Q : Int32 → MS → Prop) (J : MS) (a3 : Int32) : Prop :=
  wm_book_255 Q J a3 (0 : Int32)
def wm_book (Q : Int32 → MS → Prop) (J : MS) (x1 : Int32) (x2 : Int32) : Prop :=
  wm_isSheet (fun r2 J1 => (if r2 = 0 then Q (-1000001 : Int32) J1 else (if (J1 24 0) = (16 : Int32) then Q (-1000003 : Int32) J1 else vp_in x1 8 ∧ (if 0 ≤ (J1 9 (Int32.toNatClampNeg x1)) then (if x2 < 0 then wm_book_63 Q J1  else vp_in x1 8 ∧ (if (lg_cmp ((Int32.toInt64 x2) + (9 : Int64)) (Int32.toInt64 (J1 10 (Int32.toNatClampNeg x1)))) ≤ 0 then vp_in (((60 : Int32) * x1) + x2) 480 ∧ wm_isHall (fun r6 J5 => (if r6 = 0 then wm_book_254 Q J5 (((60 : Int32) * x1) + x2) else vp_in ((((60 : Int32) * x1) + x2) + (1 : Int32)) 480 ∧ wm_in (fun r9 J8 => (if r9 = 0 then wm_book_254 Q J8 (((60 : Int32) * x1) + x2) else vp_in ((((60 : Int32) * x1) + x2) + (2 : Int32)) 480 ∧ wm_isDay (fun r11 J10 => (if r11 = 0 then wm_book_254 Q J10 (((60 : Int32) * x1) + x2) else vp_in ((((60 : Int32) * x1) + x2) + (3 : Int32)) 480 ∧ wm_in (fun r13 J12 => (if r13 = 0 then wm_book_254 Q J12 (((60 : Int32) * x1) + x2) else vp_in ((((60 : Int32) * x1) + x2) + (4 : Int32)) 480 ∧ vp_in ((((60 : Int32) * x1) + x2) + (3 : Int32)) 480 ∧ wm_in (fun r15 J14 => (if r15 = 0 then wm_book_254 Q J14 (((60 : Int32) * x1) + x2) else vp_in ((((60 : Int32) * x1) + x2) + (5 : Int32)) 480 ∧ wm_in (fun r17 J16 => (if r17 = 0 then wm_book_254 Q J16 (((60 : Int32) * x1) + x2) else vp_in ((((60 : Int32) * x1) + x2) + (6 : Int32)) 480 ∧ wm_in (fun r19 J18 => (if r19 = 0 then wm_book_254 Q J18 (((60 : Int32) * x1) + x2) else vp_in ((((60 : Int32) * x1) + x2) + (7 : Int32)) 480 ∧ wm_in (fun r21 J20 => (if r21 = 0 then wm_book_254 Q J20 (((60 : Int32) * x1) + x2) else vp_in ((((60 : Int32) * x1) + x2) + (8 : Int32)) 480 ∧ vp_in ((((60 : Int32) * x1) + x2) + (2 : Int32)) 480 ∧ wm_in (fun r23 J22 => (if r23 = 0 then wm_book_254 Q J22 (((60 : Int32) * x1) + x2) else wm_book_255 Q J22 (((60 : Int32) * x1) + x2) (1 : Int32))) J20 (Int32.toInt64 (J20 11 (Int32.toNatClampNeg ((((60 : Int32) * x1) + x2) + (8 : Int32))))) (0 : Int64) (Int32.toInt64 (J20 11 (Int32.toNatClampNeg ((((60 : Int32) * x1) + x2) + (2 : Int32))))))) J18 (Int32.toInt64 (J18 11 (Int32.toNatClampNeg ((((60 : Int32) * x1) + x2) + (7 : Int32))))) (0 : Int64) (1 : Int64))) J16 (Int32.toInt64 (J16 11 (Int32.toNatClampNeg ((((60 : Int32) * x1) + x2) + (6 : Int32))))) (0 : Int64) (4 : Int64))) J14 (Int32.toInt64 (J14 11 (Int32.toNatClampNeg ((((60 : Int32) * x1) + x2) + (5 : Int32))))) (1 : Int64) (999 : Int64))) J12 (Int32.toInt64 (J12 11 (Int32.toNatClampNeg ((((60 : Int32) * x1) + x2) + (4 : Int32))))) (Int32.toInt64 ((J12 11 (Int32.toNatClampNeg ((((60 : Int32) * x1) + x2) + (3 : Int32)))) + (1 : Int32))) (96 : Int64))) J10 (Int32.toInt64 (J10 11 (Int32.toNatClampNeg ((((60 : Int32) * x1) + x2) + (3 : Int32))))) (0 : Int64) (95 : Int64))) J8 (J8 11 (Int32.toNatClampNeg ((((60 : Int32) * x1) + x2) + (2 : Int32)))))) J5 (Int32.toInt64 (J5 11 (Int32.toNatClampNeg ((((60 : Int32) * x1) + x2) + (1 : Int32))))) (0 : Int64) (1 : Int64))) J1 (J1 11 (Int32.toNatClampNeg (((60 : Int32) * x1) + x2))) else wm_book_63 Q J1 )) else wm_finding (fun r25 J24 => Q r25 J24) J1 (1 : Int32))))) (mset J 0 0 (0 : Int32)) x1
theorem hd_book : yX3_book.cls = RX3 ∧ yX3_book.cls ≠ "java/lang/invoke/MethodHandle" ∧ yX3_book.cls ≠ "java/lang/invoke/VarHandle" ∧ (parseMethodDescriptor yX3_book.desc).map (fun d => d.parameters.length) = some 2 := by decide +kernel
set_option maxHeartbeats 4000000 in
set_option maxRecDepth 100000 in
theorem bm_book (E : ME) (C : Cx) (Q : Int32 → MS → Prop) (J : MS) (x1 : Int32) (x2 : Int32) (hC : COk C cX3_book RX3 (some .int) 3 61 6) (hM : MOk E C) (hQ : cx_Q C = MQ (cx_b C) (va_Qi Q (BM E) (mA E)) (cx_a C) (cx_s C) (cx_MC C) (cx_MS C) (mA E)) (h : wm_book Q J x1 x2) : GM E C J 0 [some (.ref (me_a E 54)), some (.int x1), some (.int x2), none, none, none] [] := by
  have s_63 : ∀ (J : MS), wm_book_63 Q  J  → GM E C J 63 [some (.ref (me_a E 54)), none, none, none, none, none] [] := by
    intro  J  h
    refine g_aload_n hC dX3_book_63 rfl ?_
    refine g_iconst (v := 2) hC dX3_book_64 (by decide) ?_
    refine gM_Vi (As := [.int (2 : Int32)]) (rest := []) hC hM (mm_finding (cx_l C) E hM.2.1 _ _ _ h) (lw_V q1680 q1682 qs37 q76 q1683) hd_finding rfl rfl (Nat.le_of_ble_eq_true rfl) ⟨Nat.le_of_ble_eq_true rfl, Nat.le_of_ble_eq_true rfl⟩ dX3_book_65 ?_
    intro r4 J3 h
    refine gM_iret hC hM hQ rfl dX3_book_68 h
  have s_273 : ∀ (n : Nat) (J : MS) (a3 : Int32) (a5 : Int32), wm_book_273 Q  n J a3 a5 → GM E C J 273 [some (.ref (me_a E 54)), none, none, some (.int a3), none, some (.int a5)] [] := by
    intro  n
    induction n with
    | zero =>
      intro J a3 a5 h
      exact False.elim h
    | succ n ih =>
      intro J a3 a5 h
      refine g_iload hC dX3_book_273 rfl ?_
      refine g_bipush (v := 9) hC dX3_book_275 (by decide) ?_
      refine g_icmp_ge (tgt := 310) hC dX3_book_277 (by decide) (fun c => ?_) (fun c => ?_)
      · have h := it_p c h
        refine g_aload_n hC dX3_book_310 rfl ?_
        refine gM_getA hC hM 26 dX3_book_311 q1529 (by decide) (by decide) rfl ?_
        refine g_aload_n hC dX3_book_314 rfl ?_
        refine gM_getS hC hM 24 dX3_book_315 q1527 (by decide) (by decide) rfl ?_
        refine g_ldc (v := -1000000) hC dX3_book_318 q1720 ?_
        refine gM_iast hC hM 26 12 dX3_book_320 rfl (by decide) h.1 ?_
        refine g_aload_n hC dX3_book_321 rfl ?_
        refine g_dup hC dX3_book_322 rfl ?_
        refine gM_getS hC hM 24 dX3_book_323 q1527 (by decide) (by decide) rfl ?_
        refine g_iconst (v := 1) hC dX3_book_326 (by decide) ?_
        refine g_iadd hC dX3_book_327 ?_
        refine gM_put hC hM 24 (ty := .int) dX3_book_328 q1527 (by decide) (by decide) rfl rfl rfl rfl rfl ?_
        refine g_aload_n hC dX3_book_331 rfl ?_
        refine gM_getS hC hM 24 dX3_book_332 q1527 (by decide) (by decide) rfl ?_
        refine g_iconst (v := 1) hC dX3_book_335 (by decide) ?_
        refine g_isub hC dX3_book_336 ?_
        refine gM_iret hC hM hQ rfl dX3_book_337 h.2
      · have h := it_n c h
        refine g_aload_n hC dX3_book_280 rfl ?_
        refine gM_getA hC hM 25 dX3_book_281 q1528 (by decide) (by decide) rfl ?_
        refine g_bipush (v := 9) hC dX3_book_284 (by decide) ?_
        refine g_aload_n hC dX3_book_286 rfl ?_
        refine gM_getS hC hM 24 dX3_book_287 q1527 (by decide) (by decide) rfl ?_
        refine g_imul hC dX3_book_290 ?_
        refine g_iload hC dX3_book_291 rfl ?_
        refine g_iadd hC dX3_book_293 ?_
        refine g_aload_n hC dX3_book_294 rfl ?_
        refine gM_getA hC hM 11 dX3_book_295 q1514 (by decide) (by decide) rfl ?_
        refine g_iload_n hC dX3_book_298 rfl ?_
        refine g_iload hC dX3_book_299 rfl ?_
        refine g_iadd hC dX3_book_301 ?_
        refine gM_iald hC hM 11 9 dX3_book_302 rfl (by decide) h.1 ?_
        refine gM_iast hC hM 25 11 dX3_book_303 rfl (by decide) h.2.1 ?_
        refine g_iinc (v := (a5 + (1 : Int32))) hC dX3_book_304 rfl rfl (by decide) rfl rfl ?_
        refine g_goto (tgt := 273) hC dX3_book_307 (by decide) ?_
        exact ih (mset J 25 (Int32.toNatClampNeg (((9 : Int32) * (J 24 0)) + a5)) (J 11 (Int32.toNatClampNeg (a3 + a5)))) a3 (a5 + (1 : Int32)) h.2.2
  have s_255 : ∀ (J : MS) (a3 : Int32) (s0 : Int32), wm_book_255 Q  J a3 s0 → GM E C J 255 [some (.ref (me_a E 54)), none, none, some (.int a3), none, none] [.int s0] := by
    intro  J a3 s0 h
    refine g_istore hC dX3_book_255 (by decide) rfl rfl ?_
    refine g_iload hC dX3_book_257 rfl ?_
    refine g_if_ne (tgt := 265) hC dX3_book_259 (by decide) (fun c => ?_) (fun c => ?_)
    · have h := it_n c h
      refine g_aload_n hC dX3_book_265 rfl ?_
      refine g_iconst (v := 0) hC dX3_book_266 (by decide) ?_
      refine gM_put hC hM 1 (ty := .int) dX3_book_267 q1504 (by decide) (by decide) rfl rfl rfl rfl rfl ?_
      refine g_iconst (v := 0) hC dX3_book_270 (by decide) ?_
      refine g_istore hC dX3_book_271 (by decide) rfl rfl ?_
      refine g_sub [true, false, false, true, false, true] rfl ?_
      obtain ⟨n0, h0⟩ := h
      exact s_273 n0 (mset J 1 0 (0 : Int32)) a3 (0 : Int32) h0
    · have h := it_p c h
      refine g_ldc (v := -1000001) hC dX3_book_262 q1679 ?_
      refine gM_iret hC hM hQ rfl dX3_book_264 h
  have s_254 : ∀ (J : MS) (a3 : Int32), wm_book_254 Q  J a3 → GM E C J 254 [some (.ref (me_a E 54)), none, none, some (.int a3), none, none] [] := by
    intro  J a3 h
    refine g_iconst (v := 0) hC dX3_book_254 (by decide) ?_
    exact s_255 J a3 (0 : Int32) h
  refine g_aload_n hC dX3_book_0 rfl ?_
  refine g_iconst (v := 0) hC dX3_book_1 (by decide) ?_
  refine gM_put hC hM 0 (ty := .int) dX3_book_2 q1503 (by decide) (by decide) rfl rfl rfl rfl rfl ?_
  refine g_iload_n hC dX3_book_5 rfl ?_
  refine gM_Si (As := [.int x1]) (rest := []) hC hM (mm_isSheet (cx_l C) E hM.2.1 _ _ _ h) (lw_S q1671 q1672 q76 q1673) hd_isSheet rfl rfl (Nat.le_of_ble_eq_true rfl) ⟨Nat.le_of_ble_eq_true rfl, Nat.le_of_ble_eq_true rfl⟩ dX3_book_6 ?_
  intro r2 J1 h
  refine g_if_ne (tgt := 15) hC dX3_book_9 (by decide) (fun c => ?_) (fun c => ?_)
  · have h := it_n c h
    refine g_aload_n hC dX3_book_15 rfl ?_
    refine gM_getS hC hM 24 dX3_book_16 q1527 (by decide) (by decide) rfl ?_
    refine g_bipush (v := 16) hC dX3_book_19 (by decide) ?_
    refine g_icmp_ne (tgt := 27) hC dX3_book_21 (by decide) (fun c => ?_) (fun c => ?_)
    · have h := it_n c h
      refine g_aload_n hC dX3_book_27 rfl ?_
      refine gM_getA hC hM 9 dX3_book_28 q1512 (by decide) (by decide) rfl ?_
      refine g_iload_n hC dX3_book_31 rfl ?_
      refine gM_iald hC hM 9 7 dX3_book_32 rfl (by decide) h.1 ?_
      refine g_if_ge (tgt := 42) hC dX3_book_33 (by decide) (fun c => ?_) (fun c => ?_)
      · have h := it_p c h.2
        refine g_iload_n hC dX3_book_42 rfl ?_
        refine g_if_lt (tgt := 63) hC dX3_book_43 (by decide) (fun c => ?_) (fun c => ?_)
        · have h := it_p c h
          refine g_sub [true, false, false, false, false, false] rfl ?_
          exact s_63 J1 h
        · have h := it_n c h
          refine g_iload_n hC dX3_book_46 rfl ?_
          refine g_i2l hC dX3_book_47 ?_
          refine g_ldc2 (v := 9) hC dX3_book_48 q1798 ?_
          refine g_ladd hC dX3_book_51 ?_
          refine g_aload_n hC dX3_book_52 rfl ?_
          refine gM_getA hC hM 10 dX3_book_53 q1513 (by decide) (by decide) rfl ?_
          refine g_iload_n hC dX3_book_56 rfl ?_
          refine gM_iald hC hM 10 8 dX3_book_57 rfl (by decide) h.1 ?_
          refine g_i2l hC dX3_book_58 ?_
          refine g_lcmp hC dX3_book_59 ?_
          refine g_if_le (tgt := 69) hC dX3_book_60 (by decide) (fun c => ?_) (fun c => ?_)
          · have h := it_p c h.2
            refine g_bipush (v := 60) hC dX3_book_69 (by decide) ?_
            refine g_iload_n hC dX3_book_71 rfl ?_
            refine g_imul hC dX3_book_72 ?_
            refine g_iload_n hC dX3_book_73 rfl ?_
            refine g_iadd hC dX3_book_74 ?_
            refine g_istore_n hC dX3_book_75 rfl (by decide) rfl rfl ?_
            refine g_sub [true, false, false, true, false, false] rfl ?_
            refine g_aload_n hC dX3_book_76 rfl ?_
            refine gM_getA hC hM 11 dX3_book_77 q1514 (by decide) (by decide) rfl ?_
            refine g_iload_n hC dX3_book_80 rfl ?_
            refine gM_iald hC hM 11 9 dX3_book_81 rfl (by decide) h.1 ?_
            refine gM_Si (As := [.int (J1 11 (Int32.toNatClampNeg (((60 : Int32) * x1) + x2)))]) (rest := []) hC hM (mm_isHall (cx_l C) E hM.2.1 _ _ _ h.2) (lw_S q1784 q1785 q76 q1786) hd_isHall rfl rfl (Nat.le_of_ble_eq_true rfl) ⟨Nat.le_of_ble_eq_true rfl, Nat.le_of_ble_eq_true rfl⟩ dX3_book_82 ?_
            intro r6 J5 h
            refine g_if_eq (tgt := 254) hC dX3_book_85 (by decide) (fun c => ?_) (fun c => ?_)
            · have h := it_p c h
              exact s_254 J5 (((60 : Int32) * x1) + x2) h
            · have h := it_n c h
              refine g_aload_n hC dX3_book_88 rfl ?_
              refine gM_getA hC hM 11 dX3_book_89 q1514 (by decide) (by decide) rfl ?_
              refine g_iload_n hC dX3_book_92 rfl ?_
              refine g_iconst (v := 1) hC dX3_book_93 (by decide) ?_
              refine g_iadd hC dX3_book_94 ?_
              refine gM_iald hC hM 11 9 dX3_book_95 rfl (by decide) h.1 ?_
              refine g_i2l hC dX3_book_96 ?_
              refine g_lconst (v := 0) hC dX3_book_97 (by decide) ?_
              refine g_lconst (v := 1) hC dX3_book_98 (by decide) ?_
              refine gM_Si (As := [.long (Int32.toInt64 (J5 11 (Int32.toNatClampNeg ((((60 : Int32) * x1) + x2) + (1 : Int32))))), .long (0 : Int64), .long (1 : Int64)]) (rest := []) hC hM (mm_in (cx_l C) E hM.2.1 _ _ _ _ _ h.2) (lw_S q1675 q1676 q76 q1677) hd_in rfl rfl (Nat.le_of_ble_eq_true rfl) ⟨Nat.le_of_ble_eq_true rfl, Nat.le_of_ble_eq_true rfl⟩ dX3_book_99 ?_
              intro r9 J8 h
              refine g_if_eq (tgt := 254) hC dX3_book_102 (by decide) (fun c => ?_) (fun c => ?_)
              · have h := it_p c h
                exact s_254 J8 (((60 : Int32) * x1) + x2) h
              · have h := it_n c h
                refine g_aload_n hC dX3_book_105 rfl ?_
                refine gM_getA hC hM 11 dX3_book_106 q1514 (by decide) (by decide) rfl ?_
                refine g_iload_n hC dX3_book_109 rfl ?_
                refine g_iconst (v := 2) hC dX3_book_110 (by decide) ?_
                refine g_iadd hC dX3_book_111 ?_
                refine gM_iald hC hM 11 9 dX3_book_112 rfl (by decide) h.1 ?_
                refine gM_Si (As := [.int (J8 11 (Int32.toNatClampNeg ((((60 : Int32) * x1) + x2) + (2 : Int32))))]) (rest := []) hC hM (mm_isDay (cx_l C) E hM.2.1 _ _ _ h.2) (lw_S q1799 q1800 q76 q1801) hd_isDay rfl rfl (Nat.le_of_ble_eq_true rfl) ⟨Nat.le_of_ble_eq_true rfl, Nat.le_of_ble_eq_true rfl⟩ dX3_book_113 ?_
                intro r11 J10 h
                refine g_if_eq (tgt := 254) hC dX3_book_116 (by decide) (fun c => ?_) (fun c => ?_)
                · have h := it_p c h
                  exact s_254 J10 (((60 : Int32) * x1) + x2) h
                · have h := it_n c h
                  refine g_aload_n hC dX3_book_119 rfl ?_
                  refine gM_getA hC hM 11 dX3_book_120 q1514 (by decide) (by decide) rfl ?_
                  refine g_iload_n hC dX3_book_123 rfl ?_
                  refine g_iconst (v := 3) hC dX3_book_124 (by decide) ?_
                  refine g_iadd hC dX3_book_125 ?_
                  refine gM_iald hC hM 11 9 dX3_book_126 rfl (by decide) h.1 ?_
                  refine g_i2l hC dX3_book_127 ?_
                  refine g_lconst (v := 0) hC dX3_book_128 (by decide) ?_
                  refine g_ldc2 (v := 95) hC dX3_book_129 q1803 ?_
                  refine gM_Si (As := [.long (Int32.toInt64 (J10 11 (Int32.toNatClampNeg ((((60 : Int32) * x1) + x2) + (3 : Int32))))), .long (0 : Int64), .long (95 : Int64)]) (rest := []) hC hM (mm_in (cx_l C) E hM.2.1 _ _ _ _ _ h.2) (lw_S q1675 q1676 q76 q1677) hd_in rfl rfl (Nat.le_of_ble_eq_true rfl) ⟨Nat.le_of_ble_eq_true rfl, Nat.le_of_ble_eq_true rfl⟩ dX3_book_132 ?_
                  intro r13 J12 h
                  refine g_if_eq (tgt := 254) hC dX3_book_135 (by decide) (fun c => ?_) (fun c => ?_)
                  · have h := it_p c h
                    exact s_254 J12 (((60 : Int32) * x1) + x2) h
                  · have h := it_n c h
                    refine g_aload_n hC dX3_book_138 rfl ?_
                    refine gM_getA hC hM 11 dX3_book_139 q1514 (by decide) (by decide) rfl ?_
                    refine g_iload_n hC dX3_book_142 rfl ?_
                    refine g_iconst (v := 4) hC dX3_book_143 (by decide) ?_
                    refine g_iadd hC dX3_book_144 ?_
                    refine gM_iald hC hM 11 9 dX3_book_145 rfl (by decide) h.1 ?_
                    refine g_i2l hC dX3_book_146 ?_
                    refine g_aload_n hC dX3_book_147 rfl ?_
                    refine gM_getA hC hM 11 dX3_book_148 q1514 (by decide) (by decide) rfl ?_
                    refine g_iload_n hC dX3_book_151 rfl ?_
                    refine g_iconst (v := 3) hC dX3_book_152 (by decide) ?_
                    refine g_iadd hC dX3_book_153 ?_
                    refine gM_iald hC hM 11 9 dX3_book_154 rfl (by decide) h.2.1 ?_
                    refine g_iconst (v := 1) hC dX3_book_155 (by decide) ?_
                    refine g_iadd hC dX3_book_156 ?_
                    refine g_i2l hC dX3_book_157 ?_
                    refine g_ldc2 (v := 96) hC dX3_book_158 q1804 ?_
                    refine gM_Si (As := [.long (Int32.toInt64 (J12 11 (Int32.toNatClampNeg ((((60 : Int32) * x1) + x2) + (4 : Int32))))), .long (Int32.toInt64 ((J12 11 (Int32.toNatClampNeg ((((60 : Int32) * x1) + x2) + (3 : Int32)))) + (1 : Int32))), .long (96 : Int64)]) (rest := []) hC hM (mm_in (cx_l C) E hM.2.1 _ _ _ _ _ h.2.2) (lw_S q1675 q1676 q76 q1677) hd_in rfl rfl (Nat.le_of_ble_eq_true rfl) ⟨Nat.le_of_ble_eq_true rfl, Nat.le_of_ble_eq_true rfl⟩ dX3_book_161 ?_
                    intro r15 J14 h
                    refine g_if_eq (tgt := 254) hC dX3_book_164 (by decide) (fun c => ?_) (fun c => ?_)
                    · have h := it_p c h
                      exact s_254 J14 (((60 : Int32) * x1) + x2) h
                    · have h := it_n c h
                      refine g_aload_n hC dX3_book_167 rfl ?_
                      refine gM_getA hC hM 11 dX3_book_168 q1514 (by decide) (by decide) rfl ?_
                      refine g_iload_n hC dX3_book_171 rfl ?_
                      refine g_iconst (v := 5) hC dX3_book_172 (by decide) ?_
                      refine g_iadd hC dX3_book_173 ?_
                      refine gM_iald hC hM 11 9 dX3_book_174 rfl (by decide) h.1 ?_
                      refine g_i2l hC dX3_book_175 ?_
                      refine g_lconst (v := 1) hC dX3_book_176 (by decide) ?_
                      refine g_ldc2 (v := 999) hC dX3_book_177 q1805 ?_
                      refine gM_Si (As := [.long (Int32.toInt64 (J14 11 (Int32.toNatClampNeg ((((60 : Int32) * x1) + x2) + (5 : Int32))))), .long (1 : Int64), .long (999 : Int64)]) (rest := []) hC hM (mm_in (cx_l C) E hM.2.1 _ _ _ _ _ h.2) (lw_S q1675 q1676 q76 q1677) hd_in rfl rfl (Nat.le_of_ble_eq_true rfl) ⟨Nat.le_of_ble_eq_true rfl, Nat.le_of_ble_eq_true rfl⟩ dX3_book_180 ?_
                      intro r17 J16 h
                      refine g_if_eq (tgt := 254) hC dX3_book_183 (by decide) (fun c => ?_) (fun c => ?_)
                      · have h := it_p c h
                        exact s_254 J16 (((60 : Int32) * x1) + x2) h
                      · have h := it_n c h
                        refine g_aload_n hC dX3_book_186 rfl ?_
                        refine gM_getA hC hM 11 dX3_book_187 q1514 (by decide) (by decide) rfl ?_
                        refine g_iload_n hC dX3_book_190 rfl ?_
                        refine g_bipush (v := 6) hC dX3_book_191 (by decide) ?_
                        refine g_iadd hC dX3_book_193 ?_
                        refine gM_iald hC hM 11 9 dX3_book_194 rfl (by decide) h.1 ?_
                        refine g_i2l hC dX3_book_195 ?_
                        refine g_lconst (v := 0) hC dX3_book_196 (by decide) ?_
                        refine g_ldc2 (v := 4) hC dX3_book_197 q1788 ?_
                        refine gM_Si (As := [.long (Int32.toInt64 (J16 11 (Int32.toNatClampNeg ((((60 : Int32) * x1) + x2) + (6 : Int32))))), .long (0 : Int64), .long (4 : Int64)]) (rest := []) hC hM (mm_in (cx_l C) E hM.2.1 _ _ _ _ _ h.2) (lw_S q1675 q1676 q76 q1677) hd_in rfl rfl (Nat.le_of_ble_eq_true rfl) ⟨Nat.le_of_ble_eq_true rfl, Nat.le_of_ble_eq_true rfl⟩ dX3_book_200 ?_
                        intro r19 J18 h
                        refine g_if_eq (tgt := 254) hC dX3_book_203 (by decide) (fun c => ?_) (fun c => ?_)
                        · have h := it_p c h
                          exact s_254 J18 (((60 : Int32) * x1) + x2) h
                        · have h := it_n c h
                          refine g_aload_n hC dX3_book_206 rfl ?_
                          refine gM_getA hC hM 11 dX3_book_207 q1514 (by decide) (by decide) rfl ?_
                          refine g_iload_n hC dX3_book_210 rfl ?_
                          refine g_bipush (v := 7) hC dX3_book_211 (by decide) ?_
                          refine g_iadd hC dX3_book_213 ?_
                          refine gM_iald hC hM 11 9 dX3_book_214 rfl (by decide) h.1 ?_
                          refine g_i2l hC dX3_book_215 ?_
                          refine g_lconst (v := 0) hC dX3_book_216 (by decide) ?_
                          refine g_lconst (v := 1) hC dX3_book_217 (by decide) ?_
                          refine gM_Si (As := [.long (Int32.toInt64 (J18 11 (Int32.toNatClampNeg ((((60 : Int32) * x1) + x2) + (7 : Int32))))), .long (0 : Int64), .long (1 : Int64)]) (rest := []) hC hM (mm_in (cx_l C) E hM.2.1 _ _ _ _ _ h.2) (lw_S q1675 q1676 q76 q1677) hd_in rfl rfl (Nat.le_of_ble_eq_true rfl) ⟨Nat.le_of_ble_eq_true rfl, Nat.le_of_ble_eq_true rfl⟩ dX3_book_218 ?_
                          intro r21 J20 h
                          refine g_if_eq (tgt := 254) hC dX3_book_221 (by decide) (fun c => ?_) (fun c => ?_)
                          · have h := it_p c h
                            exact s_254 J20 (((60 : Int32) * x1) + x2) h
                          · have h := it_n c h
                            refine g_aload_n hC dX3_book_224 rfl ?_
                            refine gM_getA hC hM 11 dX3_book_225 q1514 (by decide) (by decide) rfl ?_
                            refine g_iload_n hC dX3_book_228 rfl ?_
                            refine g_bipush (v := 8) hC dX3_book_229 (by decide) ?_
                            refine g_iadd hC dX3_book_231 ?_
                            refine gM_iald hC hM 11 9 dX3_book_232 rfl (by decide) h.1 ?_
                            refine g_i2l hC dX3_book_233 ?_
                            refine g_lconst (v := 0) hC dX3_book_234 (by decide) ?_
                            refine g_aload_n hC dX3_book_235 rfl ?_
                            refine gM_getA hC hM 11 dX3_book_236 q1514 (by decide) (by decide) rfl ?_
                            refine g_iload_n hC dX3_book_239 rfl ?_
                            refine g_iconst (v := 2) hC dX3_book_240 (by decide) ?_
                            refine g_iadd hC dX3_book_241 ?_
                            refine gM_iald hC hM 11 9 dX3_book_242 rfl (by decide) h.2.1 ?_
                            refine g_i2l hC dX3_book_243 ?_
                            refine gM_Si (As := [.long (Int32.toInt64 (J20 11 (Int32.toNatClampNeg ((((60 : Int32) * x1) + x2) + (8 : Int32))))), .long (0 : Int64), .long (Int32.toInt64 (J20 11 (Int32.toNatClampNeg ((((60 : Int32) * x1) + x2) + (2 : Int32)))))]) (rest := []) hC hM (mm_in (cx_l C) E hM.2.1 _ _ _ _ _ h.2.2) (lw_S q1675 q1676 q76 q1677) hd_in rfl rfl (Nat.le_of_ble_eq_true rfl) ⟨Nat.le_of_ble_eq_true rfl, Nat.le_of_ble_eq_true rfl⟩ dX3_book_244 ?_
                            intro r23 J22 h
                            refine g_if_eq (tgt := 254) hC dX3_book_247 (by decide) (fun c => ?_) (fun c => ?_)
                            · have h := it_p c h
                              exact s_254 J22 (((60 : Int32) * x1) + x2) h
                            · have h := it_n c h
                              refine g_iconst (v := 1) hC dX3_book_250 (by decide) ?_
                              refine g_goto (tgt := 255) hC dX3_book_251 (by decide) ?_
                              exact s_255 J22 (((60 : Int32) * x1) + x2) (1 : Int32) h
          · have h := it_n c h.2
            refine g_sub [true, false, false, false, false, false] rfl ?_
            exact s_63 J1 h
      · have h := it_n c h.2
        refine g_aload_n hC dX3_book_36 rfl ?_
        refine g_iconst (v := 1) hC dX3_book_37 (by decide) ?_
        refine gM_Vi (As := [.int (1 : Int32)]) (rest := []) hC hM (mm_finding (cx_l C) E hM.2.1 _ _ _ h) (lw_V q1680 q1682 qs37 q76 q1683) hd_finding rfl rfl (Nat.le_of_ble_eq_true rfl) ⟨Nat.le_of_ble_eq_true rfl, Nat.le_of_ble_eq_true rfl⟩ dX3_book_38 ?_
        intro r25 J24 h
        refine gM_iret hC hM hQ rfl dX3_book_41 h
    · have h := it_p c h
      refine g_ldc (v := -1000003) hC dX3_book_24 q1702 ?_
      refine gM_iret hC hM hQ rfl dX3_book_26 h
  · have h := it_p c h
    refine g_ldc (v := -1000001) hC dX3_book_12 q1679 ?_
    refine gM_iret hC hM hQ rfl dX3_book_14 h
theorem mm_book (l : Launch) (E : ME) (hI : mInj E) (Q : Int32 → MS → Prop) (J : MS) (x1 : Int32) (x2 : Int32) (h : wm_book Q J x1 x2) : MMet E l yX3_book cX3_book 6 (some .int) ({ frames := 3, cells := 0, slots := 0, locals := 61 }) [.ref (me_a E 54), .int x1, .int x2] J (va_Qi Q (BM E) (mA E)) :=
  MMet_of hI (by decide) rfl (Nat.le_of_ble_eq_true rfl) (L0 := [some (.ref (me_a E 54)), some (.int x1), some (.int x2), none, none, none]) rfl (fun C hC hM hl hQ => bm_book E C Q J x1 x2 hC hM hQ h)
/-! isBooking -/
def wm_isBooking (Q : Int32 → MS → Prop) (J : MS) (x1 : Int32) : Prop :=
  wm_in (fun r2 J1 => narrow .boolean (.int r2) = .int r2 ∧ Q r2 J1) J (Int32.toInt64 x1) (0 : Int64) (Int32.toInt64 ((J 24 0) - (1 : Int32)))
theorem hd_isBooking : yX3_isBooking.cls = RX3 ∧ yX3_isBooking.cls ≠ "java/lang/invoke/MethodHandle" ∧ yX3_isBooking.cls ≠ "java/lang/invoke/VarHandle" ∧ (parseMethodDescriptor yX3_isBooking.desc).map (fun d => d.parameters.length) = some 1 := by decide +kernel
set_option maxHeartbeats 4000000 in
set_option maxRecDepth 100000 in
theorem bm_isBooking (E : ME) (C : Cx) (Q : Int32 → MS → Prop) (J : MS) (x1 : Int32) (hC : COk C cX3_isBooking RX3 (some .boolean) 2 41 2) (hM : MOk E C) (hQ : cx_Q C = MQ (cx_b C) (va_Qi Q (BM E) (mA E)) (cx_a C) (cx_s C) (cx_MC C) (cx_MS C) (mA E)) (h : wm_isBooking Q J x1) : GM E C J 0 [some (.ref (me_a E 54)), some (.int x1)] [] := by
  refine g_iload_n hC dX3_isBooking_0 rfl ?_
  refine g_i2l hC dX3_isBooking_1 ?_
  refine g_lconst (v := 0) hC dX3_isBooking_2 (by decide) ?_
  refine g_aload_n hC dX3_isBooking_3 rfl ?_
  refine gM_getS hC hM 24 dX3_isBooking_4 q1527 (by decide) (by decide) rfl ?_
  refine g_iconst (v := 1) hC dX3_isBooking_7 (by decide) ?_
  refine g_isub hC dX3_isBooking_8 ?_
  refine g_i2l hC dX3_isBooking_9 ?_
  refine gM_Si (As := [.long (Int32.toInt64 x1), .long (0 : Int64), .long (Int32.toInt64 ((J 24 0) - (1 : Int32)))]) (rest := []) hC hM (mm_in (cx_l C) E hM.2.1 _ _ _ _ _ h) (lw_S q1675 q1676 q76 q1677) hd_in rfl rfl (Nat.le_of_ble_eq_true rfl) ⟨Nat.le_of_ble_eq_true rfl, Nat.le_of_ble_eq_true rfl⟩ dX3_isBooking_10 ?_
  intro r2 J1 h
  refine gM_zret hC hM hQ rfl h.1 dX3_isBooking_13 h.2
theorem mm_isBooking (l : Launch) (E : ME) (hI : mInj E) (Q : Int32 → MS → Prop) (J : MS) (x1 : Int32) (h : wm_isBooking Q J x1) : MMet E l yX3_isBooking cX3_isBooking 2 (some .boolean) ({ frames := 2, cells := 0, slots := 0, locals := 41 }) [.ref (me_a E 54), .int x1] J (va_Qi Q (BM E) (mA E)) :=
  MMet_of hI (by decide) rfl (Nat.le_of_ble_eq_true rfl) (L0 := [some (.ref (me_a E 54)), some (.int x1)]) rfl (fun C hC hM hl hQ => bm_isBooking E C Q J x1 hC hM hQ h)
/-! of -/
def wm_of (Q : Int32 → MS → Prop) (J : MS) (x1 : Int32) (x2 : Int32) : Prop :=
  vp_in (((9 : Int32) * x1) + x2) 144 ∧ Q (J 25 (Int32.toNatClampNeg (((9 : Int32) * x1) + x2))) J
theorem hd_of : yX3_of.cls = RX3 ∧ yX3_of.cls ≠ "java/lang/invoke/MethodHandle" ∧ yX3_of.cls ≠ "java/lang/invoke/VarHandle" ∧ (parseMethodDescriptor yX3_of.desc).map (fun d => d.parameters.length) = some 2 := by decide +kernel
set_option maxHeartbeats 4000000 in
set_option maxRecDepth 100000 in
theorem bm_of (E : ME) (C : Cx) (Q : Int32 → MS → Prop) (J : MS) (x1 : Int32) (x2 : Int32) (hC : COk C cX3_of RX3 (some .int) 1 16 3) (hM : MOk E C) (hQ : cx_Q C = MQ (cx_b C) (va_Qi Q (BM E) (mA E)) (cx_a C) (cx_s C) (cx_MC C) (cx_MS C) (mA E)) (h : wm_of Q J x1 x2) : GM E C J 0 [some (.ref (me_a E 54)), some (.int x1), some (.int x2)] [] := by
  refine g_aload_n hC dX3_of_0 rfl ?_
  refine gM_getA hC hM 25 dX3_of_1 q1528 (by decide) (by decide) rfl ?_
  refine g_bipush (v := 9) hC dX3_of_4 (by decide) ?_
  refine g_iload_n hC dX3_of_6 rfl ?_
  refine g_imul hC dX3_of_7 ?_
  refine g_iload_n hC dX3_of_8 rfl ?_
  refine g_iadd hC dX3_of_9 ?_
  refine gM_iald hC hM 25 11 dX3_of_10 rfl (by decide) h.1 ?_
  refine gM_iret hC hM hQ rfl dX3_of_11 h.2
theorem mm_of (l : Launch) (E : ME) (hI : mInj E) (Q : Int32 → MS → Prop) (J : MS) (x1 : Int32) (x2 : Int32) (h : wm_of Q J x1 x2) : MMet E l yX3_of cX3_of 3 (some .int) ({ frames := 1, cells := 0, slots := 0, locals := 16 }) [.ref (me_a E 54), .int x1, .int x2] J (va_Qi Q (BM E) (mA E)) :=
  MMet_of hI (by decide) rfl (Nat.le_of_ble_eq_true rfl) (L0 := [some (.ref (me_a E 54)), some (.int x1), some (.int x2)]) rfl (fun C hC hM hl hQ => bm_of E C Q J x1 x2 hC hM hQ h)
/-! cancel -/
def wm_cancel (Q : Int32 → MS → Prop) (J : MS) (x1 : Int32) (x2 : Int32) : Prop :=
  wm_isBooking (fun r2 J1 => (if r2 = 0 then Q (-1000001 : Int32) J1 else wm_of (fun r4 J3 => wm_of (fun r6 J5 => wm_in (fun r8 J7 => (if r8 = 0 then Q (-1000001 : Int32) J7 else vp_in x1 16 ∧ (if (J7 26 (Int32.toNatClampNeg x1)) = (-1000000 : Int32) then vp_in x1 16 ∧ Q (1 : Int32) (mset J7 26 (Int32.toNatClampNeg x1) x2) else Q (-1000002 : Int32) J7))) J5 (Int32.toInt64 x2) (Int32.toInt64 r4) (Int32.toInt64 r6)) J3 x1 (2 : Int32)) J1 x1 (8 : Int32))) (mset J 0 0 (0 : Int32)) x1
theorem hd_cancel : yX3_cancel.cls = RX3 ∧ yX3_cancel.cls ≠ "java/lang/invoke/MethodHandle" ∧ yX3_cancel.cls ≠ "java/lang/invoke/VarHandle" ∧ (parseMethodDescriptor yX3_cancel.desc).map (fun d => d.parameters.length) = some 2 := by decide +kernel
set_option maxHeartbeats 4000000 in
set_option maxRecDepth 100000 in
theorem bm_cancel (E : ME) (C : Cx) (Q : Int32 → MS → Prop) (J : MS) (x1 : Int32) (x2 : Int32) (hC : COk C cX3_cancel RX3 (some .int) 3 62 3) (hM : MOk E C) (hQ : cx_Q C = MQ (cx_b C) (va_Qi Q (BM E) (mA E)) (cx_a C) (cx_s C) (cx_MC C) (cx_MS C) (mA E)) (h : wm_cancel Q J x1 x2) : GM E C J 0 [some (.ref (me_a E 54)), some (.int x1), some (.int x2)] [] := by
  refine g_aload_n hC dX3_cancel_0 rfl ?_
  refine g_iconst (v := 0) hC dX3_cancel_1 (by decide) ?_
  refine gM_put hC hM 0 (ty := .int) dX3_cancel_2 q1503 (by decide) (by decide) rfl rfl rfl rfl rfl ?_
  refine g_aload_n hC dX3_cancel_5 rfl ?_
  refine g_iload_n hC dX3_cancel_6 rfl ?_
  refine gM_Vi (As := [.int x1]) (rest := []) hC hM (mm_isBooking (cx_l C) E hM.2.1 _ _ _ h) (lw_V q1810 q1812 qs50 q76 q1813) hd_isBooking rfl rfl (Nat.le_of_ble_eq_true rfl) ⟨Nat.le_of_ble_eq_true rfl, Nat.le_of_ble_eq_true rfl⟩ dX3_cancel_7 ?_
  intro r2 J1 h
  refine g_if_eq (tgt := 36) hC dX3_cancel_10 (by decide) (fun c => ?_) (fun c => ?_)
  · have h := it_p c h
    refine g_ldc (v := -1000001) hC dX3_cancel_36 q1679 ?_
    refine gM_iret hC hM hQ rfl dX3_cancel_38 h
  · have h := it_n c h
    refine g_iload_n hC dX3_cancel_13 rfl ?_
    refine g_i2l hC dX3_cancel_14 ?_
    refine g_aload_n hC dX3_cancel_15 rfl ?_
    refine g_iload_n hC dX3_cancel_16 rfl ?_
    refine g_bipush (v := 8) hC dX3_cancel_17 (by decide) ?_
    refine gM_Vi (As := [.int x1, .int (8 : Int32)]) (rest := [.long (Int32.toInt64 x2)]) hC hM (mm_of (cx_l C) E hM.2.1 _ _ _ _ h) (lw_V q1814 q1816 qs51 q76 q1817) hd_of rfl rfl (Nat.le_of_ble_eq_true rfl) ⟨Nat.le_of_ble_eq_true rfl, Nat.le_of_ble_eq_true rfl⟩ dX3_cancel_19 ?_
    intro r4 J3 h
    refine g_i2l hC dX3_cancel_22 ?_
    refine g_aload_n hC dX3_cancel_23 rfl ?_
    refine g_iload_n hC dX3_cancel_24 rfl ?_
    refine g_iconst (v := 2) hC dX3_cancel_25 (by decide) ?_
    refine gM_Vi (As := [.int x1, .int (2 : Int32)]) (rest := [.long (Int32.toInt64 r4), .long (Int32.toInt64 x2)]) hC hM (mm_of (cx_l C) E hM.2.1 _ _ _ _ h) (lw_V q1814 q1816 qs51 q76 q1817) hd_of rfl rfl (Nat.le_of_ble_eq_true rfl) ⟨Nat.le_of_ble_eq_true rfl, Nat.le_of_ble_eq_true rfl⟩ dX3_cancel_26 ?_
    intro r6 J5 h
    refine g_i2l hC dX3_cancel_29 ?_
    refine gM_Si (As := [.long (Int32.toInt64 x2), .long (Int32.toInt64 r4), .long (Int32.toInt64 r6)]) (rest := []) hC hM (mm_in (cx_l C) E hM.2.1 _ _ _ _ _ h) (lw_S q1675 q1676 q76 q1677) hd_in rfl rfl (Nat.le_of_ble_eq_true rfl) ⟨Nat.le_of_ble_eq_true rfl, Nat.le_of_ble_eq_true rfl⟩ dX3_cancel_30 ?_
    intro r8 J7 h
    refine g_if_ne (tgt := 39) hC dX3_cancel_33 (by decide) (fun c => ?_) (fun c => ?_)
    · have h := it_n c h
      refine g_aload_n hC dX3_cancel_39 rfl ?_
      refine gM_getA hC hM 26 dX3_cancel_40 q1529 (by decide) (by decide) rfl ?_
      refine g_iload_n hC dX3_cancel_43 rfl ?_
      refine gM_iald hC hM 26 12 dX3_cancel_44 rfl (by decide) h.1 ?_
      refine g_ldc (v := -1000000) hC dX3_cancel_45 q1720 ?_
      refine g_icmp_eq (tgt := 54) hC dX3_cancel_47 (by decide) (fun c => ?_) (fun c => ?_)
      · have h := it_p c h.2
        refine g_aload_n hC dX3_cancel_54 rfl ?_
        refine gM_getA hC hM 26 dX3_cancel_55 q1529 (by decide) (by decide) rfl ?_
        refine g_iload_n hC dX3_cancel_58 rfl ?_
        refine g_iload_n hC dX3_cancel_59 rfl ?_
        refine gM_iast hC hM 26 12 dX3_cancel_60 rfl (by decide) h.1 ?_
        refine g_iconst (v := 1) hC dX3_cancel_61 (by decide) ?_
        refine gM_iret hC hM hQ rfl dX3_cancel_62 h.2
      · have h := it_n c h.2
        refine g_ldcw (v := -1000002) hC dX3_cancel_50 q1818 ?_
        refine gM_iret hC hM hQ rfl dX3_cancel_53 h
    · have h := it_p c h
      refine g_ldc (v := -1000001) hC dX3_cancel_36 q1679 ?_
      refine gM_iret hC hM hQ rfl dX3_cancel_38 h
theorem mm_cancel (l : Launch) (E : ME) (hI : mInj E) (Q : Int32 → MS → Prop) (J : MS) (x1 : Int32) (x2 : Int32) (h : wm_cancel Q J x1 x2) : MMet E l yX3_cancel cX3_cancel 3 (some .int) ({ frames := 3, cells := 0, slots := 0, locals := 62 }) [.ref (me_a E 54), .int x1, .int x2] J (va_Qi Q (BM E) (mA E)) :=
  MMet_of hI (by decide) rfl (Nat.le_of_ble_eq_true rfl) (L0 := [some (.ref (me_a E 54)), some (.int x1), some (.int x2)]) rfl (fun C hC hM hl hQ => bm_cancel E C Q J x1 x2 hC hM hQ h)
/-! priceOf -/
def wm_priceOf (Q : Int32 → MS → Prop) (J : MS) (x1 : Int32) : Prop :=
  wm_of (fun r2 J1 => wm_of (fun r4 J3 => wm_of (fun r6 J5 => wm_of (fun r8 J7 => vp_in (((5 : Int32) * r2) + r8) 20 ∧ vp_in x1 16 ∧ (if (J7 26 (Int32.toNatClampNeg x1)) = (-1000000 : Int32) then Q ((r4 - r6) * (J7 7 (Int32.toNatClampNeg (((5 : Int32) * r2) + r8)))) J7 else wm_of (fun r10 J9 => vp_in x1 16 ∧ vp_in r2 4 ∧ (if (J9 4 (Int32.toNatClampNeg r2)) ≤ (r10 - (J9 26 (Int32.toNatClampNeg x1))) then Q (0 : Int32) J9 else vp_in r2 4 ∧ Q ((((r4 - r6) * (J7 7 (Int32.toNatClampNeg (((5 : Int32) * r2) + r8)))) * (J9 5 (Int32.toNatClampNeg r2))) / (100 : Int32)) J9)) J7 x1 (2 : Int32))) J5 x1 (6 : Int32)) J3 x1 (3 : Int32)) J1 x1 (4 : Int32)) J x1 (0 : Int32)
theorem hd_priceOf : yX3_priceOf.cls = RX3 ∧ yX3_priceOf.cls ≠ "java/lang/invoke/MethodHandle" ∧ yX3_priceOf.cls ≠ "java/lang/invoke/VarHandle" ∧ (parseMethodDescriptor yX3_priceOf.desc).map (fun d => d.parameters.length) = some 1 := by decide +kernel
set_option maxHeartbeats 4000000 in
set_option maxRecDepth 100000 in
theorem bm_priceOf (E : ME) (C : Cx) (Q : Int32 → MS → Prop) (J : MS) (x1 : Int32) (hC : COk C cX3_priceOf RX3 (some .int) 2 38 4) (hM : MOk E C) (hQ : cx_Q C = MQ (cx_b C) (va_Qi Q (BM E) (mA E)) (cx_a C) (cx_s C) (cx_MC C) (cx_MS C) (mA E)) (h : wm_priceOf Q J x1) : GM E C J 0 [some (.ref (me_a E 54)), some (.int x1), none, none] [] := by
  refine g_aload_n hC dX3_priceOf_0 rfl ?_
  refine g_iload_n hC dX3_priceOf_1 rfl ?_
  refine g_iconst (v := 0) hC dX3_priceOf_2 (by decide) ?_
  refine gM_Vi (As := [.int x1, .int (0 : Int32)]) (rest := []) hC hM (mm_of (cx_l C) E hM.2.1 _ _ _ _ h) (lw_V q1814 q1816 qs51 q76 q1817) hd_of rfl rfl (Nat.le_of_ble_eq_true rfl) ⟨Nat.le_of_ble_eq_true rfl, Nat.le_of_ble_eq_true rfl⟩ dX3_priceOf_3 ?_
  intro r2 J1 h
  refine g_istore_n hC dX3_priceOf_6 rfl (by decide) rfl rfl ?_
  refine g_aload_n hC dX3_priceOf_7 rfl ?_
  refine g_iload_n hC dX3_priceOf_8 rfl ?_
  refine g_iconst (v := 4) hC dX3_priceOf_9 (by decide) ?_
  refine gM_Vi (As := [.int x1, .int (4 : Int32)]) (rest := []) hC hM (mm_of (cx_l C) E hM.2.1 _ _ _ _ h) (lw_V q1814 q1816 qs51 q76 q1817) hd_of rfl rfl (Nat.le_of_ble_eq_true rfl) ⟨Nat.le_of_ble_eq_true rfl, Nat.le_of_ble_eq_true rfl⟩ dX3_priceOf_10 ?_
  intro r4 J3 h
  refine g_aload_n hC dX3_priceOf_13 rfl ?_
  refine g_iload_n hC dX3_priceOf_14 rfl ?_
  refine g_iconst (v := 3) hC dX3_priceOf_15 (by decide) ?_
  refine gM_Vi (As := [.int x1, .int (3 : Int32)]) (rest := [.int r4]) hC hM (mm_of (cx_l C) E hM.2.1 _ _ _ _ h) (lw_V q1814 q1816 qs51 q76 q1817) hd_of rfl rfl (Nat.le_of_ble_eq_true rfl) ⟨Nat.le_of_ble_eq_true rfl, Nat.le_of_ble_eq_true rfl⟩ dX3_priceOf_16 ?_
  intro r6 J5 h
  refine g_isub hC dX3_priceOf_19 ?_
  refine g_aload_n hC dX3_priceOf_20 rfl ?_
  refine gM_getA hC hM 7 dX3_priceOf_21 q1510 (by decide) (by decide) rfl ?_
  refine g_iconst (v := 5) hC dX3_priceOf_24 (by decide) ?_
  refine g_iload_n hC dX3_priceOf_25 rfl ?_
  refine g_imul hC dX3_priceOf_26 ?_
  refine g_aload_n hC dX3_priceOf_27 rfl ?_
  refine g_iload_n hC dX3_priceOf_28 rfl ?_
  refine g_bipush (v := 6) hC dX3_priceOf_29 (by decide) ?_
  refine gM_Vi (As := [.int x1, .int (6 : Int32)]) (rest := [.int ((5 : Int32) * r2), .ref (me_a E 7), .int (r4 - r6)]) hC hM (mm_of (cx_l C) E hM.2.1 _ _ _ _ h) (lw_V q1814 q1816 qs51 q76 q1817) hd_of rfl rfl (Nat.le_of_ble_eq_true rfl) ⟨Nat.le_of_ble_eq_true rfl, Nat.le_of_ble_eq_true rfl⟩ dX3_priceOf_31 ?_
  intro r8 J7 h
  refine g_iadd hC dX3_priceOf_34 ?_
  refine gM_iald hC hM 7 5 dX3_priceOf_35 rfl (by decide) h.1 ?_
  refine g_imul hC dX3_priceOf_36 ?_
  refine g_istore_n hC dX3_priceOf_37 rfl (by decide) rfl rfl ?_
  refine g_aload_n hC dX3_priceOf_38 rfl ?_
  refine gM_getA hC hM 26 dX3_priceOf_39 q1529 (by decide) (by decide) rfl ?_
  refine g_iload_n hC dX3_priceOf_42 rfl ?_
  refine gM_iald hC hM 26 12 dX3_priceOf_43 rfl (by decide) h.2.1 ?_
  refine g_ldc (v := -1000000) hC dX3_priceOf_44 q1720 ?_
  refine g_icmp_ne (tgt := 53) hC dX3_priceOf_46 (by decide) (fun c => ?_) (fun c => ?_)
  · have h := it_n c h.2.2
    refine g_aload_n hC dX3_priceOf_53 rfl ?_
    refine g_iload_n hC dX3_priceOf_54 rfl ?_
    refine g_iconst (v := 2) hC dX3_priceOf_55 (by decide) ?_
    refine gM_Vi (As := [.int x1, .int (2 : Int32)]) (rest := []) hC hM (mm_of (cx_l C) E hM.2.1 _ _ _ _ h) (lw_V q1814 q1816 qs51 q76 q1817) hd_of rfl rfl (Nat.le_of_ble_eq_true rfl) ⟨Nat.le_of_ble_eq_true rfl, Nat.le_of_ble_eq_true rfl⟩ dX3_priceOf_56 ?_
    intro r10 J9 h
    refine g_aload_n hC dX3_priceOf_59 rfl ?_
    refine gM_getA hC hM 26 dX3_priceOf_60 q1529 (by decide) (by decide) rfl ?_
    refine g_iload_n hC dX3_priceOf_63 rfl ?_
    refine gM_iald hC hM 26 12 dX3_priceOf_64 rfl (by decide) h.1 ?_
    refine g_isub hC dX3_priceOf_65 ?_
    refine g_aload_n hC dX3_priceOf_66 rfl ?_
    refine gM_getA hC hM 4 dX3_priceOf_67 q1507 (by decide) (by decide) rfl ?_
    refine g_iload_n hC dX3_priceOf_70 rfl ?_
    refine gM_iald hC hM 4 2 dX3_priceOf_71 rfl (by decide) h.2.1 ?_
    refine g_icmp_ge (tgt := 89) hC dX3_priceOf_72 (by decide) (fun c => ?_) (fun c => ?_)
    · have h := it_p c h.2.2
      refine g_iconst (v := 0) hC dX3_priceOf_89 (by decide) ?_
      refine gM_iret hC hM hQ rfl dX3_priceOf_90 h
    · have h := it_n c h.2.2
      refine g_iload_n hC dX3_priceOf_75 rfl ?_
      refine g_aload_n hC dX3_priceOf_76 rfl ?_
      refine gM_getA hC hM 5 dX3_priceOf_77 q1508 (by decide) (by decide) rfl ?_
      refine g_iload_n hC dX3_priceOf_80 rfl ?_
      refine gM_iald hC hM 5 3 dX3_priceOf_81 rfl (by decide) h.1 ?_
      refine g_imul hC dX3_priceOf_82 ?_
      refine g_bipush (v := 100) hC dX3_priceOf_83 (by decide) ?_
      refine g_idiv hC dX3_priceOf_85 (by decide) ?_
      refine g_goto (tgt := 90) hC dX3_priceOf_86 (by decide) ?_
      refine gM_iret hC hM hQ rfl dX3_priceOf_90 h.2
  · have h := it_p c h.2.2
    refine g_iload_n hC dX3_priceOf_49 rfl ?_
    refine g_goto (tgt := 90) hC dX3_priceOf_50 (by decide) ?_
    refine gM_iret hC hM hQ rfl dX3_priceOf_90 h
theorem mm_priceOf (l : Launch) (E : ME) (hI : mInj E) (Q : Int32 → MS → Prop) (J : MS) (x1 : Int32) (h : wm_priceOf Q J x1) : MMet E l yX3_priceOf cX3_priceOf 4 (some .int) ({ frames := 2, cells := 0, slots := 0, locals := 38 }) [.ref (me_a E 54), .int x1] J (va_Qi Q (BM E) (mA E)) :=
  MMet_of hI (by decide) rfl (Nat.le_of_ble_eq_true rfl) (L0 := [some (.ref (me_a E 54)), some (.int x1), none, none]) rfl (fun C hC hM hl hQ => bm_priceOf E C Q J x1 hC hM hQ h)
/-! told -/
def wm_told (Q : Int32 → MS → Prop) (J : MS) (x1 : Int32) (x2 : Int32) : Prop :=
  wm_isBooking (fun r2 J1 => (if r2 = 0 then Q (-1000001 : Int32) J1 else wm_in (fun r4 J3 => (if r4 = 0 then Q (-1000001 : Int32) J3 else (if (9 : Int32) ≤ x2 then (if x2 = (9 : Int32) then vp_in x1 16 ∧ Q (J3 26 (Int32.toNatClampNeg x1)) J3 else wm_priceOf (fun r6 J5 => Q r6 J5) J3 x1) else wm_of (fun r8 J7 => Q r8 J7) J3 x1 x2))) J1 (Int32.toInt64 x2) (0 : Int64) (10 : Int64))) (mset J 0 0 (0 : Int32)) x1
theorem hd_told : yX3_told.cls = RX3 ∧ yX3_told.cls ≠ "java/lang/invoke/MethodHandle" ∧ yX3_told.cls ≠ "java/lang/invoke/VarHandle" ∧ (parseMethodDescriptor yX3_told.desc).map (fun d => d.parameters.length) = some 2 := by decide +kernel
set_option maxHeartbeats 4000000 in
set_option maxRecDepth 100000 in
theorem bm_told (E : ME) (C : Cx) (Q : Int32 → MS → Prop) (J : MS) (x1 : Int32) (x2 : Int32) (hC : COk C cX3_told RX3 (some .int) 3 62 3) (hM : MOk E C) (hQ : cx_Q C = MQ (cx_b C) (va_Qi Q (BM E) (mA E)) (cx_a C) (cx_s C) (cx_MC C) (cx_MS C) (mA E)) (h : wm_told Q J x1 x2) : GM E C J 0 [some (.ref (me_a E 54)), some (.int x1), some (.int x2)] [] := by
  refine g_aload_n hC dX3_told_0 rfl ?_
  refine g_iconst (v := 0) hC dX3_told_1 (by decide) ?_
  refine gM_put hC hM 0 (ty := .int) dX3_told_2 q1503 (by decide) (by decide) rfl rfl rfl rfl rfl ?_
  refine g_aload_n hC dX3_told_5 rfl ?_
  refine g_iload_n hC dX3_told_6 rfl ?_
  refine gM_Vi (As := [.int x1]) (rest := []) hC hM (mm_isBooking (cx_l C) E hM.2.1 _ _ _ h) (lw_V q1810 q1812 qs50 q76 q1813) hd_isBooking rfl rfl (Nat.le_of_ble_eq_true rfl) ⟨Nat.le_of_ble_eq_true rfl, Nat.le_of_ble_eq_true rfl⟩ dX3_told_7 ?_
  intro r2 J1 h
  refine g_if_eq (tgt := 25) hC dX3_told_10 (by decide) (fun c => ?_) (fun c => ?_)
  · have h := it_p c h
    refine g_ldc (v := -1000001) hC dX3_told_25 q1679 ?_
    refine gM_iret hC hM hQ rfl dX3_told_27 h
  · have h := it_n c h
    refine g_iload_n hC dX3_told_13 rfl ?_
    refine g_i2l hC dX3_told_14 ?_
    refine g_lconst (v := 0) hC dX3_told_15 (by decide) ?_
    refine g_ldc2 (v := 10) hC dX3_told_16 q1790 ?_
    refine gM_Si (As := [.long (Int32.toInt64 x2), .long (0 : Int64), .long (10 : Int64)]) (rest := []) hC hM (mm_in (cx_l C) E hM.2.1 _ _ _ _ _ h) (lw_S q1675 q1676 q76 q1677) hd_in rfl rfl (Nat.le_of_ble_eq_true rfl) ⟨Nat.le_of_ble_eq_true rfl, Nat.le_of_ble_eq_true rfl⟩ dX3_told_19 ?_
    intro r4 J3 h
    refine g_if_ne (tgt := 28) hC dX3_told_22 (by decide) (fun c => ?_) (fun c => ?_)
    · have h := it_n c h
      refine g_iload_n hC dX3_told_28 rfl ?_
      refine g_bipush (v := 9) hC dX3_told_29 (by decide) ?_
      refine g_icmp_ge (tgt := 43) hC dX3_told_31 (by decide) (fun c => ?_) (fun c => ?_)
      · have h := it_p c h
        refine g_iload_n hC dX3_told_43 rfl ?_
        refine g_bipush (v := 9) hC dX3_told_44 (by decide) ?_
        refine g_icmp_ne (tgt := 58) hC dX3_told_46 (by decide) (fun c => ?_) (fun c => ?_)
        · have h := it_n c h
          refine g_aload_n hC dX3_told_58 rfl ?_
          refine g_iload_n hC dX3_told_59 rfl ?_
          refine gM_Vi (As := [.int x1]) (rest := []) hC hM (mm_priceOf (cx_l C) E hM.2.1 _ _ _ h) (lw_V q1823 q1825 qs52 q76 q1826) hd_priceOf rfl rfl (Nat.le_of_ble_eq_true rfl) ⟨Nat.le_of_ble_eq_true rfl, Nat.le_of_ble_eq_true rfl⟩ dX3_told_60 ?_
          intro r6 J5 h
          refine gM_iret hC hM hQ rfl dX3_told_63 h
        · have h := it_p c h
          refine g_aload_n hC dX3_told_49 rfl ?_
          refine gM_getA hC hM 26 dX3_told_50 q1529 (by decide) (by decide) rfl ?_
          refine g_iload_n hC dX3_told_53 rfl ?_
          refine gM_iald hC hM 26 12 dX3_told_54 rfl (by decide) h.1 ?_
          refine g_goto (tgt := 63) hC dX3_told_55 (by decide) ?_
          refine gM_iret hC hM hQ rfl dX3_told_63 h.2
      · have h := it_n c h
        refine g_aload_n hC dX3_told_34 rfl ?_
        refine g_iload_n hC dX3_told_35 rfl ?_
        refine g_iload_n hC dX3_told_36 rfl ?_
        refine gM_Vi (As := [.int x1, .int x2]) (rest := []) hC hM (mm_of (cx_l C) E hM.2.1 _ _ _ _ h) (lw_V q1814 q1816 qs51 q76 q1817) hd_of rfl rfl (Nat.le_of_ble_eq_true rfl) ⟨Nat.le_of_ble_eq_true rfl, Nat.le_of_ble_eq_true rfl⟩ dX3_told_37 ?_
        intro r8 J7 h
        refine g_goto (tgt := 63) hC dX3_told_40 (by decide) ?_
        refine gM_iret hC hM hQ rfl dX3_told_63 h
    · have h := it_p c h
      refine g_ldc (v := -1000001) hC dX3_told_25 q1679 ?_
      refine gM_iret hC hM hQ rfl dX3_told_27 h
theorem mm_told (l : Launch) (E : ME) (hI : mInj E) (Q : Int32 → MS → Prop) (J : MS) (x1 : Int32) (x2 : Int32) (h : wm_told Q J x1 x2) : MMet E l yX3_told cX3_told 3 (some .int) ({ frames := 3, cells := 0, slots := 0, locals := 62 }) [.ref (me_a E 54), .int x1, .int x2] J (va_Qi Q (BM E) (mA E)) :=
  MMet_of hI (by decide) rfl (Nat.le_of_ble_eq_true rfl) (L0 := [some (.ref (me_a E 54)), some (.int x1), some (.int x2)]) rfl (fun C hC hM hl hQ => bm_told E C Q J x1 x2 hC hM hQ h)
/-! meets -/
def wm_meets_17 (Q : Int32 → MS → Prop) (J : MS) (a2 : Int32) (a3 : Int32) (a5 : Int32) (a6 : Int32) (s0 : Int32) : Prop :=
  (if (a6 + s0) ≤ a2 then Q (0 : Int32) J else (if (a3 + s0) ≤ a5 then Q (0 : Int32) J else Q (1 : Int32) J))
def wm_meets (Q : Int32 → MS → Prop) (J : MS) (x1 : Int32) (x2 : Int32) (x3 : Int32) (x4 : Int32) (x5 : Int32) (x6 : Int32) (x7 : Int32) : Prop :=
  (if x4 = x7 then wm_meets_17 Q J x2 x3 x5 x6 (0 : Int32) else vp_in x1 4 ∧ wm_meets_17 Q J x2 x3 x5 x6 (J 2 (Int32.toNatClampNeg x1)))
theorem hd_meets : yX3_meets.cls = RX3 ∧ yX3_meets.cls ≠ "java/lang/invoke/MethodHandle" ∧ yX3_meets.cls ≠ "java/lang/invoke/VarHandle" ∧ (parseMethodDescriptor yX3_meets.desc).map (fun d => d.parameters.length) = some 7 := by decide +kernel
set_option maxHeartbeats 4000000 in
set_option maxRecDepth 100000 in
theorem bm_meets (E : ME) (C : Cx) (Q : Int32 → MS → Prop) (J : MS) (x1 : Int32) (x2 : Int32) (x3 : Int32) (x4 : Int32) (x5 : Int32) (x6 : Int32) (x7 : Int32) (hC : COk C cX3_meets RX3 (some .boolean) 1 16 9) (hM : MOk E C) (hQ : cx_Q C = MQ (cx_b C) (va_Qi Q (BM E) (mA E)) (cx_a C) (cx_s C) (cx_MC C) (cx_MS C) (mA E)) (h : wm_meets Q J x1 x2 x3 x4 x5 x6 x7) : GM E C J 0 [some (.ref (me_a E 54)), some (.int x1), some (.int x2), some (.int x3), some (.int x4), some (.int x5), some (.int x6), some (.int x7), none] [] := by
  have s_17 : ∀ (J : MS) (a2 : Int32) (a3 : Int32) (a5 : Int32) (a6 : Int32) (s0 : Int32), wm_meets_17 Q  J a2 a3 a5 a6 s0 → GM E C J 17 [some (.ref (me_a E 54)), none, some (.int a2), some (.int a3), none, some (.int a5), some (.int a6), none, none] [.int s0] := by
    intro  J a2 a3 a5 a6 s0 h
    refine g_istore hC dX3_meets_17 (by decide) rfl rfl ?_
    refine g_iload_n hC dX3_meets_19 rfl ?_
    refine g_iload hC dX3_meets_20 rfl ?_
    refine g_iload hC dX3_meets_22 rfl ?_
    refine g_iadd hC dX3_meets_24 ?_
    refine g_icmp_ge (tgt := 41) hC dX3_meets_25 (by decide) (fun c => ?_) (fun c => ?_)
    · have h := it_p c h
      refine g_iconst (v := 0) hC dX3_meets_41 (by decide) ?_
      refine gM_zret hC hM hQ rfl rfl dX3_meets_42 h
    · have h := it_n c h
      refine g_iload hC dX3_meets_28 rfl ?_
      refine g_iload_n hC dX3_meets_30 rfl ?_
      refine g_iload hC dX3_meets_31 rfl ?_
      refine g_iadd hC dX3_meets_33 ?_
      refine g_icmp_ge (tgt := 41) hC dX3_meets_34 (by decide) (fun c => ?_) (fun c => ?_)
      · have h := it_p c h
        refine g_iconst (v := 0) hC dX3_meets_41 (by decide) ?_
        refine gM_zret hC hM hQ rfl rfl dX3_meets_42 h
      · have h := it_n c h
        refine g_iconst (v := 1) hC dX3_meets_37 (by decide) ?_
        refine g_goto (tgt := 42) hC dX3_meets_38 (by decide) ?_
        refine gM_zret hC hM hQ rfl rfl dX3_meets_42 h
  refine g_iload hC dX3_meets_0 rfl ?_
  refine g_iload hC dX3_meets_2 rfl ?_
  refine g_icmp_ne (tgt := 11) hC dX3_meets_4 (by decide) (fun c => ?_) (fun c => ?_)
  · have h := it_n c h
    refine g_aload_n hC dX3_meets_11 rfl ?_
    refine gM_getA hC hM 2 dX3_meets_12 q1505 (by decide) (by decide) rfl ?_
    refine g_iload_n hC dX3_meets_15 rfl ?_
    refine gM_iald hC hM 2 0 dX3_meets_16 rfl (by decide) h.1 ?_
    refine g_sub [true, false, true, true, false, true, true, false, false] rfl ?_
    exact s_17 J x2 x3 x5 x6 (J 2 (Int32.toNatClampNeg x1)) h.2
  · have h := it_p c h
    refine g_iconst (v := 0) hC dX3_meets_7 (by decide) ?_
    refine g_goto (tgt := 17) hC dX3_meets_8 (by decide) ?_
    refine g_sub [true, false, true, true, false, true, true, false, false] rfl ?_
    exact s_17 J x2 x3 x5 x6 (0 : Int32) h
theorem mm_meets (l : Launch) (E : ME) (hI : mInj E) (Q : Int32 → MS → Prop) (J : MS) (x1 : Int32) (x2 : Int32) (x3 : Int32) (x4 : Int32) (x5 : Int32) (x6 : Int32) (x7 : Int32) (h : wm_meets Q J x1 x2 x3 x4 x5 x6 x7) : MMet E l yX3_meets cX3_meets 9 (some .boolean) ({ frames := 1, cells := 0, slots := 0, locals := 16 }) [.ref (me_a E 54), .int x1, .int x2, .int x3, .int x4, .int x5, .int x6, .int x7] J (va_Qi Q (BM E) (mA E)) :=
  MMet_of hI (by decide) rfl (Nat.le_of_ble_eq_true rfl) (L0 := [some (.ref (me_a E 54)), some (.int x1), some (.int x2), some (.int x3), some (.int x4), some (.int x5), some (.int x6), some (.int x7), none]) rfl (fun C hC hM hl hQ => bm_meets E C Q J x1 x2 x3 x4 x5 x6 x7 hC hM hQ h)
/-! isClash -/
def wm_isClash (Q : Int32 → MS → Prop) (J : MS) (x1 : Int32) (x2 : Int32) : Prop :=
  wm_of (fun r2 J1 => wm_of (fun r4 J3 => (if r2 = r4 then wm_of (fun r6 J5 => wm_of (fun r8 J7 => (if r6 = r8 then wm_of (fun r10 J9 => wm_of (fun r12 J11 => (if r10 = r12 then wm_of (fun r14 J13 => wm_of (fun r16 J15 => wm_of (fun r18 J17 => wm_of (fun r20 J19 => wm_of (fun r22 J21 => wm_of (fun r24 J23 => wm_of (fun r26 J25 => wm_meets (fun r28 J27 => (if r28 = 0 then Q (0 : Int32) J27 else Q (1 : Int32) J27)) J25 r14 r16 r18 r20 r22 r24 r26) J23 x2 (6 : Int32)) J21 x2 (4 : Int32)) J19 x2 (3 : Int32)) J17 x1 (6 : Int32)) J15 x1 (4 : Int32)) J13 x1 (3 : Int32)) J11 x1 (0 : Int32) else Q (0 : Int32) J11)) J9 x2 (2 : Int32)) J7 x1 (2 : Int32) else Q (0 : Int32) J7)) J5 x2 (1 : Int32)) J3 x1 (1 : Int32) else Q (0 : Int32) J3)) J1 x2 (0 : Int32)) J x1 (0 : Int32)
theorem hd_isClash : yX3_isClash.cls = RX3 ∧ yX3_isClash.cls ≠ "java/lang/invoke/MethodHandle" ∧ yX3_isClash.cls ≠ "java/lang/invoke/VarHandle" ∧ (parseMethodDescriptor yX3_isClash.desc).map (fun d => d.parameters.length) = some 2 := by decide +kernel
set_option maxHeartbeats 4000000 in
set_option maxRecDepth 100000 in
theorem bm_isClash (E : ME) (C : Cx) (Q : Int32 → MS → Prop) (J : MS) (x1 : Int32) (x2 : Int32) (hC : COk C cX3_isClash RX3 (some .boolean) 2 44 3) (hM : MOk E C) (hQ : cx_Q C = MQ (cx_b C) (va_Qi Q (BM E) (mA E)) (cx_a C) (cx_s C) (cx_MC C) (cx_MS C) (mA E)) (h : wm_isClash Q J x1 x2) : GM E C J 0 [some (.ref (me_a E 54)), some (.int x1), some (.int x2)] [] := by
  refine g_aload_n hC dX3_isClash_0 rfl ?_
  refine g_iload_n hC dX3_isClash_1 rfl ?_
  refine g_iconst (v := 0) hC dX3_isClash_2 (by decide) ?_
  refine gM_Vi (As := [.int x1, .int (0 : Int32)]) (rest := []) hC hM (mm_of (cx_l C) E hM.2.1 _ _ _ _ h) (lw_V q1814 q1816 qs51 q76 q1817) hd_of rfl rfl (Nat.le_of_ble_eq_true rfl) ⟨Nat.le_of_ble_eq_true rfl, Nat.le_of_ble_eq_true rfl⟩ dX3_isClash_3 ?_
  intro r2 J1 h
  refine g_aload_n hC dX3_isClash_6 rfl ?_
  refine g_iload_n hC dX3_isClash_7 rfl ?_
  refine g_iconst (v := 0) hC dX3_isClash_8 (by decide) ?_
  refine gM_Vi (As := [.int x2, .int (0 : Int32)]) (rest := [.int r2]) hC hM (mm_of (cx_l C) E hM.2.1 _ _ _ _ h) (lw_V q1814 q1816 qs51 q76 q1817) hd_of rfl rfl (Nat.le_of_ble_eq_true rfl) ⟨Nat.le_of_ble_eq_true rfl, Nat.le_of_ble_eq_true rfl⟩ dX3_isClash_9 ?_
  intro r4 J3 h
  refine g_icmp_ne (tgt := 100) hC dX3_isClash_12 (by decide) (fun c => ?_) (fun c => ?_)
  · have h := it_n c h
    refine g_iconst (v := 0) hC dX3_isClash_100 (by decide) ?_
    refine gM_zret hC hM hQ rfl rfl dX3_isClash_101 h
  · have h := it_p c h
    refine g_aload_n hC dX3_isClash_15 rfl ?_
    refine g_iload_n hC dX3_isClash_16 rfl ?_
    refine g_iconst (v := 1) hC dX3_isClash_17 (by decide) ?_
    refine gM_Vi (As := [.int x1, .int (1 : Int32)]) (rest := []) hC hM (mm_of (cx_l C) E hM.2.1 _ _ _ _ h) (lw_V q1814 q1816 qs51 q76 q1817) hd_of rfl rfl (Nat.le_of_ble_eq_true rfl) ⟨Nat.le_of_ble_eq_true rfl, Nat.le_of_ble_eq_true rfl⟩ dX3_isClash_18 ?_
    intro r6 J5 h
    refine g_aload_n hC dX3_isClash_21 rfl ?_
    refine g_iload_n hC dX3_isClash_22 rfl ?_
    refine g_iconst (v := 1) hC dX3_isClash_23 (by decide) ?_
    refine gM_Vi (As := [.int x2, .int (1 : Int32)]) (rest := [.int r6]) hC hM (mm_of (cx_l C) E hM.2.1 _ _ _ _ h) (lw_V q1814 q1816 qs51 q76 q1817) hd_of rfl rfl (Nat.le_of_ble_eq_true rfl) ⟨Nat.le_of_ble_eq_true rfl, Nat.le_of_ble_eq_true rfl⟩ dX3_isClash_24 ?_
    intro r8 J7 h
    refine g_icmp_ne (tgt := 100) hC dX3_isClash_27 (by decide) (fun c => ?_) (fun c => ?_)
    · have h := it_n c h
      refine g_iconst (v := 0) hC dX3_isClash_100 (by decide) ?_
      refine gM_zret hC hM hQ rfl rfl dX3_isClash_101 h
    · have h := it_p c h
      refine g_aload_n hC dX3_isClash_30 rfl ?_
      refine g_iload_n hC dX3_isClash_31 rfl ?_
      refine g_iconst (v := 2) hC dX3_isClash_32 (by decide) ?_
      refine gM_Vi (As := [.int x1, .int (2 : Int32)]) (rest := []) hC hM (mm_of (cx_l C) E hM.2.1 _ _ _ _ h) (lw_V q1814 q1816 qs51 q76 q1817) hd_of rfl rfl (Nat.le_of_ble_eq_true rfl) ⟨Nat.le_of_ble_eq_true rfl, Nat.le_of_ble_eq_true rfl⟩ dX3_isClash_33 ?_
      intro r10 J9 h
      refine g_aload_n hC dX3_isClash_36 rfl ?_
      refine g_iload_n hC dX3_isClash_37 rfl ?_
      refine g_iconst (v := 2) hC dX3_isClash_38 (by decide) ?_
      refine gM_Vi (As := [.int x2, .int (2 : Int32)]) (rest := [.int r10]) hC hM (mm_of (cx_l C) E hM.2.1 _ _ _ _ h) (lw_V q1814 q1816 qs51 q76 q1817) hd_of rfl rfl (Nat.le_of_ble_eq_true rfl) ⟨Nat.le_of_ble_eq_true rfl, Nat.le_of_ble_eq_true rfl⟩ dX3_isClash_39 ?_
      intro r12 J11 h
      refine g_icmp_ne (tgt := 100) hC dX3_isClash_42 (by decide) (fun c => ?_) (fun c => ?_)
      · have h := it_n c h
        refine g_iconst (v := 0) hC dX3_isClash_100 (by decide) ?_
        refine gM_zret hC hM hQ rfl rfl dX3_isClash_101 h
      · have h := it_p c h
        refine g_aload_n hC dX3_isClash_45 rfl ?_
        refine g_aload_n hC dX3_isClash_46 rfl ?_
        refine g_iload_n hC dX3_isClash_47 rfl ?_
        refine g_iconst (v := 0) hC dX3_isClash_48 (by decide) ?_
        refine gM_Vi (As := [.int x1, .int (0 : Int32)]) (rest := [.ref (me_a E 54)]) hC hM (mm_of (cx_l C) E hM.2.1 _ _ _ _ h) (lw_V q1814 q1816 qs51 q76 q1817) hd_of rfl rfl (Nat.le_of_ble_eq_true rfl) ⟨Nat.le_of_ble_eq_true rfl, Nat.le_of_ble_eq_true rfl⟩ dX3_isClash_49 ?_
        intro r14 J13 h
        refine g_aload_n hC dX3_isClash_52 rfl ?_
        refine g_iload_n hC dX3_isClash_53 rfl ?_
        refine g_iconst (v := 3) hC dX3_isClash_54 (by decide) ?_
        refine gM_Vi (As := [.int x1, .int (3 : Int32)]) (rest := [.int r14, .ref (me_a E 54)]) hC hM (mm_of (cx_l C) E hM.2.1 _ _ _ _ h) (lw_V q1814 q1816 qs51 q76 q1817) hd_of rfl rfl (Nat.le_of_ble_eq_true rfl) ⟨Nat.le_of_ble_eq_true rfl, Nat.le_of_ble_eq_true rfl⟩ dX3_isClash_55 ?_
        intro r16 J15 h
        refine g_aload_n hC dX3_isClash_58 rfl ?_
        refine g_iload_n hC dX3_isClash_59 rfl ?_
        refine g_iconst (v := 4) hC dX3_isClash_60 (by decide) ?_
        refine gM_Vi (As := [.int x1, .int (4 : Int32)]) (rest := [.int r16, .int r14, .ref (me_a E 54)]) hC hM (mm_of (cx_l C) E hM.2.1 _ _ _ _ h) (lw_V q1814 q1816 qs51 q76 q1817) hd_of rfl rfl (Nat.le_of_ble_eq_true rfl) ⟨Nat.le_of_ble_eq_true rfl, Nat.le_of_ble_eq_true rfl⟩ dX3_isClash_61 ?_
        intro r18 J17 h
        refine g_aload_n hC dX3_isClash_64 rfl ?_
        refine g_iload_n hC dX3_isClash_65 rfl ?_
        refine g_bipush (v := 6) hC dX3_isClash_66 (by decide) ?_
        refine gM_Vi (As := [.int x1, .int (6 : Int32)]) (rest := [.int r18, .int r16, .int r14, .ref (me_a E 54)]) hC hM (mm_of (cx_l C) E hM.2.1 _ _ _ _ h) (lw_V q1814 q1816 qs51 q76 q1817) hd_of rfl rfl (Nat.le_of_ble_eq_true rfl) ⟨Nat.le_of_ble_eq_true rfl, Nat.le_of_ble_eq_true rfl⟩ dX3_isClash_68 ?_
        intro r20 J19 h
        refine g_aload_n hC dX3_isClash_71 rfl ?_
        refine g_iload_n hC dX3_isClash_72 rfl ?_
        refine g_iconst (v := 3) hC dX3_isClash_73 (by decide) ?_
        refine gM_Vi (As := [.int x2, .int (3 : Int32)]) (rest := [.int r20, .int r18, .int r16, .int r14, .ref (me_a E 54)]) hC hM (mm_of (cx_l C) E hM.2.1 _ _ _ _ h) (lw_V q1814 q1816 qs51 q76 q1817) hd_of rfl rfl (Nat.le_of_ble_eq_true rfl) ⟨Nat.le_of_ble_eq_true rfl, Nat.le_of_ble_eq_true rfl⟩ dX3_isClash_74 ?_
        intro r22 J21 h
        refine g_aload_n hC dX3_isClash_77 rfl ?_
        refine g_iload_n hC dX3_isClash_78 rfl ?_
        refine g_iconst (v := 4) hC dX3_isClash_79 (by decide) ?_
        refine gM_Vi (As := [.int x2, .int (4 : Int32)]) (rest := [.int r22, .int r20, .int r18, .int r16, .int r14, .ref (me_a E 54)]) hC hM (mm_of (cx_l C) E hM.2.1 _ _ _ _ h) (lw_V q1814 q1816 qs51 q76 q1817) hd_of rfl rfl (Nat.le_of_ble_eq_true rfl) ⟨Nat.le_of_ble_eq_true rfl, Nat.le_of_ble_eq_true rfl⟩ dX3_isClash_80 ?_
        intro r24 J23 h
        refine g_aload_n hC dX3_isClash_83 rfl ?_
        refine g_iload_n hC dX3_isClash_84 rfl ?_
        refine g_bipush (v := 6) hC dX3_isClash_85 (by decide) ?_
        refine gM_Vi (As := [.int x2, .int (6 : Int32)]) (rest := [.int r24, .int r22, .int r20, .int r18, .int r16, .int r14, .ref (me_a E 54)]) hC hM (mm_of (cx_l C) E hM.2.1 _ _ _ _ h) (lw_V q1814 q1816 qs51 q76 q1817) hd_of rfl rfl (Nat.le_of_ble_eq_true rfl) ⟨Nat.le_of_ble_eq_true rfl, Nat.le_of_ble_eq_true rfl⟩ dX3_isClash_87 ?_
        intro r26 J25 h
        refine gM_Vi (As := [.int r14, .int r16, .int r18, .int r20, .int r22, .int r24, .int r26]) (rest := []) hC hM (mm_meets (cx_l C) E hM.2.1 _ _ _ _ _ _ _ _ _ h) (lw_V q1835 q1837 qs54 q76 q1838) hd_meets rfl rfl (Nat.le_of_ble_eq_true rfl) ⟨Nat.le_of_ble_eq_true rfl, Nat.le_of_ble_eq_true rfl⟩ dX3_isClash_90 ?_
        intro r28 J27 h
        refine g_if_eq (tgt := 100) hC dX3_isClash_93 (by decide) (fun c => ?_) (fun c => ?_)
        · have h := it_p c h
          refine g_iconst (v := 0) hC dX3_isClash_100 (by decide) ?_
          refine gM_zret hC hM hQ rfl rfl dX3_isClash_101 h
        · have h := it_n c h
          refine g_iconst (v := 1) hC dX3_isClash_96 (by decide) ?_
          refine g_goto (tgt := 101) hC dX3_isClash_97 (by decide) ?_
          refine gM_zret hC hM hQ rfl rfl dX3_isClash_101 h
theorem mm_isClash (l : Launch) (E : ME) (hI : mInj E) (Q : Int32 → MS → Prop) (J : MS) (x1 : Int32) (x2 : Int32) (h : wm_isClash Q J x1 x2) : MMet E l yX3_isClash cX3_isClash 3 (some .boolean) ({ frames := 2, cells := 0, slots := 0, locals := 44 }) [.ref (me_a E 54), .int x1, .int x2] J (va_Qi Q (BM E) (mA E)) :=
  MMet_of hI (by decide) rfl (Nat.le_of_ble_eq_true rfl) (L0 := [some (.ref (me_a E 54)), some (.int x1), some (.int x2)]) rfl (fun C hC hM hl hQ => bm_isClash E C Q J x1 x2 hC hM hQ h)
/-! clash -/
def wm_clash (Q : Int32 → MS → Prop) (J : MS) (x1 : Int32) (x2 : Int32) : Prop :=
  wm_isBooking (fun r2 J1 => (if r2 = 0 then Q (-1000001 : Int32) J1 else wm_isBooking (fun r4 J3 => (if r4 = 0 then Q (-1000001 : Int32) J3 else (if x1 = x2 then Q (-1000001 : Int32) J3 else wm_isClash (fun r6 J5 => (if r6 = 0 then Q (0 : Int32) J5 else Q (1 : Int32) J5)) J3 x1 x2))) J1 x2)) (mset J 0 0 (0 : Int32)) x1
theorem hd_clash : yX3_clash.cls = RX3 ∧ yX3_clash.cls ≠ "java/lang/invoke/MethodHandle" ∧ yX3_clash.cls ≠ "java/lang/invoke/VarHandle" ∧ (parseMethodDescriptor yX3_clash.desc).map (fun d => d.parameters.length) = some 2 := by decide +kernel
set_option maxHeartbeats 4000000 in
set_option maxRecDepth 100000 in
theorem bm_clash (E : ME) (C : Cx) (Q : Int32 → MS → Prop) (J : MS) (x1 : Int32) (x2 : Int32) (hC : COk C cX3_clash RX3 (some .int) 3 66 3) (hM : MOk E C) (hQ : cx_Q C = MQ (cx_b C) (va_Qi Q (BM E) (mA E)) (cx_a C) (cx_s C) (cx_MC C) (cx_MS C) (mA E)) (h : wm_clash Q J x1 x2) : GM E C J 0 [some (.ref (me_a E 54)), some (.int x1), some (.int x2)] [] := by
  refine g_aload_n hC dX3_clash_0 rfl ?_
  refine g_iconst (v := 0) hC dX3_clash_1 (by decide) ?_
  refine gM_put hC hM 0 (ty := .int) dX3_clash_2 q1503 (by decide) (by decide) rfl rfl rfl rfl rfl ?_
  refine g_aload_n hC dX3_clash_5 rfl ?_
  refine g_iload_n hC dX3_clash_6 rfl ?_
  refine gM_Vi (As := [.int x1]) (rest := []) hC hM (mm_isBooking (cx_l C) E hM.2.1 _ _ _ h) (lw_V q1810 q1812 qs50 q76 q1813) hd_isBooking rfl rfl (Nat.le_of_ble_eq_true rfl) ⟨Nat.le_of_ble_eq_true rfl, Nat.le_of_ble_eq_true rfl⟩ dX3_clash_7 ?_
  intro r2 J1 h
  refine g_if_eq (tgt := 26) hC dX3_clash_10 (by decide) (fun c => ?_) (fun c => ?_)
  · have h := it_p c h
    refine g_ldc (v := -1000001) hC dX3_clash_26 q1679 ?_
    refine g_goto (tgt := 45) hC dX3_clash_28 (by decide) ?_
    refine gM_iret hC hM hQ rfl dX3_clash_45 h
  · have h := it_n c h
    refine g_aload_n hC dX3_clash_13 rfl ?_
    refine g_iload_n hC dX3_clash_14 rfl ?_
    refine gM_Vi (As := [.int x2]) (rest := []) hC hM (mm_isBooking (cx_l C) E hM.2.1 _ _ _ h) (lw_V q1810 q1812 qs50 q76 q1813) hd_isBooking rfl rfl (Nat.le_of_ble_eq_true rfl) ⟨Nat.le_of_ble_eq_true rfl, Nat.le_of_ble_eq_true rfl⟩ dX3_clash_15 ?_
    intro r4 J3 h
    refine g_if_eq (tgt := 26) hC dX3_clash_18 (by decide) (fun c => ?_) (fun c => ?_)
    · have h := it_p c h
      refine g_ldc (v := -1000001) hC dX3_clash_26 q1679 ?_
      refine g_goto (tgt := 45) hC dX3_clash_28 (by decide) ?_
      refine gM_iret hC hM hQ rfl dX3_clash_45 h
    · have h := it_n c h
      refine g_iload_n hC dX3_clash_21 rfl ?_
      refine g_iload_n hC dX3_clash_22 rfl ?_
      refine g_icmp_ne (tgt := 31) hC dX3_clash_23 (by decide) (fun c => ?_) (fun c => ?_)
      · have h := it_n c h
        refine g_aload_n hC dX3_clash_31 rfl ?_
        refine g_iload_n hC dX3_clash_32 rfl ?_
        refine g_iload_n hC dX3_clash_33 rfl ?_
        refine gM_Vi (As := [.int x1, .int x2]) (rest := []) hC hM (mm_isClash (cx_l C) E hM.2.1 _ _ _ _ h) (lw_V q1831 q1833 qs53 q76 q1834) hd_isClash rfl rfl (Nat.le_of_ble_eq_true rfl) ⟨Nat.le_of_ble_eq_true rfl, Nat.le_of_ble_eq_true rfl⟩ dX3_clash_34 ?_
        intro r6 J5 h
        refine g_if_eq (tgt := 44) hC dX3_clash_37 (by decide) (fun c => ?_) (fun c => ?_)
        · have h := it_p c h
          refine g_iconst (v := 0) hC dX3_clash_44 (by decide) ?_
          refine gM_iret hC hM hQ rfl dX3_clash_45 h
        · have h := it_n c h
          refine g_iconst (v := 1) hC dX3_clash_40 (by decide) ?_
          refine g_goto (tgt := 45) hC dX3_clash_41 (by decide) ?_
          refine gM_iret hC hM hQ rfl dX3_clash_45 h
      · have h := it_p c h
        refine g_ldc (v := -1000001) hC dX3_clash_26 q1679 ?_
        refine g_goto (tgt := 45) hC dX3_clash_28 (by decide) ?_
        refine gM_iret hC hM hQ rfl dX3_clash_45 h
theorem mm_clash (l : Launch) (E : ME) (hI : mInj E) (Q : Int32 → MS → Prop) (J : MS) (x1 : Int32) (x2 : Int32) (h : wm_clash Q J x1 x2) : MMet E l yX3_clash cX3_clash 3 (some .int) ({ frames := 3, cells := 0, slots := 0, locals := 66 }) [.ref (me_a E 54), .int x1, .int x2] J (va_Qi Q (BM E) (mA E)) :=
  MMet_of hI (by decide) rfl (Nat.le_of_ble_eq_true rfl) (L0 := [some (.ref (me_a E 54)), some (.int x1), some (.int x2)]) rfl (fun C hC hM hl hQ => bm_clash E C Q J x1 x2 hC hM hQ h)
/-! isThere -/
def wm_isThere (Q : Int32 → MS → Prop) (J : MS) (x1 : Int32) (x2 : Int32) : Prop :=
  wm_of (fun r2 J1 => (if x2 < r2 then Q (0 : Int32) J1 else vp_in x1 16 ∧ (if (J1 26 (Int32.toNatClampNeg x1)) = (-1000000 : Int32) then Q (1 : Int32) J1 else vp_in x1 16 ∧ (if (J1 26 (Int32.toNatClampNeg x1)) ≤ x2 then Q (0 : Int32) J1 else Q (1 : Int32) J1)))) J x1 (8 : Int32)
theorem hd_isThere : yX3_isThere.cls = RX3 ∧ yX3_isThere.cls ≠ "java/lang/invoke/MethodHandle" ∧ yX3_isThere.cls ≠ "java/lang/invoke/VarHandle" ∧ (parseMethodDescriptor yX3_isThere.desc).map (fun d => d.parameters.length) = some 2 := by decide +kernel
set_option maxHeartbeats 4000000 in
set_option maxRecDepth 100000 in
theorem bm_isThere (E : ME) (C : Cx) (Q : Int32 → MS → Prop) (J : MS) (x1 : Int32) (x2 : Int32) (hC : COk C cX3_isThere RX3 (some .boolean) 2 38 3) (hM : MOk E C) (hQ : cx_Q C = MQ (cx_b C) (va_Qi Q (BM E) (mA E)) (cx_a C) (cx_s C) (cx_MC C) (cx_MS C) (mA E)) (h : wm_isThere Q J x1 x2) : GM E C J 0 [some (.ref (me_a E 54)), some (.int x1), some (.int x2)] [] := by
  refine g_aload_n hC dX3_isThere_0 rfl ?_
  refine g_iload_n hC dX3_isThere_1 rfl ?_
  refine g_bipush (v := 8) hC dX3_isThere_2 (by decide) ?_
  refine gM_Vi (As := [.int x1, .int (8 : Int32)]) (rest := []) hC hM (mm_of (cx_l C) E hM.2.1 _ _ _ _ h) (lw_V q1814 q1816 qs51 q76 q1817) hd_of rfl rfl (Nat.le_of_ble_eq_true rfl) ⟨Nat.le_of_ble_eq_true rfl, Nat.le_of_ble_eq_true rfl⟩ dX3_isThere_4 ?_
  intro r2 J1 h
  refine g_iload_n hC dX3_isThere_7 rfl ?_
  refine g_icmp_gt (tgt := 36) hC dX3_isThere_8 (by decide) (fun c => ?_) (fun c => ?_)
  · have h := it_p c h
    refine g_iconst (v := 0) hC dX3_isThere_36 (by decide) ?_
    refine gM_zret hC hM hQ rfl rfl dX3_isThere_37 h
  · have h := it_n c h
    refine g_aload_n hC dX3_isThere_11 rfl ?_
    refine gM_getA hC hM 26 dX3_isThere_12 q1529 (by decide) (by decide) rfl ?_
    refine g_iload_n hC dX3_isThere_15 rfl ?_
    refine gM_iald hC hM 26 12 dX3_isThere_16 rfl (by decide) h.1 ?_
    refine g_ldc (v := -1000000) hC dX3_isThere_17 q1720 ?_
    refine g_icmp_eq (tgt := 32) hC dX3_isThere_19 (by decide) (fun c => ?_) (fun c => ?_)
    · have h := it_p c h.2
      refine g_iconst (v := 1) hC dX3_isThere_32 (by decide) ?_
      refine g_goto (tgt := 37) hC dX3_isThere_33 (by decide) ?_
      refine gM_zret hC hM hQ rfl rfl dX3_isThere_37 h
    · have h := it_n c h.2
      refine g_aload_n hC dX3_isThere_22 rfl ?_
      refine gM_getA hC hM 26 dX3_isThere_23 q1529 (by decide) (by decide) rfl ?_
      refine g_iload_n hC dX3_isThere_26 rfl ?_
      refine gM_iald hC hM 26 12 dX3_isThere_27 rfl (by decide) h.1 ?_
      refine g_iload_n hC dX3_isThere_28 rfl ?_
      refine g_icmp_le (tgt := 36) hC dX3_isThere_29 (by decide) (fun c => ?_) (fun c => ?_)
      · have h := it_p c h.2
        refine g_iconst (v := 0) hC dX3_isThere_36 (by decide) ?_
        refine gM_zret hC hM hQ rfl rfl dX3_isThere_37 h
      · have h := it_n c h.2
        refine g_iconst (v := 1) hC dX3_isThere_32 (by decide) ?_
        refine g_goto (tgt := 37) hC dX3_isThere_33 (by decide) ?_
        refine gM_zret hC hM hQ rfl rfl dX3_isThere_37 h
theorem mm_isThere (l : Launch) (E : ME) (hI : mInj E) (Q : Int32 → MS → Prop) (J : MS) (x1 : Int32) (x2 : Int32) (h : wm_isThere Q J x1 x2) : MMet E l yX3_isThere cX3_isThere 3 (some .boolean) ({ frames := 2, cells := 0, slots := 0, locals := 38 }) [.ref (me_a E 54), .int x1, .int x2] J (va_Qi Q (BM E) (mA E)) :=
  MMet_of hI (by decide) rfl (Nat.le_of_ble_eq_true rfl) (L0 := [some (.ref (me_a E 54)), some (.int x1), some (.int x2)]) rfl (fun C hC hM hl hQ => bm_isThere E C Q J x1 x2 hC hM hQ h)
/-! rankOf -/
def wm_rankOf (Q : Int32 → MS → Prop) (J : MS) (x1 : Int32) : Prop :=
  wm_of (fun r2 J1 => wm_of (fun r4 J3 => vp_in (((5 : Int32) * r2) + r4) 20 ∧ Q (J3 8 (Int32.toNatClampNeg (((5 : Int32) * r2) + r4))) J3) J1 x1 (6 : Int32)) J x1 (0 : Int32)
theorem hd_rankOf : yX3_rankOf.cls = RX3 ∧ yX3_rankOf.cls ≠ "java/lang/invoke/MethodHandle" ∧ yX3_rankOf.cls ≠ "java/lang/invoke/VarHandle" ∧ (parseMethodDescriptor yX3_rankOf.desc).map (fun d => d.parameters.length) = some 1 := by decide +kernel
set_option maxHeartbeats 4000000 in
set_option maxRecDepth 100000 in
theorem bm_rankOf (E : ME) (C : Cx) (Q : Int32 → MS → Prop) (J : MS) (x1 : Int32) (hC : COk C cX3_rankOf RX3 (some .int) 2 38 2) (hM : MOk E C) (hQ : cx_Q C = MQ (cx_b C) (va_Qi Q (BM E) (mA E)) (cx_a C) (cx_s C) (cx_MC C) (cx_MS C) (mA E)) (h : wm_rankOf Q J x1) : GM E C J 0 [some (.ref (me_a E 54)), some (.int x1)] [] := by
  refine g_aload_n hC dX3_rankOf_0 rfl ?_
  refine gM_getA hC hM 8 dX3_rankOf_1 q1511 (by decide) (by decide) rfl ?_
  refine g_iconst (v := 5) hC dX3_rankOf_4 (by decide) ?_
  refine g_aload_n hC dX3_rankOf_5 rfl ?_
  refine g_iload_n hC dX3_rankOf_6 rfl ?_
  refine g_iconst (v := 0) hC dX3_rankOf_7 (by decide) ?_
  refine gM_Vi (As := [.int x1, .int (0 : Int32)]) (rest := [.int (5 : Int32), .ref (me_a E 8)]) hC hM (mm_of (cx_l C) E hM.2.1 _ _ _ _ h) (lw_V q1814 q1816 qs51 q76 q1817) hd_of rfl rfl (Nat.le_of_ble_eq_true rfl) ⟨Nat.le_of_ble_eq_true rfl, Nat.le_of_ble_eq_true rfl⟩ dX3_rankOf_8 ?_
  intro r2 J1 h
  refine g_imul hC dX3_rankOf_11 ?_
  refine g_aload_n hC dX3_rankOf_12 rfl ?_
  refine g_iload_n hC dX3_rankOf_13 rfl ?_
  refine g_bipush (v := 6) hC dX3_rankOf_14 (by decide) ?_
  refine gM_Vi (As := [.int x1, .int (6 : Int32)]) (rest := [.int ((5 : Int32) * r2), .ref (me_a E 8)]) hC hM (mm_of (cx_l C) E hM.2.1 _ _ _ _ h) (lw_V q1814 q1816 qs51 q76 q1817) hd_of rfl rfl (Nat.le_of_ble_eq_true rfl) ⟨Nat.le_of_ble_eq_true rfl, Nat.le_of_ble_eq_true rfl⟩ dX3_rankOf_16 ?_
  intro r4 J3 h
  refine g_iadd hC dX3_rankOf_19 ?_
  refine gM_iald hC hM 8 6 dX3_rankOf_20 rfl (by decide) h.1 ?_
  refine gM_iret hC hM hQ rfl dX3_rankOf_21 h.2
theorem mm_rankOf (l : Launch) (E : ME) (hI : mInj E) (Q : Int32 → MS → Prop) (J : MS) (x1 : Int32) (h : wm_rankOf Q J x1) : MMet E l yX3_rankOf cX3_rankOf 2 (some .int) ({ frames := 2, cells := 0, slots := 0, locals := 38 }) [.ref (me_a E 54), .int x1] J (va_Qi Q (BM E) (mA E)) :=
  MMet_of hI (by decide) rfl (Nat.le_of_ble_eq_true rfl) (L0 := [some (.ref (me_a E 54)), some (.int x1)]) rfl (fun C hC hM hl hQ => bm_rankOf E C Q J x1 hC hM hQ h)
/-! isAhead -/
def wm_isAhead_65 (Q : Int32 → MS → Prop) (J : MS) (s0 : Int32) : Prop :=
  (if 0 ≤ s0 then Q (0 : Int32) J else Q (1 : Int32) J)
def wm_isAhead (Q : Int32 → MS → Prop) (J : MS) (x1 : Int32) (x2 : Int32) : Prop :=
  wm_rankOf (fun r2 J1 => wm_rankOf (fun r4 J3 => (if r2 = r4 then wm_of (fun r6 J5 => wm_of (fun r8 J7 => (if r6 = r8 then wm_isAhead_65 Q J7 (x1 - x2) else wm_of (fun r10 J9 => wm_of (fun r12 J11 => wm_isAhead_65 Q J11 (r10 - r12)) J9 x2 (8 : Int32)) J7 x1 (8 : Int32))) J5 x2 (8 : Int32)) J3 x1 (8 : Int32) else wm_rankOf (fun r14 J13 => wm_rankOf (fun r16 J15 => wm_isAhead_65 Q J15 (r14 - r16)) J13 x2) J3 x1)) J1 x2) J x1
theorem hd_isAhead : yX3_isAhead.cls = RX3 ∧ yX3_isAhead.cls ≠ "java/lang/invoke/MethodHandle" ∧ yX3_isAhead.cls ≠ "java/lang/invoke/VarHandle" ∧ (parseMethodDescriptor yX3_isAhead.desc).map (fun d => d.parameters.length) = some 2 := by decide +kernel
set_option maxHeartbeats 4000000 in
set_option maxRecDepth 100000 in
theorem bm_isAhead (E : ME) (C : Cx) (Q : Int32 → MS → Prop) (J : MS) (x1 : Int32) (x2 : Int32) (hC : COk C cX3_isAhead RX3 (some .boolean) 3 59 4) (hM : MOk E C) (hQ : cx_Q C = MQ (cx_b C) (va_Qi Q (BM E) (mA E)) (cx_a C) (cx_s C) (cx_MC C) (cx_MS C) (mA E)) (h : wm_isAhead Q J x1 x2) : GM E C J 0 [some (.ref (me_a E 54)), some (.int x1), some (.int x2), none] [] := by
  have s_65 : ∀ (J : MS) (s0 : Int32), wm_isAhead_65 Q  J s0 → GM E C J 65 [some (.ref (me_a E 54)), none, none, none] [.int s0] := by
    intro  J s0 h
    refine g_istore_n hC dX3_isAhead_65 rfl (by decide) rfl rfl ?_
    refine g_iload_n hC dX3_isAhead_66 rfl ?_
    refine g_if_ge (tgt := 74) hC dX3_isAhead_67 (by decide) (fun c => ?_) (fun c => ?_)
    · have h := it_p c h
      refine g_iconst (v := 0) hC dX3_isAhead_74 (by decide) ?_
      refine gM_zret hC hM hQ rfl rfl dX3_isAhead_75 h
    · have h := it_n c h
      refine g_iconst (v := 1) hC dX3_isAhead_70 (by decide) ?_
      refine g_goto (tgt := 75) hC dX3_isAhead_71 (by decide) ?_
      refine gM_zret hC hM hQ rfl rfl dX3_isAhead_75 h
  refine g_aload_n hC dX3_isAhead_0 rfl ?_
  refine g_iload_n hC dX3_isAhead_1 rfl ?_
  refine gM_Vi (As := [.int x1]) (rest := []) hC hM (mm_rankOf (cx_l C) E hM.2.1 _ _ _ h) (lw_V q1855 q1857 qs58 q76 q1858) hd_rankOf rfl rfl (Nat.le_of_ble_eq_true rfl) ⟨Nat.le_of_ble_eq_true rfl, Nat.le_of_ble_eq_true rfl⟩ dX3_isAhead_2 ?_
  intro r2 J1 h
  refine g_aload_n hC dX3_isAhead_5 rfl ?_
  refine g_iload_n hC dX3_isAhead_6 rfl ?_
  refine gM_Vi (As := [.int x2]) (rest := [.int r2]) hC hM (mm_rankOf (cx_l C) E hM.2.1 _ _ _ h) (lw_V q1855 q1857 qs58 q76 q1858) hd_rankOf rfl rfl (Nat.le_of_ble_eq_true rfl) ⟨Nat.le_of_ble_eq_true rfl, Nat.le_of_ble_eq_true rfl⟩ dX3_isAhead_7 ?_
  intro r4 J3 h
  refine g_icmp_eq (tgt := 27) hC dX3_isAhead_10 (by decide) (fun c => ?_) (fun c => ?_)
  · have h := it_p c h
    refine g_aload_n hC dX3_isAhead_27 rfl ?_
    refine g_iload_n hC dX3_isAhead_28 rfl ?_
    refine g_bipush (v := 8) hC dX3_isAhead_29 (by decide) ?_
    refine gM_Vi (As := [.int x1, .int (8 : Int32)]) (rest := []) hC hM (mm_of (cx_l C) E hM.2.1 _ _ _ _ h) (lw_V q1814 q1816 qs51 q76 q1817) hd_of rfl rfl (Nat.le_of_ble_eq_true rfl) ⟨Nat.le_of_ble_eq_true rfl, Nat.le_of_ble_eq_true rfl⟩ dX3_isAhead_31 ?_
    intro r6 J5 h
    refine g_aload_n hC dX3_isAhead_34 rfl ?_
    refine g_iload_n hC dX3_isAhead_35 rfl ?_
    refine g_bipush (v := 8) hC dX3_isAhead_36 (by decide) ?_
    refine gM_Vi (As := [.int x2, .int (8 : Int32)]) (rest := [.int r6]) hC hM (mm_of (cx_l C) E hM.2.1 _ _ _ _ h) (lw_V q1814 q1816 qs51 q76 q1817) hd_of rfl rfl (Nat.le_of_ble_eq_true rfl) ⟨Nat.le_of_ble_eq_true rfl, Nat.le_of_ble_eq_true rfl⟩ dX3_isAhead_38 ?_
    intro r8 J7 h
    refine g_icmp_eq (tgt := 62) hC dX3_isAhead_41 (by decide) (fun c => ?_) (fun c => ?_)
    · have h := it_p c h
      refine g_iload_n hC dX3_isAhead_62 rfl ?_
      refine g_iload_n hC dX3_isAhead_63 rfl ?_
      refine g_isub hC dX3_isAhead_64 ?_
      refine g_sub [true, false, false, false] rfl ?_
      exact s_65 J7 (x1 - x2) h
    · have h := it_n c h
      refine g_aload_n hC dX3_isAhead_44 rfl ?_
      refine g_iload_n hC dX3_isAhead_45 rfl ?_
      refine g_bipush (v := 8) hC dX3_isAhead_46 (by decide) ?_
      refine gM_Vi (As := [.int x1, .int (8 : Int32)]) (rest := []) hC hM (mm_of (cx_l C) E hM.2.1 _ _ _ _ h) (lw_V q1814 q1816 qs51 q76 q1817) hd_of rfl rfl (Nat.le_of_ble_eq_true rfl) ⟨Nat.le_of_ble_eq_true rfl, Nat.le_of_ble_eq_true rfl⟩ dX3_isAhead_48 ?_
      intro r10 J9 h
      refine g_aload_n hC dX3_isAhead_51 rfl ?_
      refine g_iload_n hC dX3_isAhead_52 rfl ?_
      refine g_bipush (v := 8) hC dX3_isAhead_53 (by decide) ?_
      refine gM_Vi (As := [.int x2, .int (8 : Int32)]) (rest := [.int r10]) hC hM (mm_of (cx_l C) E hM.2.1 _ _ _ _ h) (lw_V q1814 q1816 qs51 q76 q1817) hd_of rfl rfl (Nat.le_of_ble_eq_true rfl) ⟨Nat.le_of_ble_eq_true rfl, Nat.le_of_ble_eq_true rfl⟩ dX3_isAhead_55 ?_
      intro r12 J11 h
      refine g_isub hC dX3_isAhead_58 ?_
      refine g_goto (tgt := 65) hC dX3_isAhead_59 (by decide) ?_
      refine g_sub [true, false, false, false] rfl ?_
      exact s_65 J11 (r10 - r12) h
  · have h := it_n c h
    refine g_aload_n hC dX3_isAhead_13 rfl ?_
    refine g_iload_n hC dX3_isAhead_14 rfl ?_
    refine gM_Vi (As := [.int x1]) (rest := []) hC hM (mm_rankOf (cx_l C) E hM.2.1 _ _ _ h) (lw_V q1855 q1857 qs58 q76 q1858) hd_rankOf rfl rfl (Nat.le_of_ble_eq_true rfl) ⟨Nat.le_of_ble_eq_true rfl, Nat.le_of_ble_eq_true rfl⟩ dX3_isAhead_15 ?_
    intro r14 J13 h
    refine g_aload_n hC dX3_isAhead_18 rfl ?_
    refine g_iload_n hC dX3_isAhead_19 rfl ?_
    refine gM_Vi (As := [.int x2]) (rest := [.int r14]) hC hM (mm_rankOf (cx_l C) E hM.2.1 _ _ _ h) (lw_V q1855 q1857 qs58 q76 q1858) hd_rankOf rfl rfl (Nat.le_of_ble_eq_true rfl) ⟨Nat.le_of_ble_eq_true rfl, Nat.le_of_ble_eq_true rfl⟩ dX3_isAhead_20 ?_
    intro r16 J15 h
    refine g_isub hC dX3_isAhead_23 ?_
    refine g_goto (tgt := 65) hC dX3_isAhead_24 (by decide) ?_
    refine g_sub [true, false, false, false] rfl ?_
    exact s_65 J15 (r14 - r16) h
theorem mm_isAhead (l : Launch) (E : ME) (hI : mInj E) (Q : Int32 → MS → Prop) (J : MS) (x1 : Int32) (x2 : Int32) (h : wm_isAhead Q J x1 x2) : MMet E l yX3_isAhead cX3_isAhead 4 (some .boolean) ({ frames := 3, cells := 0, slots := 0, locals := 59 }) [.ref (me_a E 54), .int x1, .int x2] J (va_Qi Q (BM E) (mA E)) :=
  MMet_of hI (by decide) rfl (Nat.le_of_ble_eq_true rfl) (L0 := [some (.ref (me_a E 54)), some (.int x1), some (.int x2), none]) rfl (fun C hC hM hl hQ => bm_isAhead E C Q J x1 x2 hC hM hQ h)
/-! hasFire -/
def wm_hasFire (Q : Int32 → MS → Prop) (J : MS) (x1 : Int32) (x2 : Int32) (x3 : Int32) : Prop :=
  wm_of (fun r2 J1 => vp_in (((2 : Int32) * x2) + x3) 8 ∧ (if (J1 6 (Int32.toNatClampNeg (((2 : Int32) * x2) + x3))) < r2 then Q (0 : Int32) J1 else Q (1 : Int32) J1)) J x1 (5 : Int32)
theorem hd_hasFire : yX3_hasFire.cls = RX3 ∧ yX3_hasFire.cls ≠ "java/lang/invoke/MethodHandle" ∧ yX3_hasFire.cls ≠ "java/lang/invoke/VarHandle" ∧ (parseMethodDescriptor yX3_hasFire.desc).map (fun d => d.parameters.length) = some 3 := by decide +kernel
set_option maxHeartbeats 4000000 in
set_option maxRecDepth 100000 in
theorem bm_hasFire (E : ME) (C : Cx) (Q : Int32 → MS → Prop) (J : MS) (x1 : Int32) (x2 : Int32) (x3 : Int32) (hC : COk C cX3_hasFire RX3 (some .boolean) 2 38 4) (hM : MOk E C) (hQ : cx_Q C = MQ (cx_b C) (va_Qi Q (BM E) (mA E)) (cx_a C) (cx_s C) (cx_MC C) (cx_MS C) (mA E)) (h : wm_hasFire Q J x1 x2 x3) : GM E C J 0 [some (.ref (me_a E 54)), some (.int x1), some (.int x2), some (.int x3)] [] := by
  refine g_aload_n hC dX3_hasFire_0 rfl ?_
  refine g_iload_n hC dX3_hasFire_1 rfl ?_
  refine g_iconst (v := 5) hC dX3_hasFire_2 (by decide) ?_
  refine gM_Vi (As := [.int x1, .int (5 : Int32)]) (rest := []) hC hM (mm_of (cx_l C) E hM.2.1 _ _ _ _ h) (lw_V q1814 q1816 qs51 q76 q1817) hd_of rfl rfl (Nat.le_of_ble_eq_true rfl) ⟨Nat.le_of_ble_eq_true rfl, Nat.le_of_ble_eq_true rfl⟩ dX3_hasFire_3 ?_
  intro r2 J1 h
  refine g_aload_n hC dX3_hasFire_6 rfl ?_
  refine gM_getA hC hM 6 dX3_hasFire_7 q1509 (by decide) (by decide) rfl ?_
  refine g_iconst (v := 2) hC dX3_hasFire_10 (by decide) ?_
  refine g_iload_n hC dX3_hasFire_11 rfl ?_
  refine g_imul hC dX3_hasFire_12 ?_
  refine g_iload_n hC dX3_hasFire_13 rfl ?_
  refine g_iadd hC dX3_hasFire_14 ?_
  refine gM_iald hC hM 6 4 dX3_hasFire_15 rfl (by decide) h.1 ?_
  refine g_icmp_gt (tgt := 23) hC dX3_hasFire_16 (by decide) (fun c => ?_) (fun c => ?_)
  · have h := it_p c h.2
    refine g_iconst (v := 0) hC dX3_hasFire_23 (by decide) ?_
    refine gM_zret hC hM hQ rfl rfl dX3_hasFire_24 h
  · have h := it_n c h.2
    refine g_iconst (v := 1) hC dX3_hasFire_19 (by decide) ?_
    refine g_goto (tgt := 24) hC dX3_hasFire_20 (by decide) ?_
    refine gM_zret hC hM hQ rfl rfl dX3_hasFire_24 h
theorem mm_hasFire (l : Launch) (E : ME) (hI : mInj E) (Q : Int32 → MS → Prop) (J : MS) (x1 : Int32) (x2 : Int32) (x3 : Int32) (h : wm_hasFire Q J x1 x2 x3) : MMet E l yX3_hasFire cX3_hasFire 4 (some .boolean) ({ frames := 2, cells := 0, slots := 0, locals := 38 }) [.ref (me_a E 54), .int x1, .int x2, .int x3] J (va_Qi Q (BM E) (mA E)) :=
  MMet_of hI (by decide) rfl (Nat.le_of_ble_eq_true rfl) (L0 := [some (.ref (me_a E 54)), some (.int x1), some (.int x2), some (.int x3)]) rfl (fun C hC hM hl hQ => bm_hasFire E C Q J x1 x2 x3 hC hM hQ h)
/-! holdOn -/
def wm_holdOn_284 (Q : Int32 → MS → Prop) (K7 : MS → Int32 → Int32 → Int32 → Int32 → Prop) (J : MS) (a1 : Int32) (a2 : Int32) (a3 : Int32) (a4 : Int32) : Prop :=
  K7 J a1 a2 a3 a4
def wm_holdOn_282 (Q : Int32 → MS → Prop) (K7 : MS → Int32 → Int32 → Int32 → Int32 → Prop) (J : MS) (a1 : Int32) (a2 : Int32) (a4 : Int32) (s0 : Int32) (s1 : Int32) : Prop :=
  wm_holdOn_284 Q K7 J a1 a2 (s0 ||| s1) a4
def wm_holdOn_266 (Q : Int32 → MS → Prop) (K7 : MS → Int32 → Int32 → Int32 → Int32 → Prop) (J : MS) (a1 : Int32) (a2 : Int32) (a3 : Int32) (a4 : Int32) (a5 : Int32) (s0 : Int32) : Prop :=
  (if s0 = 0 then wm_holdOn_282 Q K7 J a1 a2 a4 a3 (0 : Int32) else wm_holdOn_282 Q K7 J a1 a2 a4 a3 ((1 : Int32) <<< (a5 &&& 31)))
def wm_holdOn_265 (Q : Int32 → MS → Prop) (K7 : MS → Int32 → Int32 → Int32 → Int32 → Prop) (J : MS) (a1 : Int32) (a2 : Int32) (a3 : Int32) (a4 : Int32) (a5 : Int32) : Prop :=
  wm_holdOn_266 Q K7 J a1 a2 a3 a4 a5 (0 : Int32)
def wm_holdOn_261 (Q : Int32 → MS → Prop) (K7 : MS → Int32 → Int32 → Int32 → Int32 → Prop) (J : MS) (a1 : Int32) (a2 : Int32) (a3 : Int32) (a4 : Int32) (a5 : Int32) : Prop :=
  wm_holdOn_266 Q K7 J a1 a2 a3 a4 a5 (1 : Int32)
def wm_holdOn_222 (Q : Int32 → MS → Prop) (K7 : MS → Int32 → Int32 → Int32 → Int32 → Prop) (K146 : MS → Int32 → Int32 → Int32 → Int32 → Int32 → Int32 → Int32 → Int32 → Prop) (J : MS) (a1 : Int32) (a2 : Int32) (a3 : Int32) (a4 : Int32) (a5 : Int32) (a6 : Int32) (a7 : Int32) (a8 : Int32) : Prop :=
  K146 J a1 a2 a3 a4 a5 a6 a7 (a8 + (1 : Int32))
def wm_holdOn_219 (Q : Int32 → MS → Prop) (K7 : MS → Int32 → Int32 → Int32 → Int32 → Prop) (K146 : MS → Int32 → Int32 → Int32 → Int32 → Int32 → Int32 → Int32 → Int32 → Prop) (J : MS) (a1 : Int32) (a2 : Int32) (a3 : Int32) (a4 : Int32) (a5 : Int32) (a6 : Int32) (a8 : Int32) (s0 : Int32) (s1 : Int32) : Prop :=
  wm_holdOn_222 Q K7 K146 J a1 a2 a3 a4 a5 a6 (s0 + s1) a8
def wm_holdOn_186 (Q : Int32 → MS → Prop) (K7 : MS → Int32 → Int32 → Int32 → Int32 → Prop) (K146 : MS → Int32 → Int32 → Int32 → Int32 → Int32 → Int32 → Int32 → Int32 → Prop) (J : MS) (a1 : Int32) (a2 : Int32) (a3 : Int32) (a4 : Int32) (a5 : Int32) (a7 : Int32) (a8 : Int32) (s0 : Int32) : Prop :=
  wm_of (fun r12 J11 => wm_of (fun r14 J13 => (if r12 = r14 then wm_of (fun r16 J15 => wm_holdOn_219 Q K7 K146 J15 a1 a2 a3 a4 a5 s0 a8 a7 r16) J13 a8 (7 : Int32) else wm_holdOn_219 Q K7 K146 J13 a1 a2 a3 a4 a5 s0 a8 a7 (0 : Int32))) J11 a5 (0 : Int32)) J a8 (0 : Int32)
def wm_holdOn_185 (Q : Int32 → MS → Prop) (K7 : MS → Int32 → Int32 → Int32 → Int32 → Prop) (K146 : MS → Int32 → Int32 → Int32 → Int32 → Int32 → Int32 → Int32 → Int32 → Prop) (J : MS) (a1 : Int32) (a2 : Int32) (a3 : Int32) (a4 : Int32) (a5 : Int32) (a7 : Int32) (a8 : Int32) : Prop :=
  wm_holdOn_186 Q K7 K146 J a1 a2 a3 a4 a5 a7 a8 (0 : Int32)
def wm_holdOn_146 (Q : Int32 → MS → Prop) (K7 : MS → Int32 → Int32 → Int32 → Int32 → Prop) : Nat → MS → Int32 → Int32 → Int32 → Int32 → Int32 → Int32 → Int32 → Int32 → Prop
  | 0, _, _, _, _, _, _, _, _, _ => False
  | n + 1, J, a1, a2, a3, a4, a5, a6, a7, a8 => (if (J 24 0) ≤ a8 then (if a6 = 0 then wm_holdOn_265 Q K7 J a1 a2 a3 a4 a5 else wm_of (fun r8 J7 => (if r8 = 0 then wm_holdOn_261 Q K7 J7 a1 a2 a3 a4 a5 else wm_of (fun r10 J9 => vp_in r10 4 ∧ (if (J9 3 (Int32.toNatClampNeg r10)) ≤ a7 then wm_holdOn_265 Q K7 J9 a1 a2 a3 a4 a5 else wm_holdOn_261 Q K7 J9 a1 a2 a3 a4 a5)) J7 a5 (0 : Int32))) J a5 (7 : Int32)) else (if ((a3 >>> (a8 &&& 31)) &&& (1 : Int32)) = (1 : Int32) then (if a6 = 0 then wm_holdOn_185 Q K7 (wm_holdOn_146 Q K7 n) J a1 a2 a3 a4 a5 a7 a8 else wm_isClash (fun r18 J17 => (if r18 = 0 then wm_holdOn_186 Q K7 (wm_holdOn_146 Q K7 n) J17 a1 a2 a3 a4 a5 a7 a8 (1 : Int32) else wm_holdOn_185 Q K7 (wm_holdOn_146 Q K7 n) J17 a1 a2 a3 a4 a5 a7 a8)) J a8 a5) else wm_holdOn_222 Q K7 (wm_holdOn_146 Q K7 n) J a1 a2 a3 a4 a5 a6 a7 a8))
def wm_holdOn_104 (Q : Int32 → MS → Prop) (K7 : MS → Int32 → Int32 → Int32 → Int32 → Prop) (J : MS) (a1 : Int32) (a2 : Int32) (a3 : Int32) (a5 : Int32) (s0 : Int32) : Prop :=
  (if s0 = 0 then wm_holdOn_284 Q K7 J a1 a2 a3 s0 else wm_of (fun r2 J1 => wm_of (fun r4 J3 => wm_hasFire (fun r6 J5 => ∃ n19, wm_holdOn_146 Q K7 n19 J5 a1 (a2 ||| ((1 : Int32) <<< (a5 &&& 31))) a3 s0 a5 r6 (0 : Int32) (0 : Int32)) J3 a5 r2 r4) J1 a5 (1 : Int32)) J a5 (0 : Int32))
def wm_holdOn_84 (Q : Int32 → MS → Prop) (K7 : MS → Int32 → Int32 → Int32 → Int32 → Prop) (K19 : MS → Int32 → Int32 → Int32 → Int32 → Int32 → Prop) (J : MS) (a1 : Int32) (a2 : Int32) (a3 : Int32) (a6 : Int32) (s0 : Int32) : Prop :=
  K19 J a1 a2 a3 s0 (a6 + (1 : Int32))
def wm_holdOn_82 (Q : Int32 → MS → Prop) (K7 : MS → Int32 → Int32 → Int32 → Int32 → Prop) (K19 : MS → Int32 → Int32 → Int32 → Int32 → Int32 → Prop) (J : MS) (a1 : Int32) (a2 : Int32) (a3 : Int32) (a5 : Int32) (a6 : Int32) : Prop :=
  wm_holdOn_84 Q K7 K19 J a1 a2 a3 a6 a5
def wm_holdOn_77 (Q : Int32 → MS → Prop) (K7 : MS → Int32 → Int32 → Int32 → Int32 → Prop) (K19 : MS → Int32 → Int32 → Int32 → Int32 → Int32 → Prop) (J : MS) (a1 : Int32) (a2 : Int32) (a3 : Int32) (a6 : Int32) : Prop :=
  wm_holdOn_84 Q K7 K19 J a1 a2 a3 a6 a6
def wm_holdOn_52 (Q : Int32 → MS → Prop) (K7 : MS → Int32 → Int32 → Int32 → Int32 → Prop) (K19 : MS → Int32 → Int32 → Int32 → Int32 → Int32 → Prop) (J : MS) (a1 : Int32) (a2 : Int32) (a3 : Int32) (a5 : Int32) (a6 : Int32) (s0 : Int32) : Prop :=
  (if s0 = 0 then wm_holdOn_82 Q K7 K19 J a1 a2 a3 a5 a6 else (if a5 = (-1000000 : Int32) then wm_holdOn_77 Q K7 K19 J a1 a2 a3 a6 else wm_isAhead (fun r23 J22 => (if r23 = 0 then wm_holdOn_82 Q K7 K19 J22 a1 a2 a3 a5 a6 else wm_holdOn_77 Q K7 K19 J22 a1 a2 a3 a6)) J a6 a5))
def wm_holdOn_51 (Q : Int32 → MS → Prop) (K7 : MS → Int32 → Int32 → Int32 → Int32 → Prop) (K19 : MS → Int32 → Int32 → Int32 → Int32 → Int32 → Prop) (J : MS) (a1 : Int32) (a2 : Int32) (a3 : Int32) (a5 : Int32) (a6 : Int32) : Prop :=
  wm_holdOn_52 Q K7 K19 J a1 a2 a3 a5 a6 (0 : Int32)
def wm_holdOn_19 (Q : Int32 → MS → Prop) (K7 : MS → Int32 → Int32 → Int32 → Int32 → Prop) : Nat → MS → Int32 → Int32 → Int32 → Int32 → Int32 → Prop
  | 0, _, _, _, _, _, _ => False
  | n + 1, J, a1, a2, a3, a5, a6 => (if (J 24 0) ≤ a6 then (if a5 = (-1000000 : Int32) then wm_holdOn_104 Q K7 J a1 a2 a3 a5 (0 : Int32) else wm_holdOn_104 Q K7 J a1 a2 a3 a5 (1 : Int32)) else wm_isThere (fun r21 J20 => (if r21 = 0 then wm_holdOn_51 Q K7 (wm_holdOn_19 Q K7 n) J20 a1 a2 a3 a5 a6 else (if ((a2 >>> (a6 &&& 31)) &&& (1 : Int32)) = 0 then wm_holdOn_52 Q K7 (wm_holdOn_19 Q K7 n) J20 a1 a2 a3 a5 a6 (1 : Int32) else wm_holdOn_51 Q K7 (wm_holdOn_19 Q K7 n) J20 a1 a2 a3 a5 a6))) J a6 a1)
def wm_holdOn_7 (Q : Int32 → MS → Prop) : Nat → MS → Int32 → Int32 → Int32 → Int32 → Prop
  | 0, _, _, _, _, _ => False
  | n + 1, J, a1, a2, a3, a4 => (if a4 = 0 then Q a3 J else ∃ n24, wm_holdOn_19 Q (wm_holdOn_7 Q n) n24 J a1 a2 a3 (-1000000 : Int32) (0 : Int32))
def wm_holdOn (Q : Int32 → MS → Prop) (J : MS) (x1 : Int32) : Prop :=
  ∃ n25, wm_holdOn_7 Q n25 J x1 (0 : Int32) (0 : Int32) (1 : Int32)
theorem hd_holdOn : yX3_holdOn.cls = RX3 ∧ yX3_holdOn.cls ≠ "java/lang/invoke/MethodHandle" ∧ yX3_holdOn.cls ≠ "java/lang/invoke/VarHandle" ∧ (parseMethodDescriptor yX3_holdOn.desc).map (fun d => d.parameters.length) = some 1 := by decide +kernel
set_option maxHeartbeats 4000000 in
set_option maxRecDepth 100000 in
theorem bm_holdOn (E : ME) (C : Cx) (Q : Int32 → MS → Prop) (J : MS) (x1 : Int32) (hC : COk C cX3_holdOn RX3 (some .int) 4 82 9) (hM : MOk E C) (hQ : cx_Q C = MQ (cx_b C) (va_Qi Q (BM E) (mA E)) (cx_a C) (cx_s C) (cx_MC C) (cx_MS C) (mA E)) (h : wm_holdOn Q J x1) : GM E C J 0 [some (.ref (me_a E 54)), some (.int x1), none, none, none, none, none, none, none] [] := by
  have s_284 : ∀ (K7 : MS → Int32 → Int32 → Int32 → Int32 → Prop) (hK7 : ∀ (J : MS) (b1 : Int32) (b2 : Int32) (b3 : Int32) (b4 : Int32), K7 J b1 b2 b3 b4 → GM E C J 7 [some (.ref (me_a E 54)), some (.int b1), some (.int b2), some (.int b3), some (.int b4), none, none, none, none] []) (J : MS) (a1 : Int32) (a2 : Int32) (a3 : Int32) (a4 : Int32), wm_holdOn_284 Q K7 J a1 a2 a3 a4 → GM E C J 284 [some (.ref (me_a E 54)), some (.int a1), some (.int a2), some (.int a3), some (.int a4), none, none, none, none] [] := by
    intro K7 hK7 J a1 a2 a3 a4 h
    refine g_goto (tgt := 7) hC dX3_holdOn_284 (by decide) ?_
    exact hK7 J a1 a2 a3 a4 h
  have s_282 : ∀ (K7 : MS → Int32 → Int32 → Int32 → Int32 → Prop) (hK7 : ∀ (J : MS) (b1 : Int32) (b2 : Int32) (b3 : Int32) (b4 : Int32), K7 J b1 b2 b3 b4 → GM E C J 7 [some (.ref (me_a E 54)), some (.int b1), some (.int b2), some (.int b3), some (.int b4), none, none, none, none] []) (J : MS) (a1 : Int32) (a2 : Int32) (a4 : Int32) (s0 : Int32) (s1 : Int32), wm_holdOn_282 Q K7 J a1 a2 a4 s0 s1 → GM E C J 282 [some (.ref (me_a E 54)), some (.int a1), some (.int a2), none, some (.int a4), none, none, none, none] [.int s1, .int s0] := by
    intro K7 hK7 J a1 a2 a4 s0 s1 h
    refine g_ior hC dX3_holdOn_282 ?_
    refine g_istore_n hC dX3_holdOn_283 rfl (by decide) rfl rfl ?_
    exact s_284 K7 hK7 J a1 a2 (s0 ||| s1) a4 h
  have s_266 : ∀ (K7 : MS → Int32 → Int32 → Int32 → Int32 → Prop) (hK7 : ∀ (J : MS) (b1 : Int32) (b2 : Int32) (b3 : Int32) (b4 : Int32), K7 J b1 b2 b3 b4 → GM E C J 7 [some (.ref (me_a E 54)), some (.int b1), some (.int b2), some (.int b3), some (.int b4), none, none, none, none] []) (J : MS) (a1 : Int32) (a2 : Int32) (a3 : Int32) (a4 : Int32) (a5 : Int32) (s0 : Int32), wm_holdOn_266 Q K7 J a1 a2 a3 a4 a5 s0 → GM E C J 266 [some (.ref (me_a E 54)), some (.int a1), some (.int a2), some (.int a3), some (.int a4), some (.int a5), none, none, none] [.int s0] := by
    intro K7 hK7 J a1 a2 a3 a4 a5 s0 h
    refine g_istore hC dX3_holdOn_266 (by decide) rfl rfl ?_
    refine g_iload_n hC dX3_holdOn_268 rfl ?_
    refine g_iload hC dX3_holdOn_269 rfl ?_
    refine g_if_eq (tgt := 281) hC dX3_holdOn_271 (by decide) (fun c => ?_) (fun c => ?_)
    · have h := it_p c h
      refine g_iconst (v := 0) hC dX3_holdOn_281 (by decide) ?_
      refine g_sub [true, true, true, false, true, false, false, false, false] rfl ?_
      exact s_282 K7 hK7 J a1 a2 a4 a3 (0 : Int32) h
    · have h := it_n c h
      refine g_iconst (v := 1) hC dX3_holdOn_274 (by decide) ?_
      refine g_iload hC dX3_holdOn_275 rfl ?_
      refine g_ishl hC dX3_holdOn_277 ?_
      refine g_goto (tgt := 282) hC dX3_holdOn_278 (by decide) ?_
      refine g_sub [true, true, true, false, true, false, false, false, false] rfl ?_
      exact s_282 K7 hK7 J a1 a2 a4 a3 ((1 : Int32) <<< (a5 &&& 31)) h
  have s_265 : ∀ (K7 : MS → Int32 → Int32 → Int32 → Int32 → Prop) (hK7 : ∀ (J : MS) (b1 : Int32) (b2 : Int32) (b3 : Int32) (b4 : Int32), K7 J b1 b2 b3 b4 → GM E C J 7 [some (.ref (me_a E 54)), some (.int b1), some (.int b2), some (.int b3), some (.int b4), none, none, none, none] []) (J : MS) (a1 : Int32) (a2 : Int32) (a3 : Int32) (a4 : Int32) (a5 : Int32), wm_holdOn_265 Q K7 J a1 a2 a3 a4 a5 → GM E C J 265 [some (.ref (me_a E 54)), some (.int a1), some (.int a2), some (.int a3), some (.int a4), some (.int a5), none, none, none] [] := by
    intro K7 hK7 J a1 a2 a3 a4 a5 h
    refine g_iconst (v := 0) hC dX3_holdOn_265 (by decide) ?_
    exact s_266 K7 hK7 J a1 a2 a3 a4 a5 (0 : Int32) h
  have s_261 : ∀ (K7 : MS → Int32 → Int32 → Int32 → Int32 → Prop) (hK7 : ∀ (J : MS) (b1 : Int32) (b2 : Int32) (b3 : Int32) (b4 : Int32), K7 J b1 b2 b3 b4 → GM E C J 7 [some (.ref (me_a E 54)), some (.int b1), some (.int b2), some (.int b3), some (.int b4), none, none, none, none] []) (J : MS) (a1 : Int32) (a2 : Int32) (a3 : Int32) (a4 : Int32) (a5 : Int32), wm_holdOn_261 Q K7 J a1 a2 a3 a4 a5 → GM E C J 261 [some (.ref (me_a E 54)), some (.int a1), some (.int a2), some (.int a3), some (.int a4), some (.int a5), none, none, none] [] := by
    intro K7 hK7 J a1 a2 a3 a4 a5 h
    refine g_iconst (v := 1) hC dX3_holdOn_261 (by decide) ?_
    refine g_goto (tgt := 266) hC dX3_holdOn_262 (by decide) ?_
    exact s_266 K7 hK7 J a1 a2 a3 a4 a5 (1 : Int32) h
  have s_222 : ∀ (K7 : MS → Int32 → Int32 → Int32 → Int32 → Prop) (hK7 : ∀ (J : MS) (b1 : Int32) (b2 : Int32) (b3 : Int32) (b4 : Int32), K7 J b1 b2 b3 b4 → GM E C J 7 [some (.ref (me_a E 54)), some (.int b1), some (.int b2), some (.int b3), some (.int b4), none, none, none, none] []) (K146 : MS → Int32 → Int32 → Int32 → Int32 → Int32 → Int32 → Int32 → Int32 → Prop) (hK146 : ∀ (J : MS) (b1 : Int32) (b2 : Int32) (b3 : Int32) (b4 : Int32) (b5 : Int32) (b6 : Int32) (b7 : Int32) (b8 : Int32), K146 J b1 b2 b3 b4 b5 b6 b7 b8 → GM E C J 146 [some (.ref (me_a E 54)), some (.int b1), some (.int b2), some (.int b3), some (.int b4), some (.int b5), some (.int b6), some (.int b7), some (.int b8)] []) (J : MS) (a1 : Int32) (a2 : Int32) (a3 : Int32) (a4 : Int32) (a5 : Int32) (a6 : Int32) (a7 : Int32) (a8 : Int32), wm_holdOn_222 Q K7 K146 J a1 a2 a3 a4 a5 a6 a7 a8 → GM E C J 222 [some (.ref (me_a E 54)), some (.int a1), some (.int a2), some (.int a3), some (.int a4), some (.int a5), some (.int a6), some (.int a7), some (.int a8)] [] := by
    intro K7 hK7 K146 hK146 J a1 a2 a3 a4 a5 a6 a7 a8 h
    refine g_iinc (v := (a8 + (1 : Int32))) hC dX3_holdOn_222 rfl rfl (by decide) rfl rfl ?_
    refine g_goto (tgt := 146) hC dX3_holdOn_225 (by decide) ?_
    exact hK146 J a1 a2 a3 a4 a5 a6 a7 (a8 + (1 : Int32)) h
  have s_219 : ∀ (K7 : MS → Int32 → Int32 → Int32 → Int32 → Prop) (hK7 : ∀ (J : MS) (b1 : Int32) (b2 : Int32) (b3 : Int32) (b4 : Int32), K7 J b1 b2 b3 b4 → GM E C J 7 [some (.ref (me_a E 54)), some (.int b1), some (.int b2), some (.int b3), some (.int b4), none, none, none, none] []) (K146 : MS → Int32 → Int32 → Int32 → Int32 → Int32 → Int32 → Int32 → Int32 → Prop) (hK146 : ∀ (J : MS) (b1 : Int32) (b2 : Int32) (b3 : Int32) (b4 : Int32) (b5 : Int32) (b6 : Int32) (b7 : Int32) (b8 : Int32), K146 J b1 b2 b3 b4 b5 b6 b7 b8 → GM E C J 146 [some (.ref (me_a E 54)), some (.int b1), some (.int b2), some (.int b3), some (.int b4), some (.int b5), some (.int b6), some (.int b7), some (.int b8)] []) (J : MS) (a1 : Int32) (a2 : Int32) (a3 : Int32) (a4 : Int32) (a5 : Int32) (a6 : Int32) (a8 : Int32) (s0 : Int32) (s1 : Int32), wm_holdOn_219 Q K7 K146 J a1 a2 a3 a4 a5 a6 a8 s0 s1 → GM E C J 219 [some (.ref (me_a E 54)), some (.int a1), some (.int a2), some (.int a3), some (.int a4), some (.int a5), some (.int a6), none, some (.int a8)] [.int s1, .int s0] := by
    intro K7 hK7 K146 hK146 J a1 a2 a3 a4 a5 a6 a8 s0 s1 h
    refine g_iadd hC dX3_holdOn_219 ?_
    refine g_istore hC dX3_holdOn_220 (by decide) rfl rfl ?_
    exact s_222 K7 hK7 K146 hK146 J a1 a2 a3 a4 a5 a6 (s0 + s1) a8 h
  have s_186 : ∀ (K7 : MS → Int32 → Int32 → Int32 → Int32 → Prop) (hK7 : ∀ (J : MS) (b1 : Int32) (b2 : Int32) (b3 : Int32) (b4 : Int32), K7 J b1 b2 b3 b4 → GM E C J 7 [some (.ref (me_a E 54)), some (.int b1), some (.int b2), some (.int b3), some (.int b4), none, none, none, none] []) (K146 : MS → Int32 → Int32 → Int32 → Int32 → Int32 → Int32 → Int32 → Int32 → Prop) (hK146 : ∀ (J : MS) (b1 : Int32) (b2 : Int32) (b3 : Int32) (b4 : Int32) (b5 : Int32) (b6 : Int32) (b7 : Int32) (b8 : Int32), K146 J b1 b2 b3 b4 b5 b6 b7 b8 → GM E C J 146 [some (.ref (me_a E 54)), some (.int b1), some (.int b2), some (.int b3), some (.int b4), some (.int b5), some (.int b6), some (.int b7), some (.int b8)] []) (J : MS) (a1 : Int32) (a2 : Int32) (a3 : Int32) (a4 : Int32) (a5 : Int32) (a7 : Int32) (a8 : Int32) (s0 : Int32), wm_holdOn_186 Q K7 K146 J a1 a2 a3 a4 a5 a7 a8 s0 → GM E C J 186 [some (.ref (me_a E 54)), some (.int a1), some (.int a2), some (.int a3), some (.int a4), some (.int a5), none, some (.int a7), some (.int a8)] [.int s0] := by
    intro K7 hK7 K146 hK146 J a1 a2 a3 a4 a5 a7 a8 s0 h
    refine g_istore hC dX3_holdOn_186 (by decide) rfl rfl ?_
    refine g_iload hC dX3_holdOn_188 rfl ?_
    refine g_aload_n hC dX3_holdOn_190 rfl ?_
    refine g_iload hC dX3_holdOn_191 rfl ?_
    refine g_iconst (v := 0) hC dX3_holdOn_193 (by decide) ?_
    refine gM_Vi (As := [.int a8, .int (0 : Int32)]) (rest := [.int a7]) hC hM (mm_of (cx_l C) E hM.2.1 _ _ _ _ h) (lw_V q1814 q1816 qs51 q76 q1817) hd_of rfl rfl (Nat.le_of_ble_eq_true rfl) ⟨Nat.le_of_ble_eq_true rfl, Nat.le_of_ble_eq_true rfl⟩ dX3_holdOn_194 ?_
    intro r12 J11 h
    refine g_aload_n hC dX3_holdOn_197 rfl ?_
    refine g_iload hC dX3_holdOn_198 rfl ?_
    refine g_iconst (v := 0) hC dX3_holdOn_200 (by decide) ?_
    refine gM_Vi (As := [.int a5, .int (0 : Int32)]) (rest := [.int r12, .int a7]) hC hM (mm_of (cx_l C) E hM.2.1 _ _ _ _ h) (lw_V q1814 q1816 qs51 q76 q1817) hd_of rfl rfl (Nat.le_of_ble_eq_true rfl) ⟨Nat.le_of_ble_eq_true rfl, Nat.le_of_ble_eq_true rfl⟩ dX3_holdOn_201 ?_
    intro r14 J13 h
    refine g_icmp_ne (tgt := 218) hC dX3_holdOn_204 (by decide) (fun c => ?_) (fun c => ?_)
    · have h := it_n c h
      refine g_iconst (v := 0) hC dX3_holdOn_218 (by decide) ?_
      refine g_sub [true, true, true, true, true, true, true, false, true] rfl ?_
      exact s_219 K7 hK7 K146 hK146 J13 a1 a2 a3 a4 a5 s0 a8 a7 (0 : Int32) h
    · have h := it_p c h
      refine g_aload_n hC dX3_holdOn_207 rfl ?_
      refine g_iload hC dX3_holdOn_208 rfl ?_
      refine g_bipush (v := 7) hC dX3_holdOn_210 (by decide) ?_
      refine gM_Vi (As := [.int a8, .int (7 : Int32)]) (rest := [.int a7]) hC hM (mm_of (cx_l C) E hM.2.1 _ _ _ _ h) (lw_V q1814 q1816 qs51 q76 q1817) hd_of rfl rfl (Nat.le_of_ble_eq_true rfl) ⟨Nat.le_of_ble_eq_true rfl, Nat.le_of_ble_eq_true rfl⟩ dX3_holdOn_212 ?_
      intro r16 J15 h
      refine g_goto (tgt := 219) hC dX3_holdOn_215 (by decide) ?_
      refine g_sub [true, true, true, true, true, true, true, false, true] rfl ?_
      exact s_219 K7 hK7 K146 hK146 J15 a1 a2 a3 a4 a5 s0 a8 a7 r16 h
  have s_185 : ∀ (K7 : MS → Int32 → Int32 → Int32 → Int32 → Prop) (hK7 : ∀ (J : MS) (b1 : Int32) (b2 : Int32) (b3 : Int32) (b4 : Int32), K7 J b1 b2 b3 b4 → GM E C J 7 [some (.ref (me_a E 54)), some (.int b1), some (.int b2), some (.int b3), some (.int b4), none, none, none, none] []) (K146 : MS → Int32 → Int32 → Int32 → Int32 → Int32 → Int32 → Int32 → Int32 → Prop) (hK146 : ∀ (J : MS) (b1 : Int32) (b2 : Int32) (b3 : Int32) (b4 : Int32) (b5 : Int32) (b6 : Int32) (b7 : Int32) (b8 : Int32), K146 J b1 b2 b3 b4 b5 b6 b7 b8 → GM E C J 146 [some (.ref (me_a E 54)), some (.int b1), some (.int b2), some (.int b3), some (.int b4), some (.int b5), some (.int b6), some (.int b7), some (.int b8)] []) (J : MS) (a1 : Int32) (a2 : Int32) (a3 : Int32) (a4 : Int32) (a5 : Int32) (a7 : Int32) (a8 : Int32), wm_holdOn_185 Q K7 K146 J a1 a2 a3 a4 a5 a7 a8 → GM E C J 185 [some (.ref (me_a E 54)), some (.int a1), some (.int a2), some (.int a3), some (.int a4), some (.int a5), none, some (.int a7), some (.int a8)] [] := by
    intro K7 hK7 K146 hK146 J a1 a2 a3 a4 a5 a7 a8 h
    refine g_iconst (v := 0) hC dX3_holdOn_185 (by decide) ?_
    exact s_186 K7 hK7 K146 hK146 J a1 a2 a3 a4 a5 a7 a8 (0 : Int32) h
  have s_146 : ∀ (K7 : MS → Int32 → Int32 → Int32 → Int32 → Prop) (hK7 : ∀ (J : MS) (b1 : Int32) (b2 : Int32) (b3 : Int32) (b4 : Int32), K7 J b1 b2 b3 b4 → GM E C J 7 [some (.ref (me_a E 54)), some (.int b1), some (.int b2), some (.int b3), some (.int b4), none, none, none, none] []) (n : Nat) (J : MS) (a1 : Int32) (a2 : Int32) (a3 : Int32) (a4 : Int32) (a5 : Int32) (a6 : Int32) (a7 : Int32) (a8 : Int32), wm_holdOn_146 Q K7 n J a1 a2 a3 a4 a5 a6 a7 a8 → GM E C J 146 [some (.ref (me_a E 54)), some (.int a1), some (.int a2), some (.int a3), some (.int a4), some (.int a5), some (.int a6), some (.int a7), some (.int a8)] [] := by
    intro K7 hK7 n
    induction n with
    | zero =>
      intro J a1 a2 a3 a4 a5 a6 a7 a8 h
      exact False.elim h
    | succ n ih =>
      intro J a1 a2 a3 a4 a5 a6 a7 a8 h
      refine g_iload hC dX3_holdOn_146 rfl ?_
      refine g_aload_n hC dX3_holdOn_148 rfl ?_
      refine gM_getS hC hM 24 dX3_holdOn_149 q1527 (by decide) (by decide) rfl ?_
      refine g_icmp_ge (tgt := 228) hC dX3_holdOn_152 (by decide) (fun c => ?_) (fun c => ?_)
      · have h := it_p c h
        refine g_iload hC dX3_holdOn_228 rfl ?_
        refine g_if_eq (tgt := 265) hC dX3_holdOn_230 (by decide) (fun c => ?_) (fun c => ?_)
        · have h := it_p c h
          refine g_sub [true, true, true, true, true, true, false, false, false] rfl ?_
          exact s_265 K7 hK7 J a1 a2 a3 a4 a5 h
        · have h := it_n c h
          refine g_aload_n hC dX3_holdOn_233 rfl ?_
          refine g_iload hC dX3_holdOn_234 rfl ?_
          refine g_bipush (v := 7) hC dX3_holdOn_236 (by decide) ?_
          refine gM_Vi (As := [.int a5, .int (7 : Int32)]) (rest := []) hC hM (mm_of (cx_l C) E hM.2.1 _ _ _ _ h) (lw_V q1814 q1816 qs51 q76 q1817) hd_of rfl rfl (Nat.le_of_ble_eq_true rfl) ⟨Nat.le_of_ble_eq_true rfl, Nat.le_of_ble_eq_true rfl⟩ dX3_holdOn_238 ?_
          intro r8 J7 h
          refine g_if_eq (tgt := 261) hC dX3_holdOn_241 (by decide) (fun c => ?_) (fun c => ?_)
          · have h := it_p c h
            refine g_sub [true, true, true, true, true, true, false, false, false] rfl ?_
            exact s_261 K7 hK7 J7 a1 a2 a3 a4 a5 h
          · have h := it_n c h
            refine g_iload hC dX3_holdOn_244 rfl ?_
            refine g_aload_n hC dX3_holdOn_246 rfl ?_
            refine gM_getA hC hM 3 dX3_holdOn_247 q1506 (by decide) (by decide) rfl ?_
            refine g_aload_n hC dX3_holdOn_250 rfl ?_
            refine g_iload hC dX3_holdOn_251 rfl ?_
            refine g_iconst (v := 0) hC dX3_holdOn_253 (by decide) ?_
            refine gM_Vi (As := [.int a5, .int (0 : Int32)]) (rest := [.ref (me_a E 3), .int a7]) hC hM (mm_of (cx_l C) E hM.2.1 _ _ _ _ h) (lw_V q1814 q1816 qs51 q76 q1817) hd_of rfl rfl (Nat.le_of_ble_eq_true rfl) ⟨Nat.le_of_ble_eq_true rfl, Nat.le_of_ble_eq_true rfl⟩ dX3_holdOn_254 ?_
            intro r10 J9 h
            refine gM_iald hC hM 3 1 dX3_holdOn_257 rfl (by decide) h.1 ?_
            refine g_icmp_ge (tgt := 265) hC dX3_holdOn_258 (by decide) (fun c => ?_) (fun c => ?_)
            · have h := it_p c h.2
              refine g_sub [true, true, true, true, true, true, false, false, false] rfl ?_
              exact s_265 K7 hK7 J9 a1 a2 a3 a4 a5 h
            · have h := it_n c h.2
              refine g_sub [true, true, true, true, true, true, false, false, false] rfl ?_
              exact s_261 K7 hK7 J9 a1 a2 a3 a4 a5 h
      · have h := it_n c h
        refine g_iload_n hC dX3_holdOn_155 rfl ?_
        refine g_iload hC dX3_holdOn_156 rfl ?_
        refine g_ishr hC dX3_holdOn_158 ?_
        refine g_iconst (v := 1) hC dX3_holdOn_159 (by decide) ?_
        refine g_iand hC dX3_holdOn_160 ?_
        refine g_iconst (v := 1) hC dX3_holdOn_161 (by decide) ?_
        refine g_icmp_ne (tgt := 222) hC dX3_holdOn_162 (by decide) (fun c => ?_) (fun c => ?_)
        · have h := it_n c h
          exact s_222 K7 hK7 (wm_holdOn_146 Q K7 n) ih J a1 a2 a3 a4 a5 a6 a7 a8 h
        · have h := it_p c h
          refine g_iload hC dX3_holdOn_165 rfl ?_
          refine g_if_eq (tgt := 185) hC dX3_holdOn_167 (by decide) (fun c => ?_) (fun c => ?_)
          · have h := it_p c h
            refine g_sub [true, true, true, true, true, true, false, true, true] rfl ?_
            exact s_185 K7 hK7 (wm_holdOn_146 Q K7 n) ih J a1 a2 a3 a4 a5 a7 a8 h
          · have h := it_n c h
            refine g_aload_n hC dX3_holdOn_170 rfl ?_
            refine g_iload hC dX3_holdOn_171 rfl ?_
            refine g_iload hC dX3_holdOn_173 rfl ?_
            refine gM_Vi (As := [.int a8, .int a5]) (rest := []) hC hM (mm_isClash (cx_l C) E hM.2.1 _ _ _ _ h) (lw_V q1831 q1833 qs53 q76 q1834) hd_isClash rfl rfl (Nat.le_of_ble_eq_true rfl) ⟨Nat.le_of_ble_eq_true rfl, Nat.le_of_ble_eq_true rfl⟩ dX3_holdOn_175 ?_
            intro r18 J17 h
            refine g_if_ne (tgt := 185) hC dX3_holdOn_178 (by decide) (fun c => ?_) (fun c => ?_)
            · have h := it_n c h
              refine g_sub [true, true, true, true, true, true, false, true, true] rfl ?_
              exact s_185 K7 hK7 (wm_holdOn_146 Q K7 n) ih J17 a1 a2 a3 a4 a5 a7 a8 h
            · have h := it_p c h
              refine g_iconst (v := 1) hC dX3_holdOn_181 (by decide) ?_
              refine g_goto (tgt := 186) hC dX3_holdOn_182 (by decide) ?_
              refine g_sub [true, true, true, true, true, true, false, true, true] rfl ?_
              exact s_186 K7 hK7 (wm_holdOn_146 Q K7 n) ih J17 a1 a2 a3 a4 a5 a7 a8 (1 : Int32) h
  have s_104 : ∀ (K7 : MS → Int32 → Int32 → Int32 → Int32 → Prop) (hK7 : ∀ (J : MS) (b1 : Int32) (b2 : Int32) (b3 : Int32) (b4 : Int32), K7 J b1 b2 b3 b4 → GM E C J 7 [some (.ref (me_a E 54)), some (.int b1), some (.int b2), some (.int b3), some (.int b4), none, none, none, none] []) (J : MS) (a1 : Int32) (a2 : Int32) (a3 : Int32) (a5 : Int32) (s0 : Int32), wm_holdOn_104 Q K7 J a1 a2 a3 a5 s0 → GM E C J 104 [some (.ref (me_a E 54)), some (.int a1), some (.int a2), some (.int a3), none, some (.int a5), none, none, none] [.int s0] := by
    intro K7 hK7 J a1 a2 a3 a5 s0 h
    refine g_istore hC dX3_holdOn_104 (by decide) rfl rfl ?_
    refine g_iload hC dX3_holdOn_106 rfl ?_
    refine g_if_eq (tgt := 284) hC dX3_holdOn_108 (by decide) (fun c => ?_) (fun c => ?_)
    · have h := it_p c h
      refine g_sub [true, true, true, true, true, false, false, false, false] rfl ?_
      exact s_284 K7 hK7 J a1 a2 a3 s0 h
    · have h := it_n c h
      refine g_iload_n hC dX3_holdOn_111 rfl ?_
      refine g_iconst (v := 1) hC dX3_holdOn_112 (by decide) ?_
      refine g_iload hC dX3_holdOn_113 rfl ?_
      refine g_ishl hC dX3_holdOn_115 ?_
      refine g_ior hC dX3_holdOn_116 ?_
      refine g_istore_n hC dX3_holdOn_117 rfl (by decide) rfl rfl ?_
      refine g_aload_n hC dX3_holdOn_118 rfl ?_
      refine g_iload hC dX3_holdOn_119 rfl ?_
      refine g_aload_n hC dX3_holdOn_121 rfl ?_
      refine g_iload hC dX3_holdOn_122 rfl ?_
      refine g_iconst (v := 0) hC dX3_holdOn_124 (by decide) ?_
      refine gM_Vi (As := [.int a5, .int (0 : Int32)]) (rest := [.int a5, .ref (me_a E 54)]) hC hM (mm_of (cx_l C) E hM.2.1 _ _ _ _ h) (lw_V q1814 q1816 qs51 q76 q1817) hd_of rfl rfl (Nat.le_of_ble_eq_true rfl) ⟨Nat.le_of_ble_eq_true rfl, Nat.le_of_ble_eq_true rfl⟩ dX3_holdOn_125 ?_
      intro r2 J1 h
      refine g_aload_n hC dX3_holdOn_128 rfl ?_
      refine g_iload hC dX3_holdOn_129 rfl ?_
      refine g_iconst (v := 1) hC dX3_holdOn_131 (by decide) ?_
      refine gM_Vi (As := [.int a5, .int (1 : Int32)]) (rest := [.int r2, .int a5, .ref (me_a E 54)]) hC hM (mm_of (cx_l C) E hM.2.1 _ _ _ _ h) (lw_V q1814 q1816 qs51 q76 q1817) hd_of rfl rfl (Nat.le_of_ble_eq_true rfl) ⟨Nat.le_of_ble_eq_true rfl, Nat.le_of_ble_eq_true rfl⟩ dX3_holdOn_132 ?_
      intro r4 J3 h
      refine gM_Vi (As := [.int a5, .int r2, .int r4]) (rest := []) hC hM (mm_hasFire (cx_l C) E hM.2.1 _ _ _ _ _ h) (lw_V q1859 q1861 qs59 q76 q1862) hd_hasFire rfl rfl (Nat.le_of_ble_eq_true rfl) ⟨Nat.le_of_ble_eq_true rfl, Nat.le_of_ble_eq_true rfl⟩ dX3_holdOn_135 ?_
      intro r6 J5 h
      refine g_istore hC dX3_holdOn_138 (by decide) rfl rfl ?_
      refine g_iconst (v := 0) hC dX3_holdOn_140 (by decide) ?_
      refine g_istore hC dX3_holdOn_141 (by decide) rfl rfl ?_
      refine g_iconst (v := 0) hC dX3_holdOn_143 (by decide) ?_
      refine g_istore hC dX3_holdOn_144 (by decide) rfl rfl ?_
      obtain ⟨n0, h0⟩ := h
      exact s_146 K7 hK7 n0 J5 a1 (a2 ||| ((1 : Int32) <<< (a5 &&& 31))) a3 s0 a5 r6 (0 : Int32) (0 : Int32) h0
  have s_84 : ∀ (K7 : MS → Int32 → Int32 → Int32 → Int32 → Prop) (hK7 : ∀ (J : MS) (b1 : Int32) (b2 : Int32) (b3 : Int32) (b4 : Int32), K7 J b1 b2 b3 b4 → GM E C J 7 [some (.ref (me_a E 54)), some (.int b1), some (.int b2), some (.int b3), some (.int b4), none, none, none, none] []) (K19 : MS → Int32 → Int32 → Int32 → Int32 → Int32 → Prop) (hK19 : ∀ (J : MS) (b1 : Int32) (b2 : Int32) (b3 : Int32) (b5 : Int32) (b6 : Int32), K19 J b1 b2 b3 b5 b6 → GM E C J 19 [some (.ref (me_a E 54)), some (.int b1), some (.int b2), some (.int b3), none, some (.int b5), some (.int b6), none, none] []) (J : MS) (a1 : Int32) (a2 : Int32) (a3 : Int32) (a6 : Int32) (s0 : Int32), wm_holdOn_84 Q K7 K19 J a1 a2 a3 a6 s0 → GM E C J 84 [some (.ref (me_a E 54)), some (.int a1), some (.int a2), some (.int a3), none, none, some (.int a6), none, none] [.int s0] := by
    intro K7 hK7 K19 hK19 J a1 a2 a3 a6 s0 h
    refine g_istore hC dX3_holdOn_84 (by decide) rfl rfl ?_
    refine g_iinc (v := (a6 + (1 : Int32))) hC dX3_holdOn_86 rfl rfl (by decide) rfl rfl ?_
    refine g_goto (tgt := 19) hC dX3_holdOn_89 (by decide) ?_
    exact hK19 J a1 a2 a3 s0 (a6 + (1 : Int32)) h
  have s_82 : ∀ (K7 : MS → Int32 → Int32 → Int32 → Int32 → Prop) (hK7 : ∀ (J : MS) (b1 : Int32) (b2 : Int32) (b3 : Int32) (b4 : Int32), K7 J b1 b2 b3 b4 → GM E C J 7 [some (.ref (me_a E 54)), some (.int b1), some (.int b2), some (.int b3), some (.int b4), none, none, none, none] []) (K19 : MS → Int32 → Int32 → Int32 → Int32 → Int32 → Prop) (hK19 : ∀ (J : MS) (b1 : Int32) (b2 : Int32) (b3 : Int32) (b5 : Int32) (b6 : Int32), K19 J b1 b2 b3 b5 b6 → GM E C J 19 [some (.ref (me_a E 54)), some (.int b1), some (.int b2), some (.int b3), none, some (.int b5), some (.int b6), none, none] []) (J : MS) (a1 : Int32) (a2 : Int32) (a3 : Int32) (a5 : Int32) (a6 : Int32), wm_holdOn_82 Q K7 K19 J a1 a2 a3 a5 a6 → GM E C J 82 [some (.ref (me_a E 54)), some (.int a1), some (.int a2), some (.int a3), none, some (.int a5), some (.int a6), none, none] [] := by
    intro K7 hK7 K19 hK19 J a1 a2 a3 a5 a6 h
    refine g_iload hC dX3_holdOn_82 rfl ?_
    refine g_sub [true, true, true, true, false, false, true, false, false] rfl ?_
    exact s_84 K7 hK7 K19 hK19 J a1 a2 a3 a6 a5 h
  have s_77 : ∀ (K7 : MS → Int32 → Int32 → Int32 → Int32 → Prop) (hK7 : ∀ (J : MS) (b1 : Int32) (b2 : Int32) (b3 : Int32) (b4 : Int32), K7 J b1 b2 b3 b4 → GM E C J 7 [some (.ref (me_a E 54)), some (.int b1), some (.int b2), some (.int b3), some (.int b4), none, none, none, none] []) (K19 : MS → Int32 → Int32 → Int32 → Int32 → Int32 → Prop) (hK19 : ∀ (J : MS) (b1 : Int32) (b2 : Int32) (b3 : Int32) (b5 : Int32) (b6 : Int32), K19 J b1 b2 b3 b5 b6 → GM E C J 19 [some (.ref (me_a E 54)), some (.int b1), some (.int b2), some (.int b3), none, some (.int b5), some (.int b6), none, none] []) (J : MS) (a1 : Int32) (a2 : Int32) (a3 : Int32) (a6 : Int32), wm_holdOn_77 Q K7 K19 J a1 a2 a3 a6 → GM E C J 77 [some (.ref (me_a E 54)), some (.int a1), some (.int a2), some (.int a3), none, none, some (.int a6), none, none] [] := by
    intro K7 hK7 K19 hK19 J a1 a2 a3 a6 h
    refine g_iload hC dX3_holdOn_77 rfl ?_
    refine g_goto (tgt := 84) hC dX3_holdOn_79 (by decide) ?_
    exact s_84 K7 hK7 K19 hK19 J a1 a2 a3 a6 a6 h
  have s_52 : ∀ (K7 : MS → Int32 → Int32 → Int32 → Int32 → Prop) (hK7 : ∀ (J : MS) (b1 : Int32) (b2 : Int32) (b3 : Int32) (b4 : Int32), K7 J b1 b2 b3 b4 → GM E C J 7 [some (.ref (me_a E 54)), some (.int b1), some (.int b2), some (.int b3), some (.int b4), none, none, none, none] []) (K19 : MS → Int32 → Int32 → Int32 → Int32 → Int32 → Prop) (hK19 : ∀ (J : MS) (b1 : Int32) (b2 : Int32) (b3 : Int32) (b5 : Int32) (b6 : Int32), K19 J b1 b2 b3 b5 b6 → GM E C J 19 [some (.ref (me_a E 54)), some (.int b1), some (.int b2), some (.int b3), none, some (.int b5), some (.int b6), none, none] []) (J : MS) (a1 : Int32) (a2 : Int32) (a3 : Int32) (a5 : Int32) (a6 : Int32) (s0 : Int32), wm_holdOn_52 Q K7 K19 J a1 a2 a3 a5 a6 s0 → GM E C J 52 [some (.ref (me_a E 54)), some (.int a1), some (.int a2), some (.int a3), none, some (.int a5), some (.int a6), none, none] [.int s0] := by
    intro K7 hK7 K19 hK19 J a1 a2 a3 a5 a6 s0 h
    refine g_istore hC dX3_holdOn_52 (by decide) rfl rfl ?_
    refine g_iload hC dX3_holdOn_54 rfl ?_
    refine g_if_eq (tgt := 82) hC dX3_holdOn_56 (by decide) (fun c => ?_) (fun c => ?_)
    · have h := it_p c h
      refine g_sub [true, true, true, true, false, true, true, false, false] rfl ?_
      exact s_82 K7 hK7 K19 hK19 J a1 a2 a3 a5 a6 h
    · have h := it_n c h
      refine g_iload hC dX3_holdOn_59 rfl ?_
      refine g_ldc (v := -1000000) hC dX3_holdOn_61 q1720 ?_
      refine g_icmp_eq (tgt := 77) hC dX3_holdOn_63 (by decide) (fun c => ?_) (fun c => ?_)
      · have h := it_p c h
        refine g_sub [true, true, true, true, false, false, true, false, false] rfl ?_
        exact s_77 K7 hK7 K19 hK19 J a1 a2 a3 a6 h
      · have h := it_n c h
        refine g_aload_n hC dX3_holdOn_66 rfl ?_
        refine g_iload hC dX3_holdOn_67 rfl ?_
        refine g_iload hC dX3_holdOn_69 rfl ?_
        refine gM_Vi (As := [.int a6, .int a5]) (rest := []) hC hM (mm_isAhead (cx_l C) E hM.2.1 _ _ _ _ h) (lw_V q1851 q1853 qs57 q76 q1854) hd_isAhead rfl rfl (Nat.le_of_ble_eq_true rfl) ⟨Nat.le_of_ble_eq_true rfl, Nat.le_of_ble_eq_true rfl⟩ dX3_holdOn_71 ?_
        intro r23 J22 h
        refine g_if_eq (tgt := 82) hC dX3_holdOn_74 (by decide) (fun c => ?_) (fun c => ?_)
        · have h := it_p c h
          refine g_sub [true, true, true, true, false, true, true, false, false] rfl ?_
          exact s_82 K7 hK7 K19 hK19 J22 a1 a2 a3 a5 a6 h
        · have h := it_n c h
          refine g_sub [true, true, true, true, false, false, true, false, false] rfl ?_
          exact s_77 K7 hK7 K19 hK19 J22 a1 a2 a3 a6 h
  have s_51 : ∀ (K7 : MS → Int32 → Int32 → Int32 → Int32 → Prop) (hK7 : ∀ (J : MS) (b1 : Int32) (b2 : Int32) (b3 : Int32) (b4 : Int32), K7 J b1 b2 b3 b4 → GM E C J 7 [some (.ref (me_a E 54)), some (.int b1), some (.int b2), some (.int b3), some (.int b4), none, none, none, none] []) (K19 : MS → Int32 → Int32 → Int32 → Int32 → Int32 → Prop) (hK19 : ∀ (J : MS) (b1 : Int32) (b2 : Int32) (b3 : Int32) (b5 : Int32) (b6 : Int32), K19 J b1 b2 b3 b5 b6 → GM E C J 19 [some (.ref (me_a E 54)), some (.int b1), some (.int b2), some (.int b3), none, some (.int b5), some (.int b6), none, none] []) (J : MS) (a1 : Int32) (a2 : Int32) (a3 : Int32) (a5 : Int32) (a6 : Int32), wm_holdOn_51 Q K7 K19 J a1 a2 a3 a5 a6 → GM E C J 51 [some (.ref (me_a E 54)), some (.int a1), some (.int a2), some (.int a3), none, some (.int a5), some (.int a6), none, none] [] := by
    intro K7 hK7 K19 hK19 J a1 a2 a3 a5 a6 h
    refine g_iconst (v := 0) hC dX3_holdOn_51 (by decide) ?_
    exact s_52 K7 hK7 K19 hK19 J a1 a2 a3 a5 a6 (0 : Int32) h
  have s_19 : ∀ (K7 : MS → Int32 → Int32 → Int32 → Int32 → Prop) (hK7 : ∀ (J : MS) (b1 : Int32) (b2 : Int32) (b3 : Int32) (b4 : Int32), K7 J b1 b2 b3 b4 → GM E C J 7 [some (.ref (me_a E 54)), some (.int b1), some (.int b2), some (.int b3), some (.int b4), none, none, none, none] []) (n : Nat) (J : MS) (a1 : Int32) (a2 : Int32) (a3 : Int32) (a5 : Int32) (a6 : Int32), wm_holdOn_19 Q K7 n J a1 a2 a3 a5 a6 → GM E C J 19 [some (.ref (me_a E 54)), some (.int a1), some (.int a2), some (.int a3), none, some (.int a5), some (.int a6), none, none] [] := by
    intro K7 hK7 n
    induction n with
    | zero =>
      intro J a1 a2 a3 a5 a6 h
      exact False.elim h
    | succ n ih =>
      intro J a1 a2 a3 a5 a6 h
      refine g_iload hC dX3_holdOn_19 rfl ?_
      refine g_aload_n hC dX3_holdOn_21 rfl ?_
      refine gM_getS hC hM 24 dX3_holdOn_22 q1527 (by decide) (by decide) rfl ?_
      refine g_icmp_ge (tgt := 92) hC dX3_holdOn_25 (by decide) (fun c => ?_) (fun c => ?_)
      · have h := it_p c h
        refine g_iload hC dX3_holdOn_92 rfl ?_
        refine g_ldc (v := -1000000) hC dX3_holdOn_94 q1720 ?_
        refine g_icmp_eq (tgt := 103) hC dX3_holdOn_96 (by decide) (fun c => ?_) (fun c => ?_)
        · have h := it_p c h
          refine g_iconst (v := 0) hC dX3_holdOn_103 (by decide) ?_
          refine g_sub [true, true, true, true, false, true, false, false, false] rfl ?_
          exact s_104 K7 hK7 J a1 a2 a3 a5 (0 : Int32) h
        · have h := it_n c h
          refine g_iconst (v := 1) hC dX3_holdOn_99 (by decide) ?_
          refine g_goto (tgt := 104) hC dX3_holdOn_100 (by decide) ?_
          refine g_sub [true, true, true, true, false, true, false, false, false] rfl ?_
          exact s_104 K7 hK7 J a1 a2 a3 a5 (1 : Int32) h
      · have h := it_n c h
        refine g_aload_n hC dX3_holdOn_28 rfl ?_
        refine g_iload hC dX3_holdOn_29 rfl ?_
        refine g_iload_n hC dX3_holdOn_31 rfl ?_
        refine gM_Vi (As := [.int a6, .int a1]) (rest := []) hC hM (mm_isThere (cx_l C) E hM.2.1 _ _ _ _ h) (lw_V q1847 q1849 qs56 q76 q1850) hd_isThere rfl rfl (Nat.le_of_ble_eq_true rfl) ⟨Nat.le_of_ble_eq_true rfl, Nat.le_of_ble_eq_true rfl⟩ dX3_holdOn_32 ?_
        intro r21 J20 h
        refine g_if_eq (tgt := 51) hC dX3_holdOn_35 (by decide) (fun c => ?_) (fun c => ?_)
        · have h := it_p c h
          exact s_51 K7 hK7 (wm_holdOn_19 Q K7 n) ih J20 a1 a2 a3 a5 a6 h
        · have h := it_n c h
          refine g_iload_n hC dX3_holdOn_38 rfl ?_
          refine g_iload hC dX3_holdOn_39 rfl ?_
          refine g_ishr hC dX3_holdOn_41 ?_
          refine g_iconst (v := 1) hC dX3_holdOn_42 (by decide) ?_
          refine g_iand hC dX3_holdOn_43 ?_
          refine g_if_ne (tgt := 51) hC dX3_holdOn_44 (by decide) (fun c => ?_) (fun c => ?_)
          · have h := it_n c h
            exact s_51 K7 hK7 (wm_holdOn_19 Q K7 n) ih J20 a1 a2 a3 a5 a6 h
          · have h := it_p c h
            refine g_iconst (v := 1) hC dX3_holdOn_47 (by decide) ?_
            refine g_goto (tgt := 52) hC dX3_holdOn_48 (by decide) ?_
            exact s_52 K7 hK7 (wm_holdOn_19 Q K7 n) ih J20 a1 a2 a3 a5 a6 (1 : Int32) h
  have s_7 : ∀ (n : Nat) (J : MS) (a1 : Int32) (a2 : Int32) (a3 : Int32) (a4 : Int32), wm_holdOn_7 Q  n J a1 a2 a3 a4 → GM E C J 7 [some (.ref (me_a E 54)), some (.int a1), some (.int a2), some (.int a3), some (.int a4), none, none, none, none] [] := by
    intro  n
    induction n with
    | zero =>
      intro J a1 a2 a3 a4 h
      exact False.elim h
    | succ n ih =>
      intro J a1 a2 a3 a4 h
      refine g_iload hC dX3_holdOn_7 rfl ?_
      refine g_if_eq (tgt := 287) hC dX3_holdOn_9 (by decide) (fun c => ?_) (fun c => ?_)
      · have h := it_p c h
        refine g_iload_n hC dX3_holdOn_287 rfl ?_
        refine gM_iret hC hM hQ rfl dX3_holdOn_288 h
      · have h := it_n c h
        refine g_ldc (v := -1000000) hC dX3_holdOn_12 q1720 ?_
        refine g_istore hC dX3_holdOn_14 (by decide) rfl rfl ?_
        refine g_sub [true, true, true, true, false, true, false, false, false] rfl ?_
        refine g_iconst (v := 0) hC dX3_holdOn_16 (by decide) ?_
        refine g_istore hC dX3_holdOn_17 (by decide) rfl rfl ?_
        obtain ⟨n0, h0⟩ := h
        exact s_19 (wm_holdOn_7 Q n) ih n0 J a1 a2 a3 (-1000000 : Int32) (0 : Int32) h0
  refine g_iconst (v := 0) hC dX3_holdOn_0 (by decide) ?_
  refine g_istore_n hC dX3_holdOn_1 rfl (by decide) rfl rfl ?_
  refine g_iconst (v := 0) hC dX3_holdOn_2 (by decide) ?_
  refine g_istore_n hC dX3_holdOn_3 rfl (by decide) rfl rfl ?_
  refine g_iconst (v := 1) hC dX3_holdOn_4 (by decide) ?_
  refine g_istore hC dX3_holdOn_5 (by decide) rfl rfl ?_
  obtain ⟨n0, h0⟩ := h
  exact s_7 n0 J x1 (0 : Int32) (0 : Int32) (1 : Int32) h0
theorem mm_holdOn (l : Launch) (E : ME) (hI : mInj E) (Q : Int32 → MS → Prop) (J : MS) (x1 : Int32) (h : wm_holdOn Q J x1) : MMet E l yX3_holdOn cX3_holdOn 9 (some .int) ({ frames := 4, cells := 0, slots := 0, locals := 82 }) [.ref (me_a E 54), .int x1] J (va_Qi Q (BM E) (mA E)) :=
  MMet_of hI (by decide) rfl (Nat.le_of_ble_eq_true rfl) (L0 := [some (.ref (me_a E 54)), some (.int x1), none, none, none, none, none, none, none]) rfl (fun C hC hM hl hQ => bm_holdOn E C Q J x1 hC hM hQ h)
