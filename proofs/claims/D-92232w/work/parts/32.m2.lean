/-! holding -/
def wm_holding_105 (Q : Int32 → MS → Prop) (K48 : MS → Int32 → Int32 → Int32 → Int32 → Int32 → Prop) (J : MS) (a1 : Int32) (a2 : Int32) (a3 : Int32) (a5 : Int32) (s0 : Int32) (s1 : Int32) : Prop :=
  K48 J a1 a2 a3 (s0 + s1) (a5 + (1 : Int32))
def wm_holding_81 (Q : Int32 → MS → Prop) (K48 : MS → Int32 → Int32 → Int32 → Int32 → Int32 → Prop) (J : MS) (a1 : Int32) (a2 : Int32) (a4 : Int32) (a5 : Int32) (s0 : Int32) (s1 : Int32) : Prop :=
  (if (((s0 ||| s1) >>> (a5 &&& 31)) &&& (1 : Int32)) = (1 : Int32) then wm_priceOf (fun r8 J7 => wm_holding_105 Q K48 J7 a1 a2 (s0 ||| s1) a5 a4 r8) J a5 else wm_holding_105 Q K48 J a1 a2 (s0 ||| s1) a5 a4 (0 : Int32))
def wm_holding_80 (Q : Int32 → MS → Prop) (K48 : MS → Int32 → Int32 → Int32 → Int32 → Int32 → Prop) (J : MS) (a1 : Int32) (a2 : Int32) (a4 : Int32) (a5 : Int32) (s0 : Int32) : Prop :=
  wm_holding_81 Q K48 J a1 a2 a4 a5 s0 (0 : Int32)
def wm_holding_48 (Q : Int32 → MS → Prop) : Nat → MS → Int32 → Int32 → Int32 → Int32 → Int32 → Prop
  | 0, _, _, _, _, _, _ => False
  | n + 1, J, a1, a2, a3, a4, a5 => (if (J 24 0) ≤ a5 then (if a2 = (2 : Int32) then Q a4 J else Q a3 J) else (if a2 = (1 : Int32) then wm_isThere (fun r10 J9 => (if r10 = 0 then wm_holding_80 Q (wm_holding_48 Q n) J9 a1 a2 a4 a5 a3 else wm_holding_81 Q (wm_holding_48 Q n) J9 a1 a2 a4 a5 a3 ((1 : Int32) <<< (a5 &&& 31)))) J a5 a1 else wm_holding_80 Q (wm_holding_48 Q n) J a1 a2 a4 a5 a3))
def wm_holding_41 (Q : Int32 → MS → Prop) (J : MS) (a1 : Int32) (a2 : Int32) (s0 : Int32) : Prop :=
  ∃ n11, wm_holding_48 Q n11 J a1 a2 s0 (0 : Int32) (0 : Int32)
def wm_holding (Q : Int32 → MS → Prop) (J : MS) (x1 : Int32) (x2 : Int32) : Prop :=
  wm_isDay (fun r2 J1 => (if r2 = 0 then Q (-1000001 : Int32) J1 else wm_in (fun r4 J3 => (if r4 = 0 then Q (-1000001 : Int32) J3 else (if x2 = (1 : Int32) then wm_holding_41 Q J3 x1 x2 (0 : Int32) else wm_holdOn (fun r6 J5 => wm_holding_41 Q J5 x1 x2 r6) J3 x1))) J1 (Int32.toInt64 x2) (0 : Int64) (2 : Int64))) (mset J 0 0 (0 : Int32)) x1
theorem hd_holding : yX3_holding.cls = RX3 ∧ yX3_holding.cls ≠ "java/lang/invoke/MethodHandle" ∧ yX3_holding.cls ≠ "java/lang/invoke/VarHandle" ∧ (parseMethodDescriptor yX3_holding.desc).map (fun d => d.parameters.length) = some 2 := by decide +kernel
set_option maxHeartbeats 4000000 in
set_option maxRecDepth 100000 in
theorem bm_holding (E : ME) (C : Cx) (Q : Int32 → MS → Prop) (J : MS) (x1 : Int32) (x2 : Int32) (hC : COk C cX3_holding RX3 (some .int) 5 110 6) (hM : MOk E C) (hQ : cx_Q C = MQ (cx_b C) (va_Qi Q (BM E) (mA E)) (cx_a C) (cx_s C) (cx_MC C) (cx_MS C) (mA E)) (h : wm_holding Q J x1 x2) : GM E C J 0 [some (.ref (me_a E 54)), some (.int x1), some (.int x2), none, none, none] [] := by
  have s_105 : ∀ (K48 : MS → Int32 → Int32 → Int32 → Int32 → Int32 → Prop) (hK48 : ∀ (J : MS) (b1 : Int32) (b2 : Int32) (b3 : Int32) (b4 : Int32) (b5 : Int32), K48 J b1 b2 b3 b4 b5 → GM E C J 48 [some (.ref (me_a E 54)), some (.int b1), some (.int b2), some (.int b3), some (.int b4), some (.int b5)] []) (J : MS) (a1 : Int32) (a2 : Int32) (a3 : Int32) (a5 : Int32) (s0 : Int32) (s1 : Int32), wm_holding_105 Q K48 J a1 a2 a3 a5 s0 s1 → GM E C J 105 [some (.ref (me_a E 54)), some (.int a1), some (.int a2), some (.int a3), none, some (.int a5)] [.int s1, .int s0] := by
    intro K48 hK48 J a1 a2 a3 a5 s0 s1 h
    refine g_iadd hC dX3_holding_105 ?_
    refine g_istore hC dX3_holding_106 (by decide) rfl rfl ?_
    refine g_iinc (v := (a5 + (1 : Int32))) hC dX3_holding_108 rfl rfl (by decide) rfl rfl ?_
    refine g_goto (tgt := 48) hC dX3_holding_111 (by decide) ?_
    exact hK48 J a1 a2 a3 (s0 + s1) (a5 + (1 : Int32)) h
  have s_81 : ∀ (K48 : MS → Int32 → Int32 → Int32 → Int32 → Int32 → Prop) (hK48 : ∀ (J : MS) (b1 : Int32) (b2 : Int32) (b3 : Int32) (b4 : Int32) (b5 : Int32), K48 J b1 b2 b3 b4 b5 → GM E C J 48 [some (.ref (me_a E 54)), some (.int b1), some (.int b2), some (.int b3), some (.int b4), some (.int b5)] []) (J : MS) (a1 : Int32) (a2 : Int32) (a4 : Int32) (a5 : Int32) (s0 : Int32) (s1 : Int32), wm_holding_81 Q K48 J a1 a2 a4 a5 s0 s1 → GM E C J 81 [some (.ref (me_a E 54)), some (.int a1), some (.int a2), none, some (.int a4), some (.int a5)] [.int s1, .int s0] := by
    intro K48 hK48 J a1 a2 a4 a5 s0 s1 h
    refine g_ior hC dX3_holding_81 ?_
    refine g_istore_n hC dX3_holding_82 rfl (by decide) rfl rfl ?_
    refine g_iload hC dX3_holding_83 rfl ?_
    refine g_iload_n hC dX3_holding_85 rfl ?_
    refine g_iload hC dX3_holding_86 rfl ?_
    refine g_ishr hC dX3_holding_88 ?_
    refine g_iconst (v := 1) hC dX3_holding_89 (by decide) ?_
    refine g_iand hC dX3_holding_90 ?_
    refine g_iconst (v := 1) hC dX3_holding_91 (by decide) ?_
    refine g_icmp_ne (tgt := 104) hC dX3_holding_92 (by decide) (fun c => ?_) (fun c => ?_)
    · have h := it_n c h
      refine g_iconst (v := 0) hC dX3_holding_104 (by decide) ?_
      refine g_sub [true, true, true, true, false, true] rfl ?_
      exact s_105 K48 hK48 J a1 a2 (s0 ||| s1) a5 a4 (0 : Int32) h
    · have h := it_p c h
      refine g_aload_n hC dX3_holding_95 rfl ?_
      refine g_iload hC dX3_holding_96 rfl ?_
      refine gM_Vi (As := [.int a5]) (rest := [.int a4]) hC hM (mm_priceOf (cx_l C) E hM.2.1 _ _ _ h) (lw_V q1823 q1825 qs52 q76 q1826) hd_priceOf rfl rfl (Nat.le_of_ble_eq_true rfl) ⟨Nat.le_of_ble_eq_true rfl, Nat.le_of_ble_eq_true rfl⟩ dX3_holding_98 ?_
      intro r8 J7 h
      refine g_goto (tgt := 105) hC dX3_holding_101 (by decide) ?_
      refine g_sub [true, true, true, true, false, true] rfl ?_
      exact s_105 K48 hK48 J7 a1 a2 (s0 ||| s1) a5 a4 r8 h
  have s_80 : ∀ (K48 : MS → Int32 → Int32 → Int32 → Int32 → Int32 → Prop) (hK48 : ∀ (J : MS) (b1 : Int32) (b2 : Int32) (b3 : Int32) (b4 : Int32) (b5 : Int32), K48 J b1 b2 b3 b4 b5 → GM E C J 48 [some (.ref (me_a E 54)), some (.int b1), some (.int b2), some (.int b3), some (.int b4), some (.int b5)] []) (J : MS) (a1 : Int32) (a2 : Int32) (a4 : Int32) (a5 : Int32) (s0 : Int32), wm_holding_80 Q K48 J a1 a2 a4 a5 s0 → GM E C J 80 [some (.ref (me_a E 54)), some (.int a1), some (.int a2), none, some (.int a4), some (.int a5)] [.int s0] := by
    intro K48 hK48 J a1 a2 a4 a5 s0 h
    refine g_iconst (v := 0) hC dX3_holding_80 (by decide) ?_
    exact s_81 K48 hK48 J a1 a2 a4 a5 s0 (0 : Int32) h
  have s_48 : ∀ (n : Nat) (J : MS) (a1 : Int32) (a2 : Int32) (a3 : Int32) (a4 : Int32) (a5 : Int32), wm_holding_48 Q  n J a1 a2 a3 a4 a5 → GM E C J 48 [some (.ref (me_a E 54)), some (.int a1), some (.int a2), some (.int a3), some (.int a4), some (.int a5)] [] := by
    intro  n
    induction n with
    | zero =>
      intro J a1 a2 a3 a4 a5 h
      exact False.elim h
    | succ n ih =>
      intro J a1 a2 a3 a4 a5 h
      refine g_iload hC dX3_holding_48 rfl ?_
      refine g_aload_n hC dX3_holding_50 rfl ?_
      refine gM_getS hC hM 24 dX3_holding_51 q1527 (by decide) (by decide) rfl ?_
      refine g_icmp_ge (tgt := 114) hC dX3_holding_54 (by decide) (fun c => ?_) (fun c => ?_)
      · have h := it_p c h
        refine g_iload_n hC dX3_holding_114 rfl ?_
        refine g_iconst (v := 2) hC dX3_holding_115 (by decide) ?_
        refine g_icmp_ne (tgt := 124) hC dX3_holding_116 (by decide) (fun c => ?_) (fun c => ?_)
        · have h := it_n c h
          refine g_iload_n hC dX3_holding_124 rfl ?_
          refine gM_iret hC hM hQ rfl dX3_holding_125 h
        · have h := it_p c h
          refine g_iload hC dX3_holding_119 rfl ?_
          refine g_goto (tgt := 125) hC dX3_holding_121 (by decide) ?_
          refine gM_iret hC hM hQ rfl dX3_holding_125 h
      · have h := it_n c h
        refine g_iload_n hC dX3_holding_57 rfl ?_
        refine g_iload_n hC dX3_holding_58 rfl ?_
        refine g_iconst (v := 1) hC dX3_holding_59 (by decide) ?_
        refine g_icmp_ne (tgt := 80) hC dX3_holding_60 (by decide) (fun c => ?_) (fun c => ?_)
        · have h := it_n c h
          refine g_sub [true, true, true, false, true, true] rfl ?_
          exact s_80 (wm_holding_48 Q n) ih J a1 a2 a4 a5 a3 h
        · have h := it_p c h
          refine g_aload_n hC dX3_holding_63 rfl ?_
          refine g_iload hC dX3_holding_64 rfl ?_
          refine g_iload_n hC dX3_holding_66 rfl ?_
          refine gM_Vi (As := [.int a5, .int a1]) (rest := [.int a3]) hC hM (mm_isThere (cx_l C) E hM.2.1 _ _ _ _ h) (lw_V q1847 q1849 qs56 q76 q1850) hd_isThere rfl rfl (Nat.le_of_ble_eq_true rfl) ⟨Nat.le_of_ble_eq_true rfl, Nat.le_of_ble_eq_true rfl⟩ dX3_holding_67 ?_
          intro r10 J9 h
          refine g_if_eq (tgt := 80) hC dX3_holding_70 (by decide) (fun c => ?_) (fun c => ?_)
          · have h := it_p c h
            refine g_sub [true, true, true, false, true, true] rfl ?_
            exact s_80 (wm_holding_48 Q n) ih J9 a1 a2 a4 a5 a3 h
          · have h := it_n c h
            refine g_iconst (v := 1) hC dX3_holding_73 (by decide) ?_
            refine g_iload hC dX3_holding_74 rfl ?_
            refine g_ishl hC dX3_holding_76 ?_
            refine g_goto (tgt := 81) hC dX3_holding_77 (by decide) ?_
            refine g_sub [true, true, true, false, true, true] rfl ?_
            exact s_81 (wm_holding_48 Q n) ih J9 a1 a2 a4 a5 a3 ((1 : Int32) <<< (a5 &&& 31)) h
  have s_41 : ∀ (J : MS) (a1 : Int32) (a2 : Int32) (s0 : Int32), wm_holding_41 Q  J a1 a2 s0 → GM E C J 41 [some (.ref (me_a E 54)), some (.int a1), some (.int a2), none, none, none] [.int s0] := by
    intro  J a1 a2 s0 h
    refine g_istore_n hC dX3_holding_41 rfl (by decide) rfl rfl ?_
    refine g_iconst (v := 0) hC dX3_holding_42 (by decide) ?_
    refine g_istore hC dX3_holding_43 (by decide) rfl rfl ?_
    refine g_iconst (v := 0) hC dX3_holding_45 (by decide) ?_
    refine g_istore hC dX3_holding_46 (by decide) rfl rfl ?_
    obtain ⟨n0, h0⟩ := h
    exact s_48 n0 J a1 a2 s0 (0 : Int32) (0 : Int32) h0
  refine g_aload_n hC dX3_holding_0 rfl ?_
  refine g_iconst (v := 0) hC dX3_holding_1 (by decide) ?_
  refine gM_put hC hM 0 (ty := .int) dX3_holding_2 q1503 (by decide) (by decide) rfl rfl rfl rfl rfl ?_
  refine g_iload_n hC dX3_holding_5 rfl ?_
  refine gM_Si (As := [.int x1]) (rest := []) hC hM (mm_isDay (cx_l C) E hM.2.1 _ _ _ h) (lw_S q1799 q1800 q76 q1801) hd_isDay rfl rfl (Nat.le_of_ble_eq_true rfl) ⟨Nat.le_of_ble_eq_true rfl, Nat.le_of_ble_eq_true rfl⟩ dX3_holding_6 ?_
  intro r2 J1 h
  refine g_if_eq (tgt := 24) hC dX3_holding_9 (by decide) (fun c => ?_) (fun c => ?_)
  · have h := it_p c h
    refine g_ldc (v := -1000001) hC dX3_holding_24 q1679 ?_
    refine gM_iret hC hM hQ rfl dX3_holding_26 h
  · have h := it_n c h
    refine g_iload_n hC dX3_holding_12 rfl ?_
    refine g_i2l hC dX3_holding_13 ?_
    refine g_lconst (v := 0) hC dX3_holding_14 (by decide) ?_
    refine g_ldc2 (v := 2) hC dX3_holding_15 q1678 ?_
    refine gM_Si (As := [.long (Int32.toInt64 x2), .long (0 : Int64), .long (2 : Int64)]) (rest := []) hC hM (mm_in (cx_l C) E hM.2.1 _ _ _ _ _ h) (lw_S q1675 q1676 q76 q1677) hd_in rfl rfl (Nat.le_of_ble_eq_true rfl) ⟨Nat.le_of_ble_eq_true rfl, Nat.le_of_ble_eq_true rfl⟩ dX3_holding_18 ?_
    intro r4 J3 h
    refine g_if_ne (tgt := 27) hC dX3_holding_21 (by decide) (fun c => ?_) (fun c => ?_)
    · have h := it_n c h
      refine g_iload_n hC dX3_holding_27 rfl ?_
      refine g_iconst (v := 1) hC dX3_holding_28 (by decide) ?_
      refine g_icmp_ne (tgt := 36) hC dX3_holding_29 (by decide) (fun c => ?_) (fun c => ?_)
      · have h := it_n c h
        refine g_aload_n hC dX3_holding_36 rfl ?_
        refine g_iload_n hC dX3_holding_37 rfl ?_
        refine gM_Vi (As := [.int x1]) (rest := []) hC hM (mm_holdOn (cx_l C) E hM.2.1 _ _ _ h) (lw_V q1843 q1845 qs55 q76 q1846) hd_holdOn rfl rfl (Nat.le_of_ble_eq_true rfl) ⟨Nat.le_of_ble_eq_true rfl, Nat.le_of_ble_eq_true rfl⟩ dX3_holding_38 ?_
        intro r6 J5 h
        exact s_41 J5 x1 x2 r6 h
      · have h := it_p c h
        refine g_iconst (v := 0) hC dX3_holding_32 (by decide) ?_
        refine g_goto (tgt := 41) hC dX3_holding_33 (by decide) ?_
        exact s_41 J3 x1 x2 (0 : Int32) h
    · have h := it_p c h
      refine g_ldc (v := -1000001) hC dX3_holding_24 q1679 ?_
      refine gM_iret hC hM hQ rfl dX3_holding_26 h
theorem mm_holding (l : Launch) (E : ME) (hI : mInj E) (Q : Int32 → MS → Prop) (J : MS) (x1 : Int32) (x2 : Int32) (h : wm_holding Q J x1 x2) : MMet E l yX3_holding cX3_holding 6 (some .int) ({ frames := 5, cells := 0, slots := 0, locals := 110 }) [.ref (me_a E 54), .int x1, .int x2] J (va_Qi Q (BM E) (mA E)) :=
  MMet_of hI (by decide) rfl (Nat.le_of_ble_eq_true rfl) (L0 := [some (.ref (me_a E 54)), some (.int x1), some (.int x2), none, none, none]) rfl (fun C hC hM hl hQ => bm_holding E C Q J x1 x2 hC hM hQ h)
/-! most -/
def wm_most_345 (Q : Int32 → MS → Prop) (K213 : MS → Int32 → Int32 → Int32 → Int32 → Prop) (J : MS) (a4 : Int32) (a6 : Int32) (a7 : Int32) (s0 : Int32) : Prop :=
  K213 J a4 s0 a6 (a7 + (1 : Int32))
def wm_most_343 (Q : Int32 → MS → Prop) (K213 : MS → Int32 → Int32 → Int32 → Int32 → Prop) (J : MS) (a4 : Int32) (a5 : Int32) (a6 : Int32) (a7 : Int32) : Prop :=
  wm_most_345 Q K213 J a4 a6 a7 a5
def wm_most_289 (Q : Int32 → MS → Prop) (K213 : MS → Int32 → Int32 → Int32 → Int32 → Prop) (J : MS) (a4 : Int32) (a5 : Int32) (a6 : Int32) (a7 : Int32) (a8 : Int32) (s1 : Int32) (s2 : Int32) : Prop :=
  vp_in s1 65536 ∧ vp_in a8 65536 ∧ wm_priceOf (fun r10 J9 => vp_in a7 65536 ∧ vp_in a7 65536 ∧ (if ((mset J9 29 (Int32.toNatClampNeg a7) (((mset J 28 (Int32.toNatClampNeg s1) (vp_nar .boolean s2)) 29 (Int32.toNatClampNeg a8)) + r10)) 28 (Int32.toNatClampNeg a7)) = 0 then wm_most_343 Q K213 (mset J9 29 (Int32.toNatClampNeg a7) (((mset J 28 (Int32.toNatClampNeg s1) (vp_nar .boolean s2)) 29 (Int32.toNatClampNeg a8)) + r10)) a4 a5 a6 a7 else vp_in a7 65536 ∧ vp_in a5 65536 ∧ (if ((mset J9 29 (Int32.toNatClampNeg a7) (((mset J 28 (Int32.toNatClampNeg s1) (vp_nar .boolean s2)) 29 (Int32.toNatClampNeg a8)) + r10)) 29 (Int32.toNatClampNeg a7)) ≤ ((mset J9 29 (Int32.toNatClampNeg a7) (((mset J 28 (Int32.toNatClampNeg s1) (vp_nar .boolean s2)) 29 (Int32.toNatClampNeg a8)) + r10)) 29 (Int32.toNatClampNeg a5)) then wm_most_343 Q K213 (mset J9 29 (Int32.toNatClampNeg a7) (((mset J 28 (Int32.toNatClampNeg s1) (vp_nar .boolean s2)) 29 (Int32.toNatClampNeg a8)) + r10)) a4 a5 a6 a7 else wm_most_345 Q K213 (mset J9 29 (Int32.toNatClampNeg a7) (((mset J 28 (Int32.toNatClampNeg s1) (vp_nar .boolean s2)) 29 (Int32.toNatClampNeg a8)) + r10)) a4 a6 a7 a7))) (mset J 28 (Int32.toNatClampNeg s1) (vp_nar .boolean s2)) a6
def wm_most_288 (Q : Int32 → MS → Prop) (K213 : MS → Int32 → Int32 → Int32 → Int32 → Prop) (J : MS) (a4 : Int32) (a5 : Int32) (a6 : Int32) (a7 : Int32) (a8 : Int32) (s1 : Int32) : Prop :=
  wm_most_289 Q K213 J a4 a5 a6 a7 a8 s1 (0 : Int32)
def wm_most_241 (Q : Int32 → MS → Prop) (K213 : MS → Int32 → Int32 → Int32 → Int32 → Prop) (J : MS) (a4 : Int32) (a5 : Int32) (a7 : Int32) (s0 : Int32) (s1 : Int32) : Prop :=
  vp_in (a7 &&& (((1 : Int32) <<< ((s0 + s1) &&& 31)) ^^^ (-1 : Int32))) 65536 ∧ (if (J 28 (Int32.toNatClampNeg (a7 &&& (((1 : Int32) <<< ((s0 + s1) &&& 31)) ^^^ (-1 : Int32))))) = 0 then wm_most_288 Q K213 J a4 a5 (s0 + s1) a7 (a7 &&& (((1 : Int32) <<< ((s0 + s1) &&& 31)) ^^^ (-1 : Int32))) a7 else vp_in (s0 + s1) 16 ∧ (if ((J 30 (Int32.toNatClampNeg (s0 + s1))) &&& a7) = 0 then wm_most_289 Q K213 J a4 a5 (s0 + s1) a7 (a7 &&& (((1 : Int32) <<< ((s0 + s1) &&& 31)) ^^^ (-1 : Int32))) a7 (1 : Int32) else wm_most_288 Q K213 J a4 a5 (s0 + s1) a7 (a7 &&& (((1 : Int32) <<< ((s0 + s1) &&& 31)) ^^^ (-1 : Int32))) a7))
def wm_most_213 (Q : Int32 → MS → Prop) : Nat → MS → Int32 → Int32 → Int32 → Int32 → Prop
  | 0, _, _, _, _, _ => False
  | n + 1, J, a4, a5, a6, a7 => (if ((1 : Int32) <<< ((J 24 0) &&& 31)) ≤ a7 then (if a4 = 0 then Q a5 J else vp_in a5 65536 ∧ Q (J 29 (Int32.toNatClampNeg a5)) J) else (if (a7 >>> ((a6 + (1 : Int32)) &&& 31)) ≤ 0 then wm_most_241 Q (wm_most_213 Q n) J a4 a5 a7 a6 (0 : Int32) else wm_most_241 Q (wm_most_213 Q n) J a4 a5 a7 a6 (1 : Int32)))
def wm_most_176 (Q : Int32 → MS → Prop) (K46 : MS → Int32 → Int32 → Int32 → Int32 → Int32 → Prop) (K142 : MS → Int32 → Int32 → Int32 → Int32 → Int32 → Int32 → Prop) (J : MS) (a1 : Int32) (a2 : Int32) (a3 : Int32) (a4 : Int32) (a5 : Int32) (a7 : Int32) (s1 : Int32) (s2 : Int32) (s3 : Int32) : Prop :=
  vp_in s1 16 ∧ K142 (mset J 30 (Int32.toNatClampNeg s1) (s2 ||| s3)) a1 a2 a3 a4 a5 (a7 + (1 : Int32))
def wm_most_142 (Q : Int32 → MS → Prop) (K46 : MS → Int32 → Int32 → Int32 → Int32 → Int32 → Prop) : Nat → MS → Int32 → Int32 → Int32 → Int32 → Int32 → Int32 → Prop
  | 0, _, _, _, _, _, _, _ => False
  | n + 1, J, a1, a2, a3, a4, a5, a7 => (if a5 ≤ a7 then K46 J a1 a2 a3 a4 (a5 + (1 : Int32)) else vp_in a5 16 ∧ wm_isClash (fun r15 J14 => (if r15 = 0 then wm_most_176 Q K46 (wm_most_142 Q K46 n) J14 a1 a2 a3 a4 a5 a7 a5 (J 30 (Int32.toNatClampNeg a5)) (0 : Int32) else wm_most_176 Q K46 (wm_most_142 Q K46 n) J14 a1 a2 a3 a4 a5 a7 a5 (J 30 (Int32.toNatClampNeg a5)) ((1 : Int32) <<< (a7 &&& 31)))) J a7 a5)
def wm_most_138 (Q : Int32 → MS → Prop) (K46 : MS → Int32 → Int32 → Int32 → Int32 → Int32 → Prop) (J : MS) (a1 : Int32) (a2 : Int32) (a3 : Int32) (a4 : Int32) (a5 : Int32) (s1 : Int32) (s2 : Int32) : Prop :=
  vp_in s1 16 ∧ ∃ n16, wm_most_142 Q K46 n16 (mset J 30 (Int32.toNatClampNeg s1) s2) a1 a2 a3 a4 a5 (0 : Int32)
def wm_most_117 (Q : Int32 → MS → Prop) (K46 : MS → Int32 → Int32 → Int32 → Int32 → Int32 → Prop) (J : MS) (a1 : Int32) (a2 : Int32) (a3 : Int32) (a4 : Int32) (a5 : Int32) (s0 : Int32) : Prop :=
  (if s0 = 0 then wm_most_138 Q K46 J a1 a2 a3 a4 a5 a5 ((1 : Int32) <<< (a5 &&& 31)) else wm_most_138 Q K46 J a1 a2 a3 a4 a5 a5 (0 : Int32))
def wm_most_116 (Q : Int32 → MS → Prop) (K46 : MS → Int32 → Int32 → Int32 → Int32 → Int32 → Prop) (J : MS) (a1 : Int32) (a2 : Int32) (a3 : Int32) (a4 : Int32) (a5 : Int32) : Prop :=
  wm_most_117 Q K46 J a1 a2 a3 a4 a5 (0 : Int32)
def wm_most_46 (Q : Int32 → MS → Prop) : Nat → MS → Int32 → Int32 → Int32 → Int32 → Int32 → Prop
  | 0, _, _, _, _, _, _ => False
  | n + 1, J, a1, a2, a3, a4, a5 => (if (J 24 0) ≤ a5 then vp_in (0 : Int32) 65536 ∧ vp_in (0 : Int32) 65536 ∧ ∃ n11, wm_most_213 Q n11 (mset (mset J 28 (Int32.toNatClampNeg (0 : Int32)) (vp_nar .boolean (1 : Int32))) 29 (Int32.toNatClampNeg (0 : Int32)) (0 : Int32)) a4 (0 : Int32) (0 : Int32) (1 : Int32) else wm_of (fun r13 J12 => (if r13 = a1 then wm_of (fun r18 J17 => (if r18 = a2 then wm_of (fun r20 J19 => (if r20 = a3 then wm_isThere (fun r22 J21 => (if r22 = 0 then wm_most_116 Q (wm_most_46 Q n) J21 a1 a2 a3 a4 a5 else wm_hasFire (fun r24 J23 => (if r24 = 0 then wm_most_116 Q (wm_most_46 Q n) J23 a1 a2 a3 a4 a5 else wm_most_117 Q (wm_most_46 Q n) J23 a1 a2 a3 a4 a5 (1 : Int32))) J21 a5 a1 a2)) J19 a5 (J19 27 0) else wm_most_116 Q (wm_most_46 Q n) J19 a1 a2 a3 a4 a5)) J17 a5 (2 : Int32) else wm_most_116 Q (wm_most_46 Q n) J17 a1 a2 a3 a4 a5)) J12 a5 (1 : Int32) else wm_most_116 Q (wm_most_46 Q n) J12 a1 a2 a3 a4 a5)) J a5 (0 : Int32))
def wm_most (Q : Int32 → MS → Prop) (J : MS) (x1 : Int32) (x2 : Int32) (x3 : Int32) (x4 : Int32) : Prop :=
  wm_isHall (fun r2 J1 => (if r2 = 0 then Q (-1000001 : Int32) J1 else wm_in (fun r4 J3 => (if r4 = 0 then Q (-1000001 : Int32) J3 else wm_isDay (fun r6 J5 => (if r6 = 0 then Q (-1000001 : Int32) J5 else wm_in (fun r8 J7 => (if r8 = 0 then Q (-1000001 : Int32) J7 else ∃ n25, wm_most_46 Q n25 J7 x1 x2 x3 x4 (0 : Int32))) J5 (Int32.toInt64 x4) (0 : Int64) (1 : Int64))) J3 x3)) J1 (Int32.toInt64 x2) (0 : Int64) (1 : Int64))) (mset J 0 0 (0 : Int32)) x1
theorem hd_most : yX3_most.cls = RX3 ∧ yX3_most.cls ≠ "java/lang/invoke/MethodHandle" ∧ yX3_most.cls ≠ "java/lang/invoke/VarHandle" ∧ (parseMethodDescriptor yX3_most.desc).map (fun d => d.parameters.length) = some 4 := by decide +kernel
set_option maxHeartbeats 4000000 in
set_option maxRecDepth 100000 in
theorem bm_most (E : ME) (C : Cx) (Q : Int32 → MS → Prop) (J : MS) (x1 : Int32) (x2 : Int32) (x3 : Int32) (x4 : Int32) (hC : COk C cX3_most RX3 (some .int) 3 66 9) (hM : MOk E C) (hQ : cx_Q C = MQ (cx_b C) (va_Qi Q (BM E) (mA E)) (cx_a C) (cx_s C) (cx_MC C) (cx_MS C) (mA E)) (h : wm_most Q J x1 x2 x3 x4) : GM E C J 0 [some (.ref (me_a E 54)), some (.int x1), some (.int x2), some (.int x3), some (.int x4), none, none, none, none] [] := by
  have s_345 : ∀ (K213 : MS → Int32 → Int32 → Int32 → Int32 → Prop) (hK213 : ∀ (J : MS) (b4 : Int32) (b5 : Int32) (b6 : Int32) (b7 : Int32), K213 J b4 b5 b6 b7 → GM E C J 213 [some (.ref (me_a E 54)), none, none, none, some (.int b4), some (.int b5), some (.int b6), some (.int b7), none] []) (J : MS) (a4 : Int32) (a6 : Int32) (a7 : Int32) (s0 : Int32), wm_most_345 Q K213 J a4 a6 a7 s0 → GM E C J 345 [some (.ref (me_a E 54)), none, none, none, some (.int a4), none, some (.int a6), some (.int a7), none] [.int s0] := by
    intro K213 hK213 J a4 a6 a7 s0 h
    refine g_istore hC dX3_most_345 (by decide) rfl rfl ?_
    refine g_iinc (v := (a7 + (1 : Int32))) hC dX3_most_347 rfl rfl (by decide) rfl rfl ?_
    refine g_goto (tgt := 213) hC dX3_most_350 (by decide) ?_
    exact hK213 J a4 s0 a6 (a7 + (1 : Int32)) h
  have s_343 : ∀ (K213 : MS → Int32 → Int32 → Int32 → Int32 → Prop) (hK213 : ∀ (J : MS) (b4 : Int32) (b5 : Int32) (b6 : Int32) (b7 : Int32), K213 J b4 b5 b6 b7 → GM E C J 213 [some (.ref (me_a E 54)), none, none, none, some (.int b4), some (.int b5), some (.int b6), some (.int b7), none] []) (J : MS) (a4 : Int32) (a5 : Int32) (a6 : Int32) (a7 : Int32), wm_most_343 Q K213 J a4 a5 a6 a7 → GM E C J 343 [some (.ref (me_a E 54)), none, none, none, some (.int a4), some (.int a5), some (.int a6), some (.int a7), none] [] := by
    intro K213 hK213 J a4 a5 a6 a7 h
    refine g_iload hC dX3_most_343 rfl ?_
    refine g_sub [true, false, false, false, true, false, true, true, false] rfl ?_
    exact s_345 K213 hK213 J a4 a6 a7 a5 h
  have s_289 : ∀ (K213 : MS → Int32 → Int32 → Int32 → Int32 → Prop) (hK213 : ∀ (J : MS) (b4 : Int32) (b5 : Int32) (b6 : Int32) (b7 : Int32), K213 J b4 b5 b6 b7 → GM E C J 213 [some (.ref (me_a E 54)), none, none, none, some (.int b4), some (.int b5), some (.int b6), some (.int b7), none] []) (J : MS) (a4 : Int32) (a5 : Int32) (a6 : Int32) (a7 : Int32) (a8 : Int32) (s1 : Int32) (s2 : Int32), wm_most_289 Q K213 J a4 a5 a6 a7 a8 s1 s2 → GM E C J 289 [some (.ref (me_a E 54)), none, none, none, some (.int a4), some (.int a5), some (.int a6), some (.int a7), some (.int a8)] [.int s2, .int s1, .ref (me_a E 28)] := by
    intro K213 hK213 J a4 a5 a6 a7 a8 s1 s2 h
    refine gM_zast hC hM dX3_most_289 h.1 ?_
    refine g_aload_n hC dX3_most_290 rfl ?_
    refine gM_getA hC hM 29 dX3_most_291 q1532 (by decide) (by decide) rfl ?_
    refine g_iload hC dX3_most_294 rfl ?_
    refine g_aload_n hC dX3_most_296 rfl ?_
    refine gM_getA hC hM 29 dX3_most_297 q1532 (by decide) (by decide) rfl ?_
    refine g_iload hC dX3_most_300 rfl ?_
    refine gM_iald hC hM 29 14 dX3_most_302 rfl (by decide) h.2.1 ?_
    refine g_aload_n hC dX3_most_303 rfl ?_
    refine g_iload hC dX3_most_304 rfl ?_
    refine gM_Vi (As := [.int a6]) (rest := [.int ((mset J 28 (Int32.toNatClampNeg s1) (vp_nar .boolean s2)) 29 (Int32.toNatClampNeg a8)), .int a7, .ref (me_a E 29)]) hC hM (mm_priceOf (cx_l C) E hM.2.1 _ _ _ h.2.2) (lw_V q1823 q1825 qs52 q76 q1826) hd_priceOf rfl rfl (Nat.le_of_ble_eq_true rfl) ⟨Nat.le_of_ble_eq_true rfl, Nat.le_of_ble_eq_true rfl⟩ dX3_most_306 ?_
    intro r10 J9 h
    refine g_iadd hC dX3_most_309 ?_
    refine gM_iast hC hM 29 14 dX3_most_310 rfl (by decide) h.1 ?_
    refine g_aload_n hC dX3_most_311 rfl ?_
    refine gM_getA hC hM 28 dX3_most_312 q1531 (by decide) (by decide) rfl ?_
    refine g_iload hC dX3_most_315 rfl ?_
    refine gM_zald hC hM dX3_most_317 h.2.1 ?_
    refine g_if_eq (tgt := 343) hC dX3_most_318 (by decide) (fun c => ?_) (fun c => ?_)
    · have h := it_p c h.2.2
      refine g_sub [true, false, false, false, true, true, true, true, false] rfl ?_
      exact s_343 K213 hK213 (mset J9 29 (Int32.toNatClampNeg a7) (((mset J 28 (Int32.toNatClampNeg s1) (vp_nar .boolean s2)) 29 (Int32.toNatClampNeg a8)) + r10)) a4 a5 a6 a7 h
    · have h := it_n c h.2.2
      refine g_aload_n hC dX3_most_321 rfl ?_
      refine gM_getA hC hM 29 dX3_most_322 q1532 (by decide) (by decide) rfl ?_
      refine g_iload hC dX3_most_325 rfl ?_
      refine gM_iald hC hM 29 14 dX3_most_327 rfl (by decide) h.1 ?_
      refine g_aload_n hC dX3_most_328 rfl ?_
      refine gM_getA hC hM 29 dX3_most_329 q1532 (by decide) (by decide) rfl ?_
      refine g_iload hC dX3_most_332 rfl ?_
      refine gM_iald hC hM 29 14 dX3_most_334 rfl (by decide) h.2.1 ?_
      refine g_icmp_le (tgt := 343) hC dX3_most_335 (by decide) (fun c => ?_) (fun c => ?_)
      · have h := it_p c h.2.2
        refine g_sub [true, false, false, false, true, true, true, true, false] rfl ?_
        exact s_343 K213 hK213 (mset J9 29 (Int32.toNatClampNeg a7) (((mset J 28 (Int32.toNatClampNeg s1) (vp_nar .boolean s2)) 29 (Int32.toNatClampNeg a8)) + r10)) a4 a5 a6 a7 h
      · have h := it_n c h.2.2
        refine g_iload hC dX3_most_338 rfl ?_
        refine g_goto (tgt := 345) hC dX3_most_340 (by decide) ?_
        refine g_sub [true, false, false, false, true, false, true, true, false] rfl ?_
        exact s_345 K213 hK213 (mset J9 29 (Int32.toNatClampNeg a7) (((mset J 28 (Int32.toNatClampNeg s1) (vp_nar .boolean s2)) 29 (Int32.toNatClampNeg a8)) + r10)) a4 a6 a7 a7 h
  have s_288 : ∀ (K213 : MS → Int32 → Int32 → Int32 → Int32 → Prop) (hK213 : ∀ (J : MS) (b4 : Int32) (b5 : Int32) (b6 : Int32) (b7 : Int32), K213 J b4 b5 b6 b7 → GM E C J 213 [some (.ref (me_a E 54)), none, none, none, some (.int b4), some (.int b5), some (.int b6), some (.int b7), none] []) (J : MS) (a4 : Int32) (a5 : Int32) (a6 : Int32) (a7 : Int32) (a8 : Int32) (s1 : Int32), wm_most_288 Q K213 J a4 a5 a6 a7 a8 s1 → GM E C J 288 [some (.ref (me_a E 54)), none, none, none, some (.int a4), some (.int a5), some (.int a6), some (.int a7), some (.int a8)] [.int s1, .ref (me_a E 28)] := by
    intro K213 hK213 J a4 a5 a6 a7 a8 s1 h
    refine g_iconst (v := 0) hC dX3_most_288 (by decide) ?_
    exact s_289 K213 hK213 J a4 a5 a6 a7 a8 s1 (0 : Int32) h
  have s_241 : ∀ (K213 : MS → Int32 → Int32 → Int32 → Int32 → Prop) (hK213 : ∀ (J : MS) (b4 : Int32) (b5 : Int32) (b6 : Int32) (b7 : Int32), K213 J b4 b5 b6 b7 → GM E C J 213 [some (.ref (me_a E 54)), none, none, none, some (.int b4), some (.int b5), some (.int b6), some (.int b7), none] []) (J : MS) (a4 : Int32) (a5 : Int32) (a7 : Int32) (s0 : Int32) (s1 : Int32), wm_most_241 Q K213 J a4 a5 a7 s0 s1 → GM E C J 241 [some (.ref (me_a E 54)), none, none, none, some (.int a4), some (.int a5), none, some (.int a7), none] [.int s1, .int s0] := by
    intro K213 hK213 J a4 a5 a7 s0 s1 h
    refine g_iadd hC dX3_most_241 ?_
    refine g_istore hC dX3_most_242 (by decide) rfl rfl ?_
    refine g_iload hC dX3_most_244 rfl ?_
    refine g_iconst (v := 1) hC dX3_most_246 (by decide) ?_
    refine g_iload hC dX3_most_247 rfl ?_
    refine g_ishl hC dX3_most_249 ?_
    refine g_iconst (v := -1) hC dX3_most_250 (by decide) ?_
    refine g_ixor hC dX3_most_251 ?_
    refine g_iand hC dX3_most_252 ?_
    refine g_istore hC dX3_most_253 (by decide) rfl rfl ?_
    refine g_aload_n hC dX3_most_255 rfl ?_
    refine gM_getA hC hM 28 dX3_most_256 q1531 (by decide) (by decide) rfl ?_
    refine g_iload hC dX3_most_259 rfl ?_
    refine g_aload_n hC dX3_most_261 rfl ?_
    refine gM_getA hC hM 28 dX3_most_262 q1531 (by decide) (by decide) rfl ?_
    refine g_iload hC dX3_most_265 rfl ?_
    refine gM_zald hC hM dX3_most_267 h.1 ?_
    refine g_if_eq (tgt := 288) hC dX3_most_268 (by decide) (fun c => ?_) (fun c => ?_)
    · have h := it_p c h.2
      exact s_288 K213 hK213 J a4 a5 (s0 + s1) a7 (a7 &&& (((1 : Int32) <<< ((s0 + s1) &&& 31)) ^^^ (-1 : Int32))) a7 h
    · have h := it_n c h.2
      refine g_aload_n hC dX3_most_271 rfl ?_
      refine gM_getA hC hM 30 dX3_most_272 q1533 (by decide) (by decide) rfl ?_
      refine g_iload hC dX3_most_275 rfl ?_
      refine gM_iald hC hM 30 15 dX3_most_277 rfl (by decide) h.1 ?_
      refine g_iload hC dX3_most_278 rfl ?_
      refine g_iand hC dX3_most_280 ?_
      refine g_if_ne (tgt := 288) hC dX3_most_281 (by decide) (fun c => ?_) (fun c => ?_)
      · have h := it_n c h.2
        exact s_288 K213 hK213 J a4 a5 (s0 + s1) a7 (a7 &&& (((1 : Int32) <<< ((s0 + s1) &&& 31)) ^^^ (-1 : Int32))) a7 h
      · have h := it_p c h.2
        refine g_iconst (v := 1) hC dX3_most_284 (by decide) ?_
        refine g_goto (tgt := 289) hC dX3_most_285 (by decide) ?_
        exact s_289 K213 hK213 J a4 a5 (s0 + s1) a7 (a7 &&& (((1 : Int32) <<< ((s0 + s1) &&& 31)) ^^^ (-1 : Int32))) a7 (1 : Int32) h
  have s_213 : ∀ (n : Nat) (J : MS) (a4 : Int32) (a5 : Int32) (a6 : Int32) (a7 : Int32), wm_most_213 Q  n J a4 a5 a6 a7 → GM E C J 213 [some (.ref (me_a E 54)), none, none, none, some (.int a4), some (.int a5), some (.int a6), some (.int a7), none] [] := by
    intro  n
    induction n with
    | zero =>
      intro J a4 a5 a6 a7 h
      exact False.elim h
    | succ n ih =>
      intro J a4 a5 a6 a7 h
      refine g_iload hC dX3_most_213 rfl ?_
      refine g_iconst (v := 1) hC dX3_most_215 (by decide) ?_
      refine g_aload_n hC dX3_most_216 rfl ?_
      refine gM_getS hC hM 24 dX3_most_217 q1527 (by decide) (by decide) rfl ?_
      refine g_ishl hC dX3_most_220 ?_
      refine g_icmp_ge (tgt := 353) hC dX3_most_221 (by decide) (fun c => ?_) (fun c => ?_)
      · have h := it_p c h
        refine g_iload hC dX3_most_353 rfl ?_
        refine g_if_ne (tgt := 363) hC dX3_most_355 (by decide) (fun c => ?_) (fun c => ?_)
        · have h := it_n c h
          refine g_aload_n hC dX3_most_363 rfl ?_
          refine gM_getA hC hM 29 dX3_most_364 q1532 (by decide) (by decide) rfl ?_
          refine g_iload hC dX3_most_367 rfl ?_
          refine gM_iald hC hM 29 14 dX3_most_369 rfl (by decide) h.1 ?_
          refine gM_iret hC hM hQ rfl dX3_most_370 h.2
        · have h := it_p c h
          refine g_iload hC dX3_most_358 rfl ?_
          refine g_goto (tgt := 370) hC dX3_most_360 (by decide) ?_
          refine gM_iret hC hM hQ rfl dX3_most_370 h
      · have h := it_n c h
        refine g_iload hC dX3_most_224 rfl ?_
        refine g_iload hC dX3_most_226 rfl ?_
        refine g_iload hC dX3_most_228 rfl ?_
        refine g_iconst (v := 1) hC dX3_most_230 (by decide) ?_
        refine g_iadd hC dX3_most_231 ?_
        refine g_ishr hC dX3_most_232 ?_
        refine g_if_le (tgt := 240) hC dX3_most_233 (by decide) (fun c => ?_) (fun c => ?_)
        · have h := it_p c h
          refine g_iconst (v := 0) hC dX3_most_240 (by decide) ?_
          refine g_sub [true, false, false, false, true, true, false, true, false] rfl ?_
          exact s_241 (wm_most_213 Q n) ih J a4 a5 a7 a6 (0 : Int32) h
        · have h := it_n c h
          refine g_iconst (v := 1) hC dX3_most_236 (by decide) ?_
          refine g_goto (tgt := 241) hC dX3_most_237 (by decide) ?_
          refine g_sub [true, false, false, false, true, true, false, true, false] rfl ?_
          exact s_241 (wm_most_213 Q n) ih J a4 a5 a7 a6 (1 : Int32) h
  have s_176 : ∀ (K46 : MS → Int32 → Int32 → Int32 → Int32 → Int32 → Prop) (hK46 : ∀ (J : MS) (b1 : Int32) (b2 : Int32) (b3 : Int32) (b4 : Int32) (b5 : Int32), K46 J b1 b2 b3 b4 b5 → GM E C J 46 [some (.ref (me_a E 54)), some (.int b1), some (.int b2), some (.int b3), some (.int b4), some (.int b5), none, none, none] []) (K142 : MS → Int32 → Int32 → Int32 → Int32 → Int32 → Int32 → Prop) (hK142 : ∀ (J : MS) (b1 : Int32) (b2 : Int32) (b3 : Int32) (b4 : Int32) (b5 : Int32) (b7 : Int32), K142 J b1 b2 b3 b4 b5 b7 → GM E C J 142 [some (.ref (me_a E 54)), some (.int b1), some (.int b2), some (.int b3), some (.int b4), some (.int b5), none, some (.int b7), none] []) (J : MS) (a1 : Int32) (a2 : Int32) (a3 : Int32) (a4 : Int32) (a5 : Int32) (a7 : Int32) (s1 : Int32) (s2 : Int32) (s3 : Int32), wm_most_176 Q K46 K142 J a1 a2 a3 a4 a5 a7 s1 s2 s3 → GM E C J 176 [some (.ref (me_a E 54)), some (.int a1), some (.int a2), some (.int a3), some (.int a4), some (.int a5), none, some (.int a7), none] [.int s3, .int s2, .int s1, .ref (me_a E 30)] := by
    intro K46 hK46 K142 hK142 J a1 a2 a3 a4 a5 a7 s1 s2 s3 h
    refine g_ior hC dX3_most_176 ?_
    refine gM_iast hC hM 30 15 dX3_most_177 rfl (by decide) h.1 ?_
    refine g_iinc (v := (a7 + (1 : Int32))) hC dX3_most_178 rfl rfl (by decide) rfl rfl ?_
    refine g_goto (tgt := 142) hC dX3_most_181 (by decide) ?_
    exact hK142 (mset J 30 (Int32.toNatClampNeg s1) (s2 ||| s3)) a1 a2 a3 a4 a5 (a7 + (1 : Int32)) h.2
  have s_142 : ∀ (K46 : MS → Int32 → Int32 → Int32 → Int32 → Int32 → Prop) (hK46 : ∀ (J : MS) (b1 : Int32) (b2 : Int32) (b3 : Int32) (b4 : Int32) (b5 : Int32), K46 J b1 b2 b3 b4 b5 → GM E C J 46 [some (.ref (me_a E 54)), some (.int b1), some (.int b2), some (.int b3), some (.int b4), some (.int b5), none, none, none] []) (n : Nat) (J : MS) (a1 : Int32) (a2 : Int32) (a3 : Int32) (a4 : Int32) (a5 : Int32) (a7 : Int32), wm_most_142 Q K46 n J a1 a2 a3 a4 a5 a7 → GM E C J 142 [some (.ref (me_a E 54)), some (.int a1), some (.int a2), some (.int a3), some (.int a4), some (.int a5), none, some (.int a7), none] [] := by
    intro K46 hK46 n
    induction n with
    | zero =>
      intro J a1 a2 a3 a4 a5 a7 h
      exact False.elim h
    | succ n ih =>
      intro J a1 a2 a3 a4 a5 a7 h
      refine g_iload hC dX3_most_142 rfl ?_
      refine g_iload hC dX3_most_144 rfl ?_
      refine g_icmp_ge (tgt := 184) hC dX3_most_146 (by decide) (fun c => ?_) (fun c => ?_)
      · have h := it_p c h
        refine g_iinc (v := (a5 + (1 : Int32))) hC dX3_most_184 rfl rfl (by decide) rfl rfl ?_
        refine g_goto (tgt := 46) hC dX3_most_187 (by decide) ?_
        refine g_sub [true, true, true, true, true, true, false, false, false] rfl ?_
        exact hK46 J a1 a2 a3 a4 (a5 + (1 : Int32)) h
      · have h := it_n c h
        refine g_aload_n hC dX3_most_149 rfl ?_
        refine gM_getA hC hM 30 dX3_most_150 q1533 (by decide) (by decide) rfl ?_
        refine g_iload hC dX3_most_153 rfl ?_
        refine g_dup2 hC dX3_most_155 rfl rfl ?_
        refine gM_iald hC hM 30 15 dX3_most_156 rfl (by decide) h.1 ?_
        refine g_aload_n hC dX3_most_157 rfl ?_
        refine g_iload hC dX3_most_158 rfl ?_
        refine g_iload hC dX3_most_160 rfl ?_
        refine gM_Vi (As := [.int a7, .int a5]) (rest := [.int (J 30 (Int32.toNatClampNeg a5)), .int a5, .ref (me_a E 30)]) hC hM (mm_isClash (cx_l C) E hM.2.1 _ _ _ _ h.2) (lw_V q1831 q1833 qs53 q76 q1834) hd_isClash rfl rfl (Nat.le_of_ble_eq_true rfl) ⟨Nat.le_of_ble_eq_true rfl, Nat.le_of_ble_eq_true rfl⟩ dX3_most_162 ?_
        intro r15 J14 h
        refine g_if_eq (tgt := 175) hC dX3_most_165 (by decide) (fun c => ?_) (fun c => ?_)
        · have h := it_p c h
          refine g_iconst (v := 0) hC dX3_most_175 (by decide) ?_
          exact s_176 K46 hK46 (wm_most_142 Q K46 n) ih J14 a1 a2 a3 a4 a5 a7 a5 (J 30 (Int32.toNatClampNeg a5)) (0 : Int32) h
        · have h := it_n c h
          refine g_iconst (v := 1) hC dX3_most_168 (by decide) ?_
          refine g_iload hC dX3_most_169 rfl ?_
          refine g_ishl hC dX3_most_171 ?_
          refine g_goto (tgt := 176) hC dX3_most_172 (by decide) ?_
          exact s_176 K46 hK46 (wm_most_142 Q K46 n) ih J14 a1 a2 a3 a4 a5 a7 a5 (J 30 (Int32.toNatClampNeg a5)) ((1 : Int32) <<< (a7 &&& 31)) h
  have s_138 : ∀ (K46 : MS → Int32 → Int32 → Int32 → Int32 → Int32 → Prop) (hK46 : ∀ (J : MS) (b1 : Int32) (b2 : Int32) (b3 : Int32) (b4 : Int32) (b5 : Int32), K46 J b1 b2 b3 b4 b5 → GM E C J 46 [some (.ref (me_a E 54)), some (.int b1), some (.int b2), some (.int b3), some (.int b4), some (.int b5), none, none, none] []) (J : MS) (a1 : Int32) (a2 : Int32) (a3 : Int32) (a4 : Int32) (a5 : Int32) (s1 : Int32) (s2 : Int32), wm_most_138 Q K46 J a1 a2 a3 a4 a5 s1 s2 → GM E C J 138 [some (.ref (me_a E 54)), some (.int a1), some (.int a2), some (.int a3), some (.int a4), some (.int a5), none, none, none] [.int s2, .int s1, .ref (me_a E 30)] := by
    intro K46 hK46 J a1 a2 a3 a4 a5 s1 s2 h
    refine gM_iast hC hM 30 15 dX3_most_138 rfl (by decide) h.1 ?_
    refine g_iconst (v := 0) hC dX3_most_139 (by decide) ?_
    refine g_istore hC dX3_most_140 (by decide) rfl rfl ?_
    obtain ⟨n0, h0⟩ := h.2
    exact s_142 K46 hK46 n0 (mset J 30 (Int32.toNatClampNeg s1) s2) a1 a2 a3 a4 a5 (0 : Int32) h0
  have s_117 : ∀ (K46 : MS → Int32 → Int32 → Int32 → Int32 → Int32 → Prop) (hK46 : ∀ (J : MS) (b1 : Int32) (b2 : Int32) (b3 : Int32) (b4 : Int32) (b5 : Int32), K46 J b1 b2 b3 b4 b5 → GM E C J 46 [some (.ref (me_a E 54)), some (.int b1), some (.int b2), some (.int b3), some (.int b4), some (.int b5), none, none, none] []) (J : MS) (a1 : Int32) (a2 : Int32) (a3 : Int32) (a4 : Int32) (a5 : Int32) (s0 : Int32), wm_most_117 Q K46 J a1 a2 a3 a4 a5 s0 → GM E C J 117 [some (.ref (me_a E 54)), some (.int a1), some (.int a2), some (.int a3), some (.int a4), some (.int a5), none, none, none] [.int s0] := by
    intro K46 hK46 J a1 a2 a3 a4 a5 s0 h
    refine g_istore hC dX3_most_117 (by decide) rfl rfl ?_
    refine g_aload_n hC dX3_most_119 rfl ?_
    refine gM_getA hC hM 30 dX3_most_120 q1533 (by decide) (by decide) rfl ?_
    refine g_iload hC dX3_most_123 rfl ?_
    refine g_iload hC dX3_most_125 rfl ?_
    refine g_if_eq (tgt := 134) hC dX3_most_127 (by decide) (fun c => ?_) (fun c => ?_)
    · have h := it_p c h
      refine g_iconst (v := 1) hC dX3_most_134 (by decide) ?_
      refine g_iload hC dX3_most_135 rfl ?_
      refine g_ishl hC dX3_most_137 ?_
      refine g_sub [true, true, true, true, true, true, false, false, false] rfl ?_
      exact s_138 K46 hK46 J a1 a2 a3 a4 a5 a5 ((1 : Int32) <<< (a5 &&& 31)) h
    · have h := it_n c h
      refine g_iconst (v := 0) hC dX3_most_130 (by decide) ?_
      refine g_goto (tgt := 138) hC dX3_most_131 (by decide) ?_
      refine g_sub [true, true, true, true, true, true, false, false, false] rfl ?_
      exact s_138 K46 hK46 J a1 a2 a3 a4 a5 a5 (0 : Int32) h
  have s_116 : ∀ (K46 : MS → Int32 → Int32 → Int32 → Int32 → Int32 → Prop) (hK46 : ∀ (J : MS) (b1 : Int32) (b2 : Int32) (b3 : Int32) (b4 : Int32) (b5 : Int32), K46 J b1 b2 b3 b4 b5 → GM E C J 46 [some (.ref (me_a E 54)), some (.int b1), some (.int b2), some (.int b3), some (.int b4), some (.int b5), none, none, none] []) (J : MS) (a1 : Int32) (a2 : Int32) (a3 : Int32) (a4 : Int32) (a5 : Int32), wm_most_116 Q K46 J a1 a2 a3 a4 a5 → GM E C J 116 [some (.ref (me_a E 54)), some (.int a1), some (.int a2), some (.int a3), some (.int a4), some (.int a5), none, none, none] [] := by
    intro K46 hK46 J a1 a2 a3 a4 a5 h
    refine g_iconst (v := 0) hC dX3_most_116 (by decide) ?_
    exact s_117 K46 hK46 J a1 a2 a3 a4 a5 (0 : Int32) h
  have s_46 : ∀ (n : Nat) (J : MS) (a1 : Int32) (a2 : Int32) (a3 : Int32) (a4 : Int32) (a5 : Int32), wm_most_46 Q  n J a1 a2 a3 a4 a5 → GM E C J 46 [some (.ref (me_a E 54)), some (.int a1), some (.int a2), some (.int a3), some (.int a4), some (.int a5), none, none, none] [] := by
    intro  n
    induction n with
    | zero =>
      intro J a1 a2 a3 a4 a5 h
      exact False.elim h
    | succ n ih =>
      intro J a1 a2 a3 a4 a5 h
      refine g_iload hC dX3_most_46 rfl ?_
      refine g_aload_n hC dX3_most_48 rfl ?_
      refine gM_getS hC hM 24 dX3_most_49 q1527 (by decide) (by decide) rfl ?_
      refine g_icmp_ge (tgt := 190) hC dX3_most_52 (by decide) (fun c => ?_) (fun c => ?_)
      · have h := it_p c h
        refine g_aload_n hC dX3_most_190 rfl ?_
        refine gM_getA hC hM 28 dX3_most_191 q1531 (by decide) (by decide) rfl ?_
        refine g_iconst (v := 0) hC dX3_most_194 (by decide) ?_
        refine g_iconst (v := 1) hC dX3_most_195 (by decide) ?_
        refine gM_zast hC hM dX3_most_196 h.1 ?_
        refine g_aload_n hC dX3_most_197 rfl ?_
        refine gM_getA hC hM 29 dX3_most_198 q1532 (by decide) (by decide) rfl ?_
        refine g_iconst (v := 0) hC dX3_most_201 (by decide) ?_
        refine g_iconst (v := 0) hC dX3_most_202 (by decide) ?_
        refine gM_iast hC hM 29 14 dX3_most_203 rfl (by decide) h.2.1 ?_
        refine g_iconst (v := 0) hC dX3_most_204 (by decide) ?_
        refine g_istore hC dX3_most_205 (by decide) rfl rfl ?_
        refine g_sub [true, false, false, false, true, true, false, false, false] rfl ?_
        refine g_iconst (v := 0) hC dX3_most_207 (by decide) ?_
        refine g_istore hC dX3_most_208 (by decide) rfl rfl ?_
        refine g_iconst (v := 1) hC dX3_most_210 (by decide) ?_
        refine g_istore hC dX3_most_211 (by decide) rfl rfl ?_
        obtain ⟨n0, h0⟩ := h.2.2
        exact s_213 n0 (mset (mset J 28 (Int32.toNatClampNeg (0 : Int32)) (vp_nar .boolean (1 : Int32))) 29 (Int32.toNatClampNeg (0 : Int32)) (0 : Int32)) a4 (0 : Int32) (0 : Int32) (1 : Int32) h0
      · have h := it_n c h
        refine g_aload_n hC dX3_most_55 rfl ?_
        refine g_iload hC dX3_most_56 rfl ?_
        refine g_iconst (v := 0) hC dX3_most_58 (by decide) ?_
        refine gM_Vi (As := [.int a5, .int (0 : Int32)]) (rest := []) hC hM (mm_of (cx_l C) E hM.2.1 _ _ _ _ h) (lw_V q1814 q1816 qs51 q76 q1817) hd_of rfl rfl (Nat.le_of_ble_eq_true rfl) ⟨Nat.le_of_ble_eq_true rfl, Nat.le_of_ble_eq_true rfl⟩ dX3_most_59 ?_
        intro r13 J12 h
        refine g_iload_n hC dX3_most_62 rfl ?_
        refine g_icmp_ne (tgt := 116) hC dX3_most_63 (by decide) (fun c => ?_) (fun c => ?_)
        · have h := it_n c h
          exact s_116 (wm_most_46 Q n) ih J12 a1 a2 a3 a4 a5 h
        · have h := it_p c h
          refine g_aload_n hC dX3_most_66 rfl ?_
          refine g_iload hC dX3_most_67 rfl ?_
          refine g_iconst (v := 1) hC dX3_most_69 (by decide) ?_
          refine gM_Vi (As := [.int a5, .int (1 : Int32)]) (rest := []) hC hM (mm_of (cx_l C) E hM.2.1 _ _ _ _ h) (lw_V q1814 q1816 qs51 q76 q1817) hd_of rfl rfl (Nat.le_of_ble_eq_true rfl) ⟨Nat.le_of_ble_eq_true rfl, Nat.le_of_ble_eq_true rfl⟩ dX3_most_70 ?_
          intro r18 J17 h
          refine g_iload_n hC dX3_most_73 rfl ?_
          refine g_icmp_ne (tgt := 116) hC dX3_most_74 (by decide) (fun c => ?_) (fun c => ?_)
          · have h := it_n c h
            exact s_116 (wm_most_46 Q n) ih J17 a1 a2 a3 a4 a5 h
          · have h := it_p c h
            refine g_aload_n hC dX3_most_77 rfl ?_
            refine g_iload hC dX3_most_78 rfl ?_
            refine g_iconst (v := 2) hC dX3_most_80 (by decide) ?_
            refine gM_Vi (As := [.int a5, .int (2 : Int32)]) (rest := []) hC hM (mm_of (cx_l C) E hM.2.1 _ _ _ _ h) (lw_V q1814 q1816 qs51 q76 q1817) hd_of rfl rfl (Nat.le_of_ble_eq_true rfl) ⟨Nat.le_of_ble_eq_true rfl, Nat.le_of_ble_eq_true rfl⟩ dX3_most_81 ?_
            intro r20 J19 h
            refine g_iload_n hC dX3_most_84 rfl ?_
            refine g_icmp_ne (tgt := 116) hC dX3_most_85 (by decide) (fun c => ?_) (fun c => ?_)
            · have h := it_n c h
              exact s_116 (wm_most_46 Q n) ih J19 a1 a2 a3 a4 a5 h
            · have h := it_p c h
              refine g_aload_n hC dX3_most_88 rfl ?_
              refine g_iload hC dX3_most_89 rfl ?_
              refine g_aload_n hC dX3_most_91 rfl ?_
              refine gM_getS hC hM 27 dX3_most_92 q1530 (by decide) (by decide) rfl ?_
              refine gM_Vi (As := [.int a5, .int (J19 27 0)]) (rest := []) hC hM (mm_isThere (cx_l C) E hM.2.1 _ _ _ _ h) (lw_V q1847 q1849 qs56 q76 q1850) hd_isThere rfl rfl (Nat.le_of_ble_eq_true rfl) ⟨Nat.le_of_ble_eq_true rfl, Nat.le_of_ble_eq_true rfl⟩ dX3_most_95 ?_
              intro r22 J21 h
              refine g_if_eq (tgt := 116) hC dX3_most_98 (by decide) (fun c => ?_) (fun c => ?_)
              · have h := it_p c h
                exact s_116 (wm_most_46 Q n) ih J21 a1 a2 a3 a4 a5 h
              · have h := it_n c h
                refine g_aload_n hC dX3_most_101 rfl ?_
                refine g_iload hC dX3_most_102 rfl ?_
                refine g_iload_n hC dX3_most_104 rfl ?_
                refine g_iload_n hC dX3_most_105 rfl ?_
                refine gM_Vi (As := [.int a5, .int a1, .int a2]) (rest := []) hC hM (mm_hasFire (cx_l C) E hM.2.1 _ _ _ _ _ h) (lw_V q1859 q1861 qs59 q76 q1862) hd_hasFire rfl rfl (Nat.le_of_ble_eq_true rfl) ⟨Nat.le_of_ble_eq_true rfl, Nat.le_of_ble_eq_true rfl⟩ dX3_most_106 ?_
                intro r24 J23 h
                refine g_if_eq (tgt := 116) hC dX3_most_109 (by decide) (fun c => ?_) (fun c => ?_)
                · have h := it_p c h
                  exact s_116 (wm_most_46 Q n) ih J23 a1 a2 a3 a4 a5 h
                · have h := it_n c h
                  refine g_iconst (v := 1) hC dX3_most_112 (by decide) ?_
                  refine g_goto (tgt := 117) hC dX3_most_113 (by decide) ?_
                  exact s_117 (wm_most_46 Q n) ih J23 a1 a2 a3 a4 a5 (1 : Int32) h
  refine g_aload_n hC dX3_most_0 rfl ?_
  refine g_iconst (v := 0) hC dX3_most_1 (by decide) ?_
  refine gM_put hC hM 0 (ty := .int) dX3_most_2 q1503 (by decide) (by decide) rfl rfl rfl rfl rfl ?_
  refine g_iload_n hC dX3_most_5 rfl ?_
  refine gM_Si (As := [.int x1]) (rest := []) hC hM (mm_isHall (cx_l C) E hM.2.1 _ _ _ h) (lw_S q1784 q1785 q76 q1786) hd_isHall rfl rfl (Nat.le_of_ble_eq_true rfl) ⟨Nat.le_of_ble_eq_true rfl, Nat.le_of_ble_eq_true rfl⟩ dX3_most_6 ?_
  intro r2 J1 h
  refine g_if_eq (tgt := 40) hC dX3_most_9 (by decide) (fun c => ?_) (fun c => ?_)
  · have h := it_p c h
    refine g_ldc (v := -1000001) hC dX3_most_40 q1679 ?_
    refine gM_iret hC hM hQ rfl dX3_most_42 h
  · have h := it_n c h
    refine g_iload_n hC dX3_most_12 rfl ?_
    refine g_i2l hC dX3_most_13 ?_
    refine g_lconst (v := 0) hC dX3_most_14 (by decide) ?_
    refine g_lconst (v := 1) hC dX3_most_15 (by decide) ?_
    refine gM_Si (As := [.long (Int32.toInt64 x2), .long (0 : Int64), .long (1 : Int64)]) (rest := []) hC hM (mm_in (cx_l C) E hM.2.1 _ _ _ _ _ h) (lw_S q1675 q1676 q76 q1677) hd_in rfl rfl (Nat.le_of_ble_eq_true rfl) ⟨Nat.le_of_ble_eq_true rfl, Nat.le_of_ble_eq_true rfl⟩ dX3_most_16 ?_
    intro r4 J3 h
    refine g_if_eq (tgt := 40) hC dX3_most_19 (by decide) (fun c => ?_) (fun c => ?_)
    · have h := it_p c h
      refine g_ldc (v := -1000001) hC dX3_most_40 q1679 ?_
      refine gM_iret hC hM hQ rfl dX3_most_42 h
    · have h := it_n c h
      refine g_iload_n hC dX3_most_22 rfl ?_
      refine gM_Si (As := [.int x3]) (rest := []) hC hM (mm_isDay (cx_l C) E hM.2.1 _ _ _ h) (lw_S q1799 q1800 q76 q1801) hd_isDay rfl rfl (Nat.le_of_ble_eq_true rfl) ⟨Nat.le_of_ble_eq_true rfl, Nat.le_of_ble_eq_true rfl⟩ dX3_most_23 ?_
      intro r6 J5 h
      refine g_if_eq (tgt := 40) hC dX3_most_26 (by decide) (fun c => ?_) (fun c => ?_)
      · have h := it_p c h
        refine g_ldc (v := -1000001) hC dX3_most_40 q1679 ?_
        refine gM_iret hC hM hQ rfl dX3_most_42 h
      · have h := it_n c h
        refine g_iload hC dX3_most_29 rfl ?_
        refine g_i2l hC dX3_most_31 ?_
        refine g_lconst (v := 0) hC dX3_most_32 (by decide) ?_
        refine g_lconst (v := 1) hC dX3_most_33 (by decide) ?_
        refine gM_Si (As := [.long (Int32.toInt64 x4), .long (0 : Int64), .long (1 : Int64)]) (rest := []) hC hM (mm_in (cx_l C) E hM.2.1 _ _ _ _ _ h) (lw_S q1675 q1676 q76 q1677) hd_in rfl rfl (Nat.le_of_ble_eq_true rfl) ⟨Nat.le_of_ble_eq_true rfl, Nat.le_of_ble_eq_true rfl⟩ dX3_most_34 ?_
        intro r8 J7 h
        refine g_if_ne (tgt := 43) hC dX3_most_37 (by decide) (fun c => ?_) (fun c => ?_)
        · have h := it_n c h
          refine g_iconst (v := 0) hC dX3_most_43 (by decide) ?_
          refine g_istore hC dX3_most_44 (by decide) rfl rfl ?_
          obtain ⟨n0, h0⟩ := h
          exact s_46 n0 J7 x1 x2 x3 x4 (0 : Int32) h0
        · have h := it_p c h
          refine g_ldc (v := -1000001) hC dX3_most_40 q1679 ?_
          refine gM_iret hC hM hQ rfl dX3_most_42 h
theorem mm_most (l : Launch) (E : ME) (hI : mInj E) (Q : Int32 → MS → Prop) (J : MS) (x1 : Int32) (x2 : Int32) (x3 : Int32) (x4 : Int32) (h : wm_most Q J x1 x2 x3 x4) : MMet E l yX3_most cX3_most 9 (some .int) ({ frames := 3, cells := 0, slots := 0, locals := 66 }) [.ref (me_a E 54), .int x1, .int x2, .int x3, .int x4] J (va_Qi Q (BM E) (mA E)) :=
  MMet_of hI (by decide) rfl (Nat.le_of_ble_eq_true rfl) (L0 := [some (.ref (me_a E 54)), some (.int x1), some (.int x2), some (.int x3), some (.int x4), none, none, none, none]) rfl (fun C hC hM hl hQ => bm_most E C Q J x1 x2 x3 x4 hC hM hQ h)
/-! clashing -/
def wm_clashing_116 (Q : Int32 → MS → Prop) (K6 : MS → Int32 → Int32 → Int32 → Int32 → Int32 → Int32 → Int32 → Int32 → Prop) (J : MS) (a1 : Int32) (a2 : Int32) (a3 : Int32) (a4 : Int32) (a5 : Int32) (a6 : Int32) (a8 : Int32) (s0 : Int32) (s1 : Int32) : Prop :=
  K6 J a1 a2 a3 a4 a5 a6 (s0 ||| s1) (a8 + (1 : Int32))
def wm_clashing_99 (Q : Int32 → MS → Prop) (K6 : MS → Int32 → Int32 → Int32 → Int32 → Int32 → Int32 → Int32 → Int32 → Prop) (J : MS) (a1 : Int32) (a2 : Int32) (a3 : Int32) (a4 : Int32) (a5 : Int32) (a6 : Int32) (a7 : Int32) (a8 : Int32) (s0 : Int32) : Prop :=
  (if s0 = 0 then wm_clashing_116 Q K6 J a1 a2 a3 a4 a5 a6 a8 a7 (0 : Int32) else wm_clashing_116 Q K6 J a1 a2 a3 a4 a5 a6 a8 a7 ((1 : Int32) <<< (a8 &&& 31)))
def wm_clashing_98 (Q : Int32 → MS → Prop) (K6 : MS → Int32 → Int32 → Int32 → Int32 → Int32 → Int32 → Int32 → Int32 → Prop) (J : MS) (a1 : Int32) (a2 : Int32) (a3 : Int32) (a4 : Int32) (a5 : Int32) (a6 : Int32) (a7 : Int32) (a8 : Int32) : Prop :=
  wm_clashing_99 Q K6 J a1 a2 a3 a4 a5 a6 a7 a8 (0 : Int32)
def wm_clashing_6 (Q : Int32 → MS → Prop) : Nat → MS → Int32 → Int32 → Int32 → Int32 → Int32 → Int32 → Int32 → Int32 → Prop
  | 0, _, _, _, _, _, _, _, _, _ => False
  | n + 1, J, a1, a2, a3, a4, a5, a6, a7, a8 => (if (J 24 0) ≤ a8 then Q a7 J else (if ((a1 >>> (a8 &&& 31)) &&& (1 : Int32)) = (1 : Int32) then wm_of (fun r2 J1 => (if r2 = a2 then wm_of (fun r4 J3 => (if r4 = a3 then wm_of (fun r6 J5 => (if r6 = a4 then wm_of (fun r8 J7 => wm_of (fun r10 J9 => wm_of (fun r12 J11 => wm_meets (fun r14 J13 => (if r14 = 0 then wm_clashing_98 Q (wm_clashing_6 Q n) J13 a1 a2 a3 a4 a5 a6 a7 a8 else wm_clashing_99 Q (wm_clashing_6 Q n) J13 a1 a2 a3 a4 a5 a6 a7 a8 (1 : Int32))) J11 a2 r8 r10 r12 a5 a6 (3 : Int32)) J9 a8 (6 : Int32)) J7 a8 (4 : Int32)) J5 a8 (3 : Int32) else wm_clashing_98 Q (wm_clashing_6 Q n) J5 a1 a2 a3 a4 a5 a6 a7 a8)) J3 a8 (2 : Int32) else wm_clashing_98 Q (wm_clashing_6 Q n) J3 a1 a2 a3 a4 a5 a6 a7 a8)) J1 a8 (1 : Int32) else wm_clashing_98 Q (wm_clashing_6 Q n) J1 a1 a2 a3 a4 a5 a6 a7 a8)) J a8 (0 : Int32) else wm_clashing_98 Q (wm_clashing_6 Q n) J a1 a2 a3 a4 a5 a6 a7 a8))
def wm_clashing (Q : Int32 → MS → Prop) (J : MS) (x1 : Int32) (x2 : Int32) (x3 : Int32) (x4 : Int32) (x5 : Int32) (x6 : Int32) : Prop :=
  ∃ n15, wm_clashing_6 Q n15 J x1 x2 x3 x4 x5 x6 (0 : Int32) (0 : Int32)
theorem hd_clashing : yX3_clashing.cls = RX3 ∧ yX3_clashing.cls ≠ "java/lang/invoke/MethodHandle" ∧ yX3_clashing.cls ≠ "java/lang/invoke/VarHandle" ∧ (parseMethodDescriptor yX3_clashing.desc).map (fun d => d.parameters.length) = some 6 := by decide +kernel
set_option maxHeartbeats 4000000 in
set_option maxRecDepth 100000 in
theorem bm_clashing (E : ME) (C : Cx) (Q : Int32 → MS → Prop) (J : MS) (x1 : Int32) (x2 : Int32) (x3 : Int32) (x4 : Int32) (x5 : Int32) (x6 : Int32) (hC : COk C cX3_clashing RX3 (some .int) 2 44 10) (hM : MOk E C) (hQ : cx_Q C = MQ (cx_b C) (va_Qi Q (BM E) (mA E)) (cx_a C) (cx_s C) (cx_MC C) (cx_MS C) (mA E)) (h : wm_clashing Q J x1 x2 x3 x4 x5 x6) : GM E C J 0 [some (.ref (me_a E 54)), some (.int x1), some (.int x2), some (.int x3), some (.int x4), some (.int x5), some (.int x6), none, none, none] [] := by
  have s_116 : ∀ (K6 : MS → Int32 → Int32 → Int32 → Int32 → Int32 → Int32 → Int32 → Int32 → Prop) (hK6 : ∀ (J : MS) (b1 : Int32) (b2 : Int32) (b3 : Int32) (b4 : Int32) (b5 : Int32) (b6 : Int32) (b7 : Int32) (b8 : Int32), K6 J b1 b2 b3 b4 b5 b6 b7 b8 → GM E C J 6 [some (.ref (me_a E 54)), some (.int b1), some (.int b2), some (.int b3), some (.int b4), some (.int b5), some (.int b6), some (.int b7), some (.int b8), none] []) (J : MS) (a1 : Int32) (a2 : Int32) (a3 : Int32) (a4 : Int32) (a5 : Int32) (a6 : Int32) (a8 : Int32) (s0 : Int32) (s1 : Int32), wm_clashing_116 Q K6 J a1 a2 a3 a4 a5 a6 a8 s0 s1 → GM E C J 116 [some (.ref (me_a E 54)), some (.int a1), some (.int a2), some (.int a3), some (.int a4), some (.int a5), some (.int a6), none, some (.int a8), none] [.int s1, .int s0] := by
    intro K6 hK6 J a1 a2 a3 a4 a5 a6 a8 s0 s1 h
    refine g_ior hC dX3_clashing_116 ?_
    refine g_istore hC dX3_clashing_117 (by decide) rfl rfl ?_
    refine g_iinc (v := (a8 + (1 : Int32))) hC dX3_clashing_119 rfl rfl (by decide) rfl rfl ?_
    refine g_goto (tgt := 6) hC dX3_clashing_122 (by decide) ?_
    exact hK6 J a1 a2 a3 a4 a5 a6 (s0 ||| s1) (a8 + (1 : Int32)) h
  have s_99 : ∀ (K6 : MS → Int32 → Int32 → Int32 → Int32 → Int32 → Int32 → Int32 → Int32 → Prop) (hK6 : ∀ (J : MS) (b1 : Int32) (b2 : Int32) (b3 : Int32) (b4 : Int32) (b5 : Int32) (b6 : Int32) (b7 : Int32) (b8 : Int32), K6 J b1 b2 b3 b4 b5 b6 b7 b8 → GM E C J 6 [some (.ref (me_a E 54)), some (.int b1), some (.int b2), some (.int b3), some (.int b4), some (.int b5), some (.int b6), some (.int b7), some (.int b8), none] []) (J : MS) (a1 : Int32) (a2 : Int32) (a3 : Int32) (a4 : Int32) (a5 : Int32) (a6 : Int32) (a7 : Int32) (a8 : Int32) (s0 : Int32), wm_clashing_99 Q K6 J a1 a2 a3 a4 a5 a6 a7 a8 s0 → GM E C J 99 [some (.ref (me_a E 54)), some (.int a1), some (.int a2), some (.int a3), some (.int a4), some (.int a5), some (.int a6), some (.int a7), some (.int a8), none] [.int s0] := by
    intro K6 hK6 J a1 a2 a3 a4 a5 a6 a7 a8 s0 h
    refine g_istore hC dX3_clashing_99 (by decide) rfl rfl ?_
    refine g_iload hC dX3_clashing_101 rfl ?_
    refine g_iload hC dX3_clashing_103 rfl ?_
    refine g_if_eq (tgt := 115) hC dX3_clashing_105 (by decide) (fun c => ?_) (fun c => ?_)
    · have h := it_p c h
      refine g_iconst (v := 0) hC dX3_clashing_115 (by decide) ?_
      refine g_sub [true, true, true, true, true, true, true, false, true, false] rfl ?_
      exact s_116 K6 hK6 J a1 a2 a3 a4 a5 a6 a8 a7 (0 : Int32) h
    · have h := it_n c h
      refine g_iconst (v := 1) hC dX3_clashing_108 (by decide) ?_
      refine g_iload hC dX3_clashing_109 rfl ?_
      refine g_ishl hC dX3_clashing_111 ?_
      refine g_goto (tgt := 116) hC dX3_clashing_112 (by decide) ?_
      refine g_sub [true, true, true, true, true, true, true, false, true, false] rfl ?_
      exact s_116 K6 hK6 J a1 a2 a3 a4 a5 a6 a8 a7 ((1 : Int32) <<< (a8 &&& 31)) h
  have s_98 : ∀ (K6 : MS → Int32 → Int32 → Int32 → Int32 → Int32 → Int32 → Int32 → Int32 → Prop) (hK6 : ∀ (J : MS) (b1 : Int32) (b2 : Int32) (b3 : Int32) (b4 : Int32) (b5 : Int32) (b6 : Int32) (b7 : Int32) (b8 : Int32), K6 J b1 b2 b3 b4 b5 b6 b7 b8 → GM E C J 6 [some (.ref (me_a E 54)), some (.int b1), some (.int b2), some (.int b3), some (.int b4), some (.int b5), some (.int b6), some (.int b7), some (.int b8), none] []) (J : MS) (a1 : Int32) (a2 : Int32) (a3 : Int32) (a4 : Int32) (a5 : Int32) (a6 : Int32) (a7 : Int32) (a8 : Int32), wm_clashing_98 Q K6 J a1 a2 a3 a4 a5 a6 a7 a8 → GM E C J 98 [some (.ref (me_a E 54)), some (.int a1), some (.int a2), some (.int a3), some (.int a4), some (.int a5), some (.int a6), some (.int a7), some (.int a8), none] [] := by
    intro K6 hK6 J a1 a2 a3 a4 a5 a6 a7 a8 h
    refine g_iconst (v := 0) hC dX3_clashing_98 (by decide) ?_
    exact s_99 K6 hK6 J a1 a2 a3 a4 a5 a6 a7 a8 (0 : Int32) h
  have s_6 : ∀ (n : Nat) (J : MS) (a1 : Int32) (a2 : Int32) (a3 : Int32) (a4 : Int32) (a5 : Int32) (a6 : Int32) (a7 : Int32) (a8 : Int32), wm_clashing_6 Q  n J a1 a2 a3 a4 a5 a6 a7 a8 → GM E C J 6 [some (.ref (me_a E 54)), some (.int a1), some (.int a2), some (.int a3), some (.int a4), some (.int a5), some (.int a6), some (.int a7), some (.int a8), none] [] := by
    intro  n
    induction n with
    | zero =>
      intro J a1 a2 a3 a4 a5 a6 a7 a8 h
      exact False.elim h
    | succ n ih =>
      intro J a1 a2 a3 a4 a5 a6 a7 a8 h
      refine g_iload hC dX3_clashing_6 rfl ?_
      refine g_aload_n hC dX3_clashing_8 rfl ?_
      refine gM_getS hC hM 24 dX3_clashing_9 q1527 (by decide) (by decide) rfl ?_
      refine g_icmp_ge (tgt := 125) hC dX3_clashing_12 (by decide) (fun c => ?_) (fun c => ?_)
      · have h := it_p c h
        refine g_iload hC dX3_clashing_125 rfl ?_
        refine gM_iret hC hM hQ rfl dX3_clashing_127 h
      · have h := it_n c h
        refine g_iload_n hC dX3_clashing_15 rfl ?_
        refine g_iload hC dX3_clashing_16 rfl ?_
        refine g_ishr hC dX3_clashing_18 ?_
        refine g_iconst (v := 1) hC dX3_clashing_19 (by decide) ?_
        refine g_iand hC dX3_clashing_20 ?_
        refine g_iconst (v := 1) hC dX3_clashing_21 (by decide) ?_
        refine g_icmp_ne (tgt := 98) hC dX3_clashing_22 (by decide) (fun c => ?_) (fun c => ?_)
        · have h := it_n c h
          exact s_98 (wm_clashing_6 Q n) ih J a1 a2 a3 a4 a5 a6 a7 a8 h
        · have h := it_p c h
          refine g_aload_n hC dX3_clashing_25 rfl ?_
          refine g_iload hC dX3_clashing_26 rfl ?_
          refine g_iconst (v := 0) hC dX3_clashing_28 (by decide) ?_
          refine gM_Vi (As := [.int a8, .int (0 : Int32)]) (rest := []) hC hM (mm_of (cx_l C) E hM.2.1 _ _ _ _ h) (lw_V q1814 q1816 qs51 q76 q1817) hd_of rfl rfl (Nat.le_of_ble_eq_true rfl) ⟨Nat.le_of_ble_eq_true rfl, Nat.le_of_ble_eq_true rfl⟩ dX3_clashing_29 ?_
          intro r2 J1 h
          refine g_iload_n hC dX3_clashing_32 rfl ?_
          refine g_icmp_ne (tgt := 98) hC dX3_clashing_33 (by decide) (fun c => ?_) (fun c => ?_)
          · have h := it_n c h
            exact s_98 (wm_clashing_6 Q n) ih J1 a1 a2 a3 a4 a5 a6 a7 a8 h
          · have h := it_p c h
            refine g_aload_n hC dX3_clashing_36 rfl ?_
            refine g_iload hC dX3_clashing_37 rfl ?_
            refine g_iconst (v := 1) hC dX3_clashing_39 (by decide) ?_
            refine gM_Vi (As := [.int a8, .int (1 : Int32)]) (rest := []) hC hM (mm_of (cx_l C) E hM.2.1 _ _ _ _ h) (lw_V q1814 q1816 qs51 q76 q1817) hd_of rfl rfl (Nat.le_of_ble_eq_true rfl) ⟨Nat.le_of_ble_eq_true rfl, Nat.le_of_ble_eq_true rfl⟩ dX3_clashing_40 ?_
            intro r4 J3 h
            refine g_iload_n hC dX3_clashing_43 rfl ?_
            refine g_icmp_ne (tgt := 98) hC dX3_clashing_44 (by decide) (fun c => ?_) (fun c => ?_)
            · have h := it_n c h
              exact s_98 (wm_clashing_6 Q n) ih J3 a1 a2 a3 a4 a5 a6 a7 a8 h
            · have h := it_p c h
              refine g_aload_n hC dX3_clashing_47 rfl ?_
              refine g_iload hC dX3_clashing_48 rfl ?_
              refine g_iconst (v := 2) hC dX3_clashing_50 (by decide) ?_
              refine gM_Vi (As := [.int a8, .int (2 : Int32)]) (rest := []) hC hM (mm_of (cx_l C) E hM.2.1 _ _ _ _ h) (lw_V q1814 q1816 qs51 q76 q1817) hd_of rfl rfl (Nat.le_of_ble_eq_true rfl) ⟨Nat.le_of_ble_eq_true rfl, Nat.le_of_ble_eq_true rfl⟩ dX3_clashing_51 ?_
              intro r6 J5 h
              refine g_iload hC dX3_clashing_54 rfl ?_
              refine g_icmp_ne (tgt := 98) hC dX3_clashing_56 (by decide) (fun c => ?_) (fun c => ?_)
              · have h := it_n c h
                exact s_98 (wm_clashing_6 Q n) ih J5 a1 a2 a3 a4 a5 a6 a7 a8 h
              · have h := it_p c h
                refine g_aload_n hC dX3_clashing_59 rfl ?_
                refine g_iload_n hC dX3_clashing_60 rfl ?_
                refine g_aload_n hC dX3_clashing_61 rfl ?_
                refine g_iload hC dX3_clashing_62 rfl ?_
                refine g_iconst (v := 3) hC dX3_clashing_64 (by decide) ?_
                refine gM_Vi (As := [.int a8, .int (3 : Int32)]) (rest := [.int a2, .ref (me_a E 54)]) hC hM (mm_of (cx_l C) E hM.2.1 _ _ _ _ h) (lw_V q1814 q1816 qs51 q76 q1817) hd_of rfl rfl (Nat.le_of_ble_eq_true rfl) ⟨Nat.le_of_ble_eq_true rfl, Nat.le_of_ble_eq_true rfl⟩ dX3_clashing_65 ?_
                intro r8 J7 h
                refine g_aload_n hC dX3_clashing_68 rfl ?_
                refine g_iload hC dX3_clashing_69 rfl ?_
                refine g_iconst (v := 4) hC dX3_clashing_71 (by decide) ?_
                refine gM_Vi (As := [.int a8, .int (4 : Int32)]) (rest := [.int r8, .int a2, .ref (me_a E 54)]) hC hM (mm_of (cx_l C) E hM.2.1 _ _ _ _ h) (lw_V q1814 q1816 qs51 q76 q1817) hd_of rfl rfl (Nat.le_of_ble_eq_true rfl) ⟨Nat.le_of_ble_eq_true rfl, Nat.le_of_ble_eq_true rfl⟩ dX3_clashing_72 ?_
                intro r10 J9 h
                refine g_aload_n hC dX3_clashing_75 rfl ?_
                refine g_iload hC dX3_clashing_76 rfl ?_
                refine g_bipush (v := 6) hC dX3_clashing_78 (by decide) ?_
                refine gM_Vi (As := [.int a8, .int (6 : Int32)]) (rest := [.int r10, .int r8, .int a2, .ref (me_a E 54)]) hC hM (mm_of (cx_l C) E hM.2.1 _ _ _ _ h) (lw_V q1814 q1816 qs51 q76 q1817) hd_of rfl rfl (Nat.le_of_ble_eq_true rfl) ⟨Nat.le_of_ble_eq_true rfl, Nat.le_of_ble_eq_true rfl⟩ dX3_clashing_80 ?_
                intro r12 J11 h
                refine g_iload hC dX3_clashing_83 rfl ?_
                refine g_iload hC dX3_clashing_85 rfl ?_
                refine g_iconst (v := 3) hC dX3_clashing_87 (by decide) ?_
                refine gM_Vi (As := [.int a2, .int r8, .int r10, .int r12, .int a5, .int a6, .int (3 : Int32)]) (rest := []) hC hM (mm_meets (cx_l C) E hM.2.1 _ _ _ _ _ _ _ _ _ h) (lw_V q1835 q1837 qs54 q76 q1838) hd_meets rfl rfl (Nat.le_of_ble_eq_true rfl) ⟨Nat.le_of_ble_eq_true rfl, Nat.le_of_ble_eq_true rfl⟩ dX3_clashing_88 ?_
                intro r14 J13 h
                refine g_if_eq (tgt := 98) hC dX3_clashing_91 (by decide) (fun c => ?_) (fun c => ?_)
                · have h := it_p c h
                  exact s_98 (wm_clashing_6 Q n) ih J13 a1 a2 a3 a4 a5 a6 a7 a8 h
                · have h := it_n c h
                  refine g_iconst (v := 1) hC dX3_clashing_94 (by decide) ?_
                  refine g_goto (tgt := 99) hC dX3_clashing_95 (by decide) ?_
                  exact s_99 (wm_clashing_6 Q n) ih J13 a1 a2 a3 a4 a5 a6 a7 a8 (1 : Int32) h
  refine g_iconst (v := 0) hC dX3_clashing_0 (by decide) ?_
  refine g_istore hC dX3_clashing_1 (by decide) rfl rfl ?_
  refine g_iconst (v := 0) hC dX3_clashing_3 (by decide) ?_
  refine g_istore hC dX3_clashing_4 (by decide) rfl rfl ?_
  obtain ⟨n0, h0⟩ := h
  exact s_6 n0 J x1 x2 x3 x4 x5 x6 (0 : Int32) (0 : Int32) h0
theorem mm_clashing (l : Launch) (E : ME) (hI : mInj E) (Q : Int32 → MS → Prop) (J : MS) (x1 : Int32) (x2 : Int32) (x3 : Int32) (x4 : Int32) (x5 : Int32) (x6 : Int32) (h : wm_clashing Q J x1 x2 x3 x4 x5 x6) : MMet E l yX3_clashing cX3_clashing 10 (some .int) ({ frames := 2, cells := 0, slots := 0, locals := 44 }) [.ref (me_a E 54), .int x1, .int x2, .int x3, .int x4, .int x5, .int x6] J (va_Qi Q (BM E) (mA E)) :=
  MMet_of hI (by decide) rfl (Nat.le_of_ble_eq_true rfl) (L0 := [some (.ref (me_a E 54)), some (.int x1), some (.int x2), some (.int x3), some (.int x4), some (.int x5), some (.int x6), none, none, none]) rfl (fun C hC hM hl hQ => bm_clashing E C Q J x1 x2 x3 x4 x5 x6 hC hM hQ h)
/-! bits -/
def wm_bits_4 (Q : Int32 → MS → Prop) : Nat → MS → Int32 → Int32 → Int32 → Prop
  | 0, _, _, _, _ => False
  | n + 1, J, a0, a1, a2 => (if (16 : Int32) ≤ a2 then Q a1 J else wm_bits_4 Q n J a0 (a1 + ((a0 >>> (a2 &&& 31)) &&& (1 : Int32))) (a2 + (1 : Int32)))
def wm_bits (Q : Int32 → MS → Prop) (J : MS) (x0 : Int32) : Prop :=
  ∃ n1, wm_bits_4 Q n1 J x0 (0 : Int32) (0 : Int32)
theorem hd_bits : yX3_bits.cls = RX3 ∧ yX3_bits.cls ≠ "java/lang/invoke/MethodHandle" ∧ yX3_bits.cls ≠ "java/lang/invoke/VarHandle" ∧ (parseMethodDescriptor yX3_bits.desc).map (fun d => d.parameters.length) = some 1 := by decide +kernel
set_option maxHeartbeats 4000000 in
set_option maxRecDepth 100000 in
theorem bm_bits (E : ME) (C : Cx) (Q : Int32 → MS → Prop) (J : MS) (x0 : Int32) (hC : COk C cX3_bits RX3 (some .int) 1 16 3) (hM : MOk E C) (hQ : cx_Q C = MQ (cx_b C) (va_Qi Q (BM E) (mA E)) (cx_a C) (cx_s C) (cx_MC C) (cx_MS C) (mA E)) (h : wm_bits Q J x0) : GM E C J 0 [some (.int x0), none, none] [] := by
  have s_4 : ∀ (n : Nat) (J : MS) (a0 : Int32) (a1 : Int32) (a2 : Int32), wm_bits_4 Q  n J a0 a1 a2 → GM E C J 4 [some (.int a0), some (.int a1), some (.int a2)] [] := by
    intro  n
    induction n with
    | zero =>
      intro J a0 a1 a2 h
      exact False.elim h
    | succ n ih =>
      intro J a0 a1 a2 h
      refine g_iload_n hC dX3_bits_4 rfl ?_
      refine g_bipush (v := 16) hC dX3_bits_5 (by decide) ?_
      refine g_icmp_ge (tgt := 24) hC dX3_bits_7 (by decide) (fun c => ?_) (fun c => ?_)
      · have h := it_p c h
        refine g_iload_n hC dX3_bits_24 rfl ?_
        refine gM_iret hC hM hQ rfl dX3_bits_25 h
      · have h := it_n c h
        refine g_iload_n hC dX3_bits_10 rfl ?_
        refine g_iload_n hC dX3_bits_11 rfl ?_
        refine g_iload_n hC dX3_bits_12 rfl ?_
        refine g_ishr hC dX3_bits_13 ?_
        refine g_iconst (v := 1) hC dX3_bits_14 (by decide) ?_
        refine g_iand hC dX3_bits_15 ?_
        refine g_iadd hC dX3_bits_16 ?_
        refine g_istore_n hC dX3_bits_17 rfl (by decide) rfl rfl ?_
        refine g_iinc (v := (a2 + (1 : Int32))) hC dX3_bits_18 rfl rfl (by decide) rfl rfl ?_
        refine g_goto (tgt := 4) hC dX3_bits_21 (by decide) ?_
        exact ih J a0 (a1 + ((a0 >>> (a2 &&& 31)) &&& (1 : Int32))) (a2 + (1 : Int32)) h
  refine g_iconst (v := 0) hC dX3_bits_0 (by decide) ?_
  refine g_istore_n hC dX3_bits_1 rfl (by decide) rfl rfl ?_
  refine g_iconst (v := 0) hC dX3_bits_2 (by decide) ?_
  refine g_istore_n hC dX3_bits_3 rfl (by decide) rfl rfl ?_
  obtain ⟨n0, h0⟩ := h
  exact s_4 n0 J x0 (0 : Int32) (0 : Int32) h0
theorem mm_bits (l : Launch) (E : ME) (hI : mInj E) (Q : Int32 → MS → Prop) (J : MS) (x0 : Int32) (h : wm_bits Q J x0) : MMet E l yX3_bits cX3_bits 3 (some .int) ({ frames := 1, cells := 0, slots := 0, locals := 16 }) [.int x0] J (va_Qi Q (BM E) (mA E)) :=
  MMet_of hI (by decide) rfl (Nat.le_of_ble_eq_true rfl) (L0 := [some (.int x0), none, none]) rfl (fun C hC hM hl hQ => bm_bits E C Q J x0 hC hM hQ h)
/-! isFree -/
def wm_isFree_228 (Q : Int32 → MS → Prop) (K64 : MS → Int32 → Int32 → Int32 → Int32 → Int32 → Int32 → Prop) (J : MS) (a1 : Int32) (a2 : Int32) (a3 : Int32) (a4 : Int32) (a10 : Int32) (s0 : Int32) : Prop :=
  K64 J a1 a2 a3 a4 s0 (a10 + (1 : Int32))
def wm_isFree_227 (Q : Int32 → MS → Prop) (K64 : MS → Int32 → Int32 → Int32 → Int32 → Int32 → Int32 → Prop) (J : MS) (a1 : Int32) (a2 : Int32) (a3 : Int32) (a4 : Int32) (a10 : Int32) : Prop :=
  wm_isFree_228 Q K64 J a1 a2 a3 a4 a10 (0 : Int32)
def wm_isFree_223 (Q : Int32 → MS → Prop) (K64 : MS → Int32 → Int32 → Int32 → Int32 → Int32 → Int32 → Prop) (J : MS) (a1 : Int32) (a2 : Int32) (a3 : Int32) (a4 : Int32) (a10 : Int32) : Prop :=
  wm_isFree_228 Q K64 J a1 a2 a3 a4 a10 (1 : Int32)
def wm_isFree_146 (Q : Int32 → MS → Prop) (K64 : MS → Int32 → Int32 → Int32 → Int32 → Int32 → Int32 → Prop) (J : MS) (a1 : Int32) (a2 : Int32) (a3 : Int32) (a4 : Int32) (a9 : Int32) (a10 : Int32) (s0 : Int32) : Prop :=
  (if a9 = 0 then wm_isFree_227 Q K64 J a1 a2 a3 a4 a10 else (if s0 = 0 then wm_isFree_223 Q K64 J a1 a2 a3 a4 a10 else wm_of (fun r4 J3 => wm_of (fun r6 J5 => (if r4 = r6 then wm_of (fun r8 J7 => wm_of (fun r10 J9 => wm_of (fun r12 J11 => wm_of (fun r14 J13 => wm_of (fun r16 J15 => wm_of (fun r18 J17 => wm_meets (fun r20 J19 => (if r20 = 0 then wm_isFree_223 Q K64 J19 a1 a2 a3 a4 a10 else wm_isFree_227 Q K64 J19 a1 a2 a3 a4 a10)) J17 a2 r8 r10 r12 r14 r16 r18) J15 a1 (6 : Int32)) J13 a1 (4 : Int32)) J11 a1 (3 : Int32)) J9 a10 (6 : Int32)) J7 a10 (4 : Int32)) J5 a10 (3 : Int32) else wm_isFree_223 Q K64 J5 a1 a2 a3 a4 a10)) J3 a1 (2 : Int32)) J a10 (2 : Int32)))
def wm_isFree_122 (Q : Int32 → MS → Prop) (K64 : MS → Int32 → Int32 → Int32 → Int32 → Int32 → Int32 → Prop) (J : MS) (a1 : Int32) (a2 : Int32) (a3 : Int32) (a4 : Int32) (a9 : Int32) (a10 : Int32) : Prop :=
  wm_isFree_146 Q K64 J a1 a2 a3 a4 a9 a10 (0 : Int32)
def wm_isFree_64 (Q : Int32 → MS → Prop) : Nat → MS → Int32 → Int32 → Int32 → Int32 → Int32 → Int32 → Prop
  | 0, _, _, _, _, _, _, _ => False
  | n + 1, J, a1, a2, a3, a4, a9, a10 => (if (J 24 0) ≤ a10 then narrow .boolean (.int a9) = .int a9 ∧ Q a9 J else (if (((J 32 0) >>> (a10 &&& 31)) &&& (1 : Int32)) = 0 then (if ((a4 >>> (a10 &&& 31)) &&& (1 : Int32)) = (1 : Int32) then wm_of (fun r22 J21 => (if r22 = a2 then wm_of (fun r24 J23 => (if r24 = a3 then wm_isFree_146 Q (wm_isFree_64 Q n) J23 a1 a2 a3 a4 a9 a10 (1 : Int32) else wm_isFree_122 Q (wm_isFree_64 Q n) J23 a1 a2 a3 a4 a9 a10)) J21 a10 (1 : Int32) else wm_isFree_122 Q (wm_isFree_64 Q n) J21 a1 a2 a3 a4 a9 a10)) J a10 (0 : Int32) else wm_isFree_122 Q (wm_isFree_64 Q n) J a1 a2 a3 a4 a9 a10) else vp_in a10 16 ∧ (if (J 31 (Int32.toNatClampNeg a10)) = (((2 : Int32) * a2) + a3) then wm_isFree_146 Q (wm_isFree_64 Q n) J a1 a2 a3 a4 a9 a10 (1 : Int32) else wm_isFree_146 Q (wm_isFree_64 Q n) J a1 a2 a3 a4 a9 a10 (0 : Int32))))
def wm_isFree_59 (Q : Int32 → MS → Prop) (J : MS) (a1 : Int32) (a2 : Int32) (a3 : Int32) (a4 : Int32) (s0 : Int32) : Prop :=
  ∃ n25, wm_isFree_64 Q n25 J a1 a2 a3 a4 s0 (0 : Int32)
def wm_isFree_58 (Q : Int32 → MS → Prop) (J : MS) (a1 : Int32) (a2 : Int32) (a3 : Int32) (a4 : Int32) : Prop :=
  wm_isFree_59 Q J a1 a2 a3 a4 (0 : Int32)
def wm_isFree_54 (Q : Int32 → MS → Prop) (J : MS) (a1 : Int32) (a2 : Int32) (a3 : Int32) (a4 : Int32) : Prop :=
  wm_isFree_59 Q J a1 a2 a3 a4 (1 : Int32)
def wm_isFree (Q : Int32 → MS → Prop) (J : MS) (x1 : Int32) (x2 : Int32) (x3 : Int32) (x4 : Int32) (x5 : Int32) (x6 : Int32) (x7 : Int32) (x8 : Int32) : Prop :=
  wm_hasFire (fun r2 J1 => (if r2 = 0 then wm_isFree_58 Q J1 x1 x2 x3 x4 else (if x2 = x5 then (if x3 = x6 then wm_of (fun r27 J26 => wm_of (fun r29 J28 => wm_of (fun r31 J30 => wm_meets (fun r33 J32 => (if r33 = 0 then wm_isFree_54 Q J32 x1 x2 x3 x4 else wm_isFree_58 Q J32 x1 x2 x3 x4)) J30 x2 r27 r29 r31 x7 x8 (3 : Int32)) J28 x1 (6 : Int32)) J26 x1 (4 : Int32)) J1 x1 (3 : Int32) else wm_isFree_54 Q J1 x1 x2 x3 x4) else wm_isFree_54 Q J1 x1 x2 x3 x4))) J x1 x2 x3
theorem hd_isFree : yX3_isFree.cls = RX3 ∧ yX3_isFree.cls ≠ "java/lang/invoke/MethodHandle" ∧ yX3_isFree.cls ≠ "java/lang/invoke/VarHandle" ∧ (parseMethodDescriptor yX3_isFree.desc).map (fun d => d.parameters.length) = some 8 := by decide +kernel
set_option maxHeartbeats 4000000 in
set_option maxRecDepth 100000 in
theorem bm_isFree (E : ME) (C : Cx) (Q : Int32 → MS → Prop) (J : MS) (x1 : Int32) (x2 : Int32) (x3 : Int32) (x4 : Int32) (x5 : Int32) (x6 : Int32) (x7 : Int32) (x8 : Int32) (hC : COk C cX3_isFree RX3 (some .boolean) 3 61 12) (hM : MOk E C) (hQ : cx_Q C = MQ (cx_b C) (va_Qi Q (BM E) (mA E)) (cx_a C) (cx_s C) (cx_MC C) (cx_MS C) (mA E)) (h : wm_isFree Q J x1 x2 x3 x4 x5 x6 x7 x8) : GM E C J 0 [some (.ref (me_a E 54)), some (.int x1), some (.int x2), some (.int x3), some (.int x4), some (.int x5), some (.int x6), some (.int x7), some (.int x8), none, none, none] [] := by
  have s_228 : ∀ (K64 : MS → Int32 → Int32 → Int32 → Int32 → Int32 → Int32 → Prop) (hK64 : ∀ (J : MS) (b1 : Int32) (b2 : Int32) (b3 : Int32) (b4 : Int32) (b9 : Int32) (b10 : Int32), K64 J b1 b2 b3 b4 b9 b10 → GM E C J 64 [some (.ref (me_a E 54)), some (.int b1), some (.int b2), some (.int b3), some (.int b4), none, none, none, none, some (.int b9), some (.int b10), none] []) (J : MS) (a1 : Int32) (a2 : Int32) (a3 : Int32) (a4 : Int32) (a10 : Int32) (s0 : Int32), wm_isFree_228 Q K64 J a1 a2 a3 a4 a10 s0 → GM E C J 228 [some (.ref (me_a E 54)), some (.int a1), some (.int a2), some (.int a3), some (.int a4), none, none, none, none, none, some (.int a10), none] [.int s0] := by
    intro K64 hK64 J a1 a2 a3 a4 a10 s0 h
    refine g_istore hC dX3_isFree_228 (by decide) rfl rfl ?_
    refine g_iinc (v := (a10 + (1 : Int32))) hC dX3_isFree_230 rfl rfl (by decide) rfl rfl ?_
    refine g_goto (tgt := 64) hC dX3_isFree_233 (by decide) ?_
    exact hK64 J a1 a2 a3 a4 s0 (a10 + (1 : Int32)) h
  have s_227 : ∀ (K64 : MS → Int32 → Int32 → Int32 → Int32 → Int32 → Int32 → Prop) (hK64 : ∀ (J : MS) (b1 : Int32) (b2 : Int32) (b3 : Int32) (b4 : Int32) (b9 : Int32) (b10 : Int32), K64 J b1 b2 b3 b4 b9 b10 → GM E C J 64 [some (.ref (me_a E 54)), some (.int b1), some (.int b2), some (.int b3), some (.int b4), none, none, none, none, some (.int b9), some (.int b10), none] []) (J : MS) (a1 : Int32) (a2 : Int32) (a3 : Int32) (a4 : Int32) (a10 : Int32), wm_isFree_227 Q K64 J a1 a2 a3 a4 a10 → GM E C J 227 [some (.ref (me_a E 54)), some (.int a1), some (.int a2), some (.int a3), some (.int a4), none, none, none, none, none, some (.int a10), none] [] := by
    intro K64 hK64 J a1 a2 a3 a4 a10 h
    refine g_iconst (v := 0) hC dX3_isFree_227 (by decide) ?_
    exact s_228 K64 hK64 J a1 a2 a3 a4 a10 (0 : Int32) h
  have s_223 : ∀ (K64 : MS → Int32 → Int32 → Int32 → Int32 → Int32 → Int32 → Prop) (hK64 : ∀ (J : MS) (b1 : Int32) (b2 : Int32) (b3 : Int32) (b4 : Int32) (b9 : Int32) (b10 : Int32), K64 J b1 b2 b3 b4 b9 b10 → GM E C J 64 [some (.ref (me_a E 54)), some (.int b1), some (.int b2), some (.int b3), some (.int b4), none, none, none, none, some (.int b9), some (.int b10), none] []) (J : MS) (a1 : Int32) (a2 : Int32) (a3 : Int32) (a4 : Int32) (a10 : Int32), wm_isFree_223 Q K64 J a1 a2 a3 a4 a10 → GM E C J 223 [some (.ref (me_a E 54)), some (.int a1), some (.int a2), some (.int a3), some (.int a4), none, none, none, none, none, some (.int a10), none] [] := by
    intro K64 hK64 J a1 a2 a3 a4 a10 h
    refine g_iconst (v := 1) hC dX3_isFree_223 (by decide) ?_
    refine g_goto (tgt := 228) hC dX3_isFree_224 (by decide) ?_
    exact s_228 K64 hK64 J a1 a2 a3 a4 a10 (1 : Int32) h
  have s_146 : ∀ (K64 : MS → Int32 → Int32 → Int32 → Int32 → Int32 → Int32 → Prop) (hK64 : ∀ (J : MS) (b1 : Int32) (b2 : Int32) (b3 : Int32) (b4 : Int32) (b9 : Int32) (b10 : Int32), K64 J b1 b2 b3 b4 b9 b10 → GM E C J 64 [some (.ref (me_a E 54)), some (.int b1), some (.int b2), some (.int b3), some (.int b4), none, none, none, none, some (.int b9), some (.int b10), none] []) (J : MS) (a1 : Int32) (a2 : Int32) (a3 : Int32) (a4 : Int32) (a9 : Int32) (a10 : Int32) (s0 : Int32), wm_isFree_146 Q K64 J a1 a2 a3 a4 a9 a10 s0 → GM E C J 146 [some (.ref (me_a E 54)), some (.int a1), some (.int a2), some (.int a3), some (.int a4), none, none, none, none, some (.int a9), some (.int a10), none] [.int s0] := by
    intro K64 hK64 J a1 a2 a3 a4 a9 a10 s0 h
    refine g_istore hC dX3_isFree_146 (by decide) rfl rfl ?_
    refine g_iload hC dX3_isFree_148 rfl ?_
    refine g_if_eq (tgt := 227) hC dX3_isFree_150 (by decide) (fun c => ?_) (fun c => ?_)
    · have h := it_p c h
      refine g_sub [true, true, true, true, true, false, false, false, false, false, true, false] rfl ?_
      exact s_227 K64 hK64 J a1 a2 a3 a4 a10 h
    · have h := it_n c h
      refine g_iload hC dX3_isFree_153 rfl ?_
      refine g_if_eq (tgt := 223) hC dX3_isFree_155 (by decide) (fun c => ?_) (fun c => ?_)
      · have h := it_p c h
        refine g_sub [true, true, true, true, true, false, false, false, false, false, true, false] rfl ?_
        exact s_223 K64 hK64 J a1 a2 a3 a4 a10 h
      · have h := it_n c h
        refine g_aload_n hC dX3_isFree_158 rfl ?_
        refine g_iload hC dX3_isFree_159 rfl ?_
        refine g_iconst (v := 2) hC dX3_isFree_161 (by decide) ?_
        refine gM_Vi (As := [.int a10, .int (2 : Int32)]) (rest := []) hC hM (mm_of (cx_l C) E hM.2.1 _ _ _ _ h) (lw_V q1814 q1816 qs51 q76 q1817) hd_of rfl rfl (Nat.le_of_ble_eq_true rfl) ⟨Nat.le_of_ble_eq_true rfl, Nat.le_of_ble_eq_true rfl⟩ dX3_isFree_162 ?_
        intro r4 J3 h
        refine g_aload_n hC dX3_isFree_165 rfl ?_
        refine g_iload_n hC dX3_isFree_166 rfl ?_
        refine g_iconst (v := 2) hC dX3_isFree_167 (by decide) ?_
        refine gM_Vi (As := [.int a1, .int (2 : Int32)]) (rest := [.int r4]) hC hM (mm_of (cx_l C) E hM.2.1 _ _ _ _ h) (lw_V q1814 q1816 qs51 q76 q1817) hd_of rfl rfl (Nat.le_of_ble_eq_true rfl) ⟨Nat.le_of_ble_eq_true rfl, Nat.le_of_ble_eq_true rfl⟩ dX3_isFree_168 ?_
        intro r6 J5 h
        refine g_icmp_ne (tgt := 223) hC dX3_isFree_171 (by decide) (fun c => ?_) (fun c => ?_)
        · have h := it_n c h
          refine g_sub [true, true, true, true, true, false, false, false, false, false, true, false] rfl ?_
          exact s_223 K64 hK64 J5 a1 a2 a3 a4 a10 h
        · have h := it_p c h
          refine g_aload_n hC dX3_isFree_174 rfl ?_
          refine g_iload_n hC dX3_isFree_175 rfl ?_
          refine g_aload_n hC dX3_isFree_176 rfl ?_
          refine g_iload hC dX3_isFree_177 rfl ?_
          refine g_iconst (v := 3) hC dX3_isFree_179 (by decide) ?_
          refine gM_Vi (As := [.int a10, .int (3 : Int32)]) (rest := [.int a2, .ref (me_a E 54)]) hC hM (mm_of (cx_l C) E hM.2.1 _ _ _ _ h) (lw_V q1814 q1816 qs51 q76 q1817) hd_of rfl rfl (Nat.le_of_ble_eq_true rfl) ⟨Nat.le_of_ble_eq_true rfl, Nat.le_of_ble_eq_true rfl⟩ dX3_isFree_180 ?_
          intro r8 J7 h
          refine g_aload_n hC dX3_isFree_183 rfl ?_
          refine g_iload hC dX3_isFree_184 rfl ?_
          refine g_iconst (v := 4) hC dX3_isFree_186 (by decide) ?_
          refine gM_Vi (As := [.int a10, .int (4 : Int32)]) (rest := [.int r8, .int a2, .ref (me_a E 54)]) hC hM (mm_of (cx_l C) E hM.2.1 _ _ _ _ h) (lw_V q1814 q1816 qs51 q76 q1817) hd_of rfl rfl (Nat.le_of_ble_eq_true rfl) ⟨Nat.le_of_ble_eq_true rfl, Nat.le_of_ble_eq_true rfl⟩ dX3_isFree_187 ?_
          intro r10 J9 h
          refine g_aload_n hC dX3_isFree_190 rfl ?_
          refine g_iload hC dX3_isFree_191 rfl ?_
          refine g_bipush (v := 6) hC dX3_isFree_193 (by decide) ?_
          refine gM_Vi (As := [.int a10, .int (6 : Int32)]) (rest := [.int r10, .int r8, .int a2, .ref (me_a E 54)]) hC hM (mm_of (cx_l C) E hM.2.1 _ _ _ _ h) (lw_V q1814 q1816 qs51 q76 q1817) hd_of rfl rfl (Nat.le_of_ble_eq_true rfl) ⟨Nat.le_of_ble_eq_true rfl, Nat.le_of_ble_eq_true rfl⟩ dX3_isFree_195 ?_
          intro r12 J11 h
          refine g_aload_n hC dX3_isFree_198 rfl ?_
          refine g_iload_n hC dX3_isFree_199 rfl ?_
          refine g_iconst (v := 3) hC dX3_isFree_200 (by decide) ?_
          refine gM_Vi (As := [.int a1, .int (3 : Int32)]) (rest := [.int r12, .int r10, .int r8, .int a2, .ref (me_a E 54)]) hC hM (mm_of (cx_l C) E hM.2.1 _ _ _ _ h) (lw_V q1814 q1816 qs51 q76 q1817) hd_of rfl rfl (Nat.le_of_ble_eq_true rfl) ⟨Nat.le_of_ble_eq_true rfl, Nat.le_of_ble_eq_true rfl⟩ dX3_isFree_201 ?_
          intro r14 J13 h
          refine g_aload_n hC dX3_isFree_204 rfl ?_
          refine g_iload_n hC dX3_isFree_205 rfl ?_
          refine g_iconst (v := 4) hC dX3_isFree_206 (by decide) ?_
          refine gM_Vi (As := [.int a1, .int (4 : Int32)]) (rest := [.int r14, .int r12, .int r10, .int r8, .int a2, .ref (me_a E 54)]) hC hM (mm_of (cx_l C) E hM.2.1 _ _ _ _ h) (lw_V q1814 q1816 qs51 q76 q1817) hd_of rfl rfl (Nat.le_of_ble_eq_true rfl) ⟨Nat.le_of_ble_eq_true rfl, Nat.le_of_ble_eq_true rfl⟩ dX3_isFree_207 ?_
          intro r16 J15 h
          refine g_aload_n hC dX3_isFree_210 rfl ?_
          refine g_iload_n hC dX3_isFree_211 rfl ?_
          refine g_bipush (v := 6) hC dX3_isFree_212 (by decide) ?_
          refine gM_Vi (As := [.int a1, .int (6 : Int32)]) (rest := [.int r16, .int r14, .int r12, .int r10, .int r8, .int a2, .ref (me_a E 54)]) hC hM (mm_of (cx_l C) E hM.2.1 _ _ _ _ h) (lw_V q1814 q1816 qs51 q76 q1817) hd_of rfl rfl (Nat.le_of_ble_eq_true rfl) ⟨Nat.le_of_ble_eq_true rfl, Nat.le_of_ble_eq_true rfl⟩ dX3_isFree_214 ?_
          intro r18 J17 h
          refine gM_Vi (As := [.int a2, .int r8, .int r10, .int r12, .int r14, .int r16, .int r18]) (rest := []) hC hM (mm_meets (cx_l C) E hM.2.1 _ _ _ _ _ _ _ _ _ h) (lw_V q1835 q1837 qs54 q76 q1838) hd_meets rfl rfl (Nat.le_of_ble_eq_true rfl) ⟨Nat.le_of_ble_eq_true rfl, Nat.le_of_ble_eq_true rfl⟩ dX3_isFree_217 ?_
          intro r20 J19 h
          refine g_if_ne (tgt := 227) hC dX3_isFree_220 (by decide) (fun c => ?_) (fun c => ?_)
          · have h := it_n c h
            refine g_sub [true, true, true, true, true, false, false, false, false, false, true, false] rfl ?_
            exact s_227 K64 hK64 J19 a1 a2 a3 a4 a10 h
          · have h := it_p c h
            refine g_sub [true, true, true, true, true, false, false, false, false, false, true, false] rfl ?_
            exact s_223 K64 hK64 J19 a1 a2 a3 a4 a10 h
  have s_122 : ∀ (K64 : MS → Int32 → Int32 → Int32 → Int32 → Int32 → Int32 → Prop) (hK64 : ∀ (J : MS) (b1 : Int32) (b2 : Int32) (b3 : Int32) (b4 : Int32) (b9 : Int32) (b10 : Int32), K64 J b1 b2 b3 b4 b9 b10 → GM E C J 64 [some (.ref (me_a E 54)), some (.int b1), some (.int b2), some (.int b3), some (.int b4), none, none, none, none, some (.int b9), some (.int b10), none] []) (J : MS) (a1 : Int32) (a2 : Int32) (a3 : Int32) (a4 : Int32) (a9 : Int32) (a10 : Int32), wm_isFree_122 Q K64 J a1 a2 a3 a4 a9 a10 → GM E C J 122 [some (.ref (me_a E 54)), some (.int a1), some (.int a2), some (.int a3), some (.int a4), none, none, none, none, some (.int a9), some (.int a10), none] [] := by
    intro K64 hK64 J a1 a2 a3 a4 a9 a10 h
    refine g_iconst (v := 0) hC dX3_isFree_122 (by decide) ?_
    refine g_goto (tgt := 146) hC dX3_isFree_123 (by decide) ?_
    exact s_146 K64 hK64 J a1 a2 a3 a4 a9 a10 (0 : Int32) h
  have s_64 : ∀ (n : Nat) (J : MS) (a1 : Int32) (a2 : Int32) (a3 : Int32) (a4 : Int32) (a9 : Int32) (a10 : Int32), wm_isFree_64 Q  n J a1 a2 a3 a4 a9 a10 → GM E C J 64 [some (.ref (me_a E 54)), some (.int a1), some (.int a2), some (.int a3), some (.int a4), none, none, none, none, some (.int a9), some (.int a10), none] [] := by
    intro  n
    induction n with
    | zero =>
      intro J a1 a2 a3 a4 a9 a10 h
      exact False.elim h
    | succ n ih =>
      intro J a1 a2 a3 a4 a9 a10 h
      refine g_iload hC dX3_isFree_64 rfl ?_
      refine g_aload_n hC dX3_isFree_66 rfl ?_
      refine gM_getS hC hM 24 dX3_isFree_67 q1527 (by decide) (by decide) rfl ?_
      refine g_icmp_ge (tgt := 236) hC dX3_isFree_70 (by decide) (fun c => ?_) (fun c => ?_)
      · have h := it_p c h
        refine g_iload hC dX3_isFree_236 rfl ?_
        refine gM_zret hC hM hQ rfl h.1 dX3_isFree_238 h.2
      · have h := it_n c h
        refine g_aload_n hC dX3_isFree_73 rfl ?_
        refine gM_getS hC hM 32 dX3_isFree_74 q1535 (by decide) (by decide) rfl ?_
        refine g_iload hC dX3_isFree_77 rfl ?_
        refine g_ishr hC dX3_isFree_79 ?_
        refine g_iconst (v := 1) hC dX3_isFree_80 (by decide) ?_
        refine g_iand hC dX3_isFree_81 ?_
        refine g_if_ne (tgt := 126) hC dX3_isFree_82 (by decide) (fun c => ?_) (fun c => ?_)
        · have h := it_n c h
          refine g_aload_n hC dX3_isFree_126 rfl ?_
          refine gM_getA hC hM 31 dX3_isFree_127 q1534 (by decide) (by decide) rfl ?_
          refine g_iload hC dX3_isFree_130 rfl ?_
          refine gM_iald hC hM 31 16 dX3_isFree_132 rfl (by decide) h.1 ?_
          refine g_iconst (v := 2) hC dX3_isFree_133 (by decide) ?_
          refine g_iload_n hC dX3_isFree_134 rfl ?_
          refine g_imul hC dX3_isFree_135 ?_
          refine g_iload_n hC dX3_isFree_136 rfl ?_
          refine g_iadd hC dX3_isFree_137 ?_
          refine g_icmp_ne (tgt := 145) hC dX3_isFree_138 (by decide) (fun c => ?_) (fun c => ?_)
          · have h := it_n c h.2
            refine g_iconst (v := 0) hC dX3_isFree_145 (by decide) ?_
            exact s_146 (wm_isFree_64 Q n) ih J a1 a2 a3 a4 a9 a10 (0 : Int32) h
          · have h := it_p c h.2
            refine g_iconst (v := 1) hC dX3_isFree_141 (by decide) ?_
            refine g_goto (tgt := 146) hC dX3_isFree_142 (by decide) ?_
            exact s_146 (wm_isFree_64 Q n) ih J a1 a2 a3 a4 a9 a10 (1 : Int32) h
        · have h := it_p c h
          refine g_iload hC dX3_isFree_85 rfl ?_
          refine g_iload hC dX3_isFree_87 rfl ?_
          refine g_ishr hC dX3_isFree_89 ?_
          refine g_iconst (v := 1) hC dX3_isFree_90 (by decide) ?_
          refine g_iand hC dX3_isFree_91 ?_
          refine g_iconst (v := 1) hC dX3_isFree_92 (by decide) ?_
          refine g_icmp_ne (tgt := 122) hC dX3_isFree_93 (by decide) (fun c => ?_) (fun c => ?_)
          · have h := it_n c h
            exact s_122 (wm_isFree_64 Q n) ih J a1 a2 a3 a4 a9 a10 h
          · have h := it_p c h
            refine g_aload_n hC dX3_isFree_96 rfl ?_
            refine g_iload hC dX3_isFree_97 rfl ?_
            refine g_iconst (v := 0) hC dX3_isFree_99 (by decide) ?_
            refine gM_Vi (As := [.int a10, .int (0 : Int32)]) (rest := []) hC hM (mm_of (cx_l C) E hM.2.1 _ _ _ _ h) (lw_V q1814 q1816 qs51 q76 q1817) hd_of rfl rfl (Nat.le_of_ble_eq_true rfl) ⟨Nat.le_of_ble_eq_true rfl, Nat.le_of_ble_eq_true rfl⟩ dX3_isFree_100 ?_
            intro r22 J21 h
            refine g_iload_n hC dX3_isFree_103 rfl ?_
            refine g_icmp_ne (tgt := 122) hC dX3_isFree_104 (by decide) (fun c => ?_) (fun c => ?_)
            · have h := it_n c h
              exact s_122 (wm_isFree_64 Q n) ih J21 a1 a2 a3 a4 a9 a10 h
            · have h := it_p c h
              refine g_aload_n hC dX3_isFree_107 rfl ?_
              refine g_iload hC dX3_isFree_108 rfl ?_
              refine g_iconst (v := 1) hC dX3_isFree_110 (by decide) ?_
              refine gM_Vi (As := [.int a10, .int (1 : Int32)]) (rest := []) hC hM (mm_of (cx_l C) E hM.2.1 _ _ _ _ h) (lw_V q1814 q1816 qs51 q76 q1817) hd_of rfl rfl (Nat.le_of_ble_eq_true rfl) ⟨Nat.le_of_ble_eq_true rfl, Nat.le_of_ble_eq_true rfl⟩ dX3_isFree_111 ?_
              intro r24 J23 h
              refine g_iload_n hC dX3_isFree_114 rfl ?_
              refine g_icmp_ne (tgt := 122) hC dX3_isFree_115 (by decide) (fun c => ?_) (fun c => ?_)
              · have h := it_n c h
                exact s_122 (wm_isFree_64 Q n) ih J23 a1 a2 a3 a4 a9 a10 h
              · have h := it_p c h
                refine g_iconst (v := 1) hC dX3_isFree_118 (by decide) ?_
                refine g_goto (tgt := 146) hC dX3_isFree_119 (by decide) ?_
                exact s_146 (wm_isFree_64 Q n) ih J23 a1 a2 a3 a4 a9 a10 (1 : Int32) h
  have s_59 : ∀ (J : MS) (a1 : Int32) (a2 : Int32) (a3 : Int32) (a4 : Int32) (s0 : Int32), wm_isFree_59 Q  J a1 a2 a3 a4 s0 → GM E C J 59 [some (.ref (me_a E 54)), some (.int a1), some (.int a2), some (.int a3), some (.int a4), none, none, none, none, none, none, none] [.int s0] := by
    intro  J a1 a2 a3 a4 s0 h
    refine g_istore hC dX3_isFree_59 (by decide) rfl rfl ?_
    refine g_iconst (v := 0) hC dX3_isFree_61 (by decide) ?_
    refine g_istore hC dX3_isFree_62 (by decide) rfl rfl ?_
    obtain ⟨n0, h0⟩ := h
    exact s_64 n0 J a1 a2 a3 a4 s0 (0 : Int32) h0
  have s_58 : ∀ (J : MS) (a1 : Int32) (a2 : Int32) (a3 : Int32) (a4 : Int32), wm_isFree_58 Q  J a1 a2 a3 a4 → GM E C J 58 [some (.ref (me_a E 54)), some (.int a1), some (.int a2), some (.int a3), some (.int a4), none, none, none, none, none, none, none] [] := by
    intro  J a1 a2 a3 a4 h
    refine g_iconst (v := 0) hC dX3_isFree_58 (by decide) ?_
    exact s_59 J a1 a2 a3 a4 (0 : Int32) h
  have s_54 : ∀ (J : MS) (a1 : Int32) (a2 : Int32) (a3 : Int32) (a4 : Int32), wm_isFree_54 Q  J a1 a2 a3 a4 → GM E C J 54 [some (.ref (me_a E 54)), some (.int a1), some (.int a2), some (.int a3), some (.int a4), none, none, none, none, none, none, none] [] := by
    intro  J a1 a2 a3 a4 h
    refine g_iconst (v := 1) hC dX3_isFree_54 (by decide) ?_
    refine g_goto (tgt := 59) hC dX3_isFree_55 (by decide) ?_
    exact s_59 J a1 a2 a3 a4 (1 : Int32) h
  refine g_aload_n hC dX3_isFree_0 rfl ?_
  refine g_iload_n hC dX3_isFree_1 rfl ?_
  refine g_iload_n hC dX3_isFree_2 rfl ?_
  refine g_iload_n hC dX3_isFree_3 rfl ?_
  refine gM_Vi (As := [.int x1, .int x2, .int x3]) (rest := []) hC hM (mm_hasFire (cx_l C) E hM.2.1 _ _ _ _ _ h) (lw_V q1859 q1861 qs59 q76 q1862) hd_hasFire rfl rfl (Nat.le_of_ble_eq_true rfl) ⟨Nat.le_of_ble_eq_true rfl, Nat.le_of_ble_eq_true rfl⟩ dX3_isFree_4 ?_
  intro r2 J1 h
  refine g_if_eq (tgt := 58) hC dX3_isFree_7 (by decide) (fun c => ?_) (fun c => ?_)
  · have h := it_p c h
    refine g_sub [true, true, true, true, true, false, false, false, false, false, false, false] rfl ?_
    exact s_58 J1 x1 x2 x3 x4 h
  · have h := it_n c h
    refine g_iload_n hC dX3_isFree_10 rfl ?_
    refine g_iload hC dX3_isFree_11 rfl ?_
    refine g_icmp_ne (tgt := 54) hC dX3_isFree_13 (by decide) (fun c => ?_) (fun c => ?_)
    · have h := it_n c h
      refine g_sub [true, true, true, true, true, false, false, false, false, false, false, false] rfl ?_
      exact s_54 J1 x1 x2 x3 x4 h
    · have h := it_p c h
      refine g_iload_n hC dX3_isFree_16 rfl ?_
      refine g_iload hC dX3_isFree_17 rfl ?_
      refine g_icmp_ne (tgt := 54) hC dX3_isFree_19 (by decide) (fun c => ?_) (fun c => ?_)
      · have h := it_n c h
        refine g_sub [true, true, true, true, true, false, false, false, false, false, false, false] rfl ?_
        exact s_54 J1 x1 x2 x3 x4 h
      · have h := it_p c h
        refine g_aload_n hC dX3_isFree_22 rfl ?_
        refine g_iload_n hC dX3_isFree_23 rfl ?_
        refine g_aload_n hC dX3_isFree_24 rfl ?_
        refine g_iload_n hC dX3_isFree_25 rfl ?_
        refine g_iconst (v := 3) hC dX3_isFree_26 (by decide) ?_
        refine gM_Vi (As := [.int x1, .int (3 : Int32)]) (rest := [.int x2, .ref (me_a E 54)]) hC hM (mm_of (cx_l C) E hM.2.1 _ _ _ _ h) (lw_V q1814 q1816 qs51 q76 q1817) hd_of rfl rfl (Nat.le_of_ble_eq_true rfl) ⟨Nat.le_of_ble_eq_true rfl, Nat.le_of_ble_eq_true rfl⟩ dX3_isFree_27 ?_
        intro r27 J26 h
        refine g_aload_n hC dX3_isFree_30 rfl ?_
        refine g_iload_n hC dX3_isFree_31 rfl ?_
        refine g_iconst (v := 4) hC dX3_isFree_32 (by decide) ?_
        refine gM_Vi (As := [.int x1, .int (4 : Int32)]) (rest := [.int r27, .int x2, .ref (me_a E 54)]) hC hM (mm_of (cx_l C) E hM.2.1 _ _ _ _ h) (lw_V q1814 q1816 qs51 q76 q1817) hd_of rfl rfl (Nat.le_of_ble_eq_true rfl) ⟨Nat.le_of_ble_eq_true rfl, Nat.le_of_ble_eq_true rfl⟩ dX3_isFree_33 ?_
        intro r29 J28 h
        refine g_aload_n hC dX3_isFree_36 rfl ?_
        refine g_iload_n hC dX3_isFree_37 rfl ?_
        refine g_bipush (v := 6) hC dX3_isFree_38 (by decide) ?_
        refine gM_Vi (As := [.int x1, .int (6 : Int32)]) (rest := [.int r29, .int r27, .int x2, .ref (me_a E 54)]) hC hM (mm_of (cx_l C) E hM.2.1 _ _ _ _ h) (lw_V q1814 q1816 qs51 q76 q1817) hd_of rfl rfl (Nat.le_of_ble_eq_true rfl) ⟨Nat.le_of_ble_eq_true rfl, Nat.le_of_ble_eq_true rfl⟩ dX3_isFree_40 ?_
        intro r31 J30 h
        refine g_iload hC dX3_isFree_43 rfl ?_
        refine g_iload hC dX3_isFree_45 rfl ?_
        refine g_iconst (v := 3) hC dX3_isFree_47 (by decide) ?_
        refine gM_Vi (As := [.int x2, .int r27, .int r29, .int r31, .int x7, .int x8, .int (3 : Int32)]) (rest := []) hC hM (mm_meets (cx_l C) E hM.2.1 _ _ _ _ _ _ _ _ _ h) (lw_V q1835 q1837 qs54 q76 q1838) hd_meets rfl rfl (Nat.le_of_ble_eq_true rfl) ⟨Nat.le_of_ble_eq_true rfl, Nat.le_of_ble_eq_true rfl⟩ dX3_isFree_48 ?_
        intro r33 J32 h
        refine g_if_ne (tgt := 58) hC dX3_isFree_51 (by decide) (fun c => ?_) (fun c => ?_)
        · have h := it_n c h
          refine g_sub [true, true, true, true, true, false, false, false, false, false, false, false] rfl ?_
          exact s_58 J32 x1 x2 x3 x4 h
        · have h := it_p c h
          refine g_sub [true, true, true, true, true, false, false, false, false, false, false, false] rfl ?_
          exact s_54 J32 x1 x2 x3 x4 h
theorem mm_isFree (l : Launch) (E : ME) (hI : mInj E) (Q : Int32 → MS → Prop) (J : MS) (x1 : Int32) (x2 : Int32) (x3 : Int32) (x4 : Int32) (x5 : Int32) (x6 : Int32) (x7 : Int32) (x8 : Int32) (h : wm_isFree Q J x1 x2 x3 x4 x5 x6 x7 x8) : MMet E l yX3_isFree cX3_isFree 12 (some .boolean) ({ frames := 3, cells := 0, slots := 0, locals := 61 }) [.ref (me_a E 54), .int x1, .int x2, .int x3, .int x4, .int x5, .int x6, .int x7, .int x8] J (va_Qi Q (BM E) (mA E)) :=
  MMet_of hI (by decide) rfl (Nat.le_of_ble_eq_true rfl) (L0 := [some (.ref (me_a E 54)), some (.int x1), some (.int x2), some (.int x3), some (.int x4), some (.int x5), some (.int x6), some (.int x7), some (.int x8), none, none, none]) rfl (fun C hC hM hl hQ => bm_isFree E C Q J x1 x2 x3 x4 x5 x6 x7 x8 hC hM hQ h)
/-! funeral -/
def wm_funeral_306 (Q : Int32 → MS → Prop) (K204 : MS → Int32 → Int32 → Int32 → Int32 → Int32 → Int32 → Int32 → Int32 → Prop) (J : MS) (a1 : Int32) (a3 : Int32) (a4 : Int32) (a6 : Int32) (a7 : Int32) (a8 : Int32) (a9 : Int32) (a10 : Int32) : Prop :=
  K204 J a1 a3 a4 a6 a7 a8 a9 (a10 + (1 : Int32))
def wm_funeral_300 (Q : Int32 → MS → Prop) (K204 : MS → Int32 → Int32 → Int32 → Int32 → Int32 → Int32 → Int32 → Int32 → Prop) (K216 : MS → Int32 → Int32 → Int32 → Int32 → Int32 → Int32 → Int32 → Int32 → Int32 → Prop) (J : MS) (a1 : Int32) (a3 : Int32) (a4 : Int32) (a6 : Int32) (a7 : Int32) (a8 : Int32) (a9 : Int32) (a10 : Int32) (a11 : Int32) : Prop :=
  K216 J a1 a3 a4 a6 a7 a8 a9 a10 (a11 + (1 : Int32))
def wm_funeral_216 (Q : Int32 → MS → Prop) (K204 : MS → Int32 → Int32 → Int32 → Int32 → Int32 → Int32 → Int32 → Int32 → Prop) : Nat → MS → Int32 → Int32 → Int32 → Int32 → Int32 → Int32 → Int32 → Int32 → Int32 → Prop
  | 0, _, _, _, _, _, _, _, _, _, _ => False
  | n + 1, J, a1, a3, a4, a6, a7, a8, a9, a10, a11 => (if (8 : Int32) ≤ a11 then wm_funeral_306 Q K204 J a1 a3 a4 a6 a7 a8 a9 a10 else (if (((J 32 0) >>> (a10 &&& 31)) &&& (1 : Int32)) = (1 : Int32) then vp_in a10 16 ∧ (if (J 31 (Int32.toNatClampNeg a10)) = (-1000000 : Int32) then wm_isFree (fun r20 J19 => (if r20 = 0 then wm_funeral_300 Q K204 (wm_funeral_216 Q K204 n) J19 a1 a3 a4 a6 a7 a8 a9 a10 a11 else vp_in a10 16 ∧ wm_funeral_300 Q K204 (wm_funeral_216 Q K204 n) (mset J19 31 (Int32.toNatClampNeg a10) (((2 : Int32) * ((a1 + (a11 / (2 : Int32))) - (a1 + (a11 / (2 : Int32))) / (4 : Int32) * (4 : Int32))) + (a11 - a11 / (2 : Int32) * (2 : Int32)))) a1 a3 a4 a6 a7 a8 (a9 + (1 : Int32)) a10 a11)) J a10 ((a1 + (a11 / (2 : Int32))) - (a1 + (a11 / (2 : Int32))) / (4 : Int32) * (4 : Int32)) (a11 - a11 / (2 : Int32) * (2 : Int32)) a7 a1 a8 a3 a4 else wm_funeral_306 Q K204 J a1 a3 a4 a6 a7 a8 a9 a10) else wm_funeral_306 Q K204 J a1 a3 a4 a6 a7 a8 a9 a10))
def wm_funeral_204 (Q : Int32 → MS → Prop) : Nat → MS → Int32 → Int32 → Int32 → Int32 → Int32 → Int32 → Int32 → Int32 → Prop
  | 0, _, _, _, _, _, _, _, _, _ => False
  | n + 1, J, a1, a3, a4, a6, a7, a8, a9, a10 => (if (J 24 0) ≤ a10 then (if a6 = 0 then Q a8 J else (if a6 = (1 : Int32) then wm_bits (fun r18 J17 => Q r18 J17) J (J 32 0) else (if a6 = (2 : Int32) then wm_bits (fun r16 J15 => Q (r16 - a9) J15) J (J 32 0) else vp_in (a6 - (3 : Int32)) 16 ∧ Q (J 31 (Int32.toNatClampNeg (a6 - (3 : Int32)))) J))) else ∃ n21, wm_funeral_216 Q (wm_funeral_204 Q n) n21 J a1 a3 a4 a6 a7 a8 a9 a10 (0 : Int32))
def wm_funeral_176 (Q : Int32 → MS → Prop) : Nat → MS → Int32 → Int32 → Int32 → Int32 → Int32 → Int32 → Int32 → Prop
  | 0, _, _, _, _, _, _, _, _ => False
  | n + 1, J, a1, a3, a4, a6, a7, a8, a9 => (if (16 : Int32) ≤ a9 then ∃ n22, wm_funeral_204 Q n22 J a1 a3 a4 a6 a7 a8 (0 : Int32) (0 : Int32) else vp_in a9 16 ∧ wm_funeral_176 Q n (mset J 31 (Int32.toNatClampNeg a9) (-1000000 : Int32)) a1 a3 a4 a6 a7 a8 (a9 + (1 : Int32)))
def wm_funeral_167 (Q : Int32 → MS → Prop) (K98 : MS → Int32 → Int32 → Int32 → Int32 → Int32 → Int32 → Int32 → Int32 → Int32 → Prop) (J : MS) (a1 : Int32) (a2 : Int32) (a3 : Int32) (a4 : Int32) (a5 : Int32) (a6 : Int32) (a7 : Int32) (a8 : Int32) (a9 : Int32) : Prop :=
  K98 J a1 a2 a3 a4 a5 a6 a7 a8 (a9 + (1 : Int32))
def wm_funeral_157 (Q : Int32 → MS → Prop) (K98 : MS → Int32 → Int32 → Int32 → Int32 → Int32 → Int32 → Int32 → Int32 → Int32 → Prop) (J : MS) (a1 : Int32) (a2 : Int32) (a3 : Int32) (a4 : Int32) (a5 : Int32) (a6 : Int32) (a7 : Int32) (a9 : Int32) (a10 : Int32) : Prop :=
  wm_funeral_167 Q K98 (mset J 32 0 a10) a1 a2 a3 a4 a5 a6 a7 a9 a9
def wm_funeral_98 (Q : Int32 → MS → Prop) : Nat → MS → Int32 → Int32 → Int32 → Int32 → Int32 → Int32 → Int32 → Int32 → Int32 → Prop
  | 0, _, _, _, _, _, _, _, _, _, _ => False
  | n + 1, J, a1, a2, a3, a4, a5, a6, a7, a8, a9 => (if (2 : Int32) ≤ a9 then ∃ n23, wm_funeral_176 Q n23 J a1 a3 a4 a6 a7 a8 (0 : Int32) else wm_clashing (fun r25 J24 => vp_in (((2 : Int32) * a1) + a9) 8 ∧ (if (J24 6 (Int32.toNatClampNeg (((2 : Int32) * a1) + a9))) < a5 then wm_funeral_167 Q (wm_funeral_98 Q n) J24 a1 a2 a3 a4 a5 a6 a7 a8 a9 else (if a8 = (-1000000 : Int32) then wm_funeral_157 Q (wm_funeral_98 Q n) J24 a1 a2 a3 a4 a5 a6 a7 a9 r25 else wm_bits (fun r27 J26 => wm_bits (fun r29 J28 => (if r29 ≤ r27 then wm_funeral_167 Q (wm_funeral_98 Q n) J28 a1 a2 a3 a4 a5 a6 a7 a8 a9 else wm_funeral_157 Q (wm_funeral_98 Q n) J28 a1 a2 a3 a4 a5 a6 a7 a9 r25)) J26 (J26 32 0)) J24 r25))) J a7 a1 a9 a2 a3 a4)
def wm_funeral (Q : Int32 → MS → Prop) (J : MS) (x1 : Int32) (x2 : Int32) (x3 : Int32) (x4 : Int32) (x5 : Int32) (x6 : Int32) : Prop :=
  wm_isHall (fun r2 J1 => (if r2 = 0 then Q (-1000001 : Int32) J1 else wm_isDay (fun r4 J3 => (if r4 = 0 then Q (-1000001 : Int32) J3 else wm_in (fun r6 J5 => (if r6 = 0 then Q (-1000001 : Int32) J5 else wm_in (fun r8 J7 => (if r8 = 0 then Q (-1000001 : Int32) J7 else wm_in (fun r10 J9 => (if r10 = 0 then Q (-1000001 : Int32) J9 else wm_in (fun r12 J11 => (if r12 = 0 then Q (-1000001 : Int32) J11 else wm_holdOn (fun r14 J13 => ∃ n30, wm_funeral_98 Q n30 (mset J13 32 0 (0 : Int32)) x1 x2 x3 x4 x5 x6 r14 (-1000000 : Int32) (0 : Int32)) J11 (J11 27 0))) J9 (Int32.toInt64 x6) (0 : Int64) (18 : Int64))) J7 (Int32.toInt64 x5) (1 : Int64) (500 : Int64))) J5 (Int32.toInt64 x4) (Int32.toInt64 (x3 + (1 : Int32))) (96 : Int64))) J3 (Int32.toInt64 x3) (0 : Int64) (95 : Int64))) J1 x2)) (mset J 0 0 (0 : Int32)) x1
theorem hd_funeral : yX3_funeral.cls = RX3 ∧ yX3_funeral.cls ≠ "java/lang/invoke/MethodHandle" ∧ yX3_funeral.cls ≠ "java/lang/invoke/VarHandle" ∧ (parseMethodDescriptor yX3_funeral.desc).map (fun d => d.parameters.length) = some 6 := by decide +kernel
set_option maxHeartbeats 4000000 in
set_option maxRecDepth 100000 in
theorem bm_funeral (E : ME) (C : Cx) (Q : Int32 → MS → Prop) (J : MS) (x1 : Int32) (x2 : Int32) (x3 : Int32) (x4 : Int32) (x5 : Int32) (x6 : Int32) (hC : COk C cX3_funeral RX3 (some .int) 5 110 13) (hM : MOk E C) (hQ : cx_Q C = MQ (cx_b C) (va_Qi Q (BM E) (mA E)) (cx_a C) (cx_s C) (cx_MC C) (cx_MS C) (mA E)) (h : wm_funeral Q J x1 x2 x3 x4 x5 x6) : GM E C J 0 [some (.ref (me_a E 54)), some (.int x1), some (.int x2), some (.int x3), some (.int x4), some (.int x5), some (.int x6), none, none, none, none, none, none] [] := by
  have s_306 : ∀ (K204 : MS → Int32 → Int32 → Int32 → Int32 → Int32 → Int32 → Int32 → Int32 → Prop) (hK204 : ∀ (J : MS) (b1 : Int32) (b3 : Int32) (b4 : Int32) (b6 : Int32) (b7 : Int32) (b8 : Int32) (b9 : Int32) (b10 : Int32), K204 J b1 b3 b4 b6 b7 b8 b9 b10 → GM E C J 204 [some (.ref (me_a E 54)), some (.int b1), none, some (.int b3), some (.int b4), none, some (.int b6), some (.int b7), some (.int b8), some (.int b9), some (.int b10), none, none] []) (J : MS) (a1 : Int32) (a3 : Int32) (a4 : Int32) (a6 : Int32) (a7 : Int32) (a8 : Int32) (a9 : Int32) (a10 : Int32), wm_funeral_306 Q K204 J a1 a3 a4 a6 a7 a8 a9 a10 → GM E C J 306 [some (.ref (me_a E 54)), some (.int a1), none, some (.int a3), some (.int a4), none, some (.int a6), some (.int a7), some (.int a8), some (.int a9), some (.int a10), none, none] [] := by
    intro K204 hK204 J a1 a3 a4 a6 a7 a8 a9 a10 h
    refine g_iinc (v := (a10 + (1 : Int32))) hC dX3_funeral_306 rfl rfl (by decide) rfl rfl ?_
    refine g_goto (tgt := 204) hC dX3_funeral_309 (by decide) ?_
    exact hK204 J a1 a3 a4 a6 a7 a8 a9 (a10 + (1 : Int32)) h
  have s_300 : ∀ (K204 : MS → Int32 → Int32 → Int32 → Int32 → Int32 → Int32 → Int32 → Int32 → Prop) (hK204 : ∀ (J : MS) (b1 : Int32) (b3 : Int32) (b4 : Int32) (b6 : Int32) (b7 : Int32) (b8 : Int32) (b9 : Int32) (b10 : Int32), K204 J b1 b3 b4 b6 b7 b8 b9 b10 → GM E C J 204 [some (.ref (me_a E 54)), some (.int b1), none, some (.int b3), some (.int b4), none, some (.int b6), some (.int b7), some (.int b8), some (.int b9), some (.int b10), none, none] []) (K216 : MS → Int32 → Int32 → Int32 → Int32 → Int32 → Int32 → Int32 → Int32 → Int32 → Prop) (hK216 : ∀ (J : MS) (b1 : Int32) (b3 : Int32) (b4 : Int32) (b6 : Int32) (b7 : Int32) (b8 : Int32) (b9 : Int32) (b10 : Int32) (b11 : Int32), K216 J b1 b3 b4 b6 b7 b8 b9 b10 b11 → GM E C J 216 [some (.ref (me_a E 54)), some (.int b1), none, some (.int b3), some (.int b4), none, some (.int b6), some (.int b7), some (.int b8), some (.int b9), some (.int b10), some (.int b11), none] []) (J : MS) (a1 : Int32) (a3 : Int32) (a4 : Int32) (a6 : Int32) (a7 : Int32) (a8 : Int32) (a9 : Int32) (a10 : Int32) (a11 : Int32), wm_funeral_300 Q K204 K216 J a1 a3 a4 a6 a7 a8 a9 a10 a11 → GM E C J 300 [some (.ref (me_a E 54)), some (.int a1), none, some (.int a3), some (.int a4), none, some (.int a6), some (.int a7), some (.int a8), some (.int a9), some (.int a10), some (.int a11), none] [] := by
    intro K204 hK204 K216 hK216 J a1 a3 a4 a6 a7 a8 a9 a10 a11 h
    refine g_iinc (v := (a11 + (1 : Int32))) hC dX3_funeral_300 rfl rfl (by decide) rfl rfl ?_
    refine g_goto (tgt := 216) hC dX3_funeral_303 (by decide) ?_
    exact hK216 J a1 a3 a4 a6 a7 a8 a9 a10 (a11 + (1 : Int32)) h
  have s_216 : ∀ (K204 : MS → Int32 → Int32 → Int32 → Int32 → Int32 → Int32 → Int32 → Int32 → Prop) (hK204 : ∀ (J : MS) (b1 : Int32) (b3 : Int32) (b4 : Int32) (b6 : Int32) (b7 : Int32) (b8 : Int32) (b9 : Int32) (b10 : Int32), K204 J b1 b3 b4 b6 b7 b8 b9 b10 → GM E C J 204 [some (.ref (me_a E 54)), some (.int b1), none, some (.int b3), some (.int b4), none, some (.int b6), some (.int b7), some (.int b8), some (.int b9), some (.int b10), none, none] []) (n : Nat) (J : MS) (a1 : Int32) (a3 : Int32) (a4 : Int32) (a6 : Int32) (a7 : Int32) (a8 : Int32) (a9 : Int32) (a10 : Int32) (a11 : Int32), wm_funeral_216 Q K204 n J a1 a3 a4 a6 a7 a8 a9 a10 a11 → GM E C J 216 [some (.ref (me_a E 54)), some (.int a1), none, some (.int a3), some (.int a4), none, some (.int a6), some (.int a7), some (.int a8), some (.int a9), some (.int a10), some (.int a11), none] [] := by
    intro K204 hK204 n
    induction n with
    | zero =>
      intro J a1 a3 a4 a6 a7 a8 a9 a10 a11 h
      exact False.elim h
    | succ n ih =>
      intro J a1 a3 a4 a6 a7 a8 a9 a10 a11 h
      refine g_iload hC dX3_funeral_216 rfl ?_
      refine g_bipush (v := 8) hC dX3_funeral_218 (by decide) ?_
      refine g_icmp_ge (tgt := 306) hC dX3_funeral_220 (by decide) (fun c => ?_) (fun c => ?_)
      · have h := it_p c h
        refine g_sub [true, true, false, true, true, false, true, true, true, true, true, false, false] rfl ?_
        exact s_306 K204 hK204 J a1 a3 a4 a6 a7 a8 a9 a10 h
      · have h := it_n c h
        refine g_aload_n hC dX3_funeral_223 rfl ?_
        refine gM_getS hC hM 32 dX3_funeral_224 q1535 (by decide) (by decide) rfl ?_
        refine g_iload hC dX3_funeral_227 rfl ?_
        refine g_ishr hC dX3_funeral_229 ?_
        refine g_iconst (v := 1) hC dX3_funeral_230 (by decide) ?_
        refine g_iand hC dX3_funeral_231 ?_
        refine g_iconst (v := 1) hC dX3_funeral_232 (by decide) ?_
        refine g_icmp_ne (tgt := 306) hC dX3_funeral_233 (by decide) (fun c => ?_) (fun c => ?_)
        · have h := it_n c h
          refine g_sub [true, true, false, true, true, false, true, true, true, true, true, false, false] rfl ?_
          exact s_306 K204 hK204 J a1 a3 a4 a6 a7 a8 a9 a10 h
        · have h := it_p c h
          refine g_aload_n hC dX3_funeral_236 rfl ?_
          refine gM_getA hC hM 31 dX3_funeral_237 q1534 (by decide) (by decide) rfl ?_
          refine g_iload hC dX3_funeral_240 rfl ?_
          refine gM_iald hC hM 31 16 dX3_funeral_242 rfl (by decide) h.1 ?_
          refine g_ldc (v := -1000000) hC dX3_funeral_243 q1720 ?_
          refine g_icmp_ne (tgt := 306) hC dX3_funeral_245 (by decide) (fun c => ?_) (fun c => ?_)
          · have h := it_n c h.2
            refine g_sub [true, true, false, true, true, false, true, true, true, true, true, false, false] rfl ?_
            exact s_306 K204 hK204 J a1 a3 a4 a6 a7 a8 a9 a10 h
          · have h := it_p c h.2
            refine g_iload_n hC dX3_funeral_248 rfl ?_
            refine g_iload hC dX3_funeral_249 rfl ?_
            refine g_iconst (v := 2) hC dX3_funeral_251 (by decide) ?_
            refine g_idiv hC dX3_funeral_252 (by decide) ?_
            refine g_iadd hC dX3_funeral_253 ?_
            refine g_iconst (v := 4) hC dX3_funeral_254 (by decide) ?_
            refine g_irem hC dX3_funeral_255 (by decide) ?_
            refine g_istore hC dX3_funeral_256 (by decide) rfl rfl ?_
            refine g_aload_n hC dX3_funeral_258 rfl ?_
            refine g_iload hC dX3_funeral_259 rfl ?_
            refine g_iload hC dX3_funeral_261 rfl ?_
            refine g_iload hC dX3_funeral_263 rfl ?_
            refine g_iconst (v := 2) hC dX3_funeral_265 (by decide) ?_
            refine g_irem hC dX3_funeral_266 (by decide) ?_
            refine g_iload hC dX3_funeral_267 rfl ?_
            refine g_iload_n hC dX3_funeral_269 rfl ?_
            refine g_iload hC dX3_funeral_270 rfl ?_
            refine g_iload_n hC dX3_funeral_272 rfl ?_
            refine g_iload hC dX3_funeral_273 rfl ?_
            refine gM_Vi (As := [.int a10, .int ((a1 + (a11 / (2 : Int32))) - (a1 + (a11 / (2 : Int32))) / (4 : Int32) * (4 : Int32)), .int (a11 - a11 / (2 : Int32) * (2 : Int32)), .int a7, .int a1, .int a8, .int a3, .int a4]) (rest := []) hC hM (mm_isFree (cx_l C) E hM.2.1 _ _ _ _ _ _ _ _ _ _ h) (lw_V q1880 q1882 qs61 q76 q1883) hd_isFree rfl rfl (Nat.le_of_ble_eq_true rfl) ⟨Nat.le_of_ble_eq_true rfl, Nat.le_of_ble_eq_true rfl⟩ dX3_funeral_275 ?_
            intro r20 J19 h
            refine g_if_eq (tgt := 300) hC dX3_funeral_278 (by decide) (fun c => ?_) (fun c => ?_)
            · have h := it_p c h
              refine g_sub [true, true, false, true, true, false, true, true, true, true, true, true, false] rfl ?_
              exact s_300 K204 hK204 (wm_funeral_216 Q K204 n) ih J19 a1 a3 a4 a6 a7 a8 a9 a10 a11 h
            · have h := it_n c h
              refine g_aload_n hC dX3_funeral_281 rfl ?_
              refine gM_getA hC hM 31 dX3_funeral_282 q1534 (by decide) (by decide) rfl ?_
              refine g_iload hC dX3_funeral_285 rfl ?_
              refine g_iconst (v := 2) hC dX3_funeral_287 (by decide) ?_
              refine g_iload hC dX3_funeral_288 rfl ?_
              refine g_imul hC dX3_funeral_290 ?_
              refine g_iload hC dX3_funeral_291 rfl ?_
              refine g_iconst (v := 2) hC dX3_funeral_293 (by decide) ?_
              refine g_irem hC dX3_funeral_294 (by decide) ?_
              refine g_iadd hC dX3_funeral_295 ?_
              refine gM_iast hC hM 31 16 dX3_funeral_296 rfl (by decide) h.1 ?_
              refine g_iinc (v := (a9 + (1 : Int32))) hC dX3_funeral_297 rfl rfl (by decide) rfl rfl ?_
              refine g_sub [true, true, false, true, true, false, true, true, true, true, true, true, false] rfl ?_
              exact s_300 K204 hK204 (wm_funeral_216 Q K204 n) ih (mset J19 31 (Int32.toNatClampNeg a10) (((2 : Int32) * ((a1 + (a11 / (2 : Int32))) - (a1 + (a11 / (2 : Int32))) / (4 : Int32) * (4 : Int32))) + (a11 - a11 / (2 : Int32) * (2 : Int32)))) a1 a3 a4 a6 a7 a8 (a9 + (1 : Int32)) a10 a11 h.2
  have s_204 : ∀ (n : Nat) (J : MS) (a1 : Int32) (a3 : Int32) (a4 : Int32) (a6 : Int32) (a7 : Int32) (a8 : Int32) (a9 : Int32) (a10 : Int32), wm_funeral_204 Q  n J a1 a3 a4 a6 a7 a8 a9 a10 → GM E C J 204 [some (.ref (me_a E 54)), some (.int a1), none, some (.int a3), some (.int a4), none, some (.int a6), some (.int a7), some (.int a8), some (.int a9), some (.int a10), none, none] [] := by
    intro  n
    induction n with
    | zero =>
      intro J a1 a3 a4 a6 a7 a8 a9 a10 h
      exact False.elim h
    | succ n ih =>
      intro J a1 a3 a4 a6 a7 a8 a9 a10 h
      refine g_iload hC dX3_funeral_204 rfl ?_
      refine g_aload_n hC dX3_funeral_206 rfl ?_
      refine gM_getS hC hM 24 dX3_funeral_207 q1527 (by decide) (by decide) rfl ?_
      refine g_icmp_ge (tgt := 312) hC dX3_funeral_210 (by decide) (fun c => ?_) (fun c => ?_)
      · have h := it_p c h
        refine g_iload hC dX3_funeral_312 rfl ?_
        refine g_if_ne (tgt := 322) hC dX3_funeral_314 (by decide) (fun c => ?_) (fun c => ?_)
        · have h := it_n c h
          refine g_iload hC dX3_funeral_322 rfl ?_
          refine g_iconst (v := 1) hC dX3_funeral_324 (by decide) ?_
          refine g_icmp_ne (tgt := 338) hC dX3_funeral_325 (by decide) (fun c => ?_) (fun c => ?_)
          · have h := it_n c h
            refine g_iload hC dX3_funeral_338 rfl ?_
            refine g_iconst (v := 2) hC dX3_funeral_340 (by decide) ?_
            refine g_icmp_ne (tgt := 357) hC dX3_funeral_341 (by decide) (fun c => ?_) (fun c => ?_)
            · have h := it_n c h
              refine g_aload_n hC dX3_funeral_357 rfl ?_
              refine gM_getA hC hM 31 dX3_funeral_358 q1534 (by decide) (by decide) rfl ?_
              refine g_iload hC dX3_funeral_361 rfl ?_
              refine g_iconst (v := 3) hC dX3_funeral_363 (by decide) ?_
              refine g_isub hC dX3_funeral_364 ?_
              refine gM_iald hC hM 31 16 dX3_funeral_365 rfl (by decide) h.1 ?_
              refine gM_iret hC hM hQ rfl dX3_funeral_366 h.2
            · have h := it_p c h
              refine g_aload_n hC dX3_funeral_344 rfl ?_
              refine gM_getS hC hM 32 dX3_funeral_345 q1535 (by decide) (by decide) rfl ?_
              refine gM_Si (As := [.int (J 32 0)]) (rest := []) hC hM (mm_bits (cx_l C) E hM.2.1 _ _ _ h) (lw_S q1877 q1878 q76 q1879) hd_bits rfl rfl (Nat.le_of_ble_eq_true rfl) ⟨Nat.le_of_ble_eq_true rfl, Nat.le_of_ble_eq_true rfl⟩ dX3_funeral_348 ?_
              intro r16 J15 h
              refine g_iload hC dX3_funeral_351 rfl ?_
              refine g_isub hC dX3_funeral_353 ?_
              refine g_goto (tgt := 366) hC dX3_funeral_354 (by decide) ?_
              refine gM_iret hC hM hQ rfl dX3_funeral_366 h
          · have h := it_p c h
            refine g_aload_n hC dX3_funeral_328 rfl ?_
            refine gM_getS hC hM 32 dX3_funeral_329 q1535 (by decide) (by decide) rfl ?_
            refine gM_Si (As := [.int (J 32 0)]) (rest := []) hC hM (mm_bits (cx_l C) E hM.2.1 _ _ _ h) (lw_S q1877 q1878 q76 q1879) hd_bits rfl rfl (Nat.le_of_ble_eq_true rfl) ⟨Nat.le_of_ble_eq_true rfl, Nat.le_of_ble_eq_true rfl⟩ dX3_funeral_332 ?_
            intro r18 J17 h
            refine g_goto (tgt := 366) hC dX3_funeral_335 (by decide) ?_
            refine gM_iret hC hM hQ rfl dX3_funeral_366 h
        · have h := it_p c h
          refine g_iload hC dX3_funeral_317 rfl ?_
          refine g_goto (tgt := 366) hC dX3_funeral_319 (by decide) ?_
          refine gM_iret hC hM hQ rfl dX3_funeral_366 h
      · have h := it_n c h
        refine g_iconst (v := 0) hC dX3_funeral_213 (by decide) ?_
        refine g_istore hC dX3_funeral_214 (by decide) rfl rfl ?_
        obtain ⟨n0, h0⟩ := h
        exact s_216 (wm_funeral_204 Q n) ih n0 J a1 a3 a4 a6 a7 a8 a9 a10 (0 : Int32) h0
  have s_176 : ∀ (n : Nat) (J : MS) (a1 : Int32) (a3 : Int32) (a4 : Int32) (a6 : Int32) (a7 : Int32) (a8 : Int32) (a9 : Int32), wm_funeral_176 Q  n J a1 a3 a4 a6 a7 a8 a9 → GM E C J 176 [some (.ref (me_a E 54)), some (.int a1), none, some (.int a3), some (.int a4), none, some (.int a6), some (.int a7), some (.int a8), some (.int a9), none, none, none] [] := by
    intro  n
    induction n with
    | zero =>
      intro J a1 a3 a4 a6 a7 a8 a9 h
      exact False.elim h
    | succ n ih =>
      intro J a1 a3 a4 a6 a7 a8 a9 h
      refine g_iload hC dX3_funeral_176 rfl ?_
      refine g_bipush (v := 16) hC dX3_funeral_178 (by decide) ?_
      refine g_icmp_ge (tgt := 198) hC dX3_funeral_180 (by decide) (fun c => ?_) (fun c => ?_)
      · have h := it_p c h
        refine g_iconst (v := 0) hC dX3_funeral_198 (by decide) ?_
        refine g_istore hC dX3_funeral_199 (by decide) rfl rfl ?_
        refine g_iconst (v := 0) hC dX3_funeral_201 (by decide) ?_
        refine g_istore hC dX3_funeral_202 (by decide) rfl rfl ?_
        obtain ⟨n0, h0⟩ := h
        exact s_204 n0 J a1 a3 a4 a6 a7 a8 (0 : Int32) (0 : Int32) h0
      · have h := it_n c h
        refine g_aload_n hC dX3_funeral_183 rfl ?_
        refine gM_getA hC hM 31 dX3_funeral_184 q1534 (by decide) (by decide) rfl ?_
        refine g_iload hC dX3_funeral_187 rfl ?_
        refine g_ldc (v := -1000000) hC dX3_funeral_189 q1720 ?_
        refine gM_iast hC hM 31 16 dX3_funeral_191 rfl (by decide) h.1 ?_
        refine g_iinc (v := (a9 + (1 : Int32))) hC dX3_funeral_192 rfl rfl (by decide) rfl rfl ?_
        refine g_goto (tgt := 176) hC dX3_funeral_195 (by decide) ?_
        exact ih (mset J 31 (Int32.toNatClampNeg a9) (-1000000 : Int32)) a1 a3 a4 a6 a7 a8 (a9 + (1 : Int32)) h.2
  have s_167 : ∀ (K98 : MS → Int32 → Int32 → Int32 → Int32 → Int32 → Int32 → Int32 → Int32 → Int32 → Prop) (hK98 : ∀ (J : MS) (b1 : Int32) (b2 : Int32) (b3 : Int32) (b4 : Int32) (b5 : Int32) (b6 : Int32) (b7 : Int32) (b8 : Int32) (b9 : Int32), K98 J b1 b2 b3 b4 b5 b6 b7 b8 b9 → GM E C J 98 [some (.ref (me_a E 54)), some (.int b1), some (.int b2), some (.int b3), some (.int b4), some (.int b5), some (.int b6), some (.int b7), some (.int b8), some (.int b9), none, none, none] []) (J : MS) (a1 : Int32) (a2 : Int32) (a3 : Int32) (a4 : Int32) (a5 : Int32) (a6 : Int32) (a7 : Int32) (a8 : Int32) (a9 : Int32), wm_funeral_167 Q K98 J a1 a2 a3 a4 a5 a6 a7 a8 a9 → GM E C J 167 [some (.ref (me_a E 54)), some (.int a1), some (.int a2), some (.int a3), some (.int a4), some (.int a5), some (.int a6), some (.int a7), some (.int a8), some (.int a9), none, none, none] [] := by
    intro K98 hK98 J a1 a2 a3 a4 a5 a6 a7 a8 a9 h
    refine g_iinc (v := (a9 + (1 : Int32))) hC dX3_funeral_167 rfl rfl (by decide) rfl rfl ?_
    refine g_goto (tgt := 98) hC dX3_funeral_170 (by decide) ?_
    exact hK98 J a1 a2 a3 a4 a5 a6 a7 a8 (a9 + (1 : Int32)) h
  have s_157 : ∀ (K98 : MS → Int32 → Int32 → Int32 → Int32 → Int32 → Int32 → Int32 → Int32 → Int32 → Prop) (hK98 : ∀ (J : MS) (b1 : Int32) (b2 : Int32) (b3 : Int32) (b4 : Int32) (b5 : Int32) (b6 : Int32) (b7 : Int32) (b8 : Int32) (b9 : Int32), K98 J b1 b2 b3 b4 b5 b6 b7 b8 b9 → GM E C J 98 [some (.ref (me_a E 54)), some (.int b1), some (.int b2), some (.int b3), some (.int b4), some (.int b5), some (.int b6), some (.int b7), some (.int b8), some (.int b9), none, none, none] []) (J : MS) (a1 : Int32) (a2 : Int32) (a3 : Int32) (a4 : Int32) (a5 : Int32) (a6 : Int32) (a7 : Int32) (a9 : Int32) (a10 : Int32), wm_funeral_157 Q K98 J a1 a2 a3 a4 a5 a6 a7 a9 a10 → GM E C J 157 [some (.ref (me_a E 54)), some (.int a1), some (.int a2), some (.int a3), some (.int a4), some (.int a5), some (.int a6), some (.int a7), none, some (.int a9), some (.int a10), none, none] [] := by
    intro K98 hK98 J a1 a2 a3 a4 a5 a6 a7 a9 a10 h
    refine g_iload hC dX3_funeral_157 rfl ?_
    refine g_istore hC dX3_funeral_159 (by decide) rfl rfl ?_
    refine g_aload_n hC dX3_funeral_161 rfl ?_
    refine g_iload hC dX3_funeral_162 rfl ?_
    refine gM_put hC hM 32 (ty := .int) dX3_funeral_164 q1535 (by decide) (by decide) rfl rfl rfl rfl rfl ?_
    refine g_sub [true, true, true, true, true, true, true, true, true, true, false, false, false] rfl ?_
    exact s_167 K98 hK98 (mset J 32 0 a10) a1 a2 a3 a4 a5 a6 a7 a9 a9 h
  have s_98 : ∀ (n : Nat) (J : MS) (a1 : Int32) (a2 : Int32) (a3 : Int32) (a4 : Int32) (a5 : Int32) (a6 : Int32) (a7 : Int32) (a8 : Int32) (a9 : Int32), wm_funeral_98 Q  n J a1 a2 a3 a4 a5 a6 a7 a8 a9 → GM E C J 98 [some (.ref (me_a E 54)), some (.int a1), some (.int a2), some (.int a3), some (.int a4), some (.int a5), some (.int a6), some (.int a7), some (.int a8), some (.int a9), none, none, none] [] := by
    intro  n
    induction n with
    | zero =>
      intro J a1 a2 a3 a4 a5 a6 a7 a8 a9 h
      exact False.elim h
    | succ n ih =>
      intro J a1 a2 a3 a4 a5 a6 a7 a8 a9 h
      refine g_iload hC dX3_funeral_98 rfl ?_
      refine g_iconst (v := 2) hC dX3_funeral_100 (by decide) ?_
      refine g_icmp_ge (tgt := 173) hC dX3_funeral_101 (by decide) (fun c => ?_) (fun c => ?_)
      · have h := it_p c h
        refine g_iconst (v := 0) hC dX3_funeral_173 (by decide) ?_
        refine g_istore hC dX3_funeral_174 (by decide) rfl rfl ?_
        refine g_sub [true, true, false, true, true, false, true, true, true, true, false, false, false] rfl ?_
        obtain ⟨n0, h0⟩ := h
        exact s_176 n0 J a1 a3 a4 a6 a7 a8 (0 : Int32) h0
      · have h := it_n c h
        refine g_aload_n hC dX3_funeral_104 rfl ?_
        refine g_iload hC dX3_funeral_105 rfl ?_
        refine g_iload_n hC dX3_funeral_107 rfl ?_
        refine g_iload hC dX3_funeral_108 rfl ?_
        refine g_iload_n hC dX3_funeral_110 rfl ?_
        refine g_iload_n hC dX3_funeral_111 rfl ?_
        refine g_iload hC dX3_funeral_112 rfl ?_
        refine gM_Vi (As := [.int a7, .int a1, .int a9, .int a2, .int a3, .int a4]) (rest := []) hC hM (mm_clashing (cx_l C) E hM.2.1 _ _ _ _ _ _ _ _ h) (lw_V q1873 q1875 qs60 q76 q1876) hd_clashing rfl rfl (Nat.le_of_ble_eq_true rfl) ⟨Nat.le_of_ble_eq_true rfl, Nat.le_of_ble_eq_true rfl⟩ dX3_funeral_114 ?_
        intro r25 J24 h
        refine g_istore hC dX3_funeral_117 (by decide) rfl rfl ?_
        refine g_aload_n hC dX3_funeral_119 rfl ?_
        refine gM_getA hC hM 6 dX3_funeral_120 q1509 (by decide) (by decide) rfl ?_
        refine g_iconst (v := 2) hC dX3_funeral_123 (by decide) ?_
        refine g_iload_n hC dX3_funeral_124 rfl ?_
        refine g_imul hC dX3_funeral_125 ?_
        refine g_iload hC dX3_funeral_126 rfl ?_
        refine g_iadd hC dX3_funeral_128 ?_
        refine gM_iald hC hM 6 4 dX3_funeral_129 rfl (by decide) h.1 ?_
        refine g_iload hC dX3_funeral_130 rfl ?_
        refine g_icmp_lt (tgt := 167) hC dX3_funeral_132 (by decide) (fun c => ?_) (fun c => ?_)
        · have h := it_p c h.2
          refine g_sub [true, true, true, true, true, true, true, true, true, true, false, false, false] rfl ?_
          exact s_167 (wm_funeral_98 Q n) ih J24 a1 a2 a3 a4 a5 a6 a7 a8 a9 h
        · have h := it_n c h.2
          refine g_iload hC dX3_funeral_135 rfl ?_
          refine g_ldc (v := -1000000) hC dX3_funeral_137 q1720 ?_
          refine g_icmp_eq (tgt := 157) hC dX3_funeral_139 (by decide) (fun c => ?_) (fun c => ?_)
          · have h := it_p c h
            refine g_sub [true, true, true, true, true, true, true, true, false, true, true, false, false] rfl ?_
            exact s_157 (wm_funeral_98 Q n) ih J24 a1 a2 a3 a4 a5 a6 a7 a9 r25 h
          · have h := it_n c h
            refine g_iload hC dX3_funeral_142 rfl ?_
            refine gM_Si (As := [.int r25]) (rest := []) hC hM (mm_bits (cx_l C) E hM.2.1 _ _ _ h) (lw_S q1877 q1878 q76 q1879) hd_bits rfl rfl (Nat.le_of_ble_eq_true rfl) ⟨Nat.le_of_ble_eq_true rfl, Nat.le_of_ble_eq_true rfl⟩ dX3_funeral_144 ?_
            intro r27 J26 h
            refine g_aload_n hC dX3_funeral_147 rfl ?_
            refine gM_getS hC hM 32 dX3_funeral_148 q1535 (by decide) (by decide) rfl ?_
            refine gM_Si (As := [.int (J26 32 0)]) (rest := [.int r27]) hC hM (mm_bits (cx_l C) E hM.2.1 _ _ _ h) (lw_S q1877 q1878 q76 q1879) hd_bits rfl rfl (Nat.le_of_ble_eq_true rfl) ⟨Nat.le_of_ble_eq_true rfl, Nat.le_of_ble_eq_true rfl⟩ dX3_funeral_151 ?_
            intro r29 J28 h
            refine g_icmp_ge (tgt := 167) hC dX3_funeral_154 (by decide) (fun c => ?_) (fun c => ?_)
            · have h := it_p c h
              refine g_sub [true, true, true, true, true, true, true, true, true, true, false, false, false] rfl ?_
              exact s_167 (wm_funeral_98 Q n) ih J28 a1 a2 a3 a4 a5 a6 a7 a8 a9 h
            · have h := it_n c h
              refine g_sub [true, true, true, true, true, true, true, true, false, true, true, false, false] rfl ?_
              exact s_157 (wm_funeral_98 Q n) ih J28 a1 a2 a3 a4 a5 a6 a7 a9 r25 h
  refine g_aload_n hC dX3_funeral_0 rfl ?_
  refine g_iconst (v := 0) hC dX3_funeral_1 (by decide) ?_
  refine gM_put hC hM 0 (ty := .int) dX3_funeral_2 q1503 (by decide) (by decide) rfl rfl rfl rfl rfl ?_
  refine g_iload_n hC dX3_funeral_5 rfl ?_
  refine gM_Si (As := [.int x1]) (rest := []) hC hM (mm_isHall (cx_l C) E hM.2.1 _ _ _ h) (lw_S q1784 q1785 q76 q1786) hd_isHall rfl rfl (Nat.le_of_ble_eq_true rfl) ⟨Nat.le_of_ble_eq_true rfl, Nat.le_of_ble_eq_true rfl⟩ dX3_funeral_6 ?_
  intro r2 J1 h
  refine g_if_eq (tgt := 73) hC dX3_funeral_9 (by decide) (fun c => ?_) (fun c => ?_)
  · have h := it_p c h
    refine g_ldc (v := -1000001) hC dX3_funeral_73 q1679 ?_
    refine gM_iret hC hM hQ rfl dX3_funeral_75 h
  · have h := it_n c h
    refine g_iload_n hC dX3_funeral_12 rfl ?_
    refine gM_Si (As := [.int x2]) (rest := []) hC hM (mm_isDay (cx_l C) E hM.2.1 _ _ _ h) (lw_S q1799 q1800 q76 q1801) hd_isDay rfl rfl (Nat.le_of_ble_eq_true rfl) ⟨Nat.le_of_ble_eq_true rfl, Nat.le_of_ble_eq_true rfl⟩ dX3_funeral_13 ?_
    intro r4 J3 h
    refine g_if_eq (tgt := 73) hC dX3_funeral_16 (by decide) (fun c => ?_) (fun c => ?_)
    · have h := it_p c h
      refine g_ldc (v := -1000001) hC dX3_funeral_73 q1679 ?_
      refine gM_iret hC hM hQ rfl dX3_funeral_75 h
    · have h := it_n c h
      refine g_iload_n hC dX3_funeral_19 rfl ?_
      refine g_i2l hC dX3_funeral_20 ?_
      refine g_lconst (v := 0) hC dX3_funeral_21 (by decide) ?_
      refine g_ldc2 (v := 95) hC dX3_funeral_22 q1803 ?_
      refine gM_Si (As := [.long (Int32.toInt64 x3), .long (0 : Int64), .long (95 : Int64)]) (rest := []) hC hM (mm_in (cx_l C) E hM.2.1 _ _ _ _ _ h) (lw_S q1675 q1676 q76 q1677) hd_in rfl rfl (Nat.le_of_ble_eq_true rfl) ⟨Nat.le_of_ble_eq_true rfl, Nat.le_of_ble_eq_true rfl⟩ dX3_funeral_25 ?_
      intro r6 J5 h
      refine g_if_eq (tgt := 73) hC dX3_funeral_28 (by decide) (fun c => ?_) (fun c => ?_)
      · have h := it_p c h
        refine g_ldc (v := -1000001) hC dX3_funeral_73 q1679 ?_
        refine gM_iret hC hM hQ rfl dX3_funeral_75 h
      · have h := it_n c h
        refine g_iload hC dX3_funeral_31 rfl ?_
        refine g_i2l hC dX3_funeral_33 ?_
        refine g_iload_n hC dX3_funeral_34 rfl ?_
        refine g_iconst (v := 1) hC dX3_funeral_35 (by decide) ?_
        refine g_iadd hC dX3_funeral_36 ?_
        refine g_i2l hC dX3_funeral_37 ?_
        refine g_ldc2 (v := 96) hC dX3_funeral_38 q1804 ?_
        refine gM_Si (As := [.long (Int32.toInt64 x4), .long (Int32.toInt64 (x3 + (1 : Int32))), .long (96 : Int64)]) (rest := []) hC hM (mm_in (cx_l C) E hM.2.1 _ _ _ _ _ h) (lw_S q1675 q1676 q76 q1677) hd_in rfl rfl (Nat.le_of_ble_eq_true rfl) ⟨Nat.le_of_ble_eq_true rfl, Nat.le_of_ble_eq_true rfl⟩ dX3_funeral_41 ?_
        intro r8 J7 h
        refine g_if_eq (tgt := 73) hC dX3_funeral_44 (by decide) (fun c => ?_) (fun c => ?_)
        · have h := it_p c h
          refine g_ldc (v := -1000001) hC dX3_funeral_73 q1679 ?_
          refine gM_iret hC hM hQ rfl dX3_funeral_75 h
        · have h := it_n c h
          refine g_iload hC dX3_funeral_47 rfl ?_
          refine g_i2l hC dX3_funeral_49 ?_
          refine g_lconst (v := 1) hC dX3_funeral_50 (by decide) ?_
          refine g_ldc2 (v := 500) hC dX3_funeral_51 q1871 ?_
          refine gM_Si (As := [.long (Int32.toInt64 x5), .long (1 : Int64), .long (500 : Int64)]) (rest := []) hC hM (mm_in (cx_l C) E hM.2.1 _ _ _ _ _ h) (lw_S q1675 q1676 q76 q1677) hd_in rfl rfl (Nat.le_of_ble_eq_true rfl) ⟨Nat.le_of_ble_eq_true rfl, Nat.le_of_ble_eq_true rfl⟩ dX3_funeral_54 ?_
          intro r10 J9 h
          refine g_if_eq (tgt := 73) hC dX3_funeral_57 (by decide) (fun c => ?_) (fun c => ?_)
          · have h := it_p c h
            refine g_ldc (v := -1000001) hC dX3_funeral_73 q1679 ?_
            refine gM_iret hC hM hQ rfl dX3_funeral_75 h
          · have h := it_n c h
            refine g_iload hC dX3_funeral_60 rfl ?_
            refine g_i2l hC dX3_funeral_62 ?_
            refine g_lconst (v := 0) hC dX3_funeral_63 (by decide) ?_
            refine g_ldc2 (v := 18) hC dX3_funeral_64 q1872 ?_
            refine gM_Si (As := [.long (Int32.toInt64 x6), .long (0 : Int64), .long (18 : Int64)]) (rest := []) hC hM (mm_in (cx_l C) E hM.2.1 _ _ _ _ _ h) (lw_S q1675 q1676 q76 q1677) hd_in rfl rfl (Nat.le_of_ble_eq_true rfl) ⟨Nat.le_of_ble_eq_true rfl, Nat.le_of_ble_eq_true rfl⟩ dX3_funeral_67 ?_
            intro r12 J11 h
            refine g_if_ne (tgt := 76) hC dX3_funeral_70 (by decide) (fun c => ?_) (fun c => ?_)
            · have h := it_n c h
              refine g_aload_n hC dX3_funeral_76 rfl ?_
              refine g_aload_n hC dX3_funeral_77 rfl ?_
              refine gM_getS hC hM 27 dX3_funeral_78 q1530 (by decide) (by decide) rfl ?_
              refine gM_Vi (As := [.int (J11 27 0)]) (rest := []) hC hM (mm_holdOn (cx_l C) E hM.2.1 _ _ _ h) (lw_V q1843 q1845 qs55 q76 q1846) hd_holdOn rfl rfl (Nat.le_of_ble_eq_true rfl) ⟨Nat.le_of_ble_eq_true rfl, Nat.le_of_ble_eq_true rfl⟩ dX3_funeral_81 ?_
              intro r14 J13 h
              refine g_istore hC dX3_funeral_84 (by decide) rfl rfl ?_
              refine g_ldc (v := -1000000) hC dX3_funeral_86 q1720 ?_
              refine g_istore hC dX3_funeral_88 (by decide) rfl rfl ?_
              refine g_aload_n hC dX3_funeral_90 rfl ?_
              refine g_iconst (v := 0) hC dX3_funeral_91 (by decide) ?_
              refine gM_put hC hM 32 (ty := .int) dX3_funeral_92 q1535 (by decide) (by decide) rfl rfl rfl rfl rfl ?_
              refine g_iconst (v := 0) hC dX3_funeral_95 (by decide) ?_
              refine g_istore hC dX3_funeral_96 (by decide) rfl rfl ?_
              obtain ⟨n0, h0⟩ := h
              exact s_98 n0 (mset J13 32 0 (0 : Int32)) x1 x2 x3 x4 x5 x6 r14 (-1000000 : Int32) (0 : Int32) h0
            · have h := it_p c h
              refine g_ldc (v := -1000001) hC dX3_funeral_73 q1679 ?_
              refine gM_iret hC hM hQ rfl dX3_funeral_75 h
theorem mm_funeral (l : Launch) (E : ME) (hI : mInj E) (Q : Int32 → MS → Prop) (J : MS) (x1 : Int32) (x2 : Int32) (x3 : Int32) (x4 : Int32) (x5 : Int32) (x6 : Int32) (h : wm_funeral Q J x1 x2 x3 x4 x5 x6) : MMet E l yX3_funeral cX3_funeral 13 (some .int) ({ frames := 5, cells := 0, slots := 0, locals := 110 }) [.ref (me_a E 54), .int x1, .int x2, .int x3, .int x4, .int x5, .int x6] J (va_Qi Q (BM E) (mA E)) :=
  MMet_of hI (by decide) rfl (Nat.le_of_ble_eq_true rfl) (L0 := [some (.ref (me_a E 54)), some (.int x1), some (.int x2), some (.int x3), some (.int x4), some (.int x5), some (.int x6), none, none, none, none, none, none]) rfl (fun C hC hM hl hQ => bm_funeral E C Q J x1 x2 x3 x4 x5 x6 hC hM hQ h)
/-! coin -/
def wm_coin (Q : Int32 → MS → Prop) (J : MS) (x1 : Int32) (x2 : Int32) (x3 : Int32) (x4 : Int32) : Prop :=
  wm_isHall (fun r2 J1 => (if r2 = 0 then Q (-1000001 : Int32) J1 else wm_isDay (fun r4 J3 => (if r4 = 0 then Q (-1000001 : Int32) J3 else wm_in (fun r6 J5 => (if r6 = 0 then Q (-1000001 : Int32) J5 else wm_in (fun r8 J7 => (if r8 = 0 then Q (-1000001 : Int32) J7 else (if (J7 33 0) = (40 : Int32) then Q (-1000003 : Int32) J7 else vp_in (J7 33 0) 40 ∧ vp_in ((mset J7 34 (Int32.toNatClampNeg (J7 33 0)) x1) 33 0) 40 ∧ vp_in ((mset (mset J7 34 (Int32.toNatClampNeg (J7 33 0)) x1) 35 (Int32.toNatClampNeg ((mset J7 34 (Int32.toNatClampNeg (J7 33 0)) x1) 33 0)) (((96 : Int32) * x2) + x3)) 33 0) 40 ∧ Q ((mset (mset (mset (mset J7 34 (Int32.toNatClampNeg (J7 33 0)) x1) 35 (Int32.toNatClampNeg ((mset J7 34 (Int32.toNatClampNeg (J7 33 0)) x1) 33 0)) (((96 : Int32) * x2) + x3)) 36 (Int32.toNatClampNeg ((mset (mset J7 34 (Int32.toNatClampNeg (J7 33 0)) x1) 35 (Int32.toNatClampNeg ((mset J7 34 (Int32.toNatClampNeg (J7 33 0)) x1) 33 0)) (((96 : Int32) * x2) + x3)) 33 0)) x4) 33 0 (((mset (mset (mset J7 34 (Int32.toNatClampNeg (J7 33 0)) x1) 35 (Int32.toNatClampNeg ((mset J7 34 (Int32.toNatClampNeg (J7 33 0)) x1) 33 0)) (((96 : Int32) * x2) + x3)) 36 (Int32.toNatClampNeg ((mset (mset J7 34 (Int32.toNatClampNeg (J7 33 0)) x1) 35 (Int32.toNatClampNeg ((mset J7 34 (Int32.toNatClampNeg (J7 33 0)) x1) 33 0)) (((96 : Int32) * x2) + x3)) 33 0)) x4) 33 0) + (1 : Int32))) 33 0) (mset (mset (mset (mset J7 34 (Int32.toNatClampNeg (J7 33 0)) x1) 35 (Int32.toNatClampNeg ((mset J7 34 (Int32.toNatClampNeg (J7 33 0)) x1) 33 0)) (((96 : Int32) * x2) + x3)) 36 (Int32.toNatClampNeg ((mset (mset J7 34 (Int32.toNatClampNeg (J7 33 0)) x1) 35 (Int32.toNatClampNeg ((mset J7 34 (Int32.toNatClampNeg (J7 33 0)) x1) 33 0)) (((96 : Int32) * x2) + x3)) 33 0)) x4) 33 0 (((mset (mset (mset J7 34 (Int32.toNatClampNeg (J7 33 0)) x1) 35 (Int32.toNatClampNeg ((mset J7 34 (Int32.toNatClampNeg (J7 33 0)) x1) 33 0)) (((96 : Int32) * x2) + x3)) 36 (Int32.toNatClampNeg ((mset (mset J7 34 (Int32.toNatClampNeg (J7 33 0)) x1) 35 (Int32.toNatClampNeg ((mset J7 34 (Int32.toNatClampNeg (J7 33 0)) x1) 33 0)) (((96 : Int32) * x2) + x3)) 33 0)) x4) 33 0) + (1 : Int32)))))) J5 (Int32.toInt64 x4) (1 : Int64) (600 : Int64))) J3 (Int32.toInt64 x3) (0 : Int64) (95 : Int64))) J1 x2)) (mset J 0 0 (0 : Int32)) x1
theorem hd_coin : yX3_coin.cls = RX3 ∧ yX3_coin.cls ≠ "java/lang/invoke/MethodHandle" ∧ yX3_coin.cls ≠ "java/lang/invoke/VarHandle" ∧ (parseMethodDescriptor yX3_coin.desc).map (fun d => d.parameters.length) = some 4 := by decide +kernel
set_option maxHeartbeats 4000000 in
set_option maxRecDepth 100000 in
theorem bm_coin (E : ME) (C : Cx) (Q : Int32 → MS → Prop) (J : MS) (x1 : Int32) (x2 : Int32) (x3 : Int32) (x4 : Int32) (hC : COk C cX3_coin RX3 (some .int) 3 61 5) (hM : MOk E C) (hQ : cx_Q C = MQ (cx_b C) (va_Qi Q (BM E) (mA E)) (cx_a C) (cx_s C) (cx_MC C) (cx_MS C) (mA E)) (h : wm_coin Q J x1 x2 x3 x4) : GM E C J 0 [some (.ref (me_a E 54)), some (.int x1), some (.int x2), some (.int x3), some (.int x4)] [] := by
  refine g_aload_n hC dX3_coin_0 rfl ?_
  refine g_iconst (v := 0) hC dX3_coin_1 (by decide) ?_
  refine gM_put hC hM 0 (ty := .int) dX3_coin_2 q1503 (by decide) (by decide) rfl rfl rfl rfl rfl ?_
  refine g_iload_n hC dX3_coin_5 rfl ?_
  refine gM_Si (As := [.int x1]) (rest := []) hC hM (mm_isHall (cx_l C) E hM.2.1 _ _ _ h) (lw_S q1784 q1785 q76 q1786) hd_isHall rfl rfl (Nat.le_of_ble_eq_true rfl) ⟨Nat.le_of_ble_eq_true rfl, Nat.le_of_ble_eq_true rfl⟩ dX3_coin_6 ?_
  intro r2 J1 h
  refine g_if_eq (tgt := 44) hC dX3_coin_9 (by decide) (fun c => ?_) (fun c => ?_)
  · have h := it_p c h
    refine g_ldc (v := -1000001) hC dX3_coin_44 q1679 ?_
    refine gM_iret hC hM hQ rfl dX3_coin_46 h
  · have h := it_n c h
    refine g_iload_n hC dX3_coin_12 rfl ?_
    refine gM_Si (As := [.int x2]) (rest := []) hC hM (mm_isDay (cx_l C) E hM.2.1 _ _ _ h) (lw_S q1799 q1800 q76 q1801) hd_isDay rfl rfl (Nat.le_of_ble_eq_true rfl) ⟨Nat.le_of_ble_eq_true rfl, Nat.le_of_ble_eq_true rfl⟩ dX3_coin_13 ?_
    intro r4 J3 h
    refine g_if_eq (tgt := 44) hC dX3_coin_16 (by decide) (fun c => ?_) (fun c => ?_)
    · have h := it_p c h
      refine g_ldc (v := -1000001) hC dX3_coin_44 q1679 ?_
      refine gM_iret hC hM hQ rfl dX3_coin_46 h
    · have h := it_n c h
      refine g_iload_n hC dX3_coin_19 rfl ?_
      refine g_i2l hC dX3_coin_20 ?_
      refine g_lconst (v := 0) hC dX3_coin_21 (by decide) ?_
      refine g_ldc2 (v := 95) hC dX3_coin_22 q1803 ?_
      refine gM_Si (As := [.long (Int32.toInt64 x3), .long (0 : Int64), .long (95 : Int64)]) (rest := []) hC hM (mm_in (cx_l C) E hM.2.1 _ _ _ _ _ h) (lw_S q1675 q1676 q76 q1677) hd_in rfl rfl (Nat.le_of_ble_eq_true rfl) ⟨Nat.le_of_ble_eq_true rfl, Nat.le_of_ble_eq_true rfl⟩ dX3_coin_25 ?_
      intro r6 J5 h
      refine g_if_eq (tgt := 44) hC dX3_coin_28 (by decide) (fun c => ?_) (fun c => ?_)
      · have h := it_p c h
        refine g_ldc (v := -1000001) hC dX3_coin_44 q1679 ?_
        refine gM_iret hC hM hQ rfl dX3_coin_46 h
      · have h := it_n c h
        refine g_iload hC dX3_coin_31 rfl ?_
        refine g_i2l hC dX3_coin_33 ?_
        refine g_lconst (v := 1) hC dX3_coin_34 (by decide) ?_
        refine g_ldc2 (v := 600) hC dX3_coin_35 q1888 ?_
        refine gM_Si (As := [.long (Int32.toInt64 x4), .long (1 : Int64), .long (600 : Int64)]) (rest := []) hC hM (mm_in (cx_l C) E hM.2.1 _ _ _ _ _ h) (lw_S q1675 q1676 q76 q1677) hd_in rfl rfl (Nat.le_of_ble_eq_true rfl) ⟨Nat.le_of_ble_eq_true rfl, Nat.le_of_ble_eq_true rfl⟩ dX3_coin_38 ?_
        intro r8 J7 h
        refine g_if_ne (tgt := 47) hC dX3_coin_41 (by decide) (fun c => ?_) (fun c => ?_)
        · have h := it_n c h
          refine g_aload_n hC dX3_coin_47 rfl ?_
          refine gM_getS hC hM 33 dX3_coin_48 q1536 (by decide) (by decide) rfl ?_
          refine g_bipush (v := 40) hC dX3_coin_51 (by decide) ?_
          refine g_icmp_ne (tgt := 59) hC dX3_coin_53 (by decide) (fun c => ?_) (fun c => ?_)
          · have h := it_n c h
            refine g_aload_n hC dX3_coin_59 rfl ?_
            refine gM_getA hC hM 34 dX3_coin_60 q1537 (by decide) (by decide) rfl ?_
            refine g_aload_n hC dX3_coin_63 rfl ?_
            refine gM_getS hC hM 33 dX3_coin_64 q1536 (by decide) (by decide) rfl ?_
            refine g_iload_n hC dX3_coin_67 rfl ?_
            refine gM_iast hC hM 34 17 dX3_coin_68 rfl (by decide) h.1 ?_
            refine g_aload_n hC dX3_coin_69 rfl ?_
            refine gM_getA hC hM 35 dX3_coin_70 q1538 (by decide) (by decide) rfl ?_
            refine g_aload_n hC dX3_coin_73 rfl ?_
            refine gM_getS hC hM 33 dX3_coin_74 q1536 (by decide) (by decide) rfl ?_
            refine g_bipush (v := 96) hC dX3_coin_77 (by decide) ?_
            refine g_iload_n hC dX3_coin_79 rfl ?_
            refine g_imul hC dX3_coin_80 ?_
            refine g_iload_n hC dX3_coin_81 rfl ?_
            refine g_iadd hC dX3_coin_82 ?_
            refine gM_iast hC hM 35 18 dX3_coin_83 rfl (by decide) h.2.1 ?_
            refine g_aload_n hC dX3_coin_84 rfl ?_
            refine gM_getA hC hM 36 dX3_coin_85 q1539 (by decide) (by decide) rfl ?_
            refine g_aload_n hC dX3_coin_88 rfl ?_
            refine gM_getS hC hM 33 dX3_coin_89 q1536 (by decide) (by decide) rfl ?_
            refine g_iload hC dX3_coin_92 rfl ?_
            refine gM_iast hC hM 36 19 dX3_coin_94 rfl (by decide) h.2.2.1 ?_
            refine g_aload_n hC dX3_coin_95 rfl ?_
            refine g_dup hC dX3_coin_96 rfl ?_
            refine gM_getS hC hM 33 dX3_coin_97 q1536 (by decide) (by decide) rfl ?_
            refine g_iconst (v := 1) hC dX3_coin_100 (by decide) ?_
            refine g_iadd hC dX3_coin_101 ?_
            refine gM_put hC hM 33 (ty := .int) dX3_coin_102 q1536 (by decide) (by decide) rfl rfl rfl rfl rfl ?_
            refine g_aload_n hC dX3_coin_105 rfl ?_
            refine gM_getS hC hM 33 dX3_coin_106 q1536 (by decide) (by decide) rfl ?_
            refine gM_iret hC hM hQ rfl dX3_coin_109 h.2.2.2
          · have h := it_p c h
            refine g_ldc (v := -1000003) hC dX3_coin_56 q1702 ?_
            refine gM_iret hC hM hQ rfl dX3_coin_58 h
        · have h := it_p c h
          refine g_ldc (v := -1000001) hC dX3_coin_44 q1679 ?_
          refine gM_iret hC hM hQ rfl dX3_coin_46 h
theorem mm_coin (l : Launch) (E : ME) (hI : mInj E) (Q : Int32 → MS → Prop) (J : MS) (x1 : Int32) (x2 : Int32) (x3 : Int32) (x4 : Int32) (h : wm_coin Q J x1 x2 x3 x4) : MMet E l yX3_coin cX3_coin 5 (some .int) ({ frames := 3, cells := 0, slots := 0, locals := 61 }) [.ref (me_a E 54), .int x1, .int x2, .int x3, .int x4] J (va_Qi Q (BM E) (mA E)) :=
  MMet_of hI (by decide) rfl (Nat.le_of_ble_eq_true rfl) (L0 := [some (.ref (me_a E 54)), some (.int x1), some (.int x2), some (.int x3), some (.int x4)]) rfl (fun C hC hM hl hQ => bm_coin E C Q J x1 x2 x3 x4 hC hM hQ h)
/-! isTime -/
def wm_isTime (Q : Int32 → MS → Prop) (J : MS) (x0 : Int32) (x1 : Int32) (x2 : Int32) : Prop :=
  wm_isHall (fun r2 J1 => (if r2 = 0 then Q (0 : Int32) J1 else wm_isDay (fun r4 J3 => (if r4 = 0 then Q (0 : Int32) J3 else wm_in (fun r6 J5 => (if r6 = 0 then Q (0 : Int32) J5 else Q (1 : Int32) J5)) J3 (Int32.toInt64 x2) (0 : Int64) (96 : Int64))) J1 x1)) J x0
theorem hd_isTime : yX3_isTime.cls = RX3 ∧ yX3_isTime.cls ≠ "java/lang/invoke/MethodHandle" ∧ yX3_isTime.cls ≠ "java/lang/invoke/VarHandle" ∧ (parseMethodDescriptor yX3_isTime.desc).map (fun d => d.parameters.length) = some 3 := by decide +kernel
set_option maxHeartbeats 4000000 in
set_option maxRecDepth 100000 in
theorem bm_isTime (E : ME) (C : Cx) (Q : Int32 → MS → Prop) (J : MS) (x0 : Int32) (x1 : Int32) (x2 : Int32) (hC : COk C cX3_isTime RX3 (some .boolean) 3 61 3) (hM : MOk E C) (hQ : cx_Q C = MQ (cx_b C) (va_Qi Q (BM E) (mA E)) (cx_a C) (cx_s C) (cx_MC C) (cx_MS C) (mA E)) (h : wm_isTime Q J x0 x1 x2) : GM E C J 0 [some (.int x0), some (.int x1), some (.int x2)] [] := by
  refine g_iload_n hC dX3_isTime_0 rfl ?_
  refine gM_Si (As := [.int x0]) (rest := []) hC hM (mm_isHall (cx_l C) E hM.2.1 _ _ _ h) (lw_S q1784 q1785 q76 q1786) hd_isHall rfl rfl (Nat.le_of_ble_eq_true rfl) ⟨Nat.le_of_ble_eq_true rfl, Nat.le_of_ble_eq_true rfl⟩ dX3_isTime_1 ?_
  intro r2 J1 h
  refine g_if_eq (tgt := 30) hC dX3_isTime_4 (by decide) (fun c => ?_) (fun c => ?_)
  · have h := it_p c h
    refine g_iconst (v := 0) hC dX3_isTime_30 (by decide) ?_
    refine gM_zret hC hM hQ rfl rfl dX3_isTime_31 h
  · have h := it_n c h
    refine g_iload_n hC dX3_isTime_7 rfl ?_
    refine gM_Si (As := [.int x1]) (rest := []) hC hM (mm_isDay (cx_l C) E hM.2.1 _ _ _ h) (lw_S q1799 q1800 q76 q1801) hd_isDay rfl rfl (Nat.le_of_ble_eq_true rfl) ⟨Nat.le_of_ble_eq_true rfl, Nat.le_of_ble_eq_true rfl⟩ dX3_isTime_8 ?_
    intro r4 J3 h
    refine g_if_eq (tgt := 30) hC dX3_isTime_11 (by decide) (fun c => ?_) (fun c => ?_)
    · have h := it_p c h
      refine g_iconst (v := 0) hC dX3_isTime_30 (by decide) ?_
      refine gM_zret hC hM hQ rfl rfl dX3_isTime_31 h
    · have h := it_n c h
      refine g_iload_n hC dX3_isTime_14 rfl ?_
      refine g_i2l hC dX3_isTime_15 ?_
      refine g_lconst (v := 0) hC dX3_isTime_16 (by decide) ?_
      refine g_ldc2 (v := 96) hC dX3_isTime_17 q1804 ?_
      refine gM_Si (As := [.long (Int32.toInt64 x2), .long (0 : Int64), .long (96 : Int64)]) (rest := []) hC hM (mm_in (cx_l C) E hM.2.1 _ _ _ _ _ h) (lw_S q1675 q1676 q76 q1677) hd_in rfl rfl (Nat.le_of_ble_eq_true rfl) ⟨Nat.le_of_ble_eq_true rfl, Nat.le_of_ble_eq_true rfl⟩ dX3_isTime_20 ?_
      intro r6 J5 h
      refine g_if_eq (tgt := 30) hC dX3_isTime_23 (by decide) (fun c => ?_) (fun c => ?_)
      · have h := it_p c h
        refine g_iconst (v := 0) hC dX3_isTime_30 (by decide) ?_
        refine gM_zret hC hM hQ rfl rfl dX3_isTime_31 h
      · have h := it_n c h
        refine g_iconst (v := 1) hC dX3_isTime_26 (by decide) ?_
        refine g_goto (tgt := 31) hC dX3_isTime_27 (by decide) ?_
        refine gM_zret hC hM hQ rfl rfl dX3_isTime_31 h
theorem mm_isTime (l : Launch) (E : ME) (hI : mInj E) (Q : Int32 → MS → Prop) (J : MS) (x0 : Int32) (x1 : Int32) (x2 : Int32) (h : wm_isTime Q J x0 x1 x2) : MMet E l yX3_isTime cX3_isTime 3 (some .boolean) ({ frames := 3, cells := 0, slots := 0, locals := 61 }) [.int x0, .int x1, .int x2] J (va_Qi Q (BM E) (mA E)) :=
  MMet_of hI (by decide) rfl (Nat.le_of_ble_eq_true rfl) (L0 := [some (.int x0), some (.int x1), some (.int x2)]) rfl (fun C hC hM hl hQ => bm_isTime E C Q J x0 x1 x2 hC hM hQ h)
/-! runTill -/
def wm_runTill_227 (Q : Int32 → MS → Prop) (K11 : MS → Int32 → Int32 → Int64 → Int32 → Int32 → Int32 → Prop) (J : MS) (a1 : Int32) (a2 : Int32) (a3 : Int64) (a5 : Int32) (a6 : Int32) (a7 : Int32) : Prop :=
  K11 J a1 a2 a3 a5 a6 a7
def wm_runTill_224 (Q : Int32 → MS → Prop) (K11 : MS → Int32 → Int32 → Int64 → Int32 → Int32 → Int32 → Prop) (J : MS) (a1 : Int32) (a2 : Int32) (a3 : Int64) (a5 : Int32) (a7 : Int32) (s0 : Int32) (s1 : Int32) : Prop :=
  wm_runTill_227 Q K11 J a1 a2 a3 a5 (s0 + s1) a7
def wm_runTill_204 (Q : Int32 → MS → Prop) (K11 : MS → Int32 → Int32 → Int64 → Int32 → Int32 → Int32 → Prop) (J : MS) (a1 : Int32) (a2 : Int32) (a3 : Int64) (a5 : Int32) (a6 : Int32) (a7 : Int32) (a9 : Int32) (s0 : Int32) : Prop :=
  (if s0 ≤ a9 then wm_runTill_224 Q K11 J a1 a2 a3 a5 a7 a6 (0 : Int32) else wm_runTill_224 Q K11 J a1 a2 a3 a5 a7 a6 (s0 - a9))
def wm_runTill_172 (Q : Int32 → MS → Prop) (K11 : MS → Int32 → Int32 → Int64 → Int32 → Int32 → Int32 → Prop) (J : MS) (a1 : Int32) (a2 : Int32) (a3 : Int64) (a6 : Int32) (a7 : Int32) (a8 : Int32) (s0 : Int32) : Prop :=
  vp_in a8 40 ∧ (if ((15 : Int32) * a2) ≤ (s0 + (J 36 (Int32.toNatClampNeg a8))) then wm_runTill_204 Q K11 J a1 a2 a3 (s0 + (J 36 (Int32.toNatClampNeg a8))) a6 a7 s0 ((15 : Int32) * a2) else wm_runTill_204 Q K11 J a1 a2 a3 (s0 + (J 36 (Int32.toNatClampNeg a8))) a6 a7 s0 (s0 + (J 36 (Int32.toNatClampNeg a8))))
def wm_runTill_128 (Q : Int32 → MS → Prop) (K11 : MS → Int32 → Int32 → Int64 → Int32 → Int32 → Int32 → Prop) (J : MS) (a1 : Int32) (a2 : Int32) (a3 : Int64) (a5 : Int32) (a6 : Int32) (a8 : Int32) (s0 : Int32) : Prop :=
  (if s0 = 0 then wm_runTill_227 Q K11 J a1 a2 a3 a5 a6 s0 else vp_in a8 40 ∧ (if a5 ≤ ((15 : Int32) * (J 35 (Int32.toNatClampNeg a8))) then vp_in a8 40 ∧ wm_runTill_172 Q K11 J a1 a2 (a3 ||| ((1 : Int64) <<< (Int32.toInt64 a8 &&& 63))) a6 s0 a8 ((15 : Int32) * (J 35 (Int32.toNatClampNeg a8))) else wm_runTill_172 Q K11 J a1 a2 (a3 ||| ((1 : Int64) <<< (Int32.toInt64 a8 &&& 63))) a6 s0 a8 a5))
def wm_runTill_108 (Q : Int32 → MS → Prop) (K11 : MS → Int32 → Int32 → Int64 → Int32 → Int32 → Int32 → Prop) (K23 : MS → Int32 → Int32 → Int64 → Int32 → Int32 → Int32 → Int32 → Prop) (J : MS) (a1 : Int32) (a2 : Int32) (a3 : Int64) (a5 : Int32) (a6 : Int32) (a9 : Int32) (s0 : Int32) : Prop :=
  K23 J a1 a2 a3 a5 a6 s0 (a9 + (1 : Int32))
def wm_runTill_106 (Q : Int32 → MS → Prop) (K11 : MS → Int32 → Int32 → Int64 → Int32 → Int32 → Int32 → Prop) (K23 : MS → Int32 → Int32 → Int64 → Int32 → Int32 → Int32 → Int32 → Prop) (J : MS) (a1 : Int32) (a2 : Int32) (a3 : Int64) (a5 : Int32) (a6 : Int32) (a8 : Int32) (a9 : Int32) : Prop :=
  wm_runTill_108 Q K11 K23 J a1 a2 a3 a5 a6 a9 a8
def wm_runTill_101 (Q : Int32 → MS → Prop) (K11 : MS → Int32 → Int32 → Int64 → Int32 → Int32 → Int32 → Prop) (K23 : MS → Int32 → Int32 → Int64 → Int32 → Int32 → Int32 → Int32 → Prop) (J : MS) (a1 : Int32) (a2 : Int32) (a3 : Int64) (a5 : Int32) (a6 : Int32) (a9 : Int32) : Prop :=
  wm_runTill_108 Q K11 K23 J a1 a2 a3 a5 a6 a9 a9
def wm_runTill_70 (Q : Int32 → MS → Prop) (K11 : MS → Int32 → Int32 → Int64 → Int32 → Int32 → Int32 → Prop) (K23 : MS → Int32 → Int32 → Int64 → Int32 → Int32 → Int32 → Int32 → Prop) (J : MS) (a1 : Int32) (a2 : Int32) (a3 : Int64) (a5 : Int32) (a6 : Int32) (a8 : Int32) (a9 : Int32) (s0 : Int32) : Prop :=
  (if s0 = 0 then wm_runTill_106 Q K11 K23 J a1 a2 a3 a5 a6 a8 a9 else (if a8 = (-1000000 : Int32) then wm_runTill_101 Q K11 K23 J a1 a2 a3 a5 a6 a9 else vp_in a9 40 ∧ vp_in a8 40 ∧ (if (J 35 (Int32.toNatClampNeg a8)) ≤ (J 35 (Int32.toNatClampNeg a9)) then wm_runTill_106 Q K11 K23 J a1 a2 a3 a5 a6 a8 a9 else wm_runTill_101 Q K11 K23 J a1 a2 a3 a5 a6 a9)))
def wm_runTill_69 (Q : Int32 → MS → Prop) (K11 : MS → Int32 → Int32 → Int64 → Int32 → Int32 → Int32 → Prop) (K23 : MS → Int32 → Int32 → Int64 → Int32 → Int32 → Int32 → Int32 → Prop) (J : MS) (a1 : Int32) (a2 : Int32) (a3 : Int64) (a5 : Int32) (a6 : Int32) (a8 : Int32) (a9 : Int32) : Prop :=
  wm_runTill_70 Q K11 K23 J a1 a2 a3 a5 a6 a8 a9 (0 : Int32)
def wm_runTill_23 (Q : Int32 → MS → Prop) (K11 : MS → Int32 → Int32 → Int64 → Int32 → Int32 → Int32 → Prop) : Nat → MS → Int32 → Int32 → Int64 → Int32 → Int32 → Int32 → Int32 → Prop
  | 0, _, _, _, _, _, _, _, _ => False
  | n + 1, J, a1, a2, a3, a5, a6, a8, a9 => (if (J 33 0) ≤ a9 then (if a8 = (-1000000 : Int32) then wm_runTill_128 Q K11 J a1 a2 a3 a5 a6 a8 (0 : Int32) else wm_runTill_128 Q K11 J a1 a2 a3 a5 a6 a8 (1 : Int32)) else vp_in a9 40 ∧ (if (J 34 (Int32.toNatClampNeg a9)) = a1 then vp_in a9 40 ∧ (if a2 < (J 35 (Int32.toNatClampNeg a9)) then wm_runTill_69 Q K11 (wm_runTill_23 Q K11 n) J a1 a2 a3 a5 a6 a8 a9 else (if (lg_cmp ((a3 >>> (Int32.toInt64 a9 &&& 63)) &&& (1 : Int64)) (0 : Int64)) = 0 then wm_runTill_70 Q K11 (wm_runTill_23 Q K11 n) J a1 a2 a3 a5 a6 a8 a9 (1 : Int32) else wm_runTill_69 Q K11 (wm_runTill_23 Q K11 n) J a1 a2 a3 a5 a6 a8 a9)) else wm_runTill_69 Q K11 (wm_runTill_23 Q K11 n) J a1 a2 a3 a5 a6 a8 a9))
def wm_runTill_11 (Q : Int32 → MS → Prop) : Nat → MS → Int32 → Int32 → Int64 → Int32 → Int32 → Int32 → Prop
  | 0, _, _, _, _, _, _, _ => False
  | n + 1, J, a1, a2, a3, a5, a6, a7 => (if a7 = 0 then Q a6 J else ∃ n1, wm_runTill_23 Q (wm_runTill_11 Q n) n1 J a1 a2 a3 a5 a6 (-1000000 : Int32) (0 : Int32))
def wm_runTill (Q : Int32 → MS → Prop) (J : MS) (x1 : Int32) (x2 : Int32) : Prop :=
  ∃ n2, wm_runTill_11 Q n2 J x1 x2 (0 : Int64) (0 : Int32) (0 : Int32) (1 : Int32)
theorem hd_runTill : yX3_runTill.cls = RX3 ∧ yX3_runTill.cls ≠ "java/lang/invoke/MethodHandle" ∧ yX3_runTill.cls ≠ "java/lang/invoke/VarHandle" ∧ (parseMethodDescriptor yX3_runTill.desc).map (fun d => d.parameters.length) = some 2 := by decide +kernel
set_option maxHeartbeats 4000000 in
set_option maxRecDepth 100000 in
theorem bm_runTill (E : ME) (C : Cx) (Q : Int32 → MS → Prop) (J : MS) (x1 : Int32) (x2 : Int32) (hC : COk C cX3_runTill RX3 (some .int) 1 16 11) (hM : MOk E C) (hQ : cx_Q C = MQ (cx_b C) (va_Qi Q (BM E) (mA E)) (cx_a C) (cx_s C) (cx_MC C) (cx_MS C) (mA E)) (h : wm_runTill Q J x1 x2) : GM E C J 0 [some (.ref (me_a E 54)), some (.int x1), some (.int x2), none, none, none, none, none, none, none, none] [] := by
  have s_227 : ∀ (K11 : MS → Int32 → Int32 → Int64 → Int32 → Int32 → Int32 → Prop) (hK11 : ∀ (J : MS) (b1 : Int32) (b2 : Int32) (b3 : Int64) (b5 : Int32) (b6 : Int32) (b7 : Int32), K11 J b1 b2 b3 b5 b6 b7 → GM E C J 11 [some (.ref (me_a E 54)), some (.int b1), some (.int b2), some (.long b3), none, some (.int b5), some (.int b6), some (.int b7), none, none, none] []) (J : MS) (a1 : Int32) (a2 : Int32) (a3 : Int64) (a5 : Int32) (a6 : Int32) (a7 : Int32), wm_runTill_227 Q K11 J a1 a2 a3 a5 a6 a7 → GM E C J 227 [some (.ref (me_a E 54)), some (.int a1), some (.int a2), some (.long a3), none, some (.int a5), some (.int a6), some (.int a7), none, none, none] [] := by
    intro K11 hK11 J a1 a2 a3 a5 a6 a7 h
    refine g_goto (tgt := 11) hC dX3_runTill_227 (by decide) ?_
    exact hK11 J a1 a2 a3 a5 a6 a7 h
  have s_224 : ∀ (K11 : MS → Int32 → Int32 → Int64 → Int32 → Int32 → Int32 → Prop) (hK11 : ∀ (J : MS) (b1 : Int32) (b2 : Int32) (b3 : Int64) (b5 : Int32) (b6 : Int32) (b7 : Int32), K11 J b1 b2 b3 b5 b6 b7 → GM E C J 11 [some (.ref (me_a E 54)), some (.int b1), some (.int b2), some (.long b3), none, some (.int b5), some (.int b6), some (.int b7), none, none, none] []) (J : MS) (a1 : Int32) (a2 : Int32) (a3 : Int64) (a5 : Int32) (a7 : Int32) (s0 : Int32) (s1 : Int32), wm_runTill_224 Q K11 J a1 a2 a3 a5 a7 s0 s1 → GM E C J 224 [some (.ref (me_a E 54)), some (.int a1), some (.int a2), some (.long a3), none, some (.int a5), none, some (.int a7), none, none, none] [.int s1, .int s0] := by
    intro K11 hK11 J a1 a2 a3 a5 a7 s0 s1 h
    refine g_iadd hC dX3_runTill_224 ?_
    refine g_istore hC dX3_runTill_225 (by decide) rfl rfl ?_
    exact s_227 K11 hK11 J a1 a2 a3 a5 (s0 + s1) a7 h
  have s_204 : ∀ (K11 : MS → Int32 → Int32 → Int64 → Int32 → Int32 → Int32 → Prop) (hK11 : ∀ (J : MS) (b1 : Int32) (b2 : Int32) (b3 : Int64) (b5 : Int32) (b6 : Int32) (b7 : Int32), K11 J b1 b2 b3 b5 b6 b7 → GM E C J 11 [some (.ref (me_a E 54)), some (.int b1), some (.int b2), some (.long b3), none, some (.int b5), some (.int b6), some (.int b7), none, none, none] []) (J : MS) (a1 : Int32) (a2 : Int32) (a3 : Int64) (a5 : Int32) (a6 : Int32) (a7 : Int32) (a9 : Int32) (s0 : Int32), wm_runTill_204 Q K11 J a1 a2 a3 a5 a6 a7 a9 s0 → GM E C J 204 [some (.ref (me_a E 54)), some (.int a1), some (.int a2), some (.long a3), none, some (.int a5), some (.int a6), some (.int a7), none, some (.int a9), none] [.int s0] := by
    intro K11 hK11 J a1 a2 a3 a5 a6 a7 a9 s0 h
    refine g_istore hC dX3_runTill_204 (by decide) rfl rfl ?_
    refine g_iload hC dX3_runTill_206 rfl ?_
    refine g_iload hC dX3_runTill_208 rfl ?_
    refine g_iload hC dX3_runTill_210 rfl ?_
    refine g_icmp_le (tgt := 223) hC dX3_runTill_212 (by decide) (fun c => ?_) (fun c => ?_)
    · have h := it_p c h
      refine g_iconst (v := 0) hC dX3_runTill_223 (by decide) ?_
      refine g_sub [true, true, true, true, false, true, false, true, false, false, false] rfl ?_
      exact s_224 K11 hK11 J a1 a2 a3 a5 a7 a6 (0 : Int32) h
    · have h := it_n c h
      refine g_iload hC dX3_runTill_215 rfl ?_
      refine g_iload hC dX3_runTill_217 rfl ?_
      refine g_isub hC dX3_runTill_219 ?_
      refine g_goto (tgt := 224) hC dX3_runTill_220 (by decide) ?_
      refine g_sub [true, true, true, true, false, true, false, true, false, false, false] rfl ?_
      exact s_224 K11 hK11 J a1 a2 a3 a5 a7 a6 (s0 - a9) h
  have s_172 : ∀ (K11 : MS → Int32 → Int32 → Int64 → Int32 → Int32 → Int32 → Prop) (hK11 : ∀ (J : MS) (b1 : Int32) (b2 : Int32) (b3 : Int64) (b5 : Int32) (b6 : Int32) (b7 : Int32), K11 J b1 b2 b3 b5 b6 b7 → GM E C J 11 [some (.ref (me_a E 54)), some (.int b1), some (.int b2), some (.long b3), none, some (.int b5), some (.int b6), some (.int b7), none, none, none] []) (J : MS) (a1 : Int32) (a2 : Int32) (a3 : Int64) (a6 : Int32) (a7 : Int32) (a8 : Int32) (s0 : Int32), wm_runTill_172 Q K11 J a1 a2 a3 a6 a7 a8 s0 → GM E C J 172 [some (.ref (me_a E 54)), some (.int a1), some (.int a2), some (.long a3), none, none, some (.int a6), some (.int a7), some (.int a8), none, none] [.int s0] := by
    intro K11 hK11 J a1 a2 a3 a6 a7 a8 s0 h
    refine g_istore hC dX3_runTill_172 (by decide) rfl rfl ?_
    refine g_iload hC dX3_runTill_174 rfl ?_
    refine g_aload_n hC dX3_runTill_176 rfl ?_
    refine gM_getA hC hM 36 dX3_runTill_177 q1539 (by decide) (by decide) rfl ?_
    refine g_iload hC dX3_runTill_180 rfl ?_
    refine gM_iald hC hM 36 19 dX3_runTill_182 rfl (by decide) h.1 ?_
    refine g_iadd hC dX3_runTill_183 ?_
    refine g_istore hC dX3_runTill_184 (by decide) rfl rfl ?_
    refine g_sub [true, true, true, true, false, true, true, true, false, true, false] rfl ?_
    refine g_iload hC dX3_runTill_186 rfl ?_
    refine g_bipush (v := 15) hC dX3_runTill_188 (by decide) ?_
    refine g_iload_n hC dX3_runTill_190 rfl ?_
    refine g_imul hC dX3_runTill_191 ?_
    refine g_icmp_ge (tgt := 200) hC dX3_runTill_192 (by decide) (fun c => ?_) (fun c => ?_)
    · have h := it_p c h.2
      refine g_bipush (v := 15) hC dX3_runTill_200 (by decide) ?_
      refine g_iload_n hC dX3_runTill_202 rfl ?_
      refine g_imul hC dX3_runTill_203 ?_
      exact s_204 K11 hK11 J a1 a2 a3 (s0 + (J 36 (Int32.toNatClampNeg a8))) a6 a7 s0 ((15 : Int32) * a2) h
    · have h := it_n c h.2
      refine g_iload hC dX3_runTill_195 rfl ?_
      refine g_goto (tgt := 204) hC dX3_runTill_197 (by decide) ?_
      exact s_204 K11 hK11 J a1 a2 a3 (s0 + (J 36 (Int32.toNatClampNeg a8))) a6 a7 s0 (s0 + (J 36 (Int32.toNatClampNeg a8))) h
  have s_128 : ∀ (K11 : MS → Int32 → Int32 → Int64 → Int32 → Int32 → Int32 → Prop) (hK11 : ∀ (J : MS) (b1 : Int32) (b2 : Int32) (b3 : Int64) (b5 : Int32) (b6 : Int32) (b7 : Int32), K11 J b1 b2 b3 b5 b6 b7 → GM E C J 11 [some (.ref (me_a E 54)), some (.int b1), some (.int b2), some (.long b3), none, some (.int b5), some (.int b6), some (.int b7), none, none, none] []) (J : MS) (a1 : Int32) (a2 : Int32) (a3 : Int64) (a5 : Int32) (a6 : Int32) (a8 : Int32) (s0 : Int32), wm_runTill_128 Q K11 J a1 a2 a3 a5 a6 a8 s0 → GM E C J 128 [some (.ref (me_a E 54)), some (.int a1), some (.int a2), some (.long a3), none, some (.int a5), some (.int a6), none, some (.int a8), none, none] [.int s0] := by
    intro K11 hK11 J a1 a2 a3 a5 a6 a8 s0 h
    refine g_istore hC dX3_runTill_128 (by decide) rfl rfl ?_
    refine g_iload hC dX3_runTill_130 rfl ?_
    refine g_if_eq (tgt := 227) hC dX3_runTill_132 (by decide) (fun c => ?_) (fun c => ?_)
    · have h := it_p c h
      refine g_sub [true, true, true, true, false, true, true, true, false, false, false] rfl ?_
      exact s_227 K11 hK11 J a1 a2 a3 a5 a6 s0 h
    · have h := it_n c h
      refine g_lload_n hC dX3_runTill_135 rfl ?_
      refine g_lconst (v := 1) hC dX3_runTill_136 (by decide) ?_
      refine g_iload hC dX3_runTill_137 rfl ?_
      refine g_lshl hC dX3_runTill_139 ?_
      refine g_lor hC dX3_runTill_140 ?_
      refine g_lstore_n hC dX3_runTill_141 rfl (by decide) rfl rfl ?_
      refine g_iload hC dX3_runTill_142 rfl ?_
      refine g_bipush (v := 15) hC dX3_runTill_144 (by decide) ?_
      refine g_aload_n hC dX3_runTill_146 rfl ?_
      refine gM_getA hC hM 35 dX3_runTill_147 q1538 (by decide) (by decide) rfl ?_
      refine g_iload hC dX3_runTill_150 rfl ?_
      refine gM_iald hC hM 35 18 dX3_runTill_152 rfl (by decide) h.1 ?_
      refine g_imul hC dX3_runTill_153 ?_
      refine g_icmp_le (tgt := 162) hC dX3_runTill_154 (by decide) (fun c => ?_) (fun c => ?_)
      · have h := it_p c h.2
        refine g_bipush (v := 15) hC dX3_runTill_162 (by decide) ?_
        refine g_aload_n hC dX3_runTill_164 rfl ?_
        refine gM_getA hC hM 35 dX3_runTill_165 q1538 (by decide) (by decide) rfl ?_
        refine g_iload hC dX3_runTill_168 rfl ?_
        refine gM_iald hC hM 35 18 dX3_runTill_170 rfl (by decide) h.1 ?_
        refine g_imul hC dX3_runTill_171 ?_
        refine g_sub [true, true, true, true, false, false, true, true, true, false, false] rfl ?_
        exact s_172 K11 hK11 J a1 a2 (a3 ||| ((1 : Int64) <<< (Int32.toInt64 a8 &&& 63))) a6 s0 a8 ((15 : Int32) * (J 35 (Int32.toNatClampNeg a8))) h.2
      · have h := it_n c h.2
        refine g_iload hC dX3_runTill_157 rfl ?_
        refine g_goto (tgt := 172) hC dX3_runTill_159 (by decide) ?_
        refine g_sub [true, true, true, true, false, false, true, true, true, false, false] rfl ?_
        exact s_172 K11 hK11 J a1 a2 (a3 ||| ((1 : Int64) <<< (Int32.toInt64 a8 &&& 63))) a6 s0 a8 a5 h
  have s_108 : ∀ (K11 : MS → Int32 → Int32 → Int64 → Int32 → Int32 → Int32 → Prop) (hK11 : ∀ (J : MS) (b1 : Int32) (b2 : Int32) (b3 : Int64) (b5 : Int32) (b6 : Int32) (b7 : Int32), K11 J b1 b2 b3 b5 b6 b7 → GM E C J 11 [some (.ref (me_a E 54)), some (.int b1), some (.int b2), some (.long b3), none, some (.int b5), some (.int b6), some (.int b7), none, none, none] []) (K23 : MS → Int32 → Int32 → Int64 → Int32 → Int32 → Int32 → Int32 → Prop) (hK23 : ∀ (J : MS) (b1 : Int32) (b2 : Int32) (b3 : Int64) (b5 : Int32) (b6 : Int32) (b8 : Int32) (b9 : Int32), K23 J b1 b2 b3 b5 b6 b8 b9 → GM E C J 23 [some (.ref (me_a E 54)), some (.int b1), some (.int b2), some (.long b3), none, some (.int b5), some (.int b6), none, some (.int b8), some (.int b9), none] []) (J : MS) (a1 : Int32) (a2 : Int32) (a3 : Int64) (a5 : Int32) (a6 : Int32) (a9 : Int32) (s0 : Int32), wm_runTill_108 Q K11 K23 J a1 a2 a3 a5 a6 a9 s0 → GM E C J 108 [some (.ref (me_a E 54)), some (.int a1), some (.int a2), some (.long a3), none, some (.int a5), some (.int a6), none, none, some (.int a9), none] [.int s0] := by
    intro K11 hK11 K23 hK23 J a1 a2 a3 a5 a6 a9 s0 h
    refine g_istore hC dX3_runTill_108 (by decide) rfl rfl ?_
    refine g_iinc (v := (a9 + (1 : Int32))) hC dX3_runTill_110 rfl rfl (by decide) rfl rfl ?_
    refine g_goto (tgt := 23) hC dX3_runTill_113 (by decide) ?_
    exact hK23 J a1 a2 a3 a5 a6 s0 (a9 + (1 : Int32)) h
  have s_106 : ∀ (K11 : MS → Int32 → Int32 → Int64 → Int32 → Int32 → Int32 → Prop) (hK11 : ∀ (J : MS) (b1 : Int32) (b2 : Int32) (b3 : Int64) (b5 : Int32) (b6 : Int32) (b7 : Int32), K11 J b1 b2 b3 b5 b6 b7 → GM E C J 11 [some (.ref (me_a E 54)), some (.int b1), some (.int b2), some (.long b3), none, some (.int b5), some (.int b6), some (.int b7), none, none, none] []) (K23 : MS → Int32 → Int32 → Int64 → Int32 → Int32 → Int32 → Int32 → Prop) (hK23 : ∀ (J : MS) (b1 : Int32) (b2 : Int32) (b3 : Int64) (b5 : Int32) (b6 : Int32) (b8 : Int32) (b9 : Int32), K23 J b1 b2 b3 b5 b6 b8 b9 → GM E C J 23 [some (.ref (me_a E 54)), some (.int b1), some (.int b2), some (.long b3), none, some (.int b5), some (.int b6), none, some (.int b8), some (.int b9), none] []) (J : MS) (a1 : Int32) (a2 : Int32) (a3 : Int64) (a5 : Int32) (a6 : Int32) (a8 : Int32) (a9 : Int32), wm_runTill_106 Q K11 K23 J a1 a2 a3 a5 a6 a8 a9 → GM E C J 106 [some (.ref (me_a E 54)), some (.int a1), some (.int a2), some (.long a3), none, some (.int a5), some (.int a6), none, some (.int a8), some (.int a9), none] [] := by
    intro K11 hK11 K23 hK23 J a1 a2 a3 a5 a6 a8 a9 h
    refine g_iload hC dX3_runTill_106 rfl ?_
    refine g_sub [true, true, true, true, false, true, true, false, false, true, false] rfl ?_
    exact s_108 K11 hK11 K23 hK23 J a1 a2 a3 a5 a6 a9 a8 h
  have s_101 : ∀ (K11 : MS → Int32 → Int32 → Int64 → Int32 → Int32 → Int32 → Prop) (hK11 : ∀ (J : MS) (b1 : Int32) (b2 : Int32) (b3 : Int64) (b5 : Int32) (b6 : Int32) (b7 : Int32), K11 J b1 b2 b3 b5 b6 b7 → GM E C J 11 [some (.ref (me_a E 54)), some (.int b1), some (.int b2), some (.long b3), none, some (.int b5), some (.int b6), some (.int b7), none, none, none] []) (K23 : MS → Int32 → Int32 → Int64 → Int32 → Int32 → Int32 → Int32 → Prop) (hK23 : ∀ (J : MS) (b1 : Int32) (b2 : Int32) (b3 : Int64) (b5 : Int32) (b6 : Int32) (b8 : Int32) (b9 : Int32), K23 J b1 b2 b3 b5 b6 b8 b9 → GM E C J 23 [some (.ref (me_a E 54)), some (.int b1), some (.int b2), some (.long b3), none, some (.int b5), some (.int b6), none, some (.int b8), some (.int b9), none] []) (J : MS) (a1 : Int32) (a2 : Int32) (a3 : Int64) (a5 : Int32) (a6 : Int32) (a9 : Int32), wm_runTill_101 Q K11 K23 J a1 a2 a3 a5 a6 a9 → GM E C J 101 [some (.ref (me_a E 54)), some (.int a1), some (.int a2), some (.long a3), none, some (.int a5), some (.int a6), none, none, some (.int a9), none] [] := by
    intro K11 hK11 K23 hK23 J a1 a2 a3 a5 a6 a9 h
    refine g_iload hC dX3_runTill_101 rfl ?_
    refine g_goto (tgt := 108) hC dX3_runTill_103 (by decide) ?_
    exact s_108 K11 hK11 K23 hK23 J a1 a2 a3 a5 a6 a9 a9 h
  have s_70 : ∀ (K11 : MS → Int32 → Int32 → Int64 → Int32 → Int32 → Int32 → Prop) (hK11 : ∀ (J : MS) (b1 : Int32) (b2 : Int32) (b3 : Int64) (b5 : Int32) (b6 : Int32) (b7 : Int32), K11 J b1 b2 b3 b5 b6 b7 → GM E C J 11 [some (.ref (me_a E 54)), some (.int b1), some (.int b2), some (.long b3), none, some (.int b5), some (.int b6), some (.int b7), none, none, none] []) (K23 : MS → Int32 → Int32 → Int64 → Int32 → Int32 → Int32 → Int32 → Prop) (hK23 : ∀ (J : MS) (b1 : Int32) (b2 : Int32) (b3 : Int64) (b5 : Int32) (b6 : Int32) (b8 : Int32) (b9 : Int32), K23 J b1 b2 b3 b5 b6 b8 b9 → GM E C J 23 [some (.ref (me_a E 54)), some (.int b1), some (.int b2), some (.long b3), none, some (.int b5), some (.int b6), none, some (.int b8), some (.int b9), none] []) (J : MS) (a1 : Int32) (a2 : Int32) (a3 : Int64) (a5 : Int32) (a6 : Int32) (a8 : Int32) (a9 : Int32) (s0 : Int32), wm_runTill_70 Q K11 K23 J a1 a2 a3 a5 a6 a8 a9 s0 → GM E C J 70 [some (.ref (me_a E 54)), some (.int a1), some (.int a2), some (.long a3), none, some (.int a5), some (.int a6), none, some (.int a8), some (.int a9), none] [.int s0] := by
    intro K11 hK11 K23 hK23 J a1 a2 a3 a5 a6 a8 a9 s0 h
    refine g_istore hC dX3_runTill_70 (by decide) rfl rfl ?_
    refine g_iload hC dX3_runTill_72 rfl ?_
    refine g_if_eq (tgt := 106) hC dX3_runTill_74 (by decide) (fun c => ?_) (fun c => ?_)
    · have h := it_p c h
      refine g_sub [true, true, true, true, false, true, true, false, true, true, false] rfl ?_
      exact s_106 K11 hK11 K23 hK23 J a1 a2 a3 a5 a6 a8 a9 h
    · have h := it_n c h
      refine g_iload hC dX3_runTill_77 rfl ?_
      refine g_ldc (v := -1000000) hC dX3_runTill_79 q1720 ?_
      refine g_icmp_eq (tgt := 101) hC dX3_runTill_81 (by decide) (fun c => ?_) (fun c => ?_)
      · have h := it_p c h
        refine g_sub [true, true, true, true, false, true, true, false, false, true, false] rfl ?_
        exact s_101 K11 hK11 K23 hK23 J a1 a2 a3 a5 a6 a9 h
      · have h := it_n c h
        refine g_aload_n hC dX3_runTill_84 rfl ?_
        refine gM_getA hC hM 35 dX3_runTill_85 q1538 (by decide) (by decide) rfl ?_
        refine g_iload hC dX3_runTill_88 rfl ?_
        refine gM_iald hC hM 35 18 dX3_runTill_90 rfl (by decide) h.1 ?_
        refine g_aload_n hC dX3_runTill_91 rfl ?_
        refine gM_getA hC hM 35 dX3_runTill_92 q1538 (by decide) (by decide) rfl ?_
        refine g_iload hC dX3_runTill_95 rfl ?_
        refine gM_iald hC hM 35 18 dX3_runTill_97 rfl (by decide) h.2.1 ?_
        refine g_icmp_ge (tgt := 106) hC dX3_runTill_98 (by decide) (fun c => ?_) (fun c => ?_)
        · have h := it_p c h.2.2
          refine g_sub [true, true, true, true, false, true, true, false, true, true, false] rfl ?_
          exact s_106 K11 hK11 K23 hK23 J a1 a2 a3 a5 a6 a8 a9 h
        · have h := it_n c h.2.2
          refine g_sub [true, true, true, true, false, true, true, false, false, true, false] rfl ?_
          exact s_101 K11 hK11 K23 hK23 J a1 a2 a3 a5 a6 a9 h
  have s_69 : ∀ (K11 : MS → Int32 → Int32 → Int64 → Int32 → Int32 → Int32 → Prop) (hK11 : ∀ (J : MS) (b1 : Int32) (b2 : Int32) (b3 : Int64) (b5 : Int32) (b6 : Int32) (b7 : Int32), K11 J b1 b2 b3 b5 b6 b7 → GM E C J 11 [some (.ref (me_a E 54)), some (.int b1), some (.int b2), some (.long b3), none, some (.int b5), some (.int b6), some (.int b7), none, none, none] []) (K23 : MS → Int32 → Int32 → Int64 → Int32 → Int32 → Int32 → Int32 → Prop) (hK23 : ∀ (J : MS) (b1 : Int32) (b2 : Int32) (b3 : Int64) (b5 : Int32) (b6 : Int32) (b8 : Int32) (b9 : Int32), K23 J b1 b2 b3 b5 b6 b8 b9 → GM E C J 23 [some (.ref (me_a E 54)), some (.int b1), some (.int b2), some (.long b3), none, some (.int b5), some (.int b6), none, some (.int b8), some (.int b9), none] []) (J : MS) (a1 : Int32) (a2 : Int32) (a3 : Int64) (a5 : Int32) (a6 : Int32) (a8 : Int32) (a9 : Int32), wm_runTill_69 Q K11 K23 J a1 a2 a3 a5 a6 a8 a9 → GM E C J 69 [some (.ref (me_a E 54)), some (.int a1), some (.int a2), some (.long a3), none, some (.int a5), some (.int a6), none, some (.int a8), some (.int a9), none] [] := by
    intro K11 hK11 K23 hK23 J a1 a2 a3 a5 a6 a8 a9 h
    refine g_iconst (v := 0) hC dX3_runTill_69 (by decide) ?_
    exact s_70 K11 hK11 K23 hK23 J a1 a2 a3 a5 a6 a8 a9 (0 : Int32) h
  have s_23 : ∀ (K11 : MS → Int32 → Int32 → Int64 → Int32 → Int32 → Int32 → Prop) (hK11 : ∀ (J : MS) (b1 : Int32) (b2 : Int32) (b3 : Int64) (b5 : Int32) (b6 : Int32) (b7 : Int32), K11 J b1 b2 b3 b5 b6 b7 → GM E C J 11 [some (.ref (me_a E 54)), some (.int b1), some (.int b2), some (.long b3), none, some (.int b5), some (.int b6), some (.int b7), none, none, none] []) (n : Nat) (J : MS) (a1 : Int32) (a2 : Int32) (a3 : Int64) (a5 : Int32) (a6 : Int32) (a8 : Int32) (a9 : Int32), wm_runTill_23 Q K11 n J a1 a2 a3 a5 a6 a8 a9 → GM E C J 23 [some (.ref (me_a E 54)), some (.int a1), some (.int a2), some (.long a3), none, some (.int a5), some (.int a6), none, some (.int a8), some (.int a9), none] [] := by
    intro K11 hK11 n
    induction n with
    | zero =>
      intro J a1 a2 a3 a5 a6 a8 a9 h
      exact False.elim h
    | succ n ih =>
      intro J a1 a2 a3 a5 a6 a8 a9 h
      refine g_iload hC dX3_runTill_23 rfl ?_
      refine g_aload_n hC dX3_runTill_25 rfl ?_
      refine gM_getS hC hM 33 dX3_runTill_26 q1536 (by decide) (by decide) rfl ?_
      refine g_icmp_ge (tgt := 116) hC dX3_runTill_29 (by decide) (fun c => ?_) (fun c => ?_)
      · have h := it_p c h
        refine g_iload hC dX3_runTill_116 rfl ?_
        refine g_ldc (v := -1000000) hC dX3_runTill_118 q1720 ?_
        refine g_icmp_eq (tgt := 127) hC dX3_runTill_120 (by decide) (fun c => ?_) (fun c => ?_)
        · have h := it_p c h
          refine g_iconst (v := 0) hC dX3_runTill_127 (by decide) ?_
          refine g_sub [true, true, true, true, false, true, true, false, true, false, false] rfl ?_
          exact s_128 K11 hK11 J a1 a2 a3 a5 a6 a8 (0 : Int32) h
        · have h := it_n c h
          refine g_iconst (v := 1) hC dX3_runTill_123 (by decide) ?_
          refine g_goto (tgt := 128) hC dX3_runTill_124 (by decide) ?_
          refine g_sub [true, true, true, true, false, true, true, false, true, false, false] rfl ?_
          exact s_128 K11 hK11 J a1 a2 a3 a5 a6 a8 (1 : Int32) h
      · have h := it_n c h
        refine g_aload_n hC dX3_runTill_32 rfl ?_
        refine gM_getA hC hM 34 dX3_runTill_33 q1537 (by decide) (by decide) rfl ?_
        refine g_iload hC dX3_runTill_36 rfl ?_
        refine gM_iald hC hM 34 17 dX3_runTill_38 rfl (by decide) h.1 ?_
        refine g_iload_n hC dX3_runTill_39 rfl ?_
        refine g_icmp_ne (tgt := 69) hC dX3_runTill_40 (by decide) (fun c => ?_) (fun c => ?_)
        · have h := it_n c h.2
          exact s_69 K11 hK11 (wm_runTill_23 Q K11 n) ih J a1 a2 a3 a5 a6 a8 a9 h
        · have h := it_p c h.2
          refine g_aload_n hC dX3_runTill_43 rfl ?_
          refine gM_getA hC hM 35 dX3_runTill_44 q1538 (by decide) (by decide) rfl ?_
          refine g_iload hC dX3_runTill_47 rfl ?_
          refine gM_iald hC hM 35 18 dX3_runTill_49 rfl (by decide) h.1 ?_
          refine g_iload_n hC dX3_runTill_50 rfl ?_
          refine g_icmp_gt (tgt := 69) hC dX3_runTill_51 (by decide) (fun c => ?_) (fun c => ?_)
          · have h := it_p c h.2
            exact s_69 K11 hK11 (wm_runTill_23 Q K11 n) ih J a1 a2 a3 a5 a6 a8 a9 h
          · have h := it_n c h.2
            refine g_lload_n hC dX3_runTill_54 rfl ?_
            refine g_iload hC dX3_runTill_55 rfl ?_
            refine g_lshr hC dX3_runTill_57 ?_
            refine g_lconst (v := 1) hC dX3_runTill_58 (by decide) ?_
            refine g_land hC dX3_runTill_59 ?_
            refine g_lconst (v := 0) hC dX3_runTill_60 (by decide) ?_
            refine g_lcmp hC dX3_runTill_61 ?_
            refine g_if_ne (tgt := 69) hC dX3_runTill_62 (by decide) (fun c => ?_) (fun c => ?_)
            · have h := it_n c h
              exact s_69 K11 hK11 (wm_runTill_23 Q K11 n) ih J a1 a2 a3 a5 a6 a8 a9 h
            · have h := it_p c h
              refine g_iconst (v := 1) hC dX3_runTill_65 (by decide) ?_
              refine g_goto (tgt := 70) hC dX3_runTill_66 (by decide) ?_
              exact s_70 K11 hK11 (wm_runTill_23 Q K11 n) ih J a1 a2 a3 a5 a6 a8 a9 (1 : Int32) h
  have s_11 : ∀ (n : Nat) (J : MS) (a1 : Int32) (a2 : Int32) (a3 : Int64) (a5 : Int32) (a6 : Int32) (a7 : Int32), wm_runTill_11 Q  n J a1 a2 a3 a5 a6 a7 → GM E C J 11 [some (.ref (me_a E 54)), some (.int a1), some (.int a2), some (.long a3), none, some (.int a5), some (.int a6), some (.int a7), none, none, none] [] := by
    intro  n
    induction n with
    | zero =>
      intro J a1 a2 a3 a5 a6 a7 h
      exact False.elim h
    | succ n ih =>
      intro J a1 a2 a3 a5 a6 a7 h
      refine g_iload hC dX3_runTill_11 rfl ?_
      refine g_if_eq (tgt := 230) hC dX3_runTill_13 (by decide) (fun c => ?_) (fun c => ?_)
      · have h := it_p c h
        refine g_iload hC dX3_runTill_230 rfl ?_
        refine gM_iret hC hM hQ rfl dX3_runTill_232 h
      · have h := it_n c h
        refine g_ldc (v := -1000000) hC dX3_runTill_16 q1720 ?_
        refine g_istore hC dX3_runTill_18 (by decide) rfl rfl ?_
        refine g_sub [true, true, true, true, false, true, true, false, true, false, false] rfl ?_
        refine g_iconst (v := 0) hC dX3_runTill_20 (by decide) ?_
        refine g_istore hC dX3_runTill_21 (by decide) rfl rfl ?_
        obtain ⟨n0, h0⟩ := h
        exact s_23 (wm_runTill_11 Q n) ih n0 J a1 a2 a3 a5 a6 (-1000000 : Int32) (0 : Int32) h0
  refine g_lconst (v := 0) hC dX3_runTill_0 (by decide) ?_
  refine g_lstore_n hC dX3_runTill_1 rfl (by decide) rfl rfl ?_
  refine g_iconst (v := 0) hC dX3_runTill_2 (by decide) ?_
  refine g_istore hC dX3_runTill_3 (by decide) rfl rfl ?_
  refine g_iconst (v := 0) hC dX3_runTill_5 (by decide) ?_
  refine g_istore hC dX3_runTill_6 (by decide) rfl rfl ?_
  refine g_iconst (v := 1) hC dX3_runTill_8 (by decide) ?_
  refine g_istore hC dX3_runTill_9 (by decide) rfl rfl ?_
  obtain ⟨n0, h0⟩ := h
  exact s_11 n0 J x1 x2 (0 : Int64) (0 : Int32) (0 : Int32) (1 : Int32) h0
theorem mm_runTill (l : Launch) (E : ME) (hI : mInj E) (Q : Int32 → MS → Prop) (J : MS) (x1 : Int32) (x2 : Int32) (h : wm_runTill Q J x1 x2) : MMet E l yX3_runTill cX3_runTill 11 (some .int) ({ frames := 1, cells := 0, slots := 0, locals := 16 }) [.ref (me_a E 54), .int x1, .int x2] J (va_Qi Q (BM E) (mA E)) :=
  MMet_of hI (by decide) rfl (Nat.le_of_ble_eq_true rfl) (L0 := [some (.ref (me_a E 54)), some (.int x1), some (.int x2), none, none, none, none, none, none, none, none]) rfl (fun C hC hM hl hQ => bm_runTill E C Q J x1 x2 hC hM hQ h)
